section WK
variable {l : Launch} {s0 : State} {a0 : Array Value} {K : Nat → Nat} {lam : Nat → ClassId}
variable {p : Program} {e : Env} {R : Room} {s : State} {m : MethodId} {args : Array Value} {below : List Frame} {meth : Method} {c : Code} {b : AH}
theorem w_X11_command_j94 {r : Except Nat (Option Nat) × AH} (GA : GA l s0 a0 K lam) (Z : WZ l s0 a0 K p s m c cX11_command yX11_command.cls 5 b R 13 425 meth [] (some (.object "JumpHall$Command")) yX11_command) (v0 : Option Nat) (v1 : Option Nat) (v2 : Int32) (v4 : Int32)   {h : AH} {ls : Array Slot} (hl : LV ls 5 [(0, vR v0), (1, vR v1), (2, vI v2), (4, vI v4)]) (hf : f_X11_command_j94 K v0 v1 v2 v4 h = some r) : AW s0 K lam p l e R s m args below meth c (AQ s0 K lam below oR b r s) b h (F0 m 94 ls []) := by
  unfold f_X11_command_j94 at hf
  have X := Z.1.1
  refine a_iload (pc := 94) X dX11_command_94 hl 3 rfl ?_
  by_cases c0 : v4 = (0 : Int32)
  · have hf := ite_t c0 hf
    refine AW.lift (fun _ _ _ _ k => lv_tableIn (pc := 96) (tgt := 124) (off := 28) X.2.2.1 X.2.2.2.1 dX11_command_96 (by rw [c0]; decide) (by rw [c0]; decide) (by rw [c0]; rfl) rfl k) ?_
    refine a_new (pc := 124) (cK := 10) (n := 3) X Z.1.2.1 Z.1.2.2.1 Z.1.2.2.2.1 Z.1.2.2.2.2.1 ⟨by decide, by decide, by decide⟩ (gw X.1 X.2.1 q2866) (gw X.1 X.2.1 q2867) (gw X.1 X.2.1 q136) dX11_command_124 hf (fun x124 h hf => ?_)
    refine AW.lift (fun _ _ _ _ k => lv_dup (pc := 127) X.2.2.1 X.2.2.2.1 dX11_command_127 (cat_rf _) k) ?_
    refine a_aload_n (pc := 128) X dX11_command_128 rfl hl 1 rfl ?_
    refine a_iload_n (pc := 129) X dX11_command_129 rfl hl 2 rfl ?_
    refine AW.lift (fun _ _ _ _ k => lv_iconst (pc := 130) (v := (0 : Int32)) X.2.2.1 X.2.2.2.1 dX11_command_130 rfl k) ?_
    refine a_callb (pc := 131) (rs := [vR (some x124)]) (avs := [vR (some x124), vR v1, vI v2, vI (0 : Int32)]) Z.1 (w_X13_init GA (some x124) v1 v2 (0 : Int32)) (Or.inl rfl) q2870 q136 (by decide) (by decide) dX11_command_131 hl.1 (Nat.le_of_ble_eq_true rfl) hf (ct_I X q2870 q2868 q2869 rfl hy_X13_init np_X13_init rfl dX11_command_131) (fun q h he hX => a_out (unc_of Z.2.1 rfl) Z.2.2.2.1 he hX) (fun _ h hf => ?kk131)
    refine AW.eq (g2 := F0 m 134 ls [va_rf (some x124)]) rfl ?_
    exact a_areturn X Z.2.2.1 (Or.inl ⟨_, rfl⟩) Z.2.2.2.1 dX11_command_134 hf
  have hf := ite_f c0 hf
  by_cases c1 : v4 = (1 : Int32)
  · have hf := ite_t c1 hf
    refine AW.lift (fun _ _ _ _ k => lv_tableIn (pc := 96) (tgt := 124) (off := 28) X.2.2.1 X.2.2.2.1 dX11_command_96 (by rw [c1]; decide) (by rw [c1]; decide) (by rw [c1]; rfl) rfl k) ?_
    refine a_new (pc := 124) (cK := 10) (n := 3) X Z.1.2.1 Z.1.2.2.1 Z.1.2.2.2.1 Z.1.2.2.2.2.1 ⟨by decide, by decide, by decide⟩ (gw X.1 X.2.1 q2866) (gw X.1 X.2.1 q2867) (gw X.1 X.2.1 q136) dX11_command_124 hf (fun x124 h hf => ?_)
    refine AW.lift (fun _ _ _ _ k => lv_dup (pc := 127) X.2.2.1 X.2.2.2.1 dX11_command_127 (cat_rf _) k) ?_
    refine a_aload_n (pc := 128) X dX11_command_128 rfl hl 1 rfl ?_
    refine a_iload_n (pc := 129) X dX11_command_129 rfl hl 2 rfl ?_
    refine AW.lift (fun _ _ _ _ k => lv_iconst (pc := 130) (v := (0 : Int32)) X.2.2.1 X.2.2.2.1 dX11_command_130 rfl k) ?_
    refine a_callb (pc := 131) (rs := [vR (some x124)]) (avs := [vR (some x124), vR v1, vI v2, vI (0 : Int32)]) Z.1 (w_X13_init GA (some x124) v1 v2 (0 : Int32)) (Or.inl rfl) q2870 q136 (by decide) (by decide) dX11_command_131 hl.1 (Nat.le_of_ble_eq_true rfl) hf (ct_I X q2870 q2868 q2869 rfl hy_X13_init np_X13_init rfl dX11_command_131) (fun q h he hX => a_out (unc_of Z.2.1 rfl) Z.2.2.2.1 he hX) (fun _ h hf => ?kk131x1)
    refine AW.eq (g2 := F0 m 134 ls [va_rf (some x124)]) rfl ?_
    exact a_areturn X Z.2.2.1 (Or.inl ⟨_, rfl⟩) Z.2.2.2.1 dX11_command_134 hf
  have hf := ite_f c1 hf
  by_cases c2 : v4 = (2 : Int32)
  · have hf := ite_t c2 hf
    refine AW.lift (fun _ _ _ _ k => lv_tableIn (pc := 96) (tgt := 124) (off := 28) X.2.2.1 X.2.2.2.1 dX11_command_96 (by rw [c2]; decide) (by rw [c2]; decide) (by rw [c2]; rfl) rfl k) ?_
    refine a_new (pc := 124) (cK := 10) (n := 3) X Z.1.2.1 Z.1.2.2.1 Z.1.2.2.2.1 Z.1.2.2.2.2.1 ⟨by decide, by decide, by decide⟩ (gw X.1 X.2.1 q2866) (gw X.1 X.2.1 q2867) (gw X.1 X.2.1 q136) dX11_command_124 hf (fun x124 h hf => ?_)
    refine AW.lift (fun _ _ _ _ k => lv_dup (pc := 127) X.2.2.1 X.2.2.2.1 dX11_command_127 (cat_rf _) k) ?_
    refine a_aload_n (pc := 128) X dX11_command_128 rfl hl 1 rfl ?_
    refine a_iload_n (pc := 129) X dX11_command_129 rfl hl 2 rfl ?_
    refine AW.lift (fun _ _ _ _ k => lv_iconst (pc := 130) (v := (0 : Int32)) X.2.2.1 X.2.2.2.1 dX11_command_130 rfl k) ?_
    refine a_callb (pc := 131) (rs := [vR (some x124)]) (avs := [vR (some x124), vR v1, vI v2, vI (0 : Int32)]) Z.1 (w_X13_init GA (some x124) v1 v2 (0 : Int32)) (Or.inl rfl) q2870 q136 (by decide) (by decide) dX11_command_131 hl.1 (Nat.le_of_ble_eq_true rfl) hf (ct_I X q2870 q2868 q2869 rfl hy_X13_init np_X13_init rfl dX11_command_131) (fun q h he hX => a_out (unc_of Z.2.1 rfl) Z.2.2.2.1 he hX) (fun _ h hf => ?kk131x2)
    refine AW.eq (g2 := F0 m 134 ls [va_rf (some x124)]) rfl ?_
    exact a_areturn X Z.2.2.1 (Or.inl ⟨_, rfl⟩) Z.2.2.2.1 dX11_command_134 hf
  have hf := ite_f c2 hf
  have n0 := lv_neT (a := 0) c0 rfl
  have n1 := lv_neT (a := 1) c1 rfl
  have n2 := lv_neT (a := 2) c2 rfl
  refine AW.lift (fun _ _ _ _ k => lv_tableOut (pc := 96) (tgt := 135) X.2.2.1 X.2.2.2.1 dX11_command_96 (by omega) rfl k) ?_
  refine a_new (pc := 135) (cK := 10) (n := 3) X Z.1.2.1 Z.1.2.2.1 Z.1.2.2.2.1 Z.1.2.2.2.2.1 ⟨by decide, by decide, by decide⟩ (gw X.1 X.2.1 q2866) (gw X.1 X.2.1 q2867) (gw X.1 X.2.1 q136) dX11_command_135 hf (fun x135 h hf => ?_)
  refine AW.lift (fun _ _ _ _ k => lv_dup (pc := 138) X.2.2.1 X.2.2.2.1 dX11_command_138 (cat_rf _) k) ?_
  refine a_aload_n (pc := 139) X dX11_command_139 rfl hl 1 rfl ?_
  refine a_iload_n (pc := 140) X dX11_command_140 rfl hl 2 rfl ?_
  refine a_aload_n (pc := 141) X dX11_command_141 rfl hl 0 rfl ?_
  obtain ⟨a142, rfl, ⟨hk, hf⟩ | ⟨-, hf⟩⟩ := dv_some hf
  rotate_left
  · exact fl_none hf
  refine a_callb (pc := 142) (rs := [vI v2, vR v1, vR (some x135), vR (some x135)]) (avs := [vR (some a142)]) Z.1 (w_X11_number GA (some a142)) (Or.inl rfl) q2858 q129 (by decide) (by decide) dX11_command_142 hl.1 (Nat.le_of_ble_eq_true rfl) hf (ct_V hk ⟨by decide, by decide⟩ X (Or.inl rfl) q2858 q2855 q2857 pv_18 hy_X11_number np_X11_number rfl dX11_command_142) (fun q h he hX => a_out (unc_of Z.2.1 rfl) Z.2.2.2.1 he hX) (fun x142 h hf => ?kk142)
  refine AW.eq (g2 := F0 m 145 ls [.int x142, .int v2, va_rf v1, va_rf (some x135), va_rf (some x135)]) rfl ?_
  refine a_callb (pc := 145) (rs := [vR (some x135)]) (avs := [vR (some x135), vR v1, vI v2, vI x142]) Z.1 (w_X13_init GA (some x135) v1 v2 x142) (Or.inl rfl) q2870 q136 (by decide) (by decide) dX11_command_145 hl.1 (Nat.le_of_ble_eq_true rfl) hf (ct_I X q2870 q2868 q2869 rfl hy_X13_init np_X13_init rfl dX11_command_145) (fun q h he hX => a_out (unc_of Z.2.1 rfl) Z.2.2.2.1 he hX) (fun _ h hf => ?kk145)
  refine AW.eq (g2 := F0 m 148 ls [va_rf (some x135)]) rfl ?_
  exact a_areturn X Z.2.2.1 (Or.inl ⟨_, rfl⟩) Z.2.2.2.1 dX11_command_148 hf
theorem np_X11_command : npar yX11_command.desc 0 := by unfold npar; decide +kernel
theorem hy_X11_command : yX11_command.cls ≠ "java/lang/invoke/MethodHandle" ∧ yX11_command.cls ≠ "java/lang/invoke/VarHandle" := by decide +kernel
theorem w_X11_command (GA : GA l s0 a0 K lam) (v0 : Option Nat) : AMet l s0 K lam yX11_command (Cond.code yX11_command cX11_command (5 : Nat) (Option.some (ClassFile.FieldType.object "JumpHall$Command"))) 13 425 [vR v0] oR (f_X11_command K v0) := by
  refine AMet.of GA.1 (plainFor_of_name (by decide +kernel)) (Nat.le_of_ble_eq_true rfl) ?_
  intro b r hf p e s m args below meth c X hr hlk hnm hnd ht ls hl
  have Z : WZ l s0 a0 K p s m c cX11_command yX11_command.cls 5 b { frames := 13, cells := K 0 - aX b, slots := K 1 - aW b, locals := 425 } 13 425 meth [] (some (.object "JumpHall$Command")) yX11_command := ⟨⟨X, GA.2.1, GA.2.2.1, rfl, rfl, Nat.le_refl _, Nat.le_refl _⟩, tab_nil ht, hr, hlk, hnm, hnd⟩
  unfold f_X11_command at hf
  clear hr hlk hnm hnd ht
  refine a_aload_n (pc := 0) X dX11_command_0 rfl hl 0 rfl ?_
  obtain ⟨a1, rfl, ⟨hk, hf⟩ | ⟨-, hf⟩⟩ := dv_some hf
  rotate_left
  · exact fl_none hf
  refine a_callb (pc := 1) (rs := []) (avs := [vR (some a1)]) Z.1 (w_X11_word GA (some a1)) (Or.inl rfl) q2705 q129 (by decide) (by decide) dX11_command_1 hl.1 (Nat.le_of_ble_eq_true rfl) hf (ct_V hk ⟨by decide, by decide⟩ X (Or.inl rfl) q2705 q2702 q2704 pv_16 hy_X11_word np_X11_word rfl dX11_command_1) (fun q h he hX => a_out (unc_of Z.2.1 rfl) Z.2.2.2.1 he hX) (fun x1 h hf => ?kk1)
  refine AW.eq (g2 := F0 m 4 ls [va_rf x1]) rfl ?_
  refine a_astore_n (pc := 4) X dX11_command_4 rfl hl (by decide) (lv' := [(1, vR x1), (0, vR (some a1))]) rfl (fun ls hl => ?_)
  refine a_aload_n (pc := 5) X dX11_command_5 rfl hl 1 rfl ?_
  rcases dv_someS hf with ⟨hk, hf⟩ | ⟨-, hf⟩
  rotate_left
  · exact fl_none hf
  refine a_callb (pc := 6) (rs := []) (avs := [vR (some a1)]) Z.1 (w_X11_number GA (some a1)) (Or.inl rfl) q2858 q129 (by decide) (by decide) dX11_command_6 hl.1 (Nat.le_of_ble_eq_true rfl) hf (ct_V hk ⟨by decide, by decide⟩ X (Or.inl rfl) q2858 q2855 q2857 pv_18 hy_X11_number np_X11_number rfl dX11_command_6) (fun q h he hX => a_out (unc_of Z.2.1 rfl) Z.2.2.2.1 he hX) (fun x6 h hf => ?kk6)
  refine AW.eq (g2 := F0 m 9 ls [.int x6]) rfl ?_
  refine a_istore_n (pc := 9) X dX11_command_9 rfl hl (by decide) (lv' := [(2, vI x6), (1, vR x1), (0, vR (some a1))]) rfl (fun ls hl => ?_)
  refine a_aload_n (pc := 10) X dX11_command_10 rfl hl 1 rfl ?_
  refine a_astore_n (pc := 11) X dX11_command_11 rfl hl (by decide) (lv' := [(3, vR x1), (2, vI x6), (1, vR x1), (0, vR (some a1))]) rfl (fun ls hl => ?_)
  refine AW.lift (fun _ _ _ _ k => lv_iconst (pc := 12) (v := (-1 : Int32)) X.2.2.1 X.2.2.2.1 dX11_command_12 rfl k) ?_
  refine a_istore (pc := 13) X dX11_command_13 hl (by decide) (lv' := [(4, vI (-1 : Int32)), (3, vR x1), (2, vI x6), (1, vR x1), (0, vR (some a1))]) rfl (fun ls hl => ?_)
  refine a_aload_n (pc := 15) X dX11_command_15 rfl hl 1 rfl ?_
  obtain ⟨a16, rfl, ⟨hk, hf⟩ | ⟨-, hf⟩⟩ := dv_some hf
  rotate_left
  · exact fl_none hf
  refine a_callb (pc := 16) (rs := []) (avs := [vR (some a16)]) Z.1 (w_J7_hashCode GA (some a16)) (Or.inl rfl) q1522 q84 (by decide) (by decide) dX11_command_16 hl.1 (Nat.le_of_ble_eq_true rfl) hf (ct_V hk ⟨by decide, by decide⟩ X (Or.inl rfl) q1522 q2864 q1521 q3493 hy_J7_hashCode np_J7_hashCode rfl dX11_command_16) (fun q h he hX => a_out (unc_of Z.2.1 rfl) Z.2.2.2.1 he hX) (fun x16 h hf => ?kk16)
  refine AW.eq (g2 := F0 m 19 ls [.int x16]) rfl ?_
  by_cases c0 : x16 = (3089570 : Int32)
  · have hf := ite_t c0 hf
    refine AW.lift (fun _ _ _ _ k => lv_lookup (pc := 19) (tgt := 52) (off := 33) X.2.2.1 X.2.2.2.1 dX11_command_19 (by decide) (by rw [c0]; rfl) rfl k) ?_
    refine a_aload_n (pc := 52) X dX11_command_52 rfl hl 1 rfl ?_
    refine a_ldcS (pc := 53) X (vk_R.warm X.2.1 (sr_P_69 GA)) dX11_command_53 ?_
    rcases dv_someS hf with ⟨hk, hf⟩ | ⟨-, hf⟩
    rotate_left
    · exact fl_none hf
    refine a_callb (pc := 55) (rs := []) (avs := [vR (some a16), vR (some (K 15))]) Z.1 (w_J7_equals GA (some a16) (some (K 15))) (Or.inl rfl) q1628 q84 (by decide) (by decide) dX11_command_55 hl.1 (Nat.le_of_ble_eq_true rfl) hf (ct_V hk ⟨by decide, by decide⟩ X (Or.inl rfl) q1628 q2865 q1627 q3494 hy_J7_equals np_J7_equals rfl dX11_command_55) (fun q h he hX => a_out (unc_of Z.2.1 rfl) Z.2.2.2.1 he hX) (fun x55 h hf => ?kk55)
    refine AW.eq (g2 := F0 m 58 ls [.int x55]) rfl ?_
    refine AW.lift2 (fun _ _ _ _ k1 k2 => lv_if_eq (pc := 58) (tgt := 94) X.2.2.1 X.2.2.2.1 dX11_command_58 rfl k1 k2) (fun c => ?_) (fun c => ?_)
    · have hf := ite_t c hf
      exact w_X11_command_j94 GA Z (some a1) (some a16) x6 (-1 : Int32)   (hl.sub [4, 3, 2, 0] rfl) hf
    · have hf := ite_f c hf
      refine AW.lift (fun _ _ _ _ k => lv_iconst (pc := 61) (v := (0 : Int32)) X.2.2.1 X.2.2.2.1 dX11_command_61 rfl k) ?_
      refine a_istore (pc := 62) X dX11_command_62 hl (by decide) (lv' := [(4, vI (0 : Int32)), (3, vR (some a16)), (2, vI x6), (1, vR (some a16)), (0, vR (some a1))]) rfl (fun ls hl => ?_)
      refine AW.lift (fun _ _ _ _ k => lv_goto (pc := 64) (tgt := 94) X.2.2.1 X.2.2.2.1 dX11_command_64 rfl k) ?_
      exact w_X11_command_j94 GA Z (some a1) (some a16) x6 (0 : Int32)   (hl.sub [4, 3, 2, 0] rfl) hf
  have hf := ite_f c0 hf
  by_cases c1 : x16 = (3417674 : Int32)
  · have hf := ite_t c1 hf
    refine AW.lift (fun _ _ _ _ k => lv_lookup (pc := 19) (tgt := 67) (off := 48) X.2.2.1 X.2.2.2.1 dX11_command_19 (by decide) (by rw [c1]; rfl) rfl k) ?_
    refine a_aload_n (pc := 67) X dX11_command_67 rfl hl 1 rfl ?_
    refine a_ldcS (pc := 68) X (vk_R.warm X.2.1 (sr_P_77 GA)) dX11_command_68 ?_
    rcases dv_someS hf with ⟨hk, hf⟩ | ⟨-, hf⟩
    rotate_left
    · exact fl_none hf
    refine a_callb (pc := 70) (rs := []) (avs := [vR (some a16), vR (some (K 19))]) Z.1 (w_J7_equals GA (some a16) (some (K 19))) (Or.inl rfl) q1628 q84 (by decide) (by decide) dX11_command_70 hl.1 (Nat.le_of_ble_eq_true rfl) hf (ct_V hk ⟨by decide, by decide⟩ X (Or.inl rfl) q1628 q2865 q1627 q3494 hy_J7_equals np_J7_equals rfl dX11_command_70) (fun q h he hX => a_out (unc_of Z.2.1 rfl) Z.2.2.2.1 he hX) (fun x70 h hf => ?kk70)
    refine AW.eq (g2 := F0 m 73 ls [.int x70]) rfl ?_
    refine AW.lift2 (fun _ _ _ _ k1 k2 => lv_if_eq (pc := 73) (tgt := 94) X.2.2.1 X.2.2.2.1 dX11_command_73 rfl k1 k2) (fun c => ?_) (fun c => ?_)
    · have hf := ite_t c hf
      exact w_X11_command_j94 GA Z (some a1) (some a16) x6 (-1 : Int32)   (hl.sub [4, 3, 2, 0] rfl) hf
    · have hf := ite_f c hf
      refine AW.lift (fun _ _ _ _ k => lv_iconst (pc := 76) (v := (1 : Int32)) X.2.2.1 X.2.2.2.1 dX11_command_76 rfl k) ?_
      refine a_istore (pc := 77) X dX11_command_77 hl (by decide) (lv' := [(4, vI (1 : Int32)), (3, vR (some a16)), (2, vI x6), (1, vR (some a16)), (0, vR (some a1))]) rfl (fun ls hl => ?_)
      refine AW.lift (fun _ _ _ _ k => lv_goto (pc := 79) (tgt := 94) X.2.2.1 X.2.2.2.1 dX11_command_79 rfl k) ?_
      exact w_X11_command_j94 GA Z (some a1) (some a16) x6 (1 : Int32)   (hl.sub [4, 3, 2, 0] rfl) hf
  have hf := ite_f c1 hf
  by_cases c2 : x16 = (3433489 : Int32)
  · have hf := ite_t c2 hf
    refine AW.lift (fun _ _ _ _ k => lv_lookup (pc := 19) (tgt := 82) (off := 63) X.2.2.1 X.2.2.2.1 dX11_command_19 (by decide) (by rw [c2]; rfl) rfl k) ?_
    refine a_aload_n (pc := 82) X dX11_command_82 rfl hl 1 rfl ?_
    refine a_ldcS (pc := 83) X (vk_R.warm X.2.1 (sr_P_79 GA)) dX11_command_83 ?_
    rcases dv_someS hf with ⟨hk, hf⟩ | ⟨-, hf⟩
    rotate_left
    · exact fl_none hf
    refine a_callb (pc := 85) (rs := []) (avs := [vR (some a16), vR (some (K 20))]) Z.1 (w_J7_equals GA (some a16) (some (K 20))) (Or.inl rfl) q1628 q84 (by decide) (by decide) dX11_command_85 hl.1 (Nat.le_of_ble_eq_true rfl) hf (ct_V hk ⟨by decide, by decide⟩ X (Or.inl rfl) q1628 q2865 q1627 q3494 hy_J7_equals np_J7_equals rfl dX11_command_85) (fun q h he hX => a_out (unc_of Z.2.1 rfl) Z.2.2.2.1 he hX) (fun x85 h hf => ?kk85)
    refine AW.eq (g2 := F0 m 88 ls [.int x85]) rfl ?_
    refine AW.lift2 (fun _ _ _ _ k1 k2 => lv_if_eq (pc := 88) (tgt := 94) X.2.2.1 X.2.2.2.1 dX11_command_88 rfl k1 k2) (fun c => ?_) (fun c => ?_)
    · have hf := ite_t c hf
      exact w_X11_command_j94 GA Z (some a1) (some a16) x6 (-1 : Int32)   (hl.sub [4, 3, 2, 0] rfl) hf
    · have hf := ite_f c hf
      refine AW.lift (fun _ _ _ _ k => lv_iconst (pc := 91) (v := (2 : Int32)) X.2.2.1 X.2.2.2.1 dX11_command_91 rfl k) ?_
      refine a_istore (pc := 92) X dX11_command_92 hl (by decide) (lv' := [(4, vI (2 : Int32)), (3, vR (some a16)), (2, vI x6), (1, vR (some a16)), (0, vR (some a1))]) rfl (fun ls hl => ?_)
      exact w_X11_command_j94 GA Z (some a1) (some a16) x6 (2 : Int32)   (hl.sub [4, 3, 2, 0] rfl) hf
  have hf := ite_f c2 hf
  refine AW.lift (fun _ _ _ _ k => lv_lookup (pc := 19) (tgt := 94) (off := 75) X.2.2.1 X.2.2.2.1 dX11_command_19 (by decide) ((lv_osw c0 rfl).trans ((lv_osw c1 rfl).trans ((lv_osw c2 rfl).trans rfl))) rfl k) ?_
  exact w_X11_command_j94 GA Z (some a1) (some a16) x6 (-1 : Int32)   (hl.sub [4, 3, 2, 0] rfl) hf
theorem w_X11_all_b12 {r : Except Nat (Unit) × AH} (GA : GA l s0 a0 K lam) (Z : WZ l s0 a0 K p s m c cX11_all yX11_all.cls 2 b R 14 449 meth [] none yX11_all) (v0 : Option Nat)  (rc12 : AM (Unit)) (hrc12 : ∀  (h : AH) (ls : Array Slot), LV ls 2 [(0, vR v0)] → rc12 h = some r → AW s0 K lam p l e R s m args below meth c (AQ s0 K lam below oV b r s) b h (F0 m 12 ls [])) {h : AH} {ls : Array Slot} (hl : LV ls 2 [(0, vR v0)]) (hf : f_X11_all_b12 K rc12 v0 h = some r) : AW s0 K lam p l e R s m args below meth c (AQ s0 K lam below oV b r s) b h (F0 m 12 ls []) := by
  unfold f_X11_all_b12 at hf
  have X := Z.1.1
  refine a_aload_n (pc := 12) X dX11_all_12 rfl hl 0 rfl ?_
  refine a_get (pc := 13) (φ := 903) pI_t X Z.1.2.1 (gw X.1 X.2.1 q2684) (fun _ q => q) (by decide) dX11_all_13 hf (fun x13 hf => ?_)
  refine a_aload_n (pc := 16) X dX11_all_16 rfl hl 0 rfl ?_
  refine a_get (pc := 17) (φ := 901) pI_t X Z.1.2.1 (gw X.1 X.2.1 q2682) (fun _ q => q) (by decide) dX11_all_17 hf (fun x17 hf => ?_)
  refine AW.lift2 (fun _ _ _ _ k1 k2 => lv_icmp_ge (pc := 20) (tgt := 47) X.2.2.1 X.2.2.2.1 dX11_all_20 rfl k1 k2) (fun c => ?_) (fun c => ?_)
  · have hf := ite_t c hf
    exact a_return X Z.2.2.1 Z.2.2.2.1 dX11_all_47 hf
  · have hf := ite_f c hf
    refine a_aload_n (pc := 23) X dX11_all_23 rfl hl 0 rfl ?_
    refine AW.lift (fun _ _ _ _ k => lv_bipush (pc := 24) (v := (59 : Int32)) X.2.2.1 X.2.2.2.1 dX11_all_24 rfl k) ?_
    refine AW.lift (fun _ _ _ _ k => lv_bipush (pc := 26) (v := (59 : Int32)) X.2.2.1 X.2.2.2.1 dX11_all_26 rfl k) ?_
    obtain ⟨a28, rfl, ⟨hk, hf⟩ | ⟨-, hf⟩⟩ := dv_some hf
    rotate_left
    · exact fl_none hf
    refine a_callb (pc := 28) (rs := []) (avs := [vR (some a28), vI (59 : Int32), vI (59 : Int32)]) Z.1 (w_X11_next GA (some a28) (59 : Int32) (59 : Int32)) (Or.inl rfl) q2862 q129 (by decide) (by decide) dX11_all_28 hl.1 (Nat.le_of_ble_eq_true rfl) hf (ct_V hk ⟨by decide, by decide⟩ X (Or.inl rfl) q2862 q2859 q2861 pv_19 hy_X11_next np_X11_next rfl dX11_all_28) (fun q h he hX => a_out (unc_of Z.2.1 rfl) Z.2.2.2.1 he hX) (fun x28 h hf => ?kk28)
    refine AW.eq (g2 := F0 m 31 ls [.int x28]) rfl ?_
    refine a_istore_n (pc := 31) X dX11_all_31 rfl hl (by decide) (lv' := [(1, vI x28), (0, vR (some a28))]) rfl (fun ls hl => ?_)
    refine a_aload_n (pc := 32) X dX11_all_32 rfl hl 1 rfl ?_
    refine a_get (pc := 33) (φ := 902) pR_t X Z.1.2.1 (gw X.1 X.2.1 q2683) (fun _ q => q) (by decide) dX11_all_33 hf (fun x33 hf => ?_)
    refine a_aload_n (pc := 36) X dX11_all_36 rfl hl 1 rfl ?_
    rcases dv_someS hf with ⟨hk, hf⟩ | ⟨-, hf⟩
    rotate_left
    · exact fl_none hf
    refine a_callb (pc := 37) (rs := [vR x33]) (avs := [vR (some a28)]) Z.1 (w_X11_command GA (some a28)) (Or.inl rfl) q2701 q129 (by decide) (by decide) dX11_all_37 hl.1 (Nat.le_of_ble_eq_true rfl) hf (ct_V hk ⟨by decide, by decide⟩ X (Or.inl rfl) q2701 q2698 q2700 pv_15 hy_X11_command np_X11_command rfl dX11_all_37) (fun q h he hX => a_out (unc_of Z.2.1 rfl) Z.2.2.2.1 he hX) (fun x37 h hf => ?kk37)
    refine AW.eq (g2 := F0 m 40 ls [va_rf x37, va_rf x33]) rfl ?_
    obtain ⟨a40, rfl, ⟨hk, hf⟩ | ⟨-, hf⟩⟩ := dv_some hf
    rotate_left
    · exact fl_none hf
    refine a_callb (pc := 40) (rs := []) (avs := [vR (some a40), vR x37]) Z.1 (w_J2_add GA (some a40) x37) (Or.inl rfl) q834 q78 (by decide) (by decide) dX11_all_40 hl.1 (Nat.le_of_ble_eq_true rfl) hf (ct_V hk ⟨by decide, by decide⟩ X (Or.inl rfl) q834 q2882 q832 q833 hy_J2_add np_J2_add rfl dX11_all_40) (fun q h he hX => a_out (unc_of Z.2.1 rfl) Z.2.2.2.1 he hX) (fun x40 h hf => ?kk40)
    refine AW.eq (g2 := F0 m 43 ls [.int x40]) rfl ?_
    refine AW.lift (fun _ _ _ _ k => lv_pop (pc := 43) X.2.2.1 X.2.2.2.1 dX11_all_43 rfl k) ?_
    refine AW.lift (fun _ _ _ _ k => lv_goto (pc := 44) (tgt := 12) X.2.2.1 X.2.2.2.1 dX11_all_44 rfl k) ?_
    exact hrc12  _ _ (hl.sub [1] rfl) hf
theorem w_X11_all_l12 {r : Except Nat (Unit) × AH} (GA : GA l s0 a0 K lam) (Z : WZ l s0 a0 K p s m c cX11_all yX11_all.cls 2 b R 14 449 meth [] none yX11_all) (v0 : Option Nat)  : ∀ (n : Nat)  (h : AH) (ls : Array Slot), LV ls 2 [(0, vR v0)] → f_X11_all_l12 K v0 n  h = some r → AW s0 K lam p l e R s m args below meth c (AQ s0 K lam below oV b r s) b h (F0 m 12 ls []) := by
  intro n
  induction n with
  | zero => intro  h ls hl hf; exact fl_no (h := h) hf
  | succ n ih => intro  h ls hl hf; exact w_X11_all_b12 GA Z v0 (f_X11_all_l12 K v0 n) ih hl hf
theorem np_X11_all : npar yX11_all.desc 0 := by unfold npar; decide +kernel
theorem hy_X11_all : yX11_all.cls ≠ "java/lang/invoke/MethodHandle" ∧ yX11_all.cls ≠ "java/lang/invoke/VarHandle" := by decide +kernel
theorem w_X11_all (GA : GA l s0 a0 K lam) (v0 : Option Nat) : AMet l s0 K lam yX11_all (Cond.code yX11_all cX11_all (2 : Nat) (Option.none : Option ClassFile.FieldType)) 14 449 [vR v0] oV (f_X11_all K v0) := by
  refine AMet.of GA.1 (plainFor_of_name (by decide +kernel)) (Nat.le_of_ble_eq_true rfl) ?_
  intro b r hf p e s m args below meth c X hr hlk hnm hnd ht ls hl
  have Z : WZ l s0 a0 K p s m c cX11_all yX11_all.cls 2 b { frames := 14, cells := K 0 - aX b, slots := K 1 - aW b, locals := 449 } 14 449 meth [] none yX11_all := ⟨⟨X, GA.2.1, GA.2.2.1, rfl, rfl, Nat.le_refl _, Nat.le_refl _⟩, tab_nil ht, hr, hlk, hnm, hnd⟩
  unfold f_X11_all at hf
  clear hr hlk hnm hnd ht
  refine a_aload_n (pc := 0) X dX11_all_0 rfl hl 0 rfl ?_
  refine a_get (pc := 1) (φ := 902) pR_t X Z.1.2.1 (gw X.1 X.2.1 q2683) (fun _ q => q) (by decide) dX11_all_1 hf (fun x1 hf => ?_)
  refine a_aload_n (pc := 4) X dX11_all_4 rfl hl 0 rfl ?_
  obtain ⟨a5, rfl, ⟨hk, hf⟩ | ⟨-, hf⟩⟩ := dv_some hf
  rotate_left
  · exact fl_none hf
  refine a_callb (pc := 5) (rs := [vR x1]) (avs := [vR (some a5)]) Z.1 (w_X11_command GA (some a5)) (Or.inl rfl) q2701 q129 (by decide) (by decide) dX11_all_5 hl.1 (Nat.le_of_ble_eq_true rfl) hf (ct_V hk ⟨by decide, by decide⟩ X (Or.inl rfl) q2701 q2698 q2700 pv_15 hy_X11_command np_X11_command rfl dX11_all_5) (fun q h he hX => a_out (unc_of Z.2.1 rfl) Z.2.2.2.1 he hX) (fun x5 h hf => ?kk5)
  refine AW.eq (g2 := F0 m 8 ls [va_rf x5, va_rf x1]) rfl ?_
  obtain ⟨a8, rfl, ⟨hk, hf⟩ | ⟨-, hf⟩⟩ := dv_some hf
  rotate_left
  · exact fl_none hf
  refine a_callb (pc := 8) (rs := []) (avs := [vR (some a8), vR x5]) Z.1 (w_J2_add GA (some a8) x5) (Or.inl rfl) q834 q78 (by decide) (by decide) dX11_all_8 hl.1 (Nat.le_of_ble_eq_true rfl) hf (ct_V hk ⟨by decide, by decide⟩ X (Or.inl rfl) q834 q2882 q832 q833 hy_J2_add np_J2_add rfl dX11_all_8) (fun q h he hX => a_out (unc_of Z.2.1 rfl) Z.2.2.2.1 he hX) (fun x8 h hf => ?kk8)
  refine AW.eq (g2 := F0 m 11 ls [.int x8]) rfl ?_
  refine AW.lift (fun _ _ _ _ k => lv_pop (pc := 11) X.2.2.1 X.2.2.2.1 dX11_all_11 rfl k) ?_
  exact w_X11_all_l12 GA Z (some a5)  FU  _ _ (hl.sub [0] rfl) hf
theorem w_X1_read_j52 {r : Except Nat (Int32) × AH} (GA : GA l s0 a0 K lam) (Z : WZ l s0 a0 K p s m c cX1_read yX1_read.cls 4 b R 21 3348 meth [(16, 31, 38, 379), (16, 31, 52, 0), (38, 53, 52, 0)] (some (.int)) yX1_read) (v0 : Option Nat) (t0 : Option Nat)  {h : AH} {ls : Array Slot} (hl : LV ls 4 [(0, vR v0)]) (hf : f_X1_read_j52 K v0 t0 h = some r) : AW s0 K lam p l e R s m args below meth c (AQ s0 K lam below oI b r s) b h (F0 m 52 ls [va_rf t0]) := by
  unfold f_X1_read_j52 at hf
  have X := Z.1.1
  refine a_astore_n (pc := 52) X dX1_read_52 rfl hl (by decide) (lv' := [(3, vR t0), (0, vR v0)]) rfl (fun ls hl => ?_)
  refine a_aload_n (pc := 53) X dX1_read_53 rfl hl 1 rfl ?_
  refine AW.lift (fun _ _ _ _ k => lv_iconst (pc := 54) (v := (0 : Int32)) X.2.2.1 X.2.2.2.1 dX1_read_54 rfl k) ?_
  refine a_put (pc := 55) (φ := 205) X Z.1.2.1 Z.1.2.2.1 (gw X.1 X.2.1 q314) (fun _ q => q) (by decide) rfl rfl dX1_read_55 hf (fun h hf => ?_)
  refine a_aload_n (pc := 58) X dX1_read_58 rfl hl 0 rfl ?_
  exact a_athrow X dX1_read_59 hf (fun q e he hX => a_out (unc_of Z.2.1 rfl) Z.2.2.2.1 he hX)
theorem w_X1_read_j38 {r : Except Nat (Int32) × AH} (GA : GA l s0 a0 K lam) (Z : WZ l s0 a0 K p s m c cX1_read yX1_read.cls 4 b R 21 3348 meth [(16, 31, 38, 379), (16, 31, 52, 0), (38, 53, 52, 0)] (some (.int)) yX1_read) (v0 : Option Nat) (t0 : Option Nat)  {h : AH} {ls : Array Slot} (hl : LV ls 4 [(0, vR v0)]) (hf : f_X1_read_j38 K v0 t0 h = some r) : AW s0 K lam p l e R s m args below meth c (AQ s0 K lam below oI b r s) b h (F0 m 38 ls [va_rf t0]) := by
  unfold f_X1_read_j38 at hf
  have X := Z.1.1
  refine a_astore_n (pc := 38) X dX1_read_38 rfl hl (by decide) (lv' := [(2, vR t0), (0, vR v0)]) rfl (fun ls hl => ?_)
  refine a_aload_n (pc := 39) X dX1_read_39 rfl hl 1 rfl ?_
  refine a_aload_n (pc := 40) X dX1_read_40 rfl hl 0 rfl ?_
  refine a_put (pc := 41) (φ := 206) X Z.1.2.1 Z.1.2.2.1 (gw X.1 X.2.1 q315) (fun _ q => q) (by decide) rfl (fits_rf _ (Or.inl ⟨_, rfl⟩)) dX1_read_41 hf (fun h hf => ?_)
  refine a_new (pc := 44) (cK := 17) (n := 6) X Z.1.2.1 Z.1.2.2.1 Z.1.2.2.2.1 Z.1.2.2.2.2.1 ⟨by decide, by decide, by decide⟩ (gw X.1 X.2.1 q1881) (gw X.1 X.2.1 q734) (gw X.1 X.2.1 q106) dX1_read_44 hf (fun x44 h hf => ?_)
  refine AW.lift (fun _ _ _ _ k => lv_dup (pc := 47) X.2.2.1 X.2.2.2.1 dX1_read_47 (cat_rf _) k) ?_
  refine a_callt (pc := 48) (rs := [vR (some x44)]) (avs := [vR (some x44)]) Z.1 (w_J24_init_2 GA (some x44)) (Or.inl rfl) q1884 q106 (by decide) (by decide) dX1_read_48 hl.1 (Nat.le_of_ble_eq_true rfl) hf (ct_I X q1884 q1882 q1883 rfl hy_J24_init_2 np_J24_init_2 rfl dX1_read_48) (fun q h hf hX => ?hx48) (fun _ h hf => ?kk48)
  case hx48 =>
    refine a_catchH (st := 38) (en := 53) (hp := 52) (ct := 0) (pre := [(16, 31, 38, 379), (16, 31, 52, 0)]) (suf := []) X hX Z.2.1 rfl (by intro z hz; simp only [List.mem_cons, List.not_mem_nil, or_false] at hz; rcases hz with rfl | rfl <;> first | exact Or.inl (by decide)) (by decide) (Or.inl rfl) (AW.eq (g2 := F0 m 52 ls [va_rf (some q)]) rfl ?_)
    exact w_X1_read_j52 GA Z v0 (some q)  (hl.sub [1] rfl) hf
  refine AW.eq (g2 := F0 m 51 ls [va_rf (some x44)]) rfl ?_
  refine a_athrowT X dX1_read_51 hf (fun q e hf hX => ?_)
  · skip
    refine a_catchH (st := 38) (en := 53) (hp := 52) (ct := 0) (pre := [(16, 31, 38, 379), (16, 31, 52, 0)]) (suf := []) X hX Z.2.1 rfl (by intro z hz; simp only [List.mem_cons, List.not_mem_nil, or_false] at hz; rcases hz with rfl | rfl <;> first | exact Or.inl (by decide)) (by decide) (Or.inl rfl) (AW.eq (g2 := F0 m 52 ls [va_rf (some q)]) rfl ?_)
    exact w_X1_read_j52 GA Z v0 (some q)  (hl.sub [1] rfl) hf
theorem np_X1_read : npar yX1_read.desc 0 := by unfold npar; decide +kernel
theorem hy_X1_read : yX1_read.cls ≠ "java/lang/invoke/MethodHandle" ∧ yX1_read.cls ≠ "java/lang/invoke/VarHandle" := by decide +kernel
theorem w_X1_read (GA : GA l s0 a0 K lam) (v0 : Option Nat) : AMet l s0 K lam yX1_read (Cond.codeWith yX1_read cX1_read (4 : Nat) (Option.some ClassFile.FieldType.int) [((16 : Nat), (31 : Nat), (38 : Nat), (379 : Nat)), ((16 : Nat), (31 : Nat), (52 : Nat), (0 : Nat)), ((38 : Nat), (53 : Nat), (52 : Nat), (0 : Nat))]) 21 3348 [vR v0] oI (f_X1_read K v0) := by
  refine AMet.ofW GA.1 (plainFor_of_name (by decide +kernel)) (Nat.le_of_ble_eq_true rfl) ?_
  intro b r hf p e s m args below meth c X hr hlk hnm hnd ht ls hl
  have Z : WZ l s0 a0 K p s m c cX1_read yX1_read.cls 4 b { frames := 21, cells := K 0 - aX b, slots := K 1 - aW b, locals := 3348 } 21 3348 meth [(16, 31, 38, 379), (16, 31, 52, 0), (38, 53, 52, 0)] (some (.int)) yX1_read := ⟨⟨X, GA.2.1, GA.2.2.1, rfl, rfl, Nat.le_refl _, Nat.le_refl _⟩, ht, hr, hlk, hnm, hnd⟩
  unfold f_X1_read at hf
  clear hr hlk hnm hnd ht
  refine a_new (pc := 0) (cK := 9) (n := 4) X Z.1.2.1 Z.1.2.2.1 Z.1.2.2.2.1 Z.1.2.2.2.2.1 ⟨by decide, by decide, by decide⟩ (gw X.1 X.2.1 q2673) (gw X.1 X.2.1 q2674) (gw X.1 X.2.1 q129) dX1_read_0 hf (fun x0 h hf => ?_)
  refine AW.lift (fun _ _ _ _ k => lv_dup (pc := 3) X.2.2.1 X.2.2.2.1 dX1_read_3 (cat_rf _) k) ?_
  refine a_aload_n (pc := 4) X dX1_read_4 rfl hl 0 rfl ?_
  refine a_get (pc := 5) (φ := 203) pR_t X Z.1.2.1 (gw X.1 X.2.1 q312) (fun _ q => q) (by decide) dX1_read_5 hf (fun x5 hf => ?_)
  refine a_aload_n (pc := 8) X dX1_read_8 rfl hl 0 rfl ?_
  refine a_get (pc := 9) (φ := 205) pI_t X Z.1.2.1 (gw X.1 X.2.1 q314) (fun _ q => q) (by decide) dX1_read_9 hf (fun x9 hf => ?_)
  refine a_callb (pc := 12) (rs := [vR (some x0)]) (avs := [vR (some x0), vR x5, vI x9]) Z.1 (w_X11_init GA (some x0) x5 x9) (Or.inl rfl) q2677 q129 (by decide) (by decide) dX1_read_12 hl.1 (Nat.le_of_ble_eq_true rfl) hf (ct_I X q2677 q2675 q2676 rfl hy_X11_init np_X11_init rfl dX1_read_12) (fun q h he hX => a_out (unc_of Z.2.1 rfl) Z.2.2.2.1 he hX) (fun _ h hf => ?kk12)
  refine AW.eq (g2 := F0 m 15 ls [va_rf (some x0)]) rfl ?_
  refine a_astore_n (pc := 15) X dX1_read_15 rfl hl (by decide) (lv' := [(1, vR (some x0)), (0, vR v0)]) rfl (fun ls hl => ?_)
  refine a_aload_n (pc := 16) X dX1_read_16 rfl hl 0 rfl ?_
  rcases dv_tsomeS hf with ⟨hk, hf⟩ | ⟨-, hf⟩
  rotate_left
  · exact fl_tnone hf
  refine a_callt (pc := 17) (rs := []) (avs := [vR (some x0)]) Z.1 (w_X11_all GA (some x0)) (Or.inl rfl) q2697 q129 (by decide) (by decide) dX1_read_17 hl.1 (Nat.le_of_ble_eq_true rfl) hf (ct_V hk ⟨by decide, by decide⟩ X (Or.inl rfl) q2697 q2694 q2695 q2696 hy_X11_all np_X11_all rfl dX1_read_17) (fun q h hf hX => ?hx17) (fun _ h hf => ?kk17)
  case hx17 =>
    rcases ctc_some hf with ⟨hy, hf⟩ | ⟨hn0, hf⟩
    · refine a_catchH (st := 16) (en := 31) (hp := 38) (ct := 379) (pre := []) (suf := [(16, 31, 52, 0), (38, 53, 52, 0)]) X hX Z.2.1 rfl (fun z hz => nomatch hz) (by decide) (Or.inr ⟨by decide, _, gw X.1 X.2.1 q2672, (cs_X14 GA) _ hy⟩) (AW.eq (g2 := F0 m 38 ls [va_rf (some q)]) rfl ?_)
      exact w_X1_read_j38 GA Z v0 (some q)  (hl.sub [1] rfl) hf
    · skip
      refine a_catchH (st := 16) (en := 31) (hp := 52) (ct := 0) (pre := [(16, 31, 38, 379)]) (suf := [(38, 53, 52, 0)]) X hX Z.2.1 rfl (by intro z hz; simp only [List.mem_cons, List.not_mem_nil, or_false] at hz; rcases hz with rfl <;> first | exact Or.inl (by decide) | exact Or.inr ⟨by decide, _, gw X.1 X.2.1 q2672, (nc_12_13_16_17_18_19_20_21_JumpHall_BadText GA _ (by simpa using hn0)).2.2⟩) (by decide) (Or.inl rfl) (AW.eq (g2 := F0 m 52 ls [va_rf (some q)]) rfl ?_)
      exact w_X1_read_j52 GA Z v0 (some q)  (hl.sub [1] rfl) hf
  refine AW.eq (g2 := F0 m 20 ls []) rfl ?_
  refine a_aload_n (pc := 20) X dX1_read_20 rfl hl 1 rfl ?_
  refine a_aload_n (pc := 21) X dX1_read_21 rfl hl 0 rfl ?_
  refine a_ndy (pc := 22) (rs := [vR v0]) (avs := [vR (some x0)]) Z.1 Z.2.2.2.2.2 (siG_225 GA) hfb_25 (lw_all_tbl q3550) ⟨by decide, by decide⟩ rfl rfl rfl (by decide) hl.1 (Nat.le_of_ble_eq_true rfl) (Nat.le_of_ble_eq_true rfl) rfl dX1_read_22 hf (fun x22 h hf => ?_)
  refine AW.eq (g2 := F0 m 27 ls [va_rf (some x22), va_rf v0]) rfl ?_
  obtain ⟨a27, rfl, ⟨hk, hf⟩ | ⟨-, hf⟩⟩ := dv_tsome hf
  rotate_left
  · exact fl_tnone hf
  refine a_callt (pc := 27) (rs := []) (avs := [vR (some a27), vR (some x22)]) Z.1 (w_X1_does GA (some a27) (some x22)) (Or.inr (Or.inl ⟨_, rfl⟩)) q1754 q74 (by decide) (by decide) dX1_read_27 hl.1 (Nat.le_of_ble_eq_true rfl) hf (ct_V hk ⟨by decide, by decide⟩ X (Or.inr (Or.inl ⟨_, rfl⟩)) q1754 q1751 q1753 pv_4 hy_X1_does np_X1_does rfl dX1_read_27) (fun q h hf hX => ?hx27) (fun x27 h hf => ?kk27)
  case hx27 =>
    rcases ctc_some hf with ⟨hy, hf⟩ | ⟨hn0, hf⟩
    · refine a_catchH (st := 16) (en := 31) (hp := 38) (ct := 379) (pre := []) (suf := [(16, 31, 52, 0), (38, 53, 52, 0)]) X hX Z.2.1 rfl (fun z hz => nomatch hz) (by decide) (Or.inr ⟨by decide, _, gw X.1 X.2.1 q2672, (cs_X14 GA) _ hy⟩) (AW.eq (g2 := F0 m 38 ls [va_rf (some q)]) rfl ?_)
      exact w_X1_read_j38 GA Z (some a27) (some q)  (hl.sub [1] rfl) hf
    · skip
      refine a_catchH (st := 16) (en := 31) (hp := 52) (ct := 0) (pre := [(16, 31, 38, 379)]) (suf := [(38, 53, 52, 0)]) X hX Z.2.1 rfl (by intro z hz; simp only [List.mem_cons, List.not_mem_nil, or_false] at hz; rcases hz with rfl <;> first | exact Or.inl (by decide) | exact Or.inr ⟨by decide, _, gw X.1 X.2.1 q2672, (nc_12_13_16_17_18_19_20_21_JumpHall_BadText GA _ (by simpa using hn0)).2.2⟩) (by decide) (Or.inl rfl) (AW.eq (g2 := F0 m 52 ls [va_rf (some q)]) rfl ?_)
      exact w_X1_read_j52 GA Z (some a27) (some q)  (hl.sub [1] rfl) hf
  refine AW.eq (g2 := F0 m 30 ls [.int x27]) rfl ?_
  refine a_istore_n (pc := 30) X dX1_read_30 rfl hl (by decide) (lv' := [(2, vI x27), (1, vR (some x0)), (0, vR (some a27))]) rfl (fun ls hl => ?_)
  refine a_aload_n (pc := 31) X dX1_read_31 rfl hl 2 rfl ?_
  refine AW.lift (fun _ _ _ _ k => lv_iconst (pc := 32) (v := (0 : Int32)) X.2.2.1 X.2.2.2.1 dX1_read_32 rfl k) ?_
  refine a_put (pc := 33) (φ := 205) X Z.1.2.1 Z.1.2.2.1 (gw X.1 X.2.1 q314) (fun _ q => q) (by decide) rfl rfl dX1_read_33 hf (fun h hf => ?_)
  refine a_iload_n (pc := 36) X dX1_read_36 rfl hl 0 rfl ?_
  exact a_ireturn X Z.2.2.1 Z.2.2.2.1 dX1_read_37 hf
theorem np_X0_read : npar yX0_read.desc 2 := by unfold npar; decide +kernel
theorem hy_X0_read : yX0_read.cls ≠ "java/lang/invoke/MethodHandle" ∧ yX0_read.cls ≠ "java/lang/invoke/VarHandle" := by decide +kernel
theorem w_X0_read (GA : GA l s0 a0 K lam) (v0 : Option Nat) (v1 : Option Nat) : AMet l s0 K lam yX0_read (Cond.codeWith yX0_read cX0_read (3 : Nat) (Option.some ClassFile.FieldType.int) [((0 : Nat), (8 : Nat), (11 : Nat), (28 : Nat)), ((0 : Nat), (8 : Nat), (14 : Nat), (13 : Nat))]) 22 3371 [vR v0, vR v1] oI (f_X0_read K v0 v1) := by
  refine AMet.ofW GA.1 (plainFor_of_name (by decide +kernel)) (Nat.le_of_ble_eq_true rfl) ?_
  intro b r hf p e s m args below meth c X hr hlk hnm hnd ht ls hl
  have Z : WZ l s0 a0 K p s m c cX0_read yX0_read.cls 3 b { frames := 22, cells := K 0 - aX b, slots := K 1 - aW b, locals := 3371 } 22 3371 meth [(0, 8, 11, 28), (0, 8, 14, 13)] (some (.int)) yX0_read := ⟨⟨X, GA.2.1, GA.2.2.1, rfl, rfl, Nat.le_refl _, Nat.le_refl _⟩, ht, hr, hlk, hnm, hnd⟩
  unfold f_X0_read at hf
  clear hr hlk hnm hnd ht
  refine a_aload_n (pc := 0) X dX0_read_0 rfl hl 1 rfl ?_
  refine AW.lift (fun _ _ _ _ k => lv_iconst (pc := 1) (v := (0 : Int32)) X.2.2.1 X.2.2.2.1 dX0_read_1 rfl k) ?_
  refine a_aload_n (pc := 2) X dX0_read_2 rfl hl 0 rfl ?_
  obtain ⟨a3, rfl, ⟨hk, hf⟩ | ⟨-, hf⟩⟩ := dv_tsome hf
  rotate_left
  · exact fl_tnone hf
  refine a_callt (pc := 3) (rs := [vI (0 : Int32), vR v1]) (avs := [vR (some a3)]) Z.1 (w_X1_read GA (some a3)) (Or.inr (Or.inl ⟨_, rfl⟩)) q2671 q74 (by decide) (by decide) dX0_read_3 hl.1 (Nat.le_of_ble_eq_true rfl) hf (ct_V hk ⟨by decide, by decide⟩ X (Or.inr (Or.inl ⟨_, rfl⟩)) q2671 q2668 q2669 q2670 hy_X1_read np_X1_read rfl dX0_read_3) (fun q h hf hX => ?hx3) (fun x3 h hf => ?kk3)
  case hx3 =>
    rcases ctc_some hf with ⟨hy, hf⟩ | ⟨hn0, hf⟩
    · refine a_catchH (st := 0) (en := 8) (hp := 11) (ct := 28) (pre := []) (suf := [(0, 8, 14, 13)]) X hX Z.2.1 rfl (fun z hz => nomatch hz) (by decide) (Or.inr ⟨by decide, _, gw X.1 X.2.1 q1873, (cs_X17 GA) _ hy⟩) (AW.eq (g2 := F0 m 11 ls [va_rf (some q)]) rfl ?_)
      refine a_astore_n (pc := 11) X dX0_read_11 rfl hl (by decide) (lv' := [(2, vR (some q)), (0, vR (some a3)), (1, vR v1)]) rfl (fun ls hl => ?_)
      refine AW.lift (fun _ _ _ _ k => lv_iconst (pc := 12) (v := (1 : Int32)) X.2.2.1 X.2.2.2.1 dX0_read_12 rfl k) ?_
      exact a_ireturn X Z.2.2.1 Z.2.2.2.1 dX0_read_13 hf
    · skip
      rcases ctc_some hf with ⟨hy, hf⟩ | ⟨hn1, hf⟩
      · refine a_catchH (st := 0) (en := 8) (hp := 14) (ct := 13) (pre := [(0, 8, 11, 28)]) (suf := []) X hX Z.2.1 rfl (by intro z hz; simp only [List.mem_cons, List.not_mem_nil, or_false] at hz; rcases hz with rfl <;> first | exact Or.inl (by decide) | exact Or.inr ⟨by decide, _, gw X.1 X.2.1 q1873, (nc_12_13_14_16_18_19_20_21_java_lang_IllegalArgumentException GA _ (by simpa using hn0)).2.2⟩) (by decide) (Or.inr ⟨by decide, _, gw X.1 X.2.1 q1709, (cs_X21 GA) _ hy⟩) (AW.eq (g2 := F0 m 14 ls [va_rf (some q)]) rfl ?_)
        refine a_astore_n (pc := 14) X dX0_read_14 rfl hl (by decide) (lv' := [(2, vR (some q)), (0, vR (some a3)), (1, vR v1)]) rfl (fun ls hl => ?_)
        refine AW.lift (fun _ _ _ _ k => lv_iconst (pc := 15) (v := (2 : Int32)) X.2.2.1 X.2.2.2.1 dX0_read_15 rfl k) ?_
        exact a_ireturn X Z.2.2.1 Z.2.2.2.1 dX0_read_16 hf
      · skip
        exact a_outH X Z.2.1 (by intro z hz; simp only [List.mem_cons, List.not_mem_nil, or_false] at hz; rcases hz with rfl | rfl <;> first | exact Or.inl (by decide) | exact Or.inr ⟨by decide, _, gw X.1 X.2.1 q1873, (nc_12_13_14_16_18_19_20_21_java_lang_IllegalArgumentException GA _ (by simpa using hn0)).2.2⟩ | exact Or.inr ⟨by decide, _, gw X.1 X.2.1 q1709, (nc_12_13_14_16_17_18_19_20_java_lang_UnsupportedOperationException GA _ (by simpa using hn1)).2.2⟩) Z.2.2.2.1 (th_eq hf) hX
  refine AW.eq (g2 := F0 m 6 ls [.int x3, .int (0 : Int32), va_rf v1]) rfl ?_
  refine AW.lift (fun _ _ _ _ k => lv_i2l (pc := 6) X.2.2.1 X.2.2.2.1 dX0_read_6 rfl k) ?_
  refine a_lastore (pc := 7) X dX0_read_7 hf (fun h hf => ?_)
  refine AW.lift (fun _ _ _ _ k => lv_goto (pc := 8) (tgt := 17) X.2.2.1 X.2.2.2.1 dX0_read_8 rfl k) ?_
  refine AW.lift (fun _ _ _ _ k => lv_iconst (pc := 17) (v := (0 : Int32)) X.2.2.1 X.2.2.2.1 dX0_read_17 rfl k) ?_
  exact a_ireturn X Z.2.2.1 Z.2.2.2.1 dX0_read_18 hf
theorem np_X4_here : npar yX4_here.desc 0 := by unfold npar; decide +kernel
theorem hy_X4_here : yX4_here.cls ≠ "java/lang/invoke/MethodHandle" ∧ yX4_here.cls ≠ "java/lang/invoke/VarHandle" := by decide +kernel
theorem w_X4_here (GA : GA l s0 a0 K lam) (v0 : Option Nat) : AMet l s0 K lam yX4_here (Cond.code yX4_here cX4_here (1 : Nat) (Option.some ClassFile.FieldType.int)) 0 0 [vR v0] oI (f_X4_here K v0) := by
  refine AMet.of GA.1 (plainFor_of_name (by decide +kernel)) (Nat.le_of_ble_eq_true rfl) ?_
  intro b r hf p e s m args below meth c X hr hlk hnm hnd ht ls hl
  have Z : WZ l s0 a0 K p s m c cX4_here yX4_here.cls 1 b { frames := 0, cells := K 0 - aX b, slots := K 1 - aW b, locals := 0 } 0 0 meth [] (some (.int)) yX4_here := ⟨⟨X, GA.2.1, GA.2.2.1, rfl, rfl, Nat.le_refl _, Nat.le_refl _⟩, tab_nil ht, hr, hlk, hnm, hnd⟩
  unfold f_X4_here at hf
  clear hr hlk hnm hnd ht
  refine a_aload_n (pc := 0) X dX4_here_0 rfl hl 0 rfl ?_
  refine a_get (pc := 1) (φ := 122) pI_t X Z.1.2.1 (gw X.1 X.2.1 q3047) (fun _ q => q) (by decide) dX4_here_1 hf (fun x1 hf => ?_)
  refine a_aload_n (pc := 4) X dX4_here_4 rfl hl 0 rfl ?_
  refine a_get (pc := 5) (φ := 123) pI_t X Z.1.2.1 (gw X.1 X.2.1 q3048) (fun _ q => q) (by decide) dX4_here_5 hf (fun x5 hf => ?_)
  refine AW.lift2 (fun _ _ _ _ k1 k2 => lv_icmp_ge (pc := 8) (tgt := 23) X.2.2.1 X.2.2.2.1 dX4_here_8 rfl k1 k2) (fun c => ?_) (fun c => ?_)
  · have hf := ite_t c hf
    refine AW.lift (fun _ _ _ _ k => lv_iconst (pc := 23) (v := (-1 : Int32)) X.2.2.1 X.2.2.2.1 dX4_here_23 rfl k) ?_
    exact a_ireturn X Z.2.2.1 Z.2.2.2.1 dX4_here_24 hf
  · have hf := ite_f c hf
    refine a_aload_n (pc := 11) X dX4_here_11 rfl hl 0 rfl ?_
    refine a_get (pc := 12) (φ := 112) pR_t X Z.1.2.1 (gw X.1 X.2.1 q3037) (fun _ q => q) (by decide) dX4_here_12 hf (fun x12 hf => ?_)
    refine a_aload_n (pc := 15) X dX4_here_15 rfl hl 0 rfl ?_
    refine a_get (pc := 16) (φ := 122) pI_t X Z.1.2.1 (gw X.1 X.2.1 q3047) (fun _ q => q) (by decide) dX4_here_16 hf (fun x16 hf => ?_)
    refine a_iaload (pc := 19) X dX4_here_19 hf (fun x19 hf => ?_)
    refine AW.lift (fun _ _ _ _ k => lv_goto (pc := 20) (tgt := 24) X.2.2.1 X.2.2.2.1 dX4_here_20 rfl k) ?_
    exact a_ireturn X Z.2.2.1 Z.2.2.2.1 dX4_here_24 hf
theorem w_X4_wordHere_j33 {r : Except Nat (Int32) × AH} (GA : GA l s0 a0 K lam) (Z : WZ l s0 a0 K p s m c cX4_wordHere yX4_wordHere.cls 3 b R 1 20 meth [] (some (.int)) yX4_wordHere) (v0 : Option Nat) (v2 : Int32) (t0 : Int32) (rc4 : Int32 → Int32 → AM (Int32)) (hrc4 : ∀ (v1 : Int32) (v2 : Int32) (h : AH) (ls : Array Slot), LV ls 3 [(0, vR v0), (1, vI v1), (2, vI v2)] → rc4 v1 v2 h = some r → AW s0 K lam p l e R s m args below meth c (AQ s0 K lam below oI b r s) b h (F0 m 4 ls [])) {h : AH} {ls : Array Slot} (hl : LV ls 3 [(0, vR v0), (2, vI v2)]) (hf : f_X4_wordHere_j33 K rc4 v0 v2 t0 h = some r) : AW s0 K lam p l e R s m args below meth c (AQ s0 K lam below oI b r s) b h (F0 m 33 ls [.int t0]) := by
  unfold f_X4_wordHere_j33 at hf
  have X := Z.1.1
  refine a_istore_n (pc := 33) X dX4_wordHere_33 rfl hl (by decide) (lv' := [(1, vI t0), (0, vR v0), (2, vI v2)]) rfl (fun ls hl => ?_)
  refine a_iinc (pc := 34) (v := (v2 + (1 : Int32))) X dX4_wordHere_34 hl (k := 2) rfl rfl (by decide) (lv' := [(2, vI (v2 + (1 : Int32))), (1, vI t0), (0, vR v0)]) rfl (fun ls hl => ?_)
  refine AW.lift (fun _ _ _ _ k => lv_goto (pc := 37) (tgt := 4) X.2.2.1 X.2.2.2.1 dX4_wordHere_37 rfl k) ?_
  exact hrc4 t0 (v2 + (1 : Int32)) _ _ (hl.sub [2, 1, 0] rfl) hf
theorem w_X4_wordHere_b4 {r : Except Nat (Int32) × AH} (GA : GA l s0 a0 K lam) (Z : WZ l s0 a0 K p s m c cX4_wordHere yX4_wordHere.cls 3 b R 1 20 meth [] (some (.int)) yX4_wordHere) (v0 : Option Nat) (v1 : Int32) (v2 : Int32)  (rc4 : Int32 → Int32 → AM (Int32)) (hrc4 : ∀ (v1 : Int32) (v2 : Int32) (h : AH) (ls : Array Slot), LV ls 3 [(0, vR v0), (1, vI v1), (2, vI v2)] → rc4 v1 v2 h = some r → AW s0 K lam p l e R s m args below meth c (AQ s0 K lam below oI b r s) b h (F0 m 4 ls [])) {h : AH} {ls : Array Slot} (hl : LV ls 3 [(0, vR v0), (1, vI v1), (2, vI v2)]) (hf : f_X4_wordHere_b4 K rc4 v0 v1 v2 h = some r) : AW s0 K lam p l e R s m args below meth c (AQ s0 K lam below oI b r s) b h (F0 m 4 ls []) := by
  unfold f_X4_wordHere_b4 at hf
  have X := Z.1.1
  refine a_iload_n (pc := 4) X dX4_wordHere_4 rfl hl 2 rfl ?_
  refine AW.lift (fun _ _ _ _ k => lv_bipush (pc := 5) (v := (7 : Int32)) X.2.2.1 X.2.2.2.1 dX4_wordHere_5 rfl k) ?_
  refine AW.lift2 (fun _ _ _ _ k1 k2 => lv_icmp_ge (pc := 7) (tgt := 40) X.2.2.1 X.2.2.2.1 dX4_wordHere_7 rfl k1 k2) (fun c => ?_) (fun c => ?_)
  · have hf := ite_t c hf
    refine a_iload_n (pc := 40) X dX4_wordHere_40 rfl hl 1 rfl ?_
    exact a_ireturn X Z.2.2.1 Z.2.2.2.1 dX4_wordHere_41 hf
  · have hf := ite_f c hf
    refine a_aload_n (pc := 10) X dX4_wordHere_10 rfl hl 0 rfl ?_
    obtain ⟨a11, rfl, ⟨hk, hf⟩ | ⟨-, hf⟩⟩ := dv_some hf
    rotate_left
    · exact fl_none hf
    refine a_callb (pc := 11) (rs := []) (avs := [vR (some a11)]) Z.1 (w_X4_here GA (some a11)) (Or.inl rfl) q3423 q86 (by decide) (by decide) dX4_wordHere_11 hl.1 (Nat.le_of_ble_eq_true rfl) hf (ct_V hk ⟨by decide, by decide⟩ X (Or.inl rfl) q3423 q3420 q3422 pv_67 hy_X4_here np_X4_here rfl dX4_wordHere_11) (fun q h he hX => a_out (unc_of Z.2.1 rfl) Z.2.2.2.1 he hX) (fun x11 h hf => ?kk11)
    refine AW.eq (g2 := F0 m 14 ls [.int x11]) rfl ?_
    refine a_aload_n (pc := 14) X dX4_wordHere_14 rfl hl 0 rfl ?_
    refine a_get (pc := 15) (φ := 117) pR_t X Z.1.2.1 (gw X.1 X.2.1 q3042) (fun _ q => q) (by decide) dX4_wordHere_15 hf (fun x15 hf => ?_)
    refine a_aload_n (pc := 18) X dX4_wordHere_18 rfl hl 0 rfl ?_
    refine a_get (pc := 19) (φ := 118) pR_t X Z.1.2.1 (gw X.1 X.2.1 q3043) (fun _ q => q) (by decide) dX4_wordHere_19 hf (fun x19 hf => ?_)
    refine a_iload_n (pc := 22) X dX4_wordHere_22 rfl hl 2 rfl ?_
    refine a_iaload (pc := 23) X dX4_wordHere_23 hf (fun x23 hf => ?_)
    refine a_caload (pc := 24) X dX4_wordHere_24 hf (fun x24 hf => ?_)
    refine AW.lift2 (fun _ _ _ _ k1 k2 => lv_icmp_ne (pc := 25) (tgt := 32) X.2.2.1 X.2.2.2.1 dX4_wordHere_25 rfl k2 k1) (fun c => ?_) (fun c => ?_)
    · have hf := ite_t c hf
      refine a_iload_n (pc := 28) X dX4_wordHere_28 rfl hl 2 rfl ?_
      refine AW.lift (fun _ _ _ _ k => lv_goto (pc := 29) (tgt := 33) X.2.2.1 X.2.2.2.1 dX4_wordHere_29 rfl k) ?_
      exact w_X4_wordHere_j33 GA Z (some a11) v2 v2 rc4 hrc4 (hl.sub [0, 2] rfl) hf
    · have hf := ite_f c hf
      refine a_iload_n (pc := 32) X dX4_wordHere_32 rfl hl 1 rfl ?_
      exact w_X4_wordHere_j33 GA Z (some a11) v2 v1 rc4 hrc4 (hl.sub [0, 2] rfl) hf
theorem w_X4_wordHere_l4 {r : Except Nat (Int32) × AH} (GA : GA l s0 a0 K lam) (Z : WZ l s0 a0 K p s m c cX4_wordHere yX4_wordHere.cls 3 b R 1 20 meth [] (some (.int)) yX4_wordHere) (v0 : Option Nat)  : ∀ (n : Nat) (v1 : Int32) (v2 : Int32) (h : AH) (ls : Array Slot), LV ls 3 [(0, vR v0), (1, vI v1), (2, vI v2)] → f_X4_wordHere_l4 K v0 n v1 v2 h = some r → AW s0 K lam p l e R s m args below meth c (AQ s0 K lam below oI b r s) b h (F0 m 4 ls []) := by
  intro n
  induction n with
  | zero => intro v1 v2 h ls hl hf; exact fl_no (h := h) hf
  | succ n ih => intro v1 v2 h ls hl hf; exact w_X4_wordHere_b4 GA Z v0 v1 v2 (f_X4_wordHere_l4 K v0 n) ih hl hf
theorem np_X4_wordHere : npar yX4_wordHere.desc 0 := by unfold npar; decide +kernel
theorem hy_X4_wordHere : yX4_wordHere.cls ≠ "java/lang/invoke/MethodHandle" ∧ yX4_wordHere.cls ≠ "java/lang/invoke/VarHandle" := by decide +kernel
theorem w_X4_wordHere (GA : GA l s0 a0 K lam) (v0 : Option Nat) : AMet l s0 K lam yX4_wordHere (Cond.code yX4_wordHere cX4_wordHere (3 : Nat) (Option.some ClassFile.FieldType.int)) 1 20 [vR v0] oI (f_X4_wordHere K v0) := by
  refine AMet.of GA.1 (plainFor_of_name (by decide +kernel)) (Nat.le_of_ble_eq_true rfl) ?_
  intro b r hf p e s m args below meth c X hr hlk hnm hnd ht ls hl
  have Z : WZ l s0 a0 K p s m c cX4_wordHere yX4_wordHere.cls 3 b { frames := 1, cells := K 0 - aX b, slots := K 1 - aW b, locals := 20 } 1 20 meth [] (some (.int)) yX4_wordHere := ⟨⟨X, GA.2.1, GA.2.2.1, rfl, rfl, Nat.le_refl _, Nat.le_refl _⟩, tab_nil ht, hr, hlk, hnm, hnd⟩
  unfold f_X4_wordHere at hf
  clear hr hlk hnm hnd ht
  refine AW.lift (fun _ _ _ _ k => lv_iconst (pc := 0) (v := (-1 : Int32)) X.2.2.1 X.2.2.2.1 dX4_wordHere_0 rfl k) ?_
  refine a_istore_n (pc := 1) X dX4_wordHere_1 rfl hl (by decide) (lv' := [(1, vI (-1 : Int32)), (0, vR v0)]) rfl (fun ls hl => ?_)
  refine AW.lift (fun _ _ _ _ k => lv_iconst (pc := 2) (v := (0 : Int32)) X.2.2.1 X.2.2.2.1 dX4_wordHere_2 rfl k) ?_
  refine a_istore_n (pc := 3) X dX4_wordHere_3 rfl hl (by decide) (lv' := [(2, vI (0 : Int32)), (1, vI (-1 : Int32)), (0, vR v0)]) rfl (fun ls hl => ?_)
  exact w_X4_wordHere_l4 GA Z v0  FU (-1 : Int32) (0 : Int32) _ _ (hl.sub [2, 1, 0] rfl) hf
theorem w_X4_expects_j41 {r : Except Nat (Unit) × AH} (GA : GA l s0 a0 K lam) (Z : WZ l s0 a0 K p s m c cX4_expects yX4_expects.cls 2 b R 1 20 meth [] none yX4_expects)  (t0 : Int32) (t1 : Int32) (t2 : Option Nat)  {h : AH} {ls : Array Slot} (hl : LV ls 2 []) (hf : f_X4_expects_j41 K t0 t1 t2 h = some r) : AW s0 K lam p l e R s m args below meth c (AQ s0 K lam below oV b r s) b h (F0 m 41 ls [.int t0, .int t1, va_rf t2]) := by
  unfold f_X4_expects_j41 at hf
  have X := Z.1.1
  refine AW.lift (fun _ _ _ _ k => lv_iadd (pc := 41) X.2.2.1 X.2.2.2.1 dX4_expects_41 k) ?_
  refine a_put (pc := 42) (φ := 122) X Z.1.2.1 Z.1.2.2.1 (gw X.1 X.2.1 q3047) (fun _ q => q) (by decide) rfl rfl dX4_expects_42 hf (fun h hf => ?_)
  exact a_return X Z.2.2.1 Z.2.2.2.1 dX4_expects_45 hf
theorem w_X4_expects_j21 {r : Except Nat (Unit) × AH} (GA : GA l s0 a0 K lam) (Z : WZ l s0 a0 K p s m c cX4_expects yX4_expects.cls 2 b R 1 20 meth [] none yX4_expects) (v0 : Option Nat) (t0 : Int32) (t1 : Option Nat)  {h : AH} {ls : Array Slot} (hl : LV ls 2 [(0, vR v0)]) (hf : f_X4_expects_j21 K v0 t0 t1 h = some r) : AW s0 K lam p l e R s m args below meth c (AQ s0 K lam below oV b r s) b h (F0 m 21 ls [.int t0, va_rf t1]) := by
  unfold f_X4_expects_j21 at hf
  have X := Z.1.1
  obtain ⟨hg, hf⟩ := chk_some hf
  refine a_put (pc := 21) (φ := 124) X Z.1.2.1 Z.1.2.2.1 (gw X.1 X.2.1 q3049) (fun _ q => q) (by decide) rfl hg dX4_expects_21 hf (fun h hf => ?_)
  refine a_aload_n (pc := 24) X dX4_expects_24 rfl hl 0 rfl ?_
  refine AW.lift (fun _ _ _ _ k => lv_dup (pc := 25) X.2.2.1 X.2.2.2.1 dX4_expects_25 (cat_rf _) k) ?_
  refine a_get (pc := 26) (φ := 122) pI_t X Z.1.2.1 (gw X.1 X.2.1 q3047) (fun _ q => q) (by decide) dX4_expects_26 hf (fun x26 hf => ?_)
  refine a_aload_n (pc := 29) X dX4_expects_29 rfl hl 0 rfl ?_
  refine a_get (pc := 30) (φ := 124) pI_t X Z.1.2.1 (gw X.1 X.2.1 q3049) (fun _ q => q) (by decide) dX4_expects_30 hf (fun x30 hf => ?_)
  refine AW.lift2 (fun _ _ _ _ k1 k2 => lv_if_eq (pc := 33) (tgt := 40) X.2.2.1 X.2.2.2.1 dX4_expects_33 rfl k1 k2) (fun c => ?_) (fun c => ?_)
  · have hf := ite_t c hf
    refine AW.lift (fun _ _ _ _ k => lv_iconst (pc := 40) (v := (1 : Int32)) X.2.2.1 X.2.2.2.1 dX4_expects_40 rfl k) ?_
    exact w_X4_expects_j41 GA Z  (1 : Int32) x26 v0  (hl.sub [] rfl) hf
  · have hf := ite_f c hf
    refine AW.lift (fun _ _ _ _ k => lv_iconst (pc := 36) (v := (0 : Int32)) X.2.2.1 X.2.2.2.1 dX4_expects_36 rfl k) ?_
    refine AW.lift (fun _ _ _ _ k => lv_goto (pc := 37) (tgt := 41) X.2.2.1 X.2.2.2.1 dX4_expects_37 rfl k) ?_
    exact w_X4_expects_j41 GA Z  (0 : Int32) x26 v0  (hl.sub [] rfl) hf
theorem w_X4_expects_j16 {r : Except Nat (Unit) × AH} (GA : GA l s0 a0 K lam) (Z : WZ l s0 a0 K p s m c cX4_expects yX4_expects.cls 2 b R 1 20 meth [] none yX4_expects) (v0 : Option Nat) (t0 : Option Nat)  {h : AH} {ls : Array Slot} (hl : LV ls 2 [(0, vR v0)]) (hf : f_X4_expects_j16 K v0 t0 h = some r) : AW s0 K lam p l e R s m args below meth c (AQ s0 K lam below oV b r s) b h (F0 m 16 ls [va_rf t0]) := by
  unfold f_X4_expects_j16 at hf
  have X := Z.1.1
  refine AW.lift (fun _ _ _ _ k => lv_iconst (pc := 16) (v := (1 : Int32)) X.2.2.1 X.2.2.2.1 dX4_expects_16 rfl k) ?_
  refine AW.lift (fun _ _ _ _ k => lv_goto (pc := 17) (tgt := 21) X.2.2.1 X.2.2.2.1 dX4_expects_17 rfl k) ?_
  exact w_X4_expects_j21 GA Z v0 (1 : Int32) t0  (hl.sub [0] rfl) hf
theorem np_X4_expects : npar yX4_expects.desc 1 := by unfold npar; decide +kernel
theorem hy_X4_expects : yX4_expects.cls ≠ "java/lang/invoke/MethodHandle" ∧ yX4_expects.cls ≠ "java/lang/invoke/VarHandle" := by decide +kernel
theorem w_X4_expects (GA : GA l s0 a0 K lam) (v0 : Option Nat) (v1 : Int32) : AMet l s0 K lam yX4_expects (Cond.code yX4_expects cX4_expects (2 : Nat) (Option.none : Option ClassFile.FieldType)) 1 20 [vR v0, vI v1] oV (f_X4_expects K v0 v1) := by
  refine AMet.of GA.1 (plainFor_of_name (by decide +kernel)) (Nat.le_of_ble_eq_true rfl) ?_
  intro b r hf p e s m args below meth c X hr hlk hnm hnd ht ls hl
  have Z : WZ l s0 a0 K p s m c cX4_expects yX4_expects.cls 2 b { frames := 1, cells := K 0 - aX b, slots := K 1 - aW b, locals := 20 } 1 20 meth [] none yX4_expects := ⟨⟨X, GA.2.1, GA.2.2.1, rfl, rfl, Nat.le_refl _, Nat.le_refl _⟩, tab_nil ht, hr, hlk, hnm, hnd⟩
  unfold f_X4_expects at hf
  clear hr hlk hnm hnd ht
  refine a_aload_n (pc := 0) X dX4_expects_0 rfl hl 0 rfl ?_
  refine a_aload_n (pc := 1) X dX4_expects_1 rfl hl 0 rfl ?_
  refine a_get (pc := 2) (φ := 124) pI_t X Z.1.2.1 (gw X.1 X.2.1 q3049) (fun _ q => q) (by decide) dX4_expects_2 hf (fun x2 hf => ?_)
  refine AW.lift2 (fun _ _ _ _ k1 k2 => lv_if_ne (pc := 5) (tgt := 16) X.2.2.1 X.2.2.2.1 dX4_expects_5 rfl k2 k1) (fun c => ?_) (fun c => ?_)
  · have hf := ite_t c hf
    refine a_aload_n (pc := 8) X dX4_expects_8 rfl hl 0 rfl ?_
    obtain ⟨a9, rfl, ⟨hk, hf⟩ | ⟨-, hf⟩⟩ := dv_some hf
    rotate_left
    · exact fl_none hf
    refine a_callb (pc := 9) (rs := [vR (some a9)]) (avs := [vR (some a9)]) Z.1 (w_X4_here GA (some a9)) (Or.inl rfl) q3423 q86 (by decide) (by decide) dX4_expects_9 hl.1 (Nat.le_of_ble_eq_true rfl) hf (ct_V hk ⟨by decide, by decide⟩ X (Or.inl rfl) q3423 q3420 q3422 pv_67 hy_X4_here np_X4_here rfl dX4_expects_9) (fun q h he hX => a_out (unc_of Z.2.1 rfl) Z.2.2.2.1 he hX) (fun x9 h hf => ?kk9)
    refine AW.eq (g2 := F0 m 12 ls [.int x9, va_rf (some a9)]) rfl ?_
    refine a_iload_n (pc := 12) X dX4_expects_12 rfl hl 1 rfl ?_
    refine AW.lift2 (fun _ _ _ _ k1 k2 => lv_icmp_eq (pc := 13) (tgt := 20) X.2.2.1 X.2.2.2.1 dX4_expects_13 rfl k1 k2) (fun c => ?_) (fun c => ?_)
    · have hf := ite_t c hf
      refine AW.lift (fun _ _ _ _ k => lv_iconst (pc := 20) (v := (0 : Int32)) X.2.2.1 X.2.2.2.1 dX4_expects_20 rfl k) ?_
      exact w_X4_expects_j21 GA Z (some a9) (0 : Int32) (some a9)  (hl.sub [0] rfl) hf
    · have hf := ite_f c hf
      exact w_X4_expects_j16 GA Z (some a9) (some a9)  (hl.sub [0] rfl) hf
  · have hf := ite_f c hf
    exact w_X4_expects_j16 GA Z v0 v0  (hl.sub [0] rfl) hf
theorem w_X4_digit_j69 {r : Except Nat (Int32) × AH} (GA : GA l s0 a0 K lam) (Z : WZ l s0 a0 K p s m c cX4_digit yX4_digit.cls 2 b R 1 25 meth [] (some (.int)) yX4_digit) (v1 : Int32) (t0 : Int32) (t1 : Int32) (t2 : Option Nat)  {h : AH} {ls : Array Slot} (hl : LV ls 2 [(1, vI v1)]) (hf : f_X4_digit_j69 K v1 t0 t1 t2 h = some r) : AW s0 K lam p l e R s m args below meth c (AQ s0 K lam below oI b r s) b h (F0 m 69 ls [.int t0, .int t1, va_rf t2]) := by
  unfold f_X4_digit_j69 at hf
  have X := Z.1.1
  refine AW.lift (fun _ _ _ _ k => lv_iadd (pc := 69) X.2.2.1 X.2.2.2.1 dX4_digit_69 k) ?_
  refine a_put (pc := 70) (φ := 122) X Z.1.2.1 Z.1.2.2.1 (gw X.1 X.2.1 q3047) (fun _ q => q) (by decide) rfl rfl dX4_digit_70 hf (fun h hf => ?_)
  refine a_iload_n (pc := 73) X dX4_digit_73 rfl hl 0 rfl ?_
  exact a_ireturn X Z.2.2.1 Z.2.2.2.1 dX4_digit_74 hf
theorem w_X4_digit_j51 {r : Except Nat (Int32) × AH} (GA : GA l s0 a0 K lam) (Z : WZ l s0 a0 K p s m c cX4_digit yX4_digit.cls 2 b R 1 25 meth [] (some (.int)) yX4_digit) (v0 : Option Nat) (t0 : Int32)  {h : AH} {ls : Array Slot} (hl : LV ls 2 [(0, vR v0)]) (hf : f_X4_digit_j51 K v0 t0 h = some r) : AW s0 K lam p l e R s m args below meth c (AQ s0 K lam below oI b r s) b h (F0 m 51 ls [.int t0]) := by
  unfold f_X4_digit_j51 at hf
  have X := Z.1.1
  refine a_istore_n (pc := 51) X dX4_digit_51 rfl hl (by decide) (lv' := [(1, vI t0), (0, vR v0)]) rfl (fun ls hl => ?_)
  refine a_aload_n (pc := 52) X dX4_digit_52 rfl hl 1 rfl ?_
  refine AW.lift (fun _ _ _ _ k => lv_dup (pc := 53) X.2.2.1 X.2.2.2.1 dX4_digit_53 (cat_rf _) k) ?_
  refine a_get (pc := 54) (φ := 122) pI_t X Z.1.2.1 (gw X.1 X.2.1 q3047) (fun _ q => q) (by decide) dX4_digit_54 hf (fun x54 hf => ?_)
  refine a_aload_n (pc := 57) X dX4_digit_57 rfl hl 1 rfl ?_
  refine a_get (pc := 58) (φ := 124) pI_t X Z.1.2.1 (gw X.1 X.2.1 q3049) (fun _ q => q) (by decide) dX4_digit_58 hf (fun x58 hf => ?_)
  refine AW.lift2 (fun _ _ _ _ k1 k2 => lv_if_eq (pc := 61) (tgt := 68) X.2.2.1 X.2.2.2.1 dX4_digit_61 rfl k1 k2) (fun c => ?_) (fun c => ?_)
  · have hf := ite_t c hf
    refine AW.lift (fun _ _ _ _ k => lv_iconst (pc := 68) (v := (1 : Int32)) X.2.2.1 X.2.2.2.1 dX4_digit_68 rfl k) ?_
    exact w_X4_digit_j69 GA Z t0 (1 : Int32) x54 v0  (hl.sub [0] rfl) hf
  · have hf := ite_f c hf
    refine AW.lift (fun _ _ _ _ k => lv_iconst (pc := 64) (v := (0 : Int32)) X.2.2.1 X.2.2.2.1 dX4_digit_64 rfl k) ?_
    refine AW.lift (fun _ _ _ _ k => lv_goto (pc := 65) (tgt := 69) X.2.2.1 X.2.2.2.1 dX4_digit_65 rfl k) ?_
    exact w_X4_digit_j69 GA Z t0 (0 : Int32) x54 v0  (hl.sub [0] rfl) hf
theorem w_X4_digit_j30 {r : Except Nat (Int32) × AH} (GA : GA l s0 a0 K lam) (Z : WZ l s0 a0 K p s m c cX4_digit yX4_digit.cls 2 b R 1 25 meth [] (some (.int)) yX4_digit) (v0 : Option Nat) (t0 : Int32) (t1 : Option Nat)  {h : AH} {ls : Array Slot} (hl : LV ls 2 [(0, vR v0)]) (hf : f_X4_digit_j30 K v0 t0 t1 h = some r) : AW s0 K lam p l e R s m args below meth c (AQ s0 K lam below oI b r s) b h (F0 m 30 ls [.int t0, va_rf t1]) := by
  unfold f_X4_digit_j30 at hf
  have X := Z.1.1
  obtain ⟨hg, hf⟩ := chk_some hf
  refine a_put (pc := 30) (φ := 124) X Z.1.2.1 Z.1.2.2.1 (gw X.1 X.2.1 q3049) (fun _ q => q) (by decide) rfl hg dX4_digit_30 hf (fun h hf => ?_)
  refine a_aload_n (pc := 33) X dX4_digit_33 rfl hl 0 rfl ?_
  refine a_get (pc := 34) (φ := 124) pI_t X Z.1.2.1 (gw X.1 X.2.1 q3049) (fun _ q => q) (by decide) dX4_digit_34 hf (fun x34 hf => ?_)
  refine AW.lift2 (fun _ _ _ _ k1 k2 => lv_if_eq (pc := 37) (tgt := 44) X.2.2.1 X.2.2.2.1 dX4_digit_37 rfl k1 k2) (fun c => ?_) (fun c => ?_)
  · have hf := ite_t c hf
    refine a_aload_n (pc := 44) X dX4_digit_44 rfl hl 0 rfl ?_
    obtain ⟨a45, rfl, ⟨hk, hf⟩ | ⟨-, hf⟩⟩ := dv_some hf
    rotate_left
    · exact fl_none hf
    refine a_callb (pc := 45) (rs := []) (avs := [vR (some a45)]) Z.1 (w_X4_here GA (some a45)) (Or.inl rfl) q3423 q86 (by decide) (by decide) dX4_digit_45 hl.1 (Nat.le_of_ble_eq_true rfl) hf (ct_V hk ⟨by decide, by decide⟩ X (Or.inl rfl) q3423 q3420 q3422 pv_67 hy_X4_here np_X4_here rfl dX4_digit_45) (fun q h he hX => a_out (unc_of Z.2.1 rfl) Z.2.2.2.1 he hX) (fun x45 h hf => ?kk45)
    refine AW.eq (g2 := F0 m 48 ls [.int x45]) rfl ?_
    refine AW.lift (fun _ _ _ _ k => lv_bipush (pc := 48) (v := (48 : Int32)) X.2.2.1 X.2.2.2.1 dX4_digit_48 rfl k) ?_
    refine AW.lift (fun _ _ _ _ k => lv_isub (pc := 50) X.2.2.1 X.2.2.2.1 dX4_digit_50 k) ?_
    exact w_X4_digit_j51 GA Z (some a45) (x45 - (48 : Int32))  (hl.sub [0] rfl) hf
  · have hf := ite_f c hf
    refine AW.lift (fun _ _ _ _ k => lv_iconst (pc := 40) (v := (0 : Int32)) X.2.2.1 X.2.2.2.1 dX4_digit_40 rfl k) ?_
    refine AW.lift (fun _ _ _ _ k => lv_goto (pc := 41) (tgt := 51) X.2.2.1 X.2.2.2.1 dX4_digit_41 rfl k) ?_
    exact w_X4_digit_j51 GA Z v0 (0 : Int32)  (hl.sub [0] rfl) hf
theorem w_X4_digit_j25 {r : Except Nat (Int32) × AH} (GA : GA l s0 a0 K lam) (Z : WZ l s0 a0 K p s m c cX4_digit yX4_digit.cls 2 b R 1 25 meth [] (some (.int)) yX4_digit) (v0 : Option Nat) (t0 : Option Nat)  {h : AH} {ls : Array Slot} (hl : LV ls 2 [(0, vR v0)]) (hf : f_X4_digit_j25 K v0 t0 h = some r) : AW s0 K lam p l e R s m args below meth c (AQ s0 K lam below oI b r s) b h (F0 m 25 ls [va_rf t0]) := by
  unfold f_X4_digit_j25 at hf
  have X := Z.1.1
  refine AW.lift (fun _ _ _ _ k => lv_iconst (pc := 25) (v := (1 : Int32)) X.2.2.1 X.2.2.2.1 dX4_digit_25 rfl k) ?_
  refine AW.lift (fun _ _ _ _ k => lv_goto (pc := 26) (tgt := 30) X.2.2.1 X.2.2.2.1 dX4_digit_26 rfl k) ?_
  exact w_X4_digit_j30 GA Z v0 (1 : Int32) t0  (hl.sub [0] rfl) hf
theorem np_X4_digit : npar yX4_digit.desc 0 := by unfold npar; decide +kernel
theorem hy_X4_digit : yX4_digit.cls ≠ "java/lang/invoke/MethodHandle" ∧ yX4_digit.cls ≠ "java/lang/invoke/VarHandle" := by decide +kernel
theorem w_X4_digit (GA : GA l s0 a0 K lam) (v0 : Option Nat) : AMet l s0 K lam yX4_digit (Cond.code yX4_digit cX4_digit (2 : Nat) (Option.some ClassFile.FieldType.int)) 1 25 [vR v0] oI (f_X4_digit K v0) := by
  refine AMet.of GA.1 (plainFor_of_name (by decide +kernel)) (Nat.le_of_ble_eq_true rfl) ?_
  intro b r hf p e s m args below meth c X hr hlk hnm hnd ht ls hl
  have Z : WZ l s0 a0 K p s m c cX4_digit yX4_digit.cls 2 b { frames := 1, cells := K 0 - aX b, slots := K 1 - aW b, locals := 25 } 1 25 meth [] (some (.int)) yX4_digit := ⟨⟨X, GA.2.1, GA.2.2.1, rfl, rfl, Nat.le_refl _, Nat.le_refl _⟩, tab_nil ht, hr, hlk, hnm, hnd⟩
  unfold f_X4_digit at hf
  clear hr hlk hnm hnd ht
  refine a_aload_n (pc := 0) X dX4_digit_0 rfl hl 0 rfl ?_
  refine a_aload_n (pc := 1) X dX4_digit_1 rfl hl 0 rfl ?_
  refine a_get (pc := 2) (φ := 124) pI_t X Z.1.2.1 (gw X.1 X.2.1 q3049) (fun _ q => q) (by decide) dX4_digit_2 hf (fun x2 hf => ?_)
  refine AW.lift2 (fun _ _ _ _ k1 k2 => lv_if_ne (pc := 5) (tgt := 25) X.2.2.1 X.2.2.2.1 dX4_digit_5 rfl k2 k1) (fun c => ?_) (fun c => ?_)
  · have hf := ite_t c hf
    refine a_aload_n (pc := 8) X dX4_digit_8 rfl hl 0 rfl ?_
    obtain ⟨a9, rfl, ⟨hk, hf⟩ | ⟨-, hf⟩⟩ := dv_some hf
    rotate_left
    · exact fl_none hf
    refine a_callb (pc := 9) (rs := [vR (some a9)]) (avs := [vR (some a9)]) Z.1 (w_X4_here GA (some a9)) (Or.inl rfl) q3423 q86 (by decide) (by decide) dX4_digit_9 hl.1 (Nat.le_of_ble_eq_true rfl) hf (ct_V hk ⟨by decide, by decide⟩ X (Or.inl rfl) q3423 q3420 q3422 pv_67 hy_X4_here np_X4_here rfl dX4_digit_9) (fun q h he hX => a_out (unc_of Z.2.1 rfl) Z.2.2.2.1 he hX) (fun x9 h hf => ?kk9)
    refine AW.eq (g2 := F0 m 12 ls [.int x9, va_rf (some a9)]) rfl ?_
    refine AW.lift (fun _ _ _ _ k => lv_i2l (pc := 12) X.2.2.1 X.2.2.2.1 dX4_digit_12 rfl k) ?_
    refine AW.lift (fun _ _ _ _ k => lv_ldc2 (pc := 13) X.2.2.1 X.2.2.2.1 X.2.2.2.2.1 (gw X.1 X.2.1 q3436) dX4_digit_13 k) ?_
    refine AW.lift (fun _ _ _ _ k => lv_ldc2 (pc := 16) X.2.2.1 X.2.2.2.1 X.2.2.2.2.1 (gw X.1 X.2.1 q3437) dX4_digit_16 k) ?_
    refine a_callb (pc := 19) (rs := [vR (some a9)]) (avs := [vJ (x9.toInt64), vJ (48 : Int64), vJ (57 : Int64)]) Z.1 (w_X4_in GA (x9.toInt64) (48 : Int64) (57 : Int64)) (Or.inl rfl) q3142 q86 (by decide) (by decide) dX4_digit_19 hl.1 (Nat.le_of_ble_eq_true rfl) hf (ct_S X (Or.inl rfl) q3142 q86 q3140 q3141 hy_X4_in np_X4_in rfl dX4_digit_19) (fun q h he hX => a_out (unc_of Z.2.1 rfl) Z.2.2.2.1 he hX) (fun x19 h hf => ?kk19)
    refine AW.eq (g2 := F0 m 22 ls [.int x19, va_rf (some a9)]) rfl ?_
    refine AW.lift2 (fun _ _ _ _ k1 k2 => lv_if_ne (pc := 22) (tgt := 29) X.2.2.1 X.2.2.2.1 dX4_digit_22 rfl k2 k1) (fun c => ?_) (fun c => ?_)
    · have hf := ite_t c hf
      exact w_X4_digit_j25 GA Z (some a9) (some a9)  (hl.sub [0] rfl) hf
    · have hf := ite_f c hf
      refine AW.lift (fun _ _ _ _ k => lv_iconst (pc := 29) (v := (0 : Int32)) X.2.2.1 X.2.2.2.1 dX4_digit_29 rfl k) ?_
      exact w_X4_digit_j30 GA Z (some a9) (0 : Int32) (some a9)  (hl.sub [0] rfl) hf
  · have hf := ite_f c hf
    exact w_X4_digit_j25 GA Z v0 v0  (hl.sub [0] rfl) hf
theorem np_X4_number : npar yX4_number.desc 0 := by unfold npar; decide +kernel
theorem hy_X4_number : yX4_number.cls ≠ "java/lang/invoke/MethodHandle" ∧ yX4_number.cls ≠ "java/lang/invoke/VarHandle" := by decide +kernel
theorem w_X4_number (GA : GA l s0 a0 K lam) (v0 : Option Nat) : AMet l s0 K lam yX4_number (Cond.code yX4_number cX4_number (2 : Nat) (Option.some ClassFile.FieldType.int)) 2 46 [vR v0] oI (f_X4_number K v0) := by
  refine AMet.of GA.1 (plainFor_of_name (by decide +kernel)) (Nat.le_of_ble_eq_true rfl) ?_
  intro b r hf p e s m args below meth c X hr hlk hnm hnd ht ls hl
  have Z : WZ l s0 a0 K p s m c cX4_number yX4_number.cls 2 b { frames := 2, cells := K 0 - aX b, slots := K 1 - aW b, locals := 46 } 2 46 meth [] (some (.int)) yX4_number := ⟨⟨X, GA.2.1, GA.2.2.1, rfl, rfl, Nat.le_refl _, Nat.le_refl _⟩, tab_nil ht, hr, hlk, hnm, hnd⟩
  unfold f_X4_number at hf
  clear hr hlk hnm hnd ht
  refine a_aload_n (pc := 0) X dX4_number_0 rfl hl 0 rfl ?_
  obtain ⟨a1, rfl, ⟨hk, hf⟩ | ⟨-, hf⟩⟩ := dv_some hf
  rotate_left
  · exact fl_none hf
  refine a_callb (pc := 1) (rs := []) (avs := [vR (some a1)]) Z.1 (w_X4_digit GA (some a1)) (Or.inl rfl) q3435 q86 (by decide) (by decide) dX4_number_1 hl.1 (Nat.le_of_ble_eq_true rfl) hf (ct_V hk ⟨by decide, by decide⟩ X (Or.inl rfl) q3435 q3432 q3434 pv_70 hy_X4_digit np_X4_digit rfl dX4_number_1) (fun q h he hX => a_out (unc_of Z.2.1 rfl) Z.2.2.2.1 he hX) (fun x1 h hf => ?kk1)
  refine AW.eq (g2 := F0 m 4 ls [.int x1]) rfl ?_
  refine a_istore_n (pc := 4) X dX4_number_4 rfl hl (by decide) (lv' := [(1, vI x1), (0, vR (some a1))]) rfl (fun ls hl => ?_)
  refine a_aload_n (pc := 5) X dX4_number_5 rfl hl 1 rfl ?_
  refine a_get (pc := 6) (φ := 124) pI_t X Z.1.2.1 (gw X.1 X.2.1 q3049) (fun _ q => q) (by decide) dX4_number_6 hf (fun x6 hf => ?_)
  refine AW.lift2 (fun _ _ _ _ k1 k2 => lv_if_ne (pc := 9) (tgt := 41) X.2.2.1 X.2.2.2.1 dX4_number_9 rfl k2 k1) (fun c => ?_) (fun c => ?_)
  · have hf := ite_t c hf
    refine a_aload_n (pc := 12) X dX4_number_12 rfl hl 1 rfl ?_
    rcases dv_someS hf with ⟨hk, hf⟩ | ⟨-, hf⟩
    rotate_left
    · exact fl_none hf
    refine a_callb (pc := 13) (rs := []) (avs := [vR (some a1)]) Z.1 (w_X4_here GA (some a1)) (Or.inl rfl) q3423 q86 (by decide) (by decide) dX4_number_13 hl.1 (Nat.le_of_ble_eq_true rfl) hf (ct_V hk ⟨by decide, by decide⟩ X (Or.inl rfl) q3423 q3420 q3422 pv_67 hy_X4_here np_X4_here rfl dX4_number_13) (fun q h he hX => a_out (unc_of Z.2.1 rfl) Z.2.2.2.1 he hX) (fun x13 h hf => ?kk13)
    refine AW.eq (g2 := F0 m 16 ls [.int x13]) rfl ?_
    refine AW.lift (fun _ _ _ _ k => lv_i2l (pc := 16) X.2.2.1 X.2.2.2.1 dX4_number_16 rfl k) ?_
    refine AW.lift (fun _ _ _ _ k => lv_ldc2 (pc := 17) X.2.2.1 X.2.2.2.1 X.2.2.2.2.1 (gw X.1 X.2.1 q3436) dX4_number_17 k) ?_
    refine AW.lift (fun _ _ _ _ k => lv_ldc2 (pc := 20) X.2.2.1 X.2.2.2.1 X.2.2.2.2.1 (gw X.1 X.2.1 q3437) dX4_number_20 k) ?_
    refine a_callb (pc := 23) (rs := []) (avs := [vJ (x13.toInt64), vJ (48 : Int64), vJ (57 : Int64)]) Z.1 (w_X4_in GA (x13.toInt64) (48 : Int64) (57 : Int64)) (Or.inl rfl) q3142 q86 (by decide) (by decide) dX4_number_23 hl.1 (Nat.le_of_ble_eq_true rfl) hf (ct_S X (Or.inl rfl) q3142 q86 q3140 q3141 hy_X4_in np_X4_in rfl dX4_number_23) (fun q h he hX => a_out (unc_of Z.2.1 rfl) Z.2.2.2.1 he hX) (fun x23 h hf => ?kk23)
    refine AW.eq (g2 := F0 m 26 ls [.int x23]) rfl ?_
    refine AW.lift2 (fun _ _ _ _ k1 k2 => lv_if_eq (pc := 26) (tgt := 41) X.2.2.1 X.2.2.2.1 dX4_number_26 rfl k1 k2) (fun c => ?_) (fun c => ?_)
    · have hf := ite_t c hf
      refine a_iload_n (pc := 41) X dX4_number_41 rfl hl 0 rfl ?_
      exact a_ireturn X Z.2.2.1 Z.2.2.2.1 dX4_number_42 hf
    · have hf := ite_f c hf
      refine AW.lift (fun _ _ _ _ k => lv_bipush (pc := 29) (v := (10 : Int32)) X.2.2.1 X.2.2.2.1 dX4_number_29 rfl k) ?_
      refine a_iload_n (pc := 31) X dX4_number_31 rfl hl 0 rfl ?_
      refine AW.lift (fun _ _ _ _ k => lv_imul (pc := 32) X.2.2.1 X.2.2.2.1 dX4_number_32 k) ?_
      refine a_aload_n (pc := 33) X dX4_number_33 rfl hl 1 rfl ?_
      rcases dv_someS hf with ⟨hk, hf⟩ | ⟨-, hf⟩
      rotate_left
      · exact fl_none hf
      refine a_callb (pc := 34) (rs := [vI ((10 : Int32) * x1)]) (avs := [vR (some a1)]) Z.1 (w_X4_digit GA (some a1)) (Or.inl rfl) q3435 q86 (by decide) (by decide) dX4_number_34 hl.1 (Nat.le_of_ble_eq_true rfl) hf (ct_V hk ⟨by decide, by decide⟩ X (Or.inl rfl) q3435 q3432 q3434 pv_70 hy_X4_digit np_X4_digit rfl dX4_number_34) (fun q h he hX => a_out (unc_of Z.2.1 rfl) Z.2.2.2.1 he hX) (fun x34 h hf => ?kk34)
      refine AW.eq (g2 := F0 m 37 ls [.int x34, .int ((10 : Int32) * x1)]) rfl ?_
      refine AW.lift (fun _ _ _ _ k => lv_iadd (pc := 37) X.2.2.1 X.2.2.2.1 dX4_number_37 k) ?_
      refine AW.lift (fun _ _ _ _ k => lv_goto (pc := 38) (tgt := 42) X.2.2.1 X.2.2.2.1 dX4_number_38 rfl k) ?_
      exact a_ireturn X Z.2.2.1 Z.2.2.2.1 dX4_number_42 hf
  · have hf := ite_f c hf
    refine a_iload_n (pc := 41) X dX4_number_41 rfl hl 0 rfl ?_
    exact a_ireturn X Z.2.2.1 Z.2.2.2.1 dX4_number_42 hf
theorem w_X4_readCommand_j114 {r : Except Nat (Unit) × AH} (GA : GA l s0 a0 K lam) (Z : WZ l s0 a0 K p s m c cX4_readCommand yX4_readCommand.cls 4 b R 3 67 meth [] none yX4_readCommand) (v0 : Option Nat)   {h : AH} {ls : Array Slot} (hl : LV ls 4 [(0, vR v0)]) (hf : f_X4_readCommand_j114 K v0 h = some r) : AW s0 K lam p l e R s m args below meth c (AQ s0 K lam below oV b r s) b h (F0 m 114 ls []) := by
  unfold f_X4_readCommand_j114 at hf
  have X := Z.1.1
  refine a_aload_n (pc := 114) X dX4_readCommand_114 rfl hl 0 rfl ?_
  refine AW.lift (fun _ _ _ _ k => lv_dup (pc := 115) X.2.2.1 X.2.2.2.1 dX4_readCommand_115 (cat_rf _) k) ?_
  refine a_get (pc := 116) (φ := 121) pI_t X Z.1.2.1 (gw X.1 X.2.1 q3046) (fun _ q => q) (by decide) dX4_readCommand_116 hf (fun x116 hf => ?_)
  refine AW.lift (fun _ _ _ _ k => lv_iconst (pc := 119) (v := (1 : Int32)) X.2.2.1 X.2.2.2.1 dX4_readCommand_119 rfl k) ?_
  refine AW.lift (fun _ _ _ _ k => lv_iadd (pc := 120) X.2.2.1 X.2.2.2.1 dX4_readCommand_120 k) ?_
  refine a_put (pc := 121) (φ := 121) X Z.1.2.1 Z.1.2.2.1 (gw X.1 X.2.1 q3046) (fun _ q => q) (by decide) rfl rfl dX4_readCommand_121 hf (fun h hf => ?_)
  exact a_return X Z.2.2.1 Z.2.2.2.1 dX4_readCommand_124 hf
theorem w_X4_readCommand_b78 {r : Except Nat (Unit) × AH} (GA : GA l s0 a0 K lam) (Z : WZ l s0 a0 K p s m c cX4_readCommand yX4_readCommand.cls 4 b R 3 67 meth [] none yX4_readCommand) (v0 : Option Nat) (v1 : Int32) (v2 : Int32) (v3 : Int32)  (rc78 : Int32 → AM (Unit)) (hrc78 : ∀ (v3 : Int32) (h : AH) (ls : Array Slot), LV ls 4 [(0, vR v0), (1, vI v1), (2, vI v2), (3, vI v3)] → rc78 v3 h = some r → AW s0 K lam p l e R s m args below meth c (AQ s0 K lam below oV b r s) b h (F0 m 78 ls [])) {h : AH} {ls : Array Slot} (hl : LV ls 4 [(0, vR v0), (1, vI v1), (2, vI v2), (3, vI v3)]) (hf : f_X4_readCommand_b78 K rc78 v0 v1 v2 v3 h = some r) : AW s0 K lam p l e R s m args below meth c (AQ s0 K lam below oV b r s) b h (F0 m 78 ls []) := by
  unfold f_X4_readCommand_b78 at hf
  have X := Z.1.1
  refine a_iload_n (pc := 78) X dX4_readCommand_78 rfl hl 3 rfl ?_
  refine a_aload_n (pc := 79) X dX4_readCommand_79 rfl hl 0 rfl ?_
  refine a_get (pc := 80) (φ := 119) pR_t X Z.1.2.1 (gw X.1 X.2.1 q3044) (fun _ q => q) (by decide) dX4_readCommand_80 hf (fun x80 hf => ?_)
  refine a_iload_n (pc := 83) X dX4_readCommand_83 rfl hl 2 rfl ?_
  refine a_iaload (pc := 84) X dX4_readCommand_84 hf (fun x84 hf => ?_)
  refine AW.lift2 (fun _ _ _ _ k1 k2 => lv_icmp_ge (pc := 85) (tgt := 114) X.2.2.1 X.2.2.2.1 dX4_readCommand_85 rfl k1 k2) (fun c => ?_) (fun c => ?_)
  · have hf := ite_t c hf
    exact w_X4_readCommand_j114 GA Z v0   (hl.sub [0] rfl) hf
  · have hf := ite_f c hf
    refine a_aload_n (pc := 88) X dX4_readCommand_88 rfl hl 0 rfl ?_
    refine AW.lift (fun _ _ _ _ k => lv_bipush (pc := 89) (v := (32 : Int32)) X.2.2.1 X.2.2.2.1 dX4_readCommand_89 rfl k) ?_
    obtain ⟨a91, rfl, ⟨hk, hf⟩ | ⟨-, hf⟩⟩ := dv_some hf
    rotate_left
    · exact fl_none hf
    refine a_callb (pc := 91) (rs := []) (avs := [vR (some a91), vI (32 : Int32)]) Z.1 (w_X4_expects GA (some a91) (32 : Int32)) (Or.inl rfl) q3427 q86 (by decide) (by decide) dX4_readCommand_91 hl.1 (Nat.le_of_ble_eq_true rfl) hf (ct_V hk ⟨by decide, by decide⟩ X (Or.inl rfl) q3427 q3424 q3426 pv_68 hy_X4_expects np_X4_expects rfl dX4_readCommand_91) (fun q h he hX => a_out (unc_of Z.2.1 rfl) Z.2.2.2.1 he hX) (fun _ h hf => ?kk91)
    refine AW.eq (g2 := F0 m 94 ls []) rfl ?_
    refine a_aload_n (pc := 94) X dX4_readCommand_94 rfl hl 0 rfl ?_
    refine a_get (pc := 95) (φ := 120) pR_t X Z.1.2.1 (gw X.1 X.2.1 q3045) (fun _ q => q) (by decide) dX4_readCommand_95 hf (fun x95 hf => ?_)
    refine a_iload_n (pc := 98) X dX4_readCommand_98 rfl hl 1 rfl ?_
    refine AW.lift (fun _ _ _ _ k => lv_iconst (pc := 99) (v := (1 : Int32)) X.2.2.1 X.2.2.2.1 dX4_readCommand_99 rfl k) ?_
    refine AW.lift (fun _ _ _ _ k => lv_iadd (pc := 100) X.2.2.1 X.2.2.2.1 dX4_readCommand_100 k) ?_
    refine a_iload_n (pc := 101) X dX4_readCommand_101 rfl hl 3 rfl ?_
    refine AW.lift (fun _ _ _ _ k => lv_iadd (pc := 102) X.2.2.1 X.2.2.2.1 dX4_readCommand_102 k) ?_
    refine a_aload_n (pc := 103) X dX4_readCommand_103 rfl hl 0 rfl ?_
    rcases dv_someS hf with ⟨hk, hf⟩ | ⟨-, hf⟩
    rotate_left
    · exact fl_none hf
    refine a_callb (pc := 104) (rs := [vI ((v1 + (1 : Int32)) + v3), vR x95]) (avs := [vR (some a91)]) Z.1 (w_X4_number GA (some a91)) (Or.inl rfl) q3431 q86 (by decide) (by decide) dX4_readCommand_104 hl.1 (Nat.le_of_ble_eq_true rfl) hf (ct_V hk ⟨by decide, by decide⟩ X (Or.inl rfl) q3431 q3428 q3430 pv_69 hy_X4_number np_X4_number rfl dX4_readCommand_104) (fun q h he hX => a_out (unc_of Z.2.1 rfl) Z.2.2.2.1 he hX) (fun x104 h hf => ?kk104)
    refine AW.eq (g2 := F0 m 107 ls [.int x104, .int ((v1 + (1 : Int32)) + v3), va_rf x95]) rfl ?_
    refine a_iastore (pc := 107) X dX4_readCommand_107 hf (fun h hf => ?_)
    refine a_iinc (pc := 108) (v := (v3 + (1 : Int32))) X dX4_readCommand_108 hl (k := 3) rfl rfl (by decide) (lv' := [(3, vI (v3 + (1 : Int32))), (0, vR (some a91)), (1, vI v1), (2, vI v2)]) rfl (fun ls hl => ?_)
    refine AW.lift (fun _ _ _ _ k => lv_goto (pc := 111) (tgt := 78) X.2.2.1 X.2.2.2.1 dX4_readCommand_111 rfl k) ?_
    exact hrc78 (v3 + (1 : Int32)) _ _ (hl.sub [1, 2, 3, 0] rfl) hf
theorem w_X4_readCommand_l78 {r : Except Nat (Unit) × AH} (GA : GA l s0 a0 K lam) (Z : WZ l s0 a0 K p s m c cX4_readCommand yX4_readCommand.cls 4 b R 3 67 meth [] none yX4_readCommand) (v0 : Option Nat) (v1 : Int32) (v2 : Int32)  : ∀ (n : Nat) (v3 : Int32) (h : AH) (ls : Array Slot), LV ls 4 [(0, vR v0), (1, vI v1), (2, vI v2), (3, vI v3)] → f_X4_readCommand_l78 K v0 v1 v2 n v3 h = some r → AW s0 K lam p l e R s m args below meth c (AQ s0 K lam below oV b r s) b h (F0 m 78 ls []) := by
  intro n
  induction n with
  | zero => intro v3 h ls hl hf; exact fl_no (h := h) hf
  | succ n ih => intro v3 h ls hl hf; exact w_X4_readCommand_b78 GA Z v0 v1 v2 v3 (f_X4_readCommand_l78 K v0 v1 v2 n) ih hl hf
theorem w_X4_readCommand_j69 {r : Except Nat (Unit) × AH} (GA : GA l s0 a0 K lam) (Z : WZ l s0 a0 K p s m c cX4_readCommand yX4_readCommand.cls 4 b R 3 67 meth [] none yX4_readCommand) (v0 : Option Nat) (v1 : Int32) (v2 : Int32)   {h : AH} {ls : Array Slot} (hl : LV ls 4 [(0, vR v0), (1, vI v1), (2, vI v2)]) (hf : f_X4_readCommand_j69 K v0 v1 v2 h = some r) : AW s0 K lam p l e R s m args below meth c (AQ s0 K lam below oV b r s) b h (F0 m 69 ls []) := by
  unfold f_X4_readCommand_j69 at hf
  have X := Z.1.1
  refine a_aload_n (pc := 69) X dX4_readCommand_69 rfl hl 0 rfl ?_
  refine a_get (pc := 70) (φ := 120) pR_t X Z.1.2.1 (gw X.1 X.2.1 q3045) (fun _ q => q) (by decide) dX4_readCommand_70 hf (fun x70 hf => ?_)
  refine a_iload_n (pc := 73) X dX4_readCommand_73 rfl hl 1 rfl ?_
  refine a_iload_n (pc := 74) X dX4_readCommand_74 rfl hl 2 rfl ?_
  refine a_iastore (pc := 75) X dX4_readCommand_75 hf (fun h hf => ?_)
  refine AW.lift (fun _ _ _ _ k => lv_iconst (pc := 76) (v := (0 : Int32)) X.2.2.1 X.2.2.2.1 dX4_readCommand_76 rfl k) ?_
  refine a_istore_n (pc := 77) X dX4_readCommand_77 rfl hl (by decide) (lv' := [(3, vI (0 : Int32)), (0, vR v0), (1, vI v1), (2, vI v2)]) rfl (fun ls hl => ?_)
  exact w_X4_readCommand_l78 GA Z v0 v1 v2  FU (0 : Int32) _ _ (hl.sub [1, 2, 3, 0] rfl) hf
theorem w_X4_readCommand_b41 {r : Except Nat (Unit) × AH} (GA : GA l s0 a0 K lam) (Z : WZ l s0 a0 K p s m c cX4_readCommand yX4_readCommand.cls 4 b R 3 67 meth [] none yX4_readCommand) (v0 : Option Nat) (v1 : Int32) (v2 : Int32) (v3 : Int32)  (rc41 : Int32 → AM (Unit)) (hrc41 : ∀ (v3 : Int32) (h : AH) (ls : Array Slot), LV ls 4 [(0, vR v0), (1, vI v1), (2, vI v2), (3, vI v3)] → rc41 v3 h = some r → AW s0 K lam p l e R s m args below meth c (AQ s0 K lam below oV b r s) b h (F0 m 41 ls [])) {h : AH} {ls : Array Slot} (hl : LV ls 4 [(0, vR v0), (1, vI v1), (2, vI v2), (3, vI v3)]) (hf : f_X4_readCommand_b41 K rc41 v0 v1 v2 v3 h = some r) : AW s0 K lam p l e R s m args below meth c (AQ s0 K lam below oV b r s) b h (F0 m 41 ls []) := by
  unfold f_X4_readCommand_b41 at hf
  have X := Z.1.1
  refine a_iload_n (pc := 41) X dX4_readCommand_41 rfl hl 3 rfl ?_
  refine a_aload_n (pc := 42) X dX4_readCommand_42 rfl hl 0 rfl ?_
  refine a_get (pc := 43) (φ := 118) pR_t X Z.1.2.1 (gw X.1 X.2.1 q3043) (fun _ q => q) (by decide) dX4_readCommand_43 hf (fun x43 hf => ?_)
  refine a_iload_n (pc := 46) X dX4_readCommand_46 rfl hl 2 rfl ?_
  refine AW.lift (fun _ _ _ _ k => lv_iconst (pc := 47) (v := (1 : Int32)) X.2.2.1 X.2.2.2.1 dX4_readCommand_47 rfl k) ?_
  refine AW.lift (fun _ _ _ _ k => lv_iadd (pc := 48) X.2.2.1 X.2.2.2.1 dX4_readCommand_48 k) ?_
  refine a_iaload (pc := 49) X dX4_readCommand_49 hf (fun x49 hf => ?_)
  refine AW.lift2 (fun _ _ _ _ k1 k2 => lv_icmp_ge (pc := 50) (tgt := 69) X.2.2.1 X.2.2.2.1 dX4_readCommand_50 rfl k1 k2) (fun c => ?_) (fun c => ?_)
  · have hf := ite_t c hf
    exact w_X4_readCommand_j69 GA Z v0 v1 v2   (hl.sub [0, 1, 2] rfl) hf
  · have hf := ite_f c hf
    refine a_aload_n (pc := 53) X dX4_readCommand_53 rfl hl 0 rfl ?_
    refine a_aload_n (pc := 54) X dX4_readCommand_54 rfl hl 0 rfl ?_
    refine a_get (pc := 55) (φ := 117) pR_t X Z.1.2.1 (gw X.1 X.2.1 q3042) (fun _ q => q) (by decide) dX4_readCommand_55 hf (fun x55 hf => ?_)
    refine a_iload_n (pc := 58) X dX4_readCommand_58 rfl hl 3 rfl ?_
    refine a_caload (pc := 59) X dX4_readCommand_59 hf (fun x59 hf => ?_)
    obtain ⟨a60, rfl, ⟨hk, hf⟩ | ⟨-, hf⟩⟩ := dv_some hf
    rotate_left
    · exact fl_none hf
    refine a_callb (pc := 60) (rs := []) (avs := [vR (some a60), vI x59]) Z.1 (w_X4_expects GA (some a60) x59) (Or.inl rfl) q3427 q86 (by decide) (by decide) dX4_readCommand_60 hl.1 (Nat.le_of_ble_eq_true rfl) hf (ct_V hk ⟨by decide, by decide⟩ X (Or.inl rfl) q3427 q3424 q3426 pv_68 hy_X4_expects np_X4_expects rfl dX4_readCommand_60) (fun q h he hX => a_out (unc_of Z.2.1 rfl) Z.2.2.2.1 he hX) (fun _ h hf => ?kk60)
    refine AW.eq (g2 := F0 m 63 ls []) rfl ?_
    refine a_iinc (pc := 63) (v := (v3 + (1 : Int32))) X dX4_readCommand_63 hl (k := 3) rfl rfl (by decide) (lv' := [(3, vI (v3 + (1 : Int32))), (0, vR (some a60)), (1, vI v1), (2, vI v2)]) rfl (fun ls hl => ?_)
    refine AW.lift (fun _ _ _ _ k => lv_goto (pc := 66) (tgt := 41) X.2.2.1 X.2.2.2.1 dX4_readCommand_66 rfl k) ?_
    exact hrc41 (v3 + (1 : Int32)) _ _ (hl.sub [1, 2, 3, 0] rfl) hf
theorem w_X4_readCommand_l41 {r : Except Nat (Unit) × AH} (GA : GA l s0 a0 K lam) (Z : WZ l s0 a0 K p s m c cX4_readCommand yX4_readCommand.cls 4 b R 3 67 meth [] none yX4_readCommand) (v0 : Option Nat) (v1 : Int32) (v2 : Int32)  : ∀ (n : Nat) (v3 : Int32) (h : AH) (ls : Array Slot), LV ls 4 [(0, vR v0), (1, vI v1), (2, vI v2), (3, vI v3)] → f_X4_readCommand_l41 K v0 v1 v2 n v3 h = some r → AW s0 K lam p l e R s m args below meth c (AQ s0 K lam below oV b r s) b h (F0 m 41 ls []) := by
  intro n
  induction n with
  | zero => intro v3 h ls hl hf; exact fl_no (h := h) hf
  | succ n ih => intro v3 h ls hl hf; exact w_X4_readCommand_b41 GA Z v0 v1 v2 v3 (f_X4_readCommand_l41 K v0 v1 v2 n) ih hl hf
theorem w_X4_readCommand_j23 {r : Except Nat (Unit) × AH} (GA : GA l s0 a0 K lam) (Z : WZ l s0 a0 K p s m c cX4_readCommand yX4_readCommand.cls 4 b R 3 67 meth [] none yX4_readCommand) (v0 : Option Nat) (v1 : Int32) (v2 : Int32) (t0 : Int32) (t1 : Option Nat)  {h : AH} {ls : Array Slot} (hl : LV ls 4 [(0, vR v0), (1, vI v1), (2, vI v2)]) (hf : f_X4_readCommand_j23 K v0 v1 v2 t0 t1 h = some r) : AW s0 K lam p l e R s m args below meth c (AQ s0 K lam below oV b r s) b h (F0 m 23 ls [.int t0, va_rf t1]) := by
  unfold f_X4_readCommand_j23 at hf
  have X := Z.1.1
  obtain ⟨hg, hf⟩ := chk_some hf
  refine a_put (pc := 23) (φ := 124) X Z.1.2.1 Z.1.2.2.1 (gw X.1 X.2.1 q3049) (fun _ q => q) (by decide) rfl hg dX4_readCommand_23 hf (fun h hf => ?_)
  refine a_aload_n (pc := 26) X dX4_readCommand_26 rfl hl 0 rfl ?_
  refine a_get (pc := 27) (φ := 124) pI_t X Z.1.2.1 (gw X.1 X.2.1 q3049) (fun _ q => q) (by decide) dX4_readCommand_27 hf (fun x27 hf => ?_)
  refine AW.lift2 (fun _ _ _ _ k1 k2 => lv_if_eq (pc := 30) (tgt := 34) X.2.2.1 X.2.2.2.1 dX4_readCommand_30 rfl k1 k2) (fun c => ?_) (fun c => ?_)
  · have hf := ite_t c hf
    refine a_aload_n (pc := 34) X dX4_readCommand_34 rfl hl 0 rfl ?_
    refine a_get (pc := 35) (φ := 118) pR_t X Z.1.2.1 (gw X.1 X.2.1 q3043) (fun _ q => q) (by decide) dX4_readCommand_35 hf (fun x35 hf => ?_)
    refine a_iload_n (pc := 38) X dX4_readCommand_38 rfl hl 2 rfl ?_
    refine a_iaload (pc := 39) X dX4_readCommand_39 hf (fun x39 hf => ?_)
    refine a_istore_n (pc := 40) X dX4_readCommand_40 rfl hl (by decide) (lv' := [(3, vI x39), (0, vR v0), (1, vI v1), (2, vI v2)]) rfl (fun ls hl => ?_)
    exact w_X4_readCommand_l41 GA Z v0 v1 v2  FU x39 _ _ (hl.sub [1, 2, 3, 0] rfl) hf
  · have hf := ite_f c hf
    exact a_return X Z.2.2.1 Z.2.2.2.1 dX4_readCommand_33 hf
theorem np_X4_readCommand : npar yX4_readCommand.desc 0 := by unfold npar; decide +kernel
theorem hy_X4_readCommand : yX4_readCommand.cls ≠ "java/lang/invoke/MethodHandle" ∧ yX4_readCommand.cls ≠ "java/lang/invoke/VarHandle" := by decide +kernel
theorem w_X4_readCommand (GA : GA l s0 a0 K lam) (v0 : Option Nat) : AMet l s0 K lam yX4_readCommand (Cond.code yX4_readCommand cX4_readCommand (4 : Nat) (Option.none : Option ClassFile.FieldType)) 3 67 [vR v0] oV (f_X4_readCommand K v0) := by
  refine AMet.of GA.1 (plainFor_of_name (by decide +kernel)) (Nat.le_of_ble_eq_true rfl) ?_
  intro b r hf p e s m args below meth c X hr hlk hnm hnd ht ls hl
  have Z : WZ l s0 a0 K p s m c cX4_readCommand yX4_readCommand.cls 4 b { frames := 3, cells := K 0 - aX b, slots := K 1 - aW b, locals := 67 } 3 67 meth [] none yX4_readCommand := ⟨⟨X, GA.2.1, GA.2.2.1, rfl, rfl, Nat.le_refl _, Nat.le_refl _⟩, tab_nil ht, hr, hlk, hnm, hnd⟩
  unfold f_X4_readCommand at hf
  clear hr hlk hnm hnd ht
  refine AW.lift (fun _ _ _ _ k => lv_iconst (pc := 0) (v := (3 : Int32)) X.2.2.1 X.2.2.2.1 dX4_readCommand_0 rfl k) ?_
  refine a_aload_n (pc := 1) X dX4_readCommand_1 rfl hl 0 rfl ?_
  refine a_get (pc := 2) (φ := 121) pI_t X Z.1.2.1 (gw X.1 X.2.1 q3046) (fun _ q => q) (by decide) dX4_readCommand_2 hf (fun x2 hf => ?_)
  refine AW.lift (fun _ _ _ _ k => lv_imul (pc := 5) X.2.2.1 X.2.2.2.1 dX4_readCommand_5 k) ?_
  refine a_istore_n (pc := 6) X dX4_readCommand_6 rfl hl (by decide) (lv' := [(1, vI ((3 : Int32) * x2)), (0, vR v0)]) rfl (fun ls hl => ?_)
  refine a_aload_n (pc := 7) X dX4_readCommand_7 rfl hl 1 rfl ?_
  obtain ⟨a8, rfl, ⟨hk, hf⟩ | ⟨-, hf⟩⟩ := dv_some hf
  rotate_left
  · exact fl_none hf
  refine a_callb (pc := 8) (rs := []) (avs := [vR (some a8)]) Z.1 (w_X4_wordHere GA (some a8)) (Or.inl rfl) q3419 q86 (by decide) (by decide) dX4_readCommand_8 hl.1 (Nat.le_of_ble_eq_true rfl) hf (ct_V hk ⟨by decide, by decide⟩ X (Or.inl rfl) q3419 q3416 q3418 pv_66 hy_X4_wordHere np_X4_wordHere rfl dX4_readCommand_8) (fun q h he hX => a_out (unc_of Z.2.1 rfl) Z.2.2.2.1 he hX) (fun x8 h hf => ?kk8)
  refine AW.eq (g2 := F0 m 11 ls [.int x8]) rfl ?_
  refine a_istore_n (pc := 11) X dX4_readCommand_11 rfl hl (by decide) (lv' := [(2, vI x8), (1, vI ((3 : Int32) * x2)), (0, vR (some a8))]) rfl (fun ls hl => ?_)
  refine a_aload_n (pc := 12) X dX4_readCommand_12 rfl hl 2 rfl ?_
  refine a_iload_n (pc := 13) X dX4_readCommand_13 rfl hl 0 rfl ?_
  refine AW.lift (fun _ _ _ _ k => lv_iconst (pc := 14) (v := (-1 : Int32)) X.2.2.1 X.2.2.2.1 dX4_readCommand_14 rfl k) ?_
  refine AW.lift2 (fun _ _ _ _ k1 k2 => lv_icmp_ne (pc := 15) (tgt := 22) X.2.2.1 X.2.2.2.1 dX4_readCommand_15 rfl k2 k1) (fun c => ?_) (fun c => ?_)
  · have hf := ite_t c hf
    refine AW.lift (fun _ _ _ _ k => lv_iconst (pc := 18) (v := (1 : Int32)) X.2.2.1 X.2.2.2.1 dX4_readCommand_18 rfl k) ?_
    refine AW.lift (fun _ _ _ _ k => lv_goto (pc := 19) (tgt := 23) X.2.2.1 X.2.2.2.1 dX4_readCommand_19 rfl k) ?_
    exact w_X4_readCommand_j23 GA Z (some a8) ((3 : Int32) * x2) x8 (1 : Int32) (some a8)  (hl.sub [2, 1, 0] rfl) hf
  · have hf := ite_f c hf
    refine AW.lift (fun _ _ _ _ k => lv_iconst (pc := 22) (v := (0 : Int32)) X.2.2.1 X.2.2.2.1 dX4_readCommand_22 rfl k) ?_
    exact w_X4_readCommand_j23 GA Z (some a8) ((3 : Int32) * x2) x8 (0 : Int32) (some a8)  (hl.sub [2, 1, 0] rfl) hf
theorem np_X4_does : npar yX4_does.desc 1 := by unfold npar; decide +kernel
theorem hy_X4_does : yX4_does.cls ≠ "java/lang/invoke/MethodHandle" ∧ yX4_does.cls ≠ "java/lang/invoke/VarHandle" := by decide +kernel
theorem w_X4_does (GA : GA l s0 a0 K lam) (v0 : Option Nat) (v1 : Int32) : AMet l s0 K lam yX4_does (Cond.code yX4_does cX4_does (4 : Nat) (Option.some ClassFile.FieldType.int)) 6 134 [vR v0, vI v1] oI (f_X4_does K v0 v1) := by
  refine AMet.of GA.1 (plainFor_of_name (by decide +kernel)) (Nat.le_of_ble_eq_true rfl) ?_
  intro b r hf p e s m args below meth c X hr hlk hnm hnd ht ls hl
  have Z : WZ l s0 a0 K p s m c cX4_does yX4_does.cls 4 b { frames := 6, cells := K 0 - aX b, slots := K 1 - aW b, locals := 134 } 6 134 meth [] (some (.int)) yX4_does := ⟨⟨X, GA.2.1, GA.2.2.1, rfl, rfl, Nat.le_refl _, Nat.le_refl _⟩, tab_nil ht, hr, hlk, hnm, hnd⟩
  unfold f_X4_does at hf
  clear hr hlk hnm hnd ht
  refine a_aload_n (pc := 0) X dX4_does_0 rfl hl 0 rfl ?_
  refine a_get (pc := 1) (φ := 120) pR_t X Z.1.2.1 (gw X.1 X.2.1 q3045) (fun _ q => q) (by decide) dX4_does_1 hf (fun x1 hf => ?_)
  refine a_iload_n (pc := 4) X dX4_does_4 rfl hl 1 rfl ?_
  refine AW.lift (fun _ _ _ _ k => lv_iconst (pc := 5) (v := (1 : Int32)) X.2.2.1 X.2.2.2.1 dX4_does_5 rfl k) ?_
  refine AW.lift (fun _ _ _ _ k => lv_iadd (pc := 6) X.2.2.1 X.2.2.2.1 dX4_does_6 k) ?_
  refine a_iaload (pc := 7) X dX4_does_7 hf (fun x7 hf => ?_)
  refine a_istore_n (pc := 8) X dX4_does_8 rfl hl (by decide) (lv' := [(2, vI x7), (0, vR v0), (1, vI v1)]) rfl (fun ls hl => ?_)
  refine a_aload_n (pc := 9) X dX4_does_9 rfl hl 1 rfl ?_
  refine a_get (pc := 10) (φ := 120) pR_t X Z.1.2.1 (gw X.1 X.2.1 q3045) (fun _ q => q) (by decide) dX4_does_10 hf (fun x10 hf => ?_)
  refine a_iload_n (pc := 13) X dX4_does_13 rfl hl 2 rfl ?_
  refine AW.lift (fun _ _ _ _ k => lv_iconst (pc := 14) (v := (2 : Int32)) X.2.2.1 X.2.2.2.1 dX4_does_14 rfl k) ?_
  refine AW.lift (fun _ _ _ _ k => lv_iadd (pc := 15) X.2.2.1 X.2.2.2.1 dX4_does_15 k) ?_
  refine a_iaload (pc := 16) X dX4_does_16 hf (fun x16 hf => ?_)
  refine a_istore_n (pc := 17) X dX4_does_17 rfl hl (by decide) (lv' := [(3, vI x16), (2, vI x7), (0, vR v0), (1, vI v1)]) rfl (fun ls hl => ?_)
  refine a_aload_n (pc := 18) X dX4_does_18 rfl hl 2 rfl ?_
  refine a_get (pc := 19) (φ := 120) pR_t X Z.1.2.1 (gw X.1 X.2.1 q3045) (fun _ q => q) (by decide) dX4_does_19 hf (fun x19 hf => ?_)
  refine a_iload_n (pc := 22) X dX4_does_22 rfl hl 3 rfl ?_
  refine a_iaload (pc := 23) X dX4_does_23 hf (fun x23 hf => ?_)
  by_cases c0 : x23 = (0 : Int32)
  · have hf := ite_t c0 hf
    refine AW.lift (fun _ _ _ _ k => lv_tableIn (pc := 24) (tgt := 64) (off := 40) X.2.2.1 X.2.2.2.1 dX4_does_24 (by rw [c0]; decide) (by rw [c0]; decide) (by rw [c0]; rfl) rfl k) ?_
    refine a_aload_n (pc := 64) X dX4_does_64 rfl hl 2 rfl ?_
    refine a_iload_n (pc := 65) X dX4_does_65 rfl hl 1 rfl ?_
    refine a_iload_n (pc := 66) X dX4_does_66 rfl hl 0 rfl ?_
    obtain ⟨a67, rfl, ⟨hk, hf⟩ | ⟨-, hf⟩⟩ := dv_some hf
    rotate_left
    · exact fl_none hf
    refine a_callb (pc := 67) (rs := []) (avs := [vR (some a67), vI x7, vI x16]) Z.1 (w_X4_upIt GA (some a67) x7 x16) (Or.inl rfl) q3217 q86 (by decide) (by decide) dX4_does_67 hl.1 (Nat.le_of_ble_eq_true rfl) hf (ct_V hk ⟨by decide, by decide⟩ X (Or.inl rfl) q3217 q3214 q3216 pv_43 hy_X4_upIt np_X4_upIt rfl dX4_does_67) (fun q h he hX => a_out (unc_of Z.2.1 rfl) Z.2.2.2.1 he hX) (fun x67 h hf => ?kk67)
    refine AW.eq (g2 := F0 m 70 ls [.int x67]) rfl ?_
    exact a_ireturn X Z.2.2.1 Z.2.2.2.1 dX4_does_70 hf
  have hf := ite_f c0 hf
  by_cases c1 : x23 = (1 : Int32)
  · have hf := ite_t c1 hf
    refine AW.lift (fun _ _ _ _ k => lv_tableIn (pc := 24) (tgt := 71) (off := 47) X.2.2.1 X.2.2.2.1 dX4_does_24 (by rw [c1]; decide) (by rw [c1]; decide) (by rw [c1]; rfl) rfl k) ?_
    refine a_aload_n (pc := 71) X dX4_does_71 rfl hl 2 rfl ?_
    refine a_iload_n (pc := 72) X dX4_does_72 rfl hl 1 rfl ?_
    obtain ⟨a73, rfl, ⟨hk, hf⟩ | ⟨-, hf⟩⟩ := dv_some hf
    rotate_left
    · exact fl_none hf
    refine a_callb (pc := 73) (rs := []) (avs := [vR (some a73), vI x7]) Z.1 (w_X4_downIt GA (some a73) x7) (Or.inl rfl) q3237 q86 (by decide) (by decide) dX4_does_73 hl.1 (Nat.le_of_ble_eq_true rfl) hf (ct_V hk ⟨by decide, by decide⟩ X (Or.inl rfl) q3237 q3234 q3236 pv_47 hy_X4_downIt np_X4_downIt rfl dX4_does_73) (fun q h he hX => a_out (unc_of Z.2.1 rfl) Z.2.2.2.1 he hX) (fun x73 h hf => ?kk73)
    refine AW.eq (g2 := F0 m 76 ls [.int x73]) rfl ?_
    exact a_ireturn X Z.2.2.1 Z.2.2.2.1 dX4_does_76 hf
  have hf := ite_f c1 hf
  by_cases c2 : x23 = (2 : Int32)
  · have hf := ite_t c2 hf
    refine AW.lift (fun _ _ _ _ k => lv_tableIn (pc := 24) (tgt := 77) (off := 53) X.2.2.1 X.2.2.2.1 dX4_does_24 (by rw [c2]; decide) (by rw [c2]; decide) (by rw [c2]; rfl) rfl k) ?_
    refine a_aload_n (pc := 77) X dX4_does_77 rfl hl 2 rfl ?_
    refine a_iload_n (pc := 78) X dX4_does_78 rfl hl 1 rfl ?_
    refine a_iload_n (pc := 79) X dX4_does_79 rfl hl 0 rfl ?_
    obtain ⟨a80, rfl, ⟨hk, hf⟩ | ⟨-, hf⟩⟩ := dv_some hf
    rotate_left
    · exact fl_none hf
    refine a_callb (pc := 80) (rs := []) (avs := [vR (some a80), vI x7, vI x16]) Z.1 (w_X4_sellIt GA (some a80) x7 x16) (Or.inl rfl) q3262 q86 (by decide) (by decide) dX4_does_80 hl.1 (Nat.le_of_ble_eq_true rfl) hf (ct_V hk ⟨by decide, by decide⟩ X (Or.inl rfl) q3262 q3259 q3261 pv_49 hy_X4_sellIt np_X4_sellIt rfl dX4_does_80) (fun q h he hX => a_out (unc_of Z.2.1 rfl) Z.2.2.2.1 he hX) (fun x80 h hf => ?kk80)
    refine AW.eq (g2 := F0 m 83 ls [.int x80]) rfl ?_
    exact a_ireturn X Z.2.2.1 Z.2.2.2.1 dX4_does_83 hf
  have hf := ite_f c2 hf
  by_cases c3 : x23 = (3 : Int32)
  · have hf := ite_t c3 hf
    refine AW.lift (fun _ _ _ _ k => lv_tableIn (pc := 24) (tgt := 84) (off := 60) X.2.2.1 X.2.2.2.1 dX4_does_24 (by rw [c3]; decide) (by rw [c3]; decide) (by rw [c3]; rfl) rfl k) ?_
    refine a_aload_n (pc := 84) X dX4_does_84 rfl hl 2 rfl ?_
    refine a_iload_n (pc := 85) X dX4_does_85 rfl hl 1 rfl ?_
    refine a_iload_n (pc := 86) X dX4_does_86 rfl hl 0 rfl ?_
    obtain ⟨a87, rfl, ⟨hk, hf⟩ | ⟨-, hf⟩⟩ := dv_some hf
    rotate_left
    · exact fl_none hf
    refine a_callb (pc := 87) (rs := []) (avs := [vR (some a87), vI x7, vI x16]) Z.1 (w_X4_placeIt GA (some a87) x7 x16) (Or.inl rfl) q3295 q86 (by decide) (by decide) dX4_does_87 hl.1 (Nat.le_of_ble_eq_true rfl) hf (ct_V hk ⟨by decide, by decide⟩ X (Or.inl rfl) q3295 q3292 q3294 pv_51 hy_X4_placeIt np_X4_placeIt rfl dX4_does_87) (fun q h he hX => a_out (unc_of Z.2.1 rfl) Z.2.2.2.1 he hX) (fun x87 h hf => ?kk87)
    refine AW.eq (g2 := F0 m 90 ls [.int x87]) rfl ?_
    exact a_ireturn X Z.2.2.1 Z.2.2.2.1 dX4_does_90 hf
  have hf := ite_f c3 hf
  by_cases c4 : x23 = (4 : Int32)
  · have hf := ite_t c4 hf
    refine AW.lift (fun _ _ _ _ k => lv_tableIn (pc := 24) (tgt := 91) (off := 67) X.2.2.1 X.2.2.2.1 dX4_does_24 (by rw [c4]; decide) (by rw [c4]; decide) (by rw [c4]; rfl) rfl k) ?_
    refine a_aload_n (pc := 91) X dX4_does_91 rfl hl 2 rfl ?_
    refine a_iload_n (pc := 92) X dX4_does_92 rfl hl 1 rfl ?_
    refine a_iload_n (pc := 93) X dX4_does_93 rfl hl 0 rfl ?_
    obtain ⟨a94, rfl, ⟨hk, hf⟩ | ⟨-, hf⟩⟩ := dv_some hf
    rotate_left
    · exact fl_none hf
    refine a_callb (pc := 94) (rs := []) (avs := [vR (some a94), vI x7, vI x16]) Z.1 (w_X4_fixIt GA (some a94) x7 x16) (Or.inl rfl) q3135 q86 (by decide) (by decide) dX4_does_94 hl.1 (Nat.le_of_ble_eq_true rfl) hf (ct_V hk ⟨by decide, by decide⟩ X (Or.inl rfl) q3135 q3132 q3134 pv_32 hy_X4_fixIt np_X4_fixIt rfl dX4_does_94) (fun q h he hX => a_out (unc_of Z.2.1 rfl) Z.2.2.2.1 he hX) (fun x94 h hf => ?kk94)
    refine AW.eq (g2 := F0 m 97 ls [.int x94]) rfl ?_
    exact a_ireturn X Z.2.2.1 Z.2.2.2.1 dX4_does_97 hf
  have hf := ite_f c4 hf
  by_cases c5 : x23 = (5 : Int32)
  · have hf := ite_t c5 hf
    refine AW.lift (fun _ _ _ _ k => lv_tableIn (pc := 24) (tgt := 98) (off := 74) X.2.2.1 X.2.2.2.1 dX4_does_24 (by rw [c5]; decide) (by rw [c5]; decide) (by rw [c5]; rfl) rfl k) ?_
    refine a_aload_n (pc := 98) X dX4_does_98 rfl hl 2 rfl ?_
    refine a_iload_n (pc := 99) X dX4_does_99 rfl hl 1 rfl ?_
    obtain ⟨a100, rfl, ⟨hk, hf⟩ | ⟨-, hf⟩⟩ := dv_some hf
    rotate_left
    · exact fl_none hf
    refine a_callb (pc := 100) (rs := []) (avs := [vR (some a100), vI x7]) Z.1 (w_X4_openIt GA (some a100) x7) (Or.inl rfl) q3170 q86 (by decide) (by decide) dX4_does_100 hl.1 (Nat.le_of_ble_eq_true rfl) hf (ct_V hk ⟨by decide, by decide⟩ X (Or.inl rfl) q3170 q3167 q3169 pv_38 hy_X4_openIt np_X4_openIt rfl dX4_does_100) (fun q h he hX => a_out (unc_of Z.2.1 rfl) Z.2.2.2.1 he hX) (fun x100 h hf => ?kk100)
    refine AW.eq (g2 := F0 m 103 ls [.int x100]) rfl ?_
    exact a_ireturn X Z.2.2.1 Z.2.2.2.1 dX4_does_103 hf
  have hf := ite_f c5 hf
  have n0 := lv_neT (a := 0) c0 rfl
  have n1 := lv_neT (a := 1) c1 rfl
  have n2 := lv_neT (a := 2) c2 rfl
  have n3 := lv_neT (a := 3) c3 rfl
  have n4 := lv_neT (a := 4) c4 rfl
  have n5 := lv_neT (a := 5) c5 rfl
  refine AW.lift (fun _ _ _ _ k => lv_tableOut (pc := 24) (tgt := 104) X.2.2.1 X.2.2.2.1 dX4_does_24 (by omega) rfl k) ?_
  refine a_aload_n (pc := 104) X dX4_does_104 rfl hl 2 rfl ?_
  refine a_iload_n (pc := 105) X dX4_does_105 rfl hl 1 rfl ?_
  obtain ⟨a106, rfl, ⟨hk, hf⟩ | ⟨-, hf⟩⟩ := dv_some hf
  rotate_left
  · exact fl_none hf
  refine a_callb (pc := 106) (rs := []) (avs := [vR (some a106), vI x7]) Z.1 (w_X4_passIt GA (some a106) x7) (Or.inl rfl) q3340 q86 (by decide) (by decide) dX4_does_106 hl.1 (Nat.le_of_ble_eq_true rfl) hf (ct_V hk ⟨by decide, by decide⟩ X (Or.inl rfl) q3340 q3337 q3339 pv_55 hy_X4_passIt np_X4_passIt rfl dX4_does_106) (fun q h he hX => a_out (unc_of Z.2.1 rfl) Z.2.2.2.1 he hX) (fun x106 h hf => ?kk106)
  refine AW.eq (g2 := F0 m 109 ls [.int x106]) rfl ?_
  exact a_ireturn X Z.2.2.1 Z.2.2.2.1 dX4_does_109 hf
theorem w_X4_refusedAt_j20 {r : Except Nat (Int32) × AH} (GA : GA l s0 a0 K lam) (Z : WZ l s0 a0 K p s m c cX4_refusedAt yX4_refusedAt.cls 1 b R 0 0 meth [] (some (.int)) yX4_refusedAt)    {h : AH} {ls : Array Slot} (hl : LV ls 1 []) (hf : f_X4_refusedAt_j20 K h = some r) : AW s0 K lam p l e R s m args below meth c (AQ s0 K lam below oI b r s) b h (F0 m 20 ls []) := by
  unfold f_X4_refusedAt_j20 at hf
  have X := Z.1.1
  refine AW.lift (fun _ _ _ _ k => lv_bipush (pc := 20) (v := (9 : Int32)) X.2.2.1 X.2.2.2.1 dX4_refusedAt_20 rfl k) ?_
  refine AW.lift (fun _ _ _ _ k => lv_goto (pc := 22) (tgt := 26) X.2.2.1 X.2.2.2.1 dX4_refusedAt_22 rfl k) ?_
  exact a_ireturn X Z.2.2.1 Z.2.2.2.1 dX4_refusedAt_26 hf
theorem np_X4_refusedAt : npar yX4_refusedAt.desc 1 := by unfold npar; decide +kernel
theorem hy_X4_refusedAt : yX4_refusedAt.cls ≠ "java/lang/invoke/MethodHandle" ∧ yX4_refusedAt.cls ≠ "java/lang/invoke/VarHandle" := by decide +kernel
theorem w_X4_refusedAt (GA : GA l s0 a0 K lam) (v0 : Int32) : AMet l s0 K lam yX4_refusedAt (Cond.code yX4_refusedAt cX4_refusedAt (1 : Nat) (Option.some ClassFile.FieldType.int)) 0 0 [vI v0] oI (f_X4_refusedAt K v0) := by
  refine AMet.of GA.1 (plainFor_of_name (by decide +kernel)) (Nat.le_of_ble_eq_true rfl) ?_
  intro b r hf p e s m args below meth c X hr hlk hnm hnd ht ls hl
  have Z : WZ l s0 a0 K p s m c cX4_refusedAt yX4_refusedAt.cls 1 b { frames := 0, cells := K 0 - aX b, slots := K 1 - aW b, locals := 0 } 0 0 meth [] (some (.int)) yX4_refusedAt := ⟨⟨X, GA.2.1, GA.2.2.1, rfl, rfl, Nat.le_refl _, Nat.le_refl _⟩, tab_nil ht, hr, hlk, hnm, hnd⟩
  unfold f_X4_refusedAt at hf
  clear hr hlk hnm hnd ht
  refine a_iload_n (pc := 0) X dX4_refusedAt_0 rfl hl 0 rfl ?_
  refine AW.lift (fun _ _ _ _ k => lv_iconst (pc := 1) (v := (2 : Int32)) X.2.2.1 X.2.2.2.1 dX4_refusedAt_1 rfl k) ?_
  refine AW.lift2 (fun _ _ _ _ k1 k2 => lv_icmp_ne (pc := 2) (tgt := 9) X.2.2.1 X.2.2.2.1 dX4_refusedAt_2 rfl k2 k1) (fun c => ?_) (fun c => ?_)
  · have hf := ite_t c hf
    refine AW.lift (fun _ _ _ _ k => lv_iconst (pc := 5) (v := (3 : Int32)) X.2.2.1 X.2.2.2.1 dX4_refusedAt_5 rfl k) ?_
    refine AW.lift (fun _ _ _ _ k => lv_goto (pc := 6) (tgt := 26) X.2.2.1 X.2.2.2.1 dX4_refusedAt_6 rfl k) ?_
    exact a_ireturn X Z.2.2.1 Z.2.2.2.1 dX4_refusedAt_26 hf
  · have hf := ite_f c hf
    refine a_iload_n (pc := 9) X dX4_refusedAt_9 rfl hl 0 rfl ?_
    refine AW.lift (fun _ _ _ _ k => lv_iconst (pc := 10) (v := (3 : Int32)) X.2.2.1 X.2.2.2.1 dX4_refusedAt_10 rfl k) ?_
    refine AW.lift2 (fun _ _ _ _ k1 k2 => lv_icmp_eq (pc := 11) (tgt := 20) X.2.2.1 X.2.2.2.1 dX4_refusedAt_11 rfl k1 k2) (fun c => ?_) (fun c => ?_)
    · have hf := ite_t c hf
      exact w_X4_refusedAt_j20 GA Z    (hl.sub [] rfl) hf
    · have hf := ite_f c hf
      refine a_iload_n (pc := 14) X dX4_refusedAt_14 rfl hl 0 rfl ?_
      refine AW.lift (fun _ _ _ _ k => lv_bipush (pc := 15) (v := (6 : Int32)) X.2.2.1 X.2.2.2.1 dX4_refusedAt_15 rfl k) ?_
      refine AW.lift2 (fun _ _ _ _ k1 k2 => lv_icmp_ne (pc := 17) (tgt := 25) X.2.2.1 X.2.2.2.1 dX4_refusedAt_17 rfl k2 k1) (fun c => ?_) (fun c => ?_)
      · have hf := ite_t c hf
        exact w_X4_refusedAt_j20 GA Z    (hl.sub [] rfl) hf
      · have hf := ite_f c hf
        refine AW.lift (fun _ _ _ _ k => lv_iconst (pc := 25) (v := (2 : Int32)) X.2.2.1 X.2.2.2.1 dX4_refusedAt_25 rfl k) ?_
        exact a_ireturn X Z.2.2.1 Z.2.2.2.1 dX4_refusedAt_26 hf
theorem w_X4_refusesAll_j56 {r : Except Nat (Int32) × AH} (GA : GA l s0 a0 K lam) (Z : WZ l s0 a0 K p s m c cX4_refusesAll yX4_refusesAll.cls 4 b R 2 44 meth [] (some (.int)) yX4_refusesAll) (v0 : Option Nat) (v1 : Int32)   {h : AH} {ls : Array Slot} (hl : LV ls 4 [(0, vR v0), (1, vI v1)]) (hf : f_X4_refusesAll_j56 K v0 v1 h = some r) : AW s0 K lam p l e R s m args below meth c (AQ s0 K lam below oI b r s) b h (F0 m 56 ls []) := by
  unfold f_X4_refusesAll_j56 at hf
  have X := Z.1.1
  refine a_aload_n (pc := 56) X dX4_refusesAll_56 rfl hl 0 rfl ?_
  refine a_get (pc := 57) (φ := 108) pR_t X Z.1.2.1 (gw X.1 X.2.1 q3033) (fun _ q => q) (by decide) dX4_refusesAll_57 hf (fun x57 hf => ?_)
  refine AW.lift (fun _ _ _ _ k => lv_iconst (pc := 60) (v := (0 : Int32)) X.2.2.1 X.2.2.2.1 dX4_refusesAll_60 rfl k) ?_
  refine AW.lift (fun _ _ _ _ k => lv_bipush (pc := 61) (v := (15 : Int32)) X.2.2.1 X.2.2.2.1 dX4_refusesAll_61 rfl k) ?_
  refine a_iastore (pc := 63) X dX4_refusesAll_63 hf (fun h hf => ?_)
  refine a_aload_n (pc := 64) X dX4_refusesAll_64 rfl hl 0 rfl ?_
  refine a_get (pc := 65) (φ := 109) pR_t X Z.1.2.1 (gw X.1 X.2.1 q3034) (fun _ q => q) (by decide) dX4_refusesAll_65 hf (fun x65 hf => ?_)
  refine AW.lift (fun _ _ _ _ k => lv_iconst (pc := 68) (v := (0 : Int32)) X.2.2.1 X.2.2.2.1 dX4_refusesAll_68 rfl k) ?_
  refine a_iload_n (pc := 69) X dX4_refusesAll_69 rfl hl 1 rfl ?_
  refine a_iastore (pc := 70) X dX4_refusesAll_70 hf (fun h hf => ?_)
  refine a_aload_n (pc := 71) X dX4_refusesAll_71 rfl hl 0 rfl ?_
  refine AW.lift (fun _ _ _ _ k => lv_dup (pc := 72) X.2.2.1 X.2.2.2.1 dX4_refusesAll_72 (cat_rf _) k) ?_
  refine a_get (pc := 73) (φ := 110) pI_t X Z.1.2.1 (gw X.1 X.2.1 q3035) (fun _ q => q) (by decide) dX4_refusesAll_73 hf (fun x73 hf => ?_)
  refine AW.lift (fun _ _ _ _ k => lv_iconst (pc := 76) (v := (1 : Int32)) X.2.2.1 X.2.2.2.1 dX4_refusesAll_76 rfl k) ?_
  refine AW.lift (fun _ _ _ _ k => lv_iadd (pc := 77) X.2.2.1 X.2.2.2.1 dX4_refusesAll_77 k) ?_
  refine a_put (pc := 78) (φ := 110) X Z.1.2.1 Z.1.2.2.1 (gw X.1 X.2.1 q3035) (fun _ q => q) (by decide) rfl rfl dX4_refusesAll_78 hf (fun h hf => ?_)
  refine a_aload_n (pc := 81) X dX4_refusesAll_81 rfl hl 0 rfl ?_
  refine AW.lift (fun _ _ _ _ k => lv_iconst (pc := 82) (v := (2 : Int32)) X.2.2.1 X.2.2.2.1 dX4_refusesAll_82 rfl k) ?_
  obtain ⟨a83, rfl, ⟨hk, hf⟩ | ⟨-, hf⟩⟩ := dv_some hf
  rotate_left
  · exact fl_none hf
  refine a_callb (pc := 83) (rs := []) (avs := [vR (some a83), vI (2 : Int32)]) Z.1 (w_X4_throwing GA (some a83) (2 : Int32)) (Or.inl rfl) q3120 q86 (by decide) (by decide) dX4_refusesAll_83 hl.1 (Nat.le_of_ble_eq_true rfl) hf (ct_V hk ⟨by decide, by decide⟩ X (Or.inl rfl) q3120 q3117 q3119 pv_30 hy_X4_throwing np_X4_throwing rfl dX4_refusesAll_83) (fun q h he hX => a_out (unc_of Z.2.1 rfl) Z.2.2.2.1 he hX) (fun x83 h hf => ?kk83)
  refine AW.eq (g2 := F0 m 86 ls [.int x83]) rfl ?_
  exact a_ireturn X Z.2.2.1 Z.2.2.2.1 dX4_refusesAll_86 hf
theorem w_X4_refusesAll_b18 {r : Except Nat (Int32) × AH} (GA : GA l s0 a0 K lam) (Z : WZ l s0 a0 K p s m c cX4_refusesAll yX4_refusesAll.cls 4 b R 2 44 meth [] (some (.int)) yX4_refusesAll) (v0 : Option Nat) (v1 : Int32) (v3 : Int32)  (rc18 : Int32 → AM (Int32)) (hrc18 : ∀ (v3 : Int32) (h : AH) (ls : Array Slot), LV ls 4 [(0, vR v0), (1, vI v1), (3, vI v3)] → rc18 v3 h = some r → AW s0 K lam p l e R s m args below meth c (AQ s0 K lam below oI b r s) b h (F0 m 18 ls [])) {h : AH} {ls : Array Slot} (hl : LV ls 4 [(0, vR v0), (1, vI v1), (3, vI v3)]) (hf : f_X4_refusesAll_b18 K rc18 v0 v1 v3 h = some r) : AW s0 K lam p l e R s m args below meth c (AQ s0 K lam below oI b r s) b h (F0 m 18 ls []) := by
  unfold f_X4_refusesAll_b18 at hf
  have X := Z.1.1
  refine a_iload_n (pc := 18) X dX4_refusesAll_18 rfl hl 2 rfl ?_
  refine AW.lift2 (fun _ _ _ _ k1 k2 => lv_if_le (pc := 19) (tgt := 56) X.2.2.1 X.2.2.2.1 dX4_refusesAll_19 rfl k1 k2) (fun c => ?_) (fun c => ?_)
  · have hf := ite_t c hf
    exact w_X4_refusesAll_j56 GA Z v0 v1   (hl.sub [0, 1] rfl) hf
  · have hf := ite_f c hf
    refine a_aload_n (pc := 22) X dX4_refusesAll_22 rfl hl 0 rfl ?_
    refine a_get (pc := 23) (φ := 108) pR_t X Z.1.2.1 (gw X.1 X.2.1 q3033) (fun _ q => q) (by decide) dX4_refusesAll_23 hf (fun x23 hf => ?_)
    refine a_iload_n (pc := 26) X dX4_refusesAll_26 rfl hl 2 rfl ?_
    refine a_aload_n (pc := 27) X dX4_refusesAll_27 rfl hl 0 rfl ?_
    refine a_get (pc := 28) (φ := 108) pR_t X Z.1.2.1 (gw X.1 X.2.1 q3033) (fun _ q => q) (by decide) dX4_refusesAll_28 hf (fun x28 hf => ?_)
    refine a_iload_n (pc := 31) X dX4_refusesAll_31 rfl hl 2 rfl ?_
    refine AW.lift (fun _ _ _ _ k => lv_iconst (pc := 32) (v := (1 : Int32)) X.2.2.1 X.2.2.2.1 dX4_refusesAll_32 rfl k) ?_
    refine AW.lift (fun _ _ _ _ k => lv_isub (pc := 33) X.2.2.1 X.2.2.2.1 dX4_refusesAll_33 k) ?_
    refine a_iaload (pc := 34) X dX4_refusesAll_34 hf (fun x34 hf => ?_)
    refine a_iastore (pc := 35) X dX4_refusesAll_35 hf (fun h hf => ?_)
    refine a_aload_n (pc := 36) X dX4_refusesAll_36 rfl hl 0 rfl ?_
    refine a_get (pc := 37) (φ := 109) pR_t X Z.1.2.1 (gw X.1 X.2.1 q3034) (fun _ q => q) (by decide) dX4_refusesAll_37 hf (fun x37 hf => ?_)
    refine a_iload_n (pc := 40) X dX4_refusesAll_40 rfl hl 2 rfl ?_
    refine a_aload_n (pc := 41) X dX4_refusesAll_41 rfl hl 0 rfl ?_
    refine a_get (pc := 42) (φ := 109) pR_t X Z.1.2.1 (gw X.1 X.2.1 q3034) (fun _ q => q) (by decide) dX4_refusesAll_42 hf (fun x42 hf => ?_)
    refine a_iload_n (pc := 45) X dX4_refusesAll_45 rfl hl 2 rfl ?_
    refine AW.lift (fun _ _ _ _ k => lv_iconst (pc := 46) (v := (1 : Int32)) X.2.2.1 X.2.2.2.1 dX4_refusesAll_46 rfl k) ?_
    refine AW.lift (fun _ _ _ _ k => lv_isub (pc := 47) X.2.2.1 X.2.2.2.1 dX4_refusesAll_47 k) ?_
    refine a_iaload (pc := 48) X dX4_refusesAll_48 hf (fun x48 hf => ?_)
    refine a_iastore (pc := 49) X dX4_refusesAll_49 hf (fun h hf => ?_)
    refine a_iinc (pc := 50) (v := (v3 + (-1 : Int32))) X dX4_refusesAll_50 hl (k := 2) rfl rfl (by decide) (lv' := [(3, vI (v3 + (-1 : Int32))), (0, vR v0), (1, vI v1)]) rfl (fun ls hl => ?_)
    refine AW.lift (fun _ _ _ _ k => lv_goto (pc := 53) (tgt := 18) X.2.2.1 X.2.2.2.1 dX4_refusesAll_53 rfl k) ?_
    exact hrc18 (v3 + (-1 : Int32)) _ _ (hl.sub [1, 2, 0] rfl) hf
theorem w_X4_refusesAll_l18 {r : Except Nat (Int32) × AH} (GA : GA l s0 a0 K lam) (Z : WZ l s0 a0 K p s m c cX4_refusesAll yX4_refusesAll.cls 4 b R 2 44 meth [] (some (.int)) yX4_refusesAll) (v0 : Option Nat) (v1 : Int32)  : ∀ (n : Nat) (v3 : Int32) (h : AH) (ls : Array Slot), LV ls 4 [(0, vR v0), (1, vI v1), (3, vI v3)] → f_X4_refusesAll_l18 K v0 v1 n v3 h = some r → AW s0 K lam p l e R s m args below meth c (AQ s0 K lam below oI b r s) b h (F0 m 18 ls []) := by
  intro n
  induction n with
  | zero => intro v3 h ls hl hf; exact fl_no (h := h) hf
  | succ n ih => intro v3 h ls hl hf; exact w_X4_refusesAll_b18 GA Z v0 v1 v3 (f_X4_refusesAll_l18 K v0 v1 n) ih hl hf
theorem w_X4_refusesAll_j13 {r : Except Nat (Int32) × AH} (GA : GA l s0 a0 K lam) (Z : WZ l s0 a0 K p s m c cX4_refusesAll yX4_refusesAll.cls 4 b R 2 44 meth [] (some (.int)) yX4_refusesAll) (v0 : Option Nat) (v1 : Int32)   {h : AH} {ls : Array Slot} (hl : LV ls 4 [(0, vR v0), (1, vI v1)]) (hf : f_X4_refusesAll_j13 K v0 v1 h = some r) : AW s0 K lam p l e R s m args below meth c (AQ s0 K lam below oI b r s) b h (F0 m 13 ls []) := by
  unfold f_X4_refusesAll_j13 at hf
  have X := Z.1.1
  refine a_aload_n (pc := 13) X dX4_refusesAll_13 rfl hl 0 rfl ?_
  refine a_get (pc := 14) (φ := 110) pI_t X Z.1.2.1 (gw X.1 X.2.1 q3035) (fun _ q => q) (by decide) dX4_refusesAll_14 hf (fun x14 hf => ?_)
  refine a_istore_n (pc := 17) X dX4_refusesAll_17 rfl hl (by decide) (lv' := [(3, vI x14), (0, vR v0), (1, vI v1)]) rfl (fun ls hl => ?_)
  exact w_X4_refusesAll_l18 GA Z v0 v1  FU x14 _ _ (hl.sub [1, 2, 0] rfl) hf
theorem np_X4_refusesAll : npar yX4_refusesAll.desc 2 := by unfold npar; decide +kernel
theorem hy_X4_refusesAll : yX4_refusesAll.cls ≠ "java/lang/invoke/MethodHandle" ∧ yX4_refusesAll.cls ≠ "java/lang/invoke/VarHandle" := by decide +kernel
theorem w_X4_refusesAll (GA : GA l s0 a0 K lam) (v0 : Option Nat) (v1 : Int32) (v2 : Int32) : AMet l s0 K lam yX4_refusesAll (Cond.code yX4_refusesAll cX4_refusesAll (4 : Nat) (Option.some ClassFile.FieldType.int)) 2 44 [vR v0, vI v1, vI v2] oI (f_X4_refusesAll K v0 v1 v2) := by
  refine AMet.of GA.1 (plainFor_of_name (by decide +kernel)) (Nat.le_of_ble_eq_true rfl) ?_
  intro b r hf p e s m args below meth c X hr hlk hnm hnd ht ls hl
  have Z : WZ l s0 a0 K p s m c cX4_refusesAll yX4_refusesAll.cls 4 b { frames := 2, cells := K 0 - aX b, slots := K 1 - aW b, locals := 44 } 2 44 meth [] (some (.int)) yX4_refusesAll := ⟨⟨X, GA.2.1, GA.2.2.1, rfl, rfl, Nat.le_refl _, Nat.le_refl _⟩, tab_nil ht, hr, hlk, hnm, hnd⟩
  unfold f_X4_refusesAll at hf
  clear hr hlk hnm hnd ht
  refine a_iload_n (pc := 0) X dX4_refusesAll_0 rfl hl 2 rfl ?_
  refine AW.lift2 (fun _ _ _ _ k1 k2 => lv_if_ne (pc := 1) (tgt := 13) X.2.2.1 X.2.2.2.1 dX4_refusesAll_1 rfl k2 k1) (fun c => ?_) (fun c => ?_)
  · have hf := ite_t c hf
    refine a_aload_n (pc := 4) X dX4_refusesAll_4 rfl hl 0 rfl ?_
    refine AW.lift (fun _ _ _ _ k => lv_iconst (pc := 5) (v := (2 : Int32)) X.2.2.1 X.2.2.2.1 dX4_refusesAll_5 rfl k) ?_
    refine AW.lift (fun _ _ _ _ k => lv_bipush (pc := 6) (v := (17 : Int32)) X.2.2.1 X.2.2.2.1 dX4_refusesAll_6 rfl k) ?_
    refine AW.lift (fun _ _ _ _ k => lv_iconst (pc := 8) (v := (0 : Int32)) X.2.2.1 X.2.2.2.1 dX4_refusesAll_8 rfl k) ?_
    obtain ⟨a9, rfl, ⟨hk, hf⟩ | ⟨-, hf⟩⟩ := dv_some hf
    rotate_left
    · exact fl_none hf
    refine a_callb (pc := 9) (rs := []) (avs := [vR (some a9), vI (2 : Int32), vI (17 : Int32), vI (0 : Int32)]) Z.1 (w_X4_refuse GA (some a9) (2 : Int32) (17 : Int32) (0 : Int32)) (Or.inl rfl) q3116 q86 (by decide) (by decide) dX4_refusesAll_9 hl.1 (Nat.le_of_ble_eq_true rfl) hf (ct_V hk ⟨by decide, by decide⟩ X (Or.inl rfl) q3116 q3113 q3115 pv_29 hy_X4_refuse np_X4_refuse rfl dX4_refusesAll_9) (fun q h he hX => a_out (unc_of Z.2.1 rfl) Z.2.2.2.1 he hX) (fun x9 h hf => ?kk9)
    refine AW.eq (g2 := F0 m 12 ls [.int x9]) rfl ?_
    refine AW.lift (fun _ _ _ _ k => lv_pop (pc := 12) X.2.2.1 X.2.2.2.1 dX4_refusesAll_12 rfl k) ?_
    exact w_X4_refusesAll_j13 GA Z (some a9) v1   (hl.sub [0, 1] rfl) hf
  · have hf := ite_f c hf
    exact w_X4_refusesAll_j13 GA Z v0 v1   (hl.sub [0, 1] rfl) hf
end WK
