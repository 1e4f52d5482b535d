section WK
variable {l : Launch} {s0 : State} {a0 : Array Value} {K : Nat → Nat} {lam : Nat → ClassId}
variable {p : Program} {e : Env} {R : Room} {s : State} {m : MethodId} {args : Array Value} {below : List Frame} {meth : Method} {c : Code} {b : AH}
theorem np_X1_account : npar yX1_account.desc 1 := by unfold npar; decide +kernel
theorem hy_X1_account : yX1_account.cls ≠ "java/lang/invoke/MethodHandle" ∧ yX1_account.cls ≠ "java/lang/invoke/VarHandle" := by decide +kernel
theorem w_X1_account (GA : GA l s0 a0 K lam) (v0 : Option Nat) (v1 : Int32) : AMet l s0 K lam yX1_account (Cond.code yX1_account cX1_account (2 : Nat) (Option.some ClassFile.FieldType.int)) 12 3088 [vR v0, vI v1] oI (f_X1_account K v0 v1) := by
  refine AMet.of GA.1 (plainFor_of_name (by decide +kernel)) (Nat.le_of_ble_eq_true rfl) ?_
  intro b r hf p e s m args below meth c X hr hlk hnm hnd ht ls hl
  have Z : WZ l s0 a0 K p s m c cX1_account yX1_account.cls 2 b { frames := 12, cells := K 0 - aX b, slots := K 1 - aW b, locals := 3088 } 12 3088 meth [] (some (.int)) yX1_account := ⟨⟨X, GA.2.1, GA.2.2.1, rfl, rfl, Nat.le_refl _, Nat.le_refl _⟩, tab_nil ht, hr, hlk, hnm, hnd⟩
  unfold f_X1_account at hf
  clear hr hlk hnm hnd ht
  refine a_iload_n (pc := 0) X dX1_account_0 rfl hl 1 rfl ?_
  refine AW.lift (fun _ _ _ _ k => lv_iconst (pc := 1) (v := (0 : Int32)) X.2.2.1 X.2.2.2.1 dX1_account_1 rfl k) ?_
  refine AW.lift (fun _ _ _ _ k => lv_bipush (pc := 2) (v := (19 : Int32)) X.2.2.1 X.2.2.2.1 dX1_account_2 rfl k) ?_
  refine a_callb (pc := 4) (rs := []) (avs := [vI v1, vI (0 : Int32), vI (19 : Int32)]) Z.1 (w_X1_isIn GA v1 (0 : Int32) (19 : Int32)) (Or.inl rfl) q1812 q74 (by decide) (by decide) dX1_account_4 hl.1 (Nat.le_of_ble_eq_true rfl) hf (ct_S X (Or.inl rfl) q1812 q74 q1813 q1811 hy_X1_isIn np_X1_isIn rfl dX1_account_4) (fun q h he hX => a_out (unc_of Z.2.1 rfl) Z.2.2.2.1 he hX) (fun x4 h hf => ?kk4)
  refine AW.eq (g2 := F0 m 7 ls [.int x4]) rfl ?_
  refine a_callb (pc := 7) (rs := []) (avs := [vI x4]) Z.1 (w_X1_checkArgument GA x4) (Or.inl rfl) q1880 q74 (by decide) (by decide) dX1_account_7 hl.1 (Nat.le_of_ble_eq_true rfl) hf (ct_S X (Or.inl rfl) q1880 q74 q1878 q1879 hy_X1_checkArgument np_X1_checkArgument rfl dX1_account_7) (fun q h he hX => a_out (unc_of Z.2.1 rfl) Z.2.2.2.1 he hX) (fun _ h hf => ?kk7)
  refine AW.eq (g2 := F0 m 10 ls []) rfl ?_
  refine a_iload_n (pc := 10) X dX1_account_10 rfl hl 1 rfl ?_
  by_cases c0 : v1 = (0 : Int32)
  · have hf := ite_t c0 hf
    refine AW.lift (fun _ _ _ _ k => lv_tableIn (pc := 11) (tgt := 100) (off := 89) X.2.2.1 X.2.2.2.1 dX1_account_11 (by rw [c0]; decide) (by rw [c0]; decide) (by rw [c0]; rfl) rfl k) ?_
    refine a_aload_n (pc := 100) X dX1_account_100 rfl hl 0 rfl ?_
    refine a_get (pc := 101) (φ := 200) pR_t X Z.1.2.1 (gw X.1 X.2.1 q309) (fun _ q => q) (by decide) dX1_account_101 hf (fun x101 hf => ?_)
    refine a_getN (pc := 104) (φ := 300) pR_t X Z.1.2.1 (gnF X.1 X.2.1 q229) (fun _ q => q) (by decide) dX1_account_104 hf (fun x104 hf => ?_)
    obtain ⟨a107, rfl, ⟨hk, hf⟩ | ⟨-, hf⟩⟩ := dv_some hf
    rotate_left
    · exact fl_none hf
    refine a_callb (pc := 107) (rs := []) (avs := [vR (some a107)]) Z.1 (w_J2_size GA (some a107)) (Or.inl rfl) q1012 q78 (by decide) (by decide) dX1_account_107 hl.1 (Nat.le_of_ble_eq_true rfl) hf (ct_V hk ⟨by decide, by decide⟩ X (Or.inl rfl) q1012 q1705 q1011 q3486 hy_J2_size np_J2_size rfl dX1_account_107) (fun q h he hX => a_out (unc_of Z.2.1 rfl) Z.2.2.2.1 he hX) (fun x107 h hf => ?kk107)
    refine AW.eq (g2 := F0 m 110 ls [.int x107]) rfl ?_
    refine AW.lift (fun _ _ _ _ k => lv_goto (pc := 110) (tgt := 282) X.2.2.1 X.2.2.2.1 dX1_account_110 rfl k) ?_
    exact a_ireturn X Z.2.2.1 Z.2.2.2.1 dX1_account_282 hf
  have hf := ite_f c0 hf
  by_cases c1 : v1 = (1 : Int32)
  · have hf := ite_t c1 hf
    refine AW.lift (fun _ _ _ _ k => lv_tableIn (pc := 11) (tgt := 113) (off := 102) X.2.2.1 X.2.2.2.1 dX1_account_11 (by rw [c1]; decide) (by rw [c1]; decide) (by rw [c1]; rfl) rfl k) ?_
    refine a_aload_n (pc := 113) X dX1_account_113 rfl hl 0 rfl ?_
    refine a_get (pc := 114) (φ := 200) pR_t X Z.1.2.1 (gw X.1 X.2.1 q309) (fun _ q => q) (by decide) dX1_account_114 hf (fun x114 hf => ?_)
    obtain ⟨a117, rfl, ⟨hk, hf⟩ | ⟨-, hf⟩⟩ := dv_some hf
    rotate_left
    · exact fl_none hf
    refine a_callb (pc := 117) (rs := []) (avs := [vR (some a117)]) Z.1 (w_X2_openMats GA (some a117)) (Or.inl rfl) q2641 q75 (by decide) (by decide) dX1_account_117 hl.1 (Nat.le_of_ble_eq_true rfl) hf (ct_V hk ⟨by decide, by decide⟩ X (Or.inl rfl) q2641 q2638 q2639 q2640 hy_X2_openMats np_X2_openMats rfl dX1_account_117) (fun q h he hX => a_out (unc_of Z.2.1 rfl) Z.2.2.2.1 he hX) (fun x117 h hf => ?kk117)
    refine AW.eq (g2 := F0 m 120 ls [.int x117]) rfl ?_
    refine AW.lift (fun _ _ _ _ k => lv_goto (pc := 120) (tgt := 282) X.2.2.1 X.2.2.2.1 dX1_account_120 rfl k) ?_
    exact a_ireturn X Z.2.2.1 Z.2.2.2.1 dX1_account_282 hf
  have hf := ite_f c1 hf
  by_cases c2 : v1 = (2 : Int32)
  · have hf := ite_t c2 hf
    refine AW.lift (fun _ _ _ _ k => lv_tableIn (pc := 11) (tgt := 123) (off := 112) X.2.2.1 X.2.2.2.1 dX1_account_11 (by rw [c2]; decide) (by rw [c2]; decide) (by rw [c2]; rfl) rfl k) ?_
    refine a_aload_n (pc := 123) X dX1_account_123 rfl hl 0 rfl ?_
    refine a_get (pc := 124) (φ := 200) pR_t X Z.1.2.1 (gw X.1 X.2.1 q309) (fun _ q => q) (by decide) dX1_account_124 hf (fun x124 hf => ?_)
    obtain ⟨a127, rfl, ⟨hk, hf⟩ | ⟨-, hf⟩⟩ := dv_some hf
    rotate_left
    · exact fl_none hf
    refine a_callb (pc := 127) (rs := []) (avs := [vR (some a127)]) Z.1 (w_X2_brokenSprings GA (some a127)) (Or.inl rfl) q2630 q75 (by decide) (by decide) dX1_account_127 hl.1 (Nat.le_of_ble_eq_true rfl) hf (ct_V hk ⟨by decide, by decide⟩ X (Or.inl rfl) q2630 q2627 q2628 q2629 hy_X2_brokenSprings np_X2_brokenSprings rfl dX1_account_127) (fun q h he hX => a_out (unc_of Z.2.1 rfl) Z.2.2.2.1 he hX) (fun x127 h hf => ?kk127)
    refine AW.eq (g2 := F0 m 130 ls [.int x127]) rfl ?_
    refine AW.lift (fun _ _ _ _ k => lv_goto (pc := 130) (tgt := 282) X.2.2.1 X.2.2.2.1 dX1_account_130 rfl k) ?_
    exact a_ireturn X Z.2.2.1 Z.2.2.2.1 dX1_account_282 hf
  have hf := ite_f c2 hf
  by_cases c3 : v1 = (3 : Int32)
  · have hf := ite_t c3 hf
    refine AW.lift (fun _ _ _ _ k => lv_tableIn (pc := 11) (tgt := 133) (off := 122) X.2.2.1 X.2.2.2.1 dX1_account_11 (by rw [c3]; decide) (by rw [c3]; decide) (by rw [c3]; rfl) rfl k) ?_
    refine a_aload_n (pc := 133) X dX1_account_133 rfl hl 0 rfl ?_
    refine a_get (pc := 134) (φ := 200) pR_t X Z.1.2.1 (gw X.1 X.2.1 q309) (fun _ q => q) (by decide) dX1_account_134 hf (fun x134 hf => ?_)
    refine a_getN (pc := 137) (φ := 301) pR_t X Z.1.2.1 (gnF X.1 X.2.1 q231) (fun _ q => q) (by decide) dX1_account_137 hf (fun x137 hf => ?_)
    obtain ⟨a140, rfl, ⟨hk, hf⟩ | ⟨-, hf⟩⟩ := dv_some hf
    rotate_left
    · exact fl_none hf
    refine a_callb (pc := 140) (rs := []) (avs := [vR (some a140)]) Z.1 (w_J2_size GA (some a140)) (Or.inl rfl) q1012 q78 (by decide) (by decide) dX1_account_140 hl.1 (Nat.le_of_ble_eq_true rfl) hf (ct_V hk ⟨by decide, by decide⟩ X (Or.inl rfl) q1012 q1705 q1011 q3486 hy_J2_size np_J2_size rfl dX1_account_140) (fun q h he hX => a_out (unc_of Z.2.1 rfl) Z.2.2.2.1 he hX) (fun x140 h hf => ?kk140)
    refine AW.eq (g2 := F0 m 143 ls [.int x140]) rfl ?_
    refine AW.lift (fun _ _ _ _ k => lv_goto (pc := 143) (tgt := 282) X.2.2.1 X.2.2.2.1 dX1_account_143 rfl k) ?_
    exact a_ireturn X Z.2.2.1 Z.2.2.2.1 dX1_account_282 hf
  have hf := ite_f c3 hf
  by_cases c4 : v1 = (4 : Int32)
  · have hf := ite_t c4 hf
    refine AW.lift (fun _ _ _ _ k => lv_tableIn (pc := 11) (tgt := 146) (off := 135) X.2.2.1 X.2.2.2.1 dX1_account_11 (by rw [c4]; decide) (by rw [c4]; decide) (by rw [c4]; rfl) rfl k) ?_
    refine a_aload_n (pc := 146) X dX1_account_146 rfl hl 0 rfl ?_
    refine a_get (pc := 147) (φ := 200) pR_t X Z.1.2.1 (gw X.1 X.2.1 q309) (fun _ q => q) (by decide) dX1_account_147 hf (fun x147 hf => ?_)
    refine a_iload_n (pc := 150) X dX1_account_150 rfl hl 1 rfl ?_
    refine a_ndy (pc := 151) (rs := [vR x147]) (avs := [vI v1]) Z.1 Z.2.2.2.2.2 (siG_223 GA) hfb_23 (lw_all_tbl q3550) ⟨by decide, by decide⟩ rfl rfl rfl (by decide) hl.1 (Nat.le_of_ble_eq_true rfl) (Nat.le_of_ble_eq_true rfl) rfl dX1_account_151 hf (fun x151 h hf => ?_)
    refine AW.eq (g2 := F0 m 156 ls [va_rf (some x151), va_rf x147]) rfl ?_
    obtain ⟨a156, rfl, ⟨hk, hf⟩ | ⟨-, hf⟩⟩ := dv_some hf
    rotate_left
    · exact fl_none hf
    refine a_callb (pc := 156) (rs := []) (avs := [vR (some a156), vR (some x151)]) Z.1 (w_X2_many GA (some a156) (some x151)) (Or.inl rfl) q1901 q75 (by decide) (by decide) dX1_account_156 hl.1 (Nat.le_of_ble_eq_true rfl) hf (ct_V hk ⟨by decide, by decide⟩ X (Or.inl rfl) q1901 q1898 q1899 q1900 hy_X2_many np_X2_many rfl dX1_account_156) (fun q h he hX => a_out (unc_of Z.2.1 rfl) Z.2.2.2.1 he hX) (fun x156 h hf => ?kk156)
    refine AW.eq (g2 := F0 m 159 ls [.int x156]) rfl ?_
    refine AW.lift (fun _ _ _ _ k => lv_goto (pc := 159) (tgt := 282) X.2.2.1 X.2.2.2.1 dX1_account_159 rfl k) ?_
    exact a_ireturn X Z.2.2.1 Z.2.2.2.1 dX1_account_282 hf
  have hf := ite_f c4 hf
  by_cases c5 : v1 = (5 : Int32)
  · have hf := ite_t c5 hf
    refine AW.lift (fun _ _ _ _ k => lv_tableIn (pc := 11) (tgt := 146) (off := 135) X.2.2.1 X.2.2.2.1 dX1_account_11 (by rw [c5]; decide) (by rw [c5]; decide) (by rw [c5]; rfl) rfl k) ?_
    refine a_aload_n (pc := 146) X dX1_account_146 rfl hl 0 rfl ?_
    refine a_get (pc := 147) (φ := 200) pR_t X Z.1.2.1 (gw X.1 X.2.1 q309) (fun _ q => q) (by decide) dX1_account_147 hf (fun x147 hf => ?_)
    refine a_iload_n (pc := 150) X dX1_account_150 rfl hl 1 rfl ?_
    refine a_ndy (pc := 151) (rs := [vR x147]) (avs := [vI v1]) Z.1 Z.2.2.2.2.2 (siG_223 GA) hfb_23 (lw_all_tbl q3550) ⟨by decide, by decide⟩ rfl rfl rfl (by decide) hl.1 (Nat.le_of_ble_eq_true rfl) (Nat.le_of_ble_eq_true rfl) rfl dX1_account_151 hf (fun x151 h hf => ?_)
    refine AW.eq (g2 := F0 m 156 ls [va_rf (some x151), va_rf x147]) rfl ?_
    obtain ⟨a156, rfl, ⟨hk, hf⟩ | ⟨-, hf⟩⟩ := dv_some hf
    rotate_left
    · exact fl_none hf
    refine a_callb (pc := 156) (rs := []) (avs := [vR (some a156), vR (some x151)]) Z.1 (w_X2_many GA (some a156) (some x151)) (Or.inl rfl) q1901 q75 (by decide) (by decide) dX1_account_156 hl.1 (Nat.le_of_ble_eq_true rfl) hf (ct_V hk ⟨by decide, by decide⟩ X (Or.inl rfl) q1901 q1898 q1899 q1900 hy_X2_many np_X2_many rfl dX1_account_156) (fun q h he hX => a_out (unc_of Z.2.1 rfl) Z.2.2.2.1 he hX) (fun x156 h hf => ?kk156x1)
    refine AW.eq (g2 := F0 m 159 ls [.int x156]) rfl ?_
    refine AW.lift (fun _ _ _ _ k => lv_goto (pc := 159) (tgt := 282) X.2.2.1 X.2.2.2.1 dX1_account_159 rfl k) ?_
    exact a_ireturn X Z.2.2.1 Z.2.2.2.1 dX1_account_282 hf
  have hf := ite_f c5 hf
  by_cases c6 : v1 = (6 : Int32)
  · have hf := ite_t c6 hf
    refine AW.lift (fun _ _ _ _ k => lv_tableIn (pc := 11) (tgt := 146) (off := 135) X.2.2.1 X.2.2.2.1 dX1_account_11 (by rw [c6]; decide) (by rw [c6]; decide) (by rw [c6]; rfl) rfl k) ?_
    refine a_aload_n (pc := 146) X dX1_account_146 rfl hl 0 rfl ?_
    refine a_get (pc := 147) (φ := 200) pR_t X Z.1.2.1 (gw X.1 X.2.1 q309) (fun _ q => q) (by decide) dX1_account_147 hf (fun x147 hf => ?_)
    refine a_iload_n (pc := 150) X dX1_account_150 rfl hl 1 rfl ?_
    refine a_ndy (pc := 151) (rs := [vR x147]) (avs := [vI v1]) Z.1 Z.2.2.2.2.2 (siG_223 GA) hfb_23 (lw_all_tbl q3550) ⟨by decide, by decide⟩ rfl rfl rfl (by decide) hl.1 (Nat.le_of_ble_eq_true rfl) (Nat.le_of_ble_eq_true rfl) rfl dX1_account_151 hf (fun x151 h hf => ?_)
    refine AW.eq (g2 := F0 m 156 ls [va_rf (some x151), va_rf x147]) rfl ?_
    obtain ⟨a156, rfl, ⟨hk, hf⟩ | ⟨-, hf⟩⟩ := dv_some hf
    rotate_left
    · exact fl_none hf
    refine a_callb (pc := 156) (rs := []) (avs := [vR (some a156), vR (some x151)]) Z.1 (w_X2_many GA (some a156) (some x151)) (Or.inl rfl) q1901 q75 (by decide) (by decide) dX1_account_156 hl.1 (Nat.le_of_ble_eq_true rfl) hf (ct_V hk ⟨by decide, by decide⟩ X (Or.inl rfl) q1901 q1898 q1899 q1900 hy_X2_many np_X2_many rfl dX1_account_156) (fun q h he hX => a_out (unc_of Z.2.1 rfl) Z.2.2.2.1 he hX) (fun x156 h hf => ?kk156x2)
    refine AW.eq (g2 := F0 m 159 ls [.int x156]) rfl ?_
    refine AW.lift (fun _ _ _ _ k => lv_goto (pc := 159) (tgt := 282) X.2.2.1 X.2.2.2.1 dX1_account_159 rfl k) ?_
    exact a_ireturn X Z.2.2.1 Z.2.2.2.1 dX1_account_282 hf
  have hf := ite_f c6 hf
  by_cases c7 : v1 = (7 : Int32)
  · have hf := ite_t c7 hf
    refine AW.lift (fun _ _ _ _ k => lv_tableIn (pc := 11) (tgt := 162) (off := 151) X.2.2.1 X.2.2.2.1 dX1_account_11 (by rw [c7]; decide) (by rw [c7]; decide) (by rw [c7]; rfl) rfl k) ?_
    refine a_aload_n (pc := 162) X dX1_account_162 rfl hl 0 rfl ?_
    refine a_get (pc := 163) (φ := 200) pR_t X Z.1.2.1 (gw X.1 X.2.1 q309) (fun _ q => q) (by decide) dX1_account_163 hf (fun x163 hf => ?_)
    refine a_ndyC (pc := 166) (rs := [vR x163]) Z.1 Z.2.2.2.2.2 (siG_224 GA) (by decide) hl.1 (Nat.le_of_ble_eq_true rfl) dX1_account_166 ?_
    refine AW.eq (g2 := F0 m 171 ls [va_rf (some (K 124)), va_rf x163]) rfl ?_
    obtain ⟨a171, rfl, ⟨hk, hf⟩ | ⟨-, hf⟩⟩ := dv_some hf
    rotate_left
    · exact fl_none hf
    refine a_callb (pc := 171) (rs := []) (avs := [vR (some a171), vR (some (K 124))]) Z.1 (w_X2_many GA (some a171) (some (K 124))) (Or.inl rfl) q1901 q75 (by decide) (by decide) dX1_account_171 hl.1 (Nat.le_of_ble_eq_true rfl) hf (ct_V hk ⟨by decide, by decide⟩ X (Or.inl rfl) q1901 q1898 q1899 q1900 hy_X2_many np_X2_many rfl dX1_account_171) (fun q h he hX => a_out (unc_of Z.2.1 rfl) Z.2.2.2.1 he hX) (fun x171 h hf => ?kk171)
    refine AW.eq (g2 := F0 m 174 ls [.int x171]) rfl ?_
    refine AW.lift (fun _ _ _ _ k => lv_goto (pc := 174) (tgt := 282) X.2.2.1 X.2.2.2.1 dX1_account_174 rfl k) ?_
    exact a_ireturn X Z.2.2.1 Z.2.2.2.1 dX1_account_282 hf
  have hf := ite_f c7 hf
  by_cases c8 : v1 = (8 : Int32)
  · have hf := ite_t c8 hf
    refine AW.lift (fun _ _ _ _ k => lv_tableIn (pc := 11) (tgt := 177) (off := 166) X.2.2.1 X.2.2.2.1 dX1_account_11 (by rw [c8]; decide) (by rw [c8]; decide) (by rw [c8]; rfl) rfl k) ?_
    refine a_aload_n (pc := 177) X dX1_account_177 rfl hl 0 rfl ?_
    refine a_get (pc := 178) (φ := 200) pR_t X Z.1.2.1 (gw X.1 X.2.1 q309) (fun _ q => q) (by decide) dX1_account_178 hf (fun x178 hf => ?_)
    refine a_getN (pc := 181) (φ := 304) pR_t X Z.1.2.1 (gnF X.1 X.2.1 q237) (fun _ q => q) (by decide) dX1_account_181 hf (fun x181 hf => ?_)
    refine AW.lift (fun _ _ _ _ k => lv_iconst (pc := 184) (v := (-1 : Int32)) X.2.2.1 X.2.2.2.1 dX1_account_184 rfl k) ?_
    obtain ⟨a185, rfl, ⟨hk, hf⟩ | ⟨-, hf⟩⟩ := dv_some hf
    rotate_left
    · exact fl_none hf
    refine a_callb (pc := 185) (rs := []) (avs := [vR (some a185), vI (-1 : Int32)]) Z.1 (w_X3_ofSize GA (some a185) (-1 : Int32)) (Or.inl rfl) q2293 q79 (by decide) (by decide) dX1_account_185 hl.1 (Nat.le_of_ble_eq_true rfl) hf (ct_V hk ⟨by decide, by decide⟩ X (Or.inl rfl) q2293 q2647 q2291 q2292 hy_X3_ofSize np_X3_ofSize rfl dX1_account_185) (fun q h he hX => a_out (unc_of Z.2.1 rfl) Z.2.2.2.1 he hX) (fun x185 h hf => ?kk185)
    refine AW.eq (g2 := F0 m 188 ls [.int x185]) rfl ?_
    refine AW.lift (fun _ _ _ _ k => lv_goto (pc := 188) (tgt := 282) X.2.2.1 X.2.2.2.1 dX1_account_188 rfl k) ?_
    exact a_ireturn X Z.2.2.1 Z.2.2.2.1 dX1_account_282 hf
  have hf := ite_f c8 hf
  by_cases c9 : v1 = (9 : Int32)
  · have hf := ite_t c9 hf
    refine AW.lift (fun _ _ _ _ k => lv_tableIn (pc := 11) (tgt := 191) (off := 180) X.2.2.1 X.2.2.2.1 dX1_account_11 (by rw [c9]; decide) (by rw [c9]; decide) (by rw [c9]; rfl) rfl k) ?_
    refine a_aload_n (pc := 191) X dX1_account_191 rfl hl 0 rfl ?_
    refine a_get (pc := 192) (φ := 200) pR_t X Z.1.2.1 (gw X.1 X.2.1 q309) (fun _ q => q) (by decide) dX1_account_192 hf (fun x192 hf => ?_)
    refine a_getN (pc := 195) (φ := 306) pI_t X Z.1.2.1 (gnF X.1 X.2.1 q241) (fun _ q => q) (by decide) dX1_account_195 hf (fun x195 hf => ?_)
    refine AW.lift (fun _ _ _ _ k => lv_goto (pc := 198) (tgt := 282) X.2.2.1 X.2.2.2.1 dX1_account_198 rfl k) ?_
    exact a_ireturn X Z.2.2.1 Z.2.2.2.1 dX1_account_282 hf
  have hf := ite_f c9 hf
  by_cases c10 : v1 = (10 : Int32)
  · have hf := ite_t c10 hf
    refine AW.lift (fun _ _ _ _ k => lv_tableIn (pc := 11) (tgt := 201) (off := 190) X.2.2.1 X.2.2.2.1 dX1_account_11 (by rw [c10]; decide) (by rw [c10]; decide) (by rw [c10]; rfl) rfl k) ?_
    refine a_aload_n (pc := 201) X dX1_account_201 rfl hl 0 rfl ?_
    refine a_get (pc := 202) (φ := 200) pR_t X Z.1.2.1 (gw X.1 X.2.1 q309) (fun _ q => q) (by decide) dX1_account_202 hf (fun x202 hf => ?_)
    refine a_getN (pc := 205) (φ := 307) pI_t X Z.1.2.1 (gnF X.1 X.2.1 q243) (fun _ q => q) (by decide) dX1_account_205 hf (fun x205 hf => ?_)
    refine AW.lift (fun _ _ _ _ k => lv_goto (pc := 208) (tgt := 282) X.2.2.1 X.2.2.2.1 dX1_account_208 rfl k) ?_
    exact a_ireturn X Z.2.2.1 Z.2.2.2.1 dX1_account_282 hf
  have hf := ite_f c10 hf
  by_cases c11 : v1 = (11 : Int32)
  · have hf := ite_t c11 hf
    refine AW.lift (fun _ _ _ _ k => lv_tableIn (pc := 11) (tgt := 211) (off := 200) X.2.2.1 X.2.2.2.1 dX1_account_11 (by rw [c11]; decide) (by rw [c11]; decide) (by rw [c11]; rfl) rfl k) ?_
    refine a_aload_n (pc := 211) X dX1_account_211 rfl hl 0 rfl ?_
    refine a_get (pc := 212) (φ := 200) pR_t X Z.1.2.1 (gw X.1 X.2.1 q309) (fun _ q => q) (by decide) dX1_account_212 hf (fun x212 hf => ?_)
    refine a_getN (pc := 215) (φ := 303) pR_t X Z.1.2.1 (gnF X.1 X.2.1 q235) (fun _ q => q) (by decide) dX1_account_215 hf (fun x215 hf => ?_)
    obtain ⟨a218, rfl, ⟨hk, hf⟩ | ⟨-, hf⟩⟩ := dv_some hf
    rotate_left
    · exact fl_none hf
    refine a_callb (pc := 218) (rs := []) (avs := [vR (some a218)]) Z.1 (w_J2_size GA (some a218)) (Or.inl rfl) q1012 q78 (by decide) (by decide) dX1_account_218 hl.1 (Nat.le_of_ble_eq_true rfl) hf (ct_V hk ⟨by decide, by decide⟩ X (Or.inl rfl) q1012 q1705 q1011 q3486 hy_J2_size np_J2_size rfl dX1_account_218) (fun q h he hX => a_out (unc_of Z.2.1 rfl) Z.2.2.2.1 he hX) (fun x218 h hf => ?kk218)
    refine AW.eq (g2 := F0 m 221 ls [.int x218]) rfl ?_
    refine AW.lift (fun _ _ _ _ k => lv_goto (pc := 221) (tgt := 282) X.2.2.1 X.2.2.2.1 dX1_account_221 rfl k) ?_
    exact a_ireturn X Z.2.2.1 Z.2.2.2.1 dX1_account_282 hf
  have hf := ite_f c11 hf
  by_cases c12 : v1 = (12 : Int32)
  · have hf := ite_t c12 hf
    refine AW.lift (fun _ _ _ _ k => lv_tableIn (pc := 11) (tgt := 224) (off := 213) X.2.2.1 X.2.2.2.1 dX1_account_11 (by rw [c12]; decide) (by rw [c12]; decide) (by rw [c12]; rfl) rfl k) ?_
    refine a_aload_n (pc := 224) X dX1_account_224 rfl hl 0 rfl ?_
    refine a_get (pc := 225) (φ := 200) pR_t X Z.1.2.1 (gw X.1 X.2.1 q309) (fun _ q => q) (by decide) dX1_account_225 hf (fun x225 hf => ?_)
    refine a_iload_n (pc := 228) X dX1_account_228 rfl hl 1 rfl ?_
    refine AW.lift (fun _ _ _ _ k => lv_bipush (pc := 229) (v := (12 : Int32)) X.2.2.1 X.2.2.2.1 dX1_account_229 rfl k) ?_
    refine AW.lift (fun _ _ _ _ k => lv_isub (pc := 231) X.2.2.1 X.2.2.2.1 dX1_account_231 k) ?_
    obtain ⟨a232, rfl, ⟨hk, hf⟩ | ⟨-, hf⟩⟩ := dv_some hf
    rotate_left
    · exact fl_none hf
    refine a_callb (pc := 232) (rs := []) (avs := [vR (some a232), vI (v1 - (12 : Int32))]) Z.1 (w_X2_partiesIn GA (some a232) (v1 - (12 : Int32))) (Or.inl rfl) q2406 q75 (by decide) (by decide) dX1_account_232 hl.1 (Nat.le_of_ble_eq_true rfl) hf (ct_V hk ⟨by decide, by decide⟩ X (Or.inl rfl) q2406 q2648 q2404 q2405 hy_X2_partiesIn np_X2_partiesIn rfl dX1_account_232) (fun q h he hX => a_out (unc_of Z.2.1 rfl) Z.2.2.2.1 he hX) (fun x232 h hf => ?kk232)
    refine AW.eq (g2 := F0 m 235 ls [.int x232]) rfl ?_
    refine AW.lift (fun _ _ _ _ k => lv_goto (pc := 235) (tgt := 282) X.2.2.1 X.2.2.2.1 dX1_account_235 rfl k) ?_
    exact a_ireturn X Z.2.2.1 Z.2.2.2.1 dX1_account_282 hf
  have hf := ite_f c12 hf
  by_cases c13 : v1 = (13 : Int32)
  · have hf := ite_t c13 hf
    refine AW.lift (fun _ _ _ _ k => lv_tableIn (pc := 11) (tgt := 224) (off := 213) X.2.2.1 X.2.2.2.1 dX1_account_11 (by rw [c13]; decide) (by rw [c13]; decide) (by rw [c13]; rfl) rfl k) ?_
    refine a_aload_n (pc := 224) X dX1_account_224 rfl hl 0 rfl ?_
    refine a_get (pc := 225) (φ := 200) pR_t X Z.1.2.1 (gw X.1 X.2.1 q309) (fun _ q => q) (by decide) dX1_account_225 hf (fun x225 hf => ?_)
    refine a_iload_n (pc := 228) X dX1_account_228 rfl hl 1 rfl ?_
    refine AW.lift (fun _ _ _ _ k => lv_bipush (pc := 229) (v := (12 : Int32)) X.2.2.1 X.2.2.2.1 dX1_account_229 rfl k) ?_
    refine AW.lift (fun _ _ _ _ k => lv_isub (pc := 231) X.2.2.1 X.2.2.2.1 dX1_account_231 k) ?_
    obtain ⟨a232, rfl, ⟨hk, hf⟩ | ⟨-, hf⟩⟩ := dv_some hf
    rotate_left
    · exact fl_none hf
    refine a_callb (pc := 232) (rs := []) (avs := [vR (some a232), vI (v1 - (12 : Int32))]) Z.1 (w_X2_partiesIn GA (some a232) (v1 - (12 : Int32))) (Or.inl rfl) q2406 q75 (by decide) (by decide) dX1_account_232 hl.1 (Nat.le_of_ble_eq_true rfl) hf (ct_V hk ⟨by decide, by decide⟩ X (Or.inl rfl) q2406 q2648 q2404 q2405 hy_X2_partiesIn np_X2_partiesIn rfl dX1_account_232) (fun q h he hX => a_out (unc_of Z.2.1 rfl) Z.2.2.2.1 he hX) (fun x232 h hf => ?kk232x1)
    refine AW.eq (g2 := F0 m 235 ls [.int x232]) rfl ?_
    refine AW.lift (fun _ _ _ _ k => lv_goto (pc := 235) (tgt := 282) X.2.2.1 X.2.2.2.1 dX1_account_235 rfl k) ?_
    exact a_ireturn X Z.2.2.1 Z.2.2.2.1 dX1_account_282 hf
  have hf := ite_f c13 hf
  by_cases c14 : v1 = (14 : Int32)
  · have hf := ite_t c14 hf
    refine AW.lift (fun _ _ _ _ k => lv_tableIn (pc := 11) (tgt := 224) (off := 213) X.2.2.1 X.2.2.2.1 dX1_account_11 (by rw [c14]; decide) (by rw [c14]; decide) (by rw [c14]; rfl) rfl k) ?_
    refine a_aload_n (pc := 224) X dX1_account_224 rfl hl 0 rfl ?_
    refine a_get (pc := 225) (φ := 200) pR_t X Z.1.2.1 (gw X.1 X.2.1 q309) (fun _ q => q) (by decide) dX1_account_225 hf (fun x225 hf => ?_)
    refine a_iload_n (pc := 228) X dX1_account_228 rfl hl 1 rfl ?_
    refine AW.lift (fun _ _ _ _ k => lv_bipush (pc := 229) (v := (12 : Int32)) X.2.2.1 X.2.2.2.1 dX1_account_229 rfl k) ?_
    refine AW.lift (fun _ _ _ _ k => lv_isub (pc := 231) X.2.2.1 X.2.2.2.1 dX1_account_231 k) ?_
    obtain ⟨a232, rfl, ⟨hk, hf⟩ | ⟨-, hf⟩⟩ := dv_some hf
    rotate_left
    · exact fl_none hf
    refine a_callb (pc := 232) (rs := []) (avs := [vR (some a232), vI (v1 - (12 : Int32))]) Z.1 (w_X2_partiesIn GA (some a232) (v1 - (12 : Int32))) (Or.inl rfl) q2406 q75 (by decide) (by decide) dX1_account_232 hl.1 (Nat.le_of_ble_eq_true rfl) hf (ct_V hk ⟨by decide, by decide⟩ X (Or.inl rfl) q2406 q2648 q2404 q2405 hy_X2_partiesIn np_X2_partiesIn rfl dX1_account_232) (fun q h he hX => a_out (unc_of Z.2.1 rfl) Z.2.2.2.1 he hX) (fun x232 h hf => ?kk232x2)
    refine AW.eq (g2 := F0 m 235 ls [.int x232]) rfl ?_
    refine AW.lift (fun _ _ _ _ k => lv_goto (pc := 235) (tgt := 282) X.2.2.1 X.2.2.2.1 dX1_account_235 rfl k) ?_
    exact a_ireturn X Z.2.2.1 Z.2.2.2.1 dX1_account_282 hf
  have hf := ite_f c14 hf
  by_cases c15 : v1 = (15 : Int32)
  · have hf := ite_t c15 hf
    refine AW.lift (fun _ _ _ _ k => lv_tableIn (pc := 11) (tgt := 238) (off := 227) X.2.2.1 X.2.2.2.1 dX1_account_11 (by rw [c15]; decide) (by rw [c15]; decide) (by rw [c15]; rfl) rfl k) ?_
    refine a_aload_n (pc := 238) X dX1_account_238 rfl hl 0 rfl ?_
    refine a_get (pc := 239) (φ := 200) pR_t X Z.1.2.1 (gw X.1 X.2.1 q309) (fun _ q => q) (by decide) dX1_account_239 hf (fun x239 hf => ?_)
    refine a_getN (pc := 242) (φ := 308) pI_t X Z.1.2.1 (gnF X.1 X.2.1 q245) (fun _ q => q) (by decide) dX1_account_242 hf (fun x242 hf => ?_)
    refine AW.lift (fun _ _ _ _ k => lv_goto (pc := 245) (tgt := 282) X.2.2.1 X.2.2.2.1 dX1_account_245 rfl k) ?_
    exact a_ireturn X Z.2.2.1 Z.2.2.2.1 dX1_account_282 hf
  have hf := ite_f c15 hf
  by_cases c16 : v1 = (16 : Int32)
  · have hf := ite_t c16 hf
    refine AW.lift (fun _ _ _ _ k => lv_tableIn (pc := 11) (tgt := 248) (off := 237) X.2.2.1 X.2.2.2.1 dX1_account_11 (by rw [c16]; decide) (by rw [c16]; decide) (by rw [c16]; rfl) rfl k) ?_
    refine a_aload_n (pc := 248) X dX1_account_248 rfl hl 0 rfl ?_
    refine a_get (pc := 249) (φ := 200) pR_t X Z.1.2.1 (gw X.1 X.2.1 q309) (fun _ q => q) (by decide) dX1_account_249 hf (fun x249 hf => ?_)
    refine a_getN (pc := 252) (φ := 309) pI_t X Z.1.2.1 (gnF X.1 X.2.1 q247) (fun _ q => q) (by decide) dX1_account_252 hf (fun x252 hf => ?_)
    refine AW.lift (fun _ _ _ _ k => lv_goto (pc := 255) (tgt := 282) X.2.2.1 X.2.2.2.1 dX1_account_255 rfl k) ?_
    exact a_ireturn X Z.2.2.1 Z.2.2.2.1 dX1_account_282 hf
  have hf := ite_f c16 hf
  by_cases c17 : v1 = (17 : Int32)
  · have hf := ite_t c17 hf
    refine AW.lift (fun _ _ _ _ k => lv_tableIn (pc := 11) (tgt := 258) (off := 247) X.2.2.1 X.2.2.2.1 dX1_account_11 (by rw [c17]; decide) (by rw [c17]; decide) (by rw [c17]; rfl) rfl k) ?_
    refine a_aload_n (pc := 258) X dX1_account_258 rfl hl 0 rfl ?_
    refine a_get (pc := 259) (φ := 200) pR_t X Z.1.2.1 (gw X.1 X.2.1 q309) (fun _ q => q) (by decide) dX1_account_259 hf (fun x259 hf => ?_)
    refine a_getN (pc := 262) (φ := 310) pI_t X Z.1.2.1 (gnF X.1 X.2.1 q249) (fun _ q => q) (by decide) dX1_account_262 hf (fun x262 hf => ?_)
    refine AW.lift (fun _ _ _ _ k => lv_goto (pc := 265) (tgt := 282) X.2.2.1 X.2.2.2.1 dX1_account_265 rfl k) ?_
    exact a_ireturn X Z.2.2.1 Z.2.2.2.1 dX1_account_282 hf
  have hf := ite_f c17 hf
  by_cases c18 : v1 = (18 : Int32)
  · have hf := ite_t c18 hf
    refine AW.lift (fun _ _ _ _ k => lv_tableIn (pc := 11) (tgt := 268) (off := 257) X.2.2.1 X.2.2.2.1 dX1_account_11 (by rw [c18]; decide) (by rw [c18]; decide) (by rw [c18]; rfl) rfl k) ?_
    refine a_aload_n (pc := 268) X dX1_account_268 rfl hl 0 rfl ?_
    refine a_get (pc := 269) (φ := 205) pI_t X Z.1.2.1 (gw X.1 X.2.1 q314) (fun _ q => q) (by decide) dX1_account_269 hf (fun x269 hf => ?_)
    refine AW.lift (fun _ _ _ _ k => lv_goto (pc := 272) (tgt := 282) X.2.2.1 X.2.2.2.1 dX1_account_272 rfl k) ?_
    exact a_ireturn X Z.2.2.1 Z.2.2.2.1 dX1_account_282 hf
  have hf := ite_f c18 hf
  have n0 := lv_neT (a := 0) c0 rfl
  have n1 := lv_neT (a := 1) c1 rfl
  have n2 := lv_neT (a := 2) c2 rfl
  have n3 := lv_neT (a := 3) c3 rfl
  have n4 := lv_neT (a := 4) c4 rfl
  have n5 := lv_neT (a := 5) c5 rfl
  have n6 := lv_neT (a := 6) c6 rfl
  have n7 := lv_neT (a := 7) c7 rfl
  have n8 := lv_neT (a := 8) c8 rfl
  have n9 := lv_neT (a := 9) c9 rfl
  have n10 := lv_neT (a := 10) c10 rfl
  have n11 := lv_neT (a := 11) c11 rfl
  have n12 := lv_neT (a := 12) c12 rfl
  have n13 := lv_neT (a := 13) c13 rfl
  have n14 := lv_neT (a := 14) c14 rfl
  have n15 := lv_neT (a := 15) c15 rfl
  have n16 := lv_neT (a := 16) c16 rfl
  have n17 := lv_neT (a := 17) c17 rfl
  have n18 := lv_neT (a := 18) c18 rfl
  refine AW.lift (fun _ _ _ _ k => lv_tableOut (pc := 11) (tgt := 275) X.2.2.1 X.2.2.2.1 dX1_account_11 (by omega) rfl k) ?_
  refine a_aload_n (pc := 275) X dX1_account_275 rfl hl 0 rfl ?_
  refine a_get (pc := 276) (φ := 202) pR_t X Z.1.2.1 (gw X.1 X.2.1 q311) (fun _ q => q) (by decide) dX1_account_276 hf (fun x276 hf => ?_)
  obtain ⟨a279, rfl, ⟨hk, hf⟩ | ⟨-, hf⟩⟩ := dv_some hf
  rotate_left
  · exact fl_none hf
  refine a_callb (pc := 279) (rs := []) (avs := [vR (some a279)]) Z.1 (w_J2_size GA (some a279)) (Or.inl rfl) q1012 q78 (by decide) (by decide) dX1_account_279 hl.1 (Nat.le_of_ble_eq_true rfl) hf (ct_V hk ⟨by decide, by decide⟩ X (Or.inl rfl) q1012 q1705 q1011 q3486 hy_J2_size np_J2_size rfl dX1_account_279) (fun q h he hX => a_out (unc_of Z.2.1 rfl) Z.2.2.2.1 he hX) (fun x279 h hf => ?kk279)
  refine AW.eq (g2 := F0 m 282 ls [.int x279]) rfl ?_
  exact a_ireturn X Z.2.2.1 Z.2.2.2.1 dX1_account_282 hf
theorem np_X0_account : npar yX0_account.desc 3 := by unfold npar; decide +kernel
theorem hy_X0_account : yX0_account.cls ≠ "java/lang/invoke/MethodHandle" ∧ yX0_account.cls ≠ "java/lang/invoke/VarHandle" := by decide +kernel
theorem w_X0_account (GA : GA l s0 a0 K lam) (v0 : Option Nat) (v1 : Int32) (v2 : Option Nat) : AMet l s0 K lam yX0_account (Cond.codeWith yX0_account cX0_account (4 : Nat) (Option.some ClassFile.FieldType.int) [((0 : Nat), (9 : Nat), (12 : Nat), (28 : Nat))]) 13 3109 [vR v0, vI v1, vR v2] oI (f_X0_account K v0 v1 v2) := by
  refine AMet.ofW GA.1 (plainFor_of_name (by decide +kernel)) (Nat.le_of_ble_eq_true rfl) ?_
  intro b r hf p e s m args below meth c X hr hlk hnm hnd ht ls hl
  have Z : WZ l s0 a0 K p s m c cX0_account yX0_account.cls 4 b { frames := 13, cells := K 0 - aX b, slots := K 1 - aW b, locals := 3109 } 13 3109 meth [(0, 9, 12, 28)] (some (.int)) yX0_account := ⟨⟨X, GA.2.1, GA.2.2.1, rfl, rfl, Nat.le_refl _, Nat.le_refl _⟩, ht, hr, hlk, hnm, hnd⟩
  unfold f_X0_account at hf
  clear hr hlk hnm hnd ht
  refine a_aload_n (pc := 0) X dX0_account_0 rfl hl 2 rfl ?_
  refine AW.lift (fun _ _ _ _ k => lv_iconst (pc := 1) (v := (0 : Int32)) X.2.2.1 X.2.2.2.1 dX0_account_1 rfl k) ?_
  refine a_aload_n (pc := 2) X dX0_account_2 rfl hl 0 rfl ?_
  refine a_iload_n (pc := 3) X dX0_account_3 rfl hl 1 rfl ?_
  obtain ⟨a4, rfl, ⟨hk, hf⟩ | ⟨-, hf⟩⟩ := dv_tsome hf
  rotate_left
  · exact fl_tnone hf
  refine a_callt (pc := 4) (rs := [vI (0 : Int32), vR v2]) (avs := [vR (some a4), vI v1]) Z.1 (w_X1_account GA (some a4) v1) (Or.inl rfl) q2637 q74 (by decide) (by decide) dX0_account_4 hl.1 (Nat.le_of_ble_eq_true rfl) hf (ct_V hk ⟨by decide, by decide⟩ X (Or.inl rfl) q2637 q2634 q2635 q2636 hy_X1_account np_X1_account rfl dX0_account_4) (fun q h hf hX => ?hx4) (fun x4 h hf => ?kk4)
  case hx4 =>
    rcases ctc_some hf with ⟨hy, hf⟩ | ⟨hn0, hf⟩
    · refine a_catchH (st := 0) (en := 9) (hp := 12) (ct := 28) (pre := []) (suf := []) X hX Z.2.1 rfl (fun z hz => nomatch hz) (by decide) (Or.inr ⟨by decide, _, gw X.1 X.2.1 q1873, (cs_X17 GA) _ hy⟩) (AW.eq (g2 := F0 m 12 ls [va_rf (some q)]) rfl ?_)
      refine a_astore_n (pc := 12) X dX0_account_12 rfl hl (by decide) (lv' := [(3, vR (some q)), (0, vR (some a4)), (1, vI v1), (2, vR v2)]) rfl (fun ls hl => ?_)
      refine AW.lift (fun _ _ _ _ k => lv_iconst (pc := 13) (v := (1 : Int32)) X.2.2.1 X.2.2.2.1 dX0_account_13 rfl k) ?_
      exact a_ireturn X Z.2.2.1 Z.2.2.2.1 dX0_account_14 hf
    · skip
      exact a_outH X Z.2.1 (by intro z hz; simp only [List.mem_cons, List.not_mem_nil, or_false] at hz; rcases hz with rfl <;> first | exact Or.inl (by decide) | exact Or.inr ⟨by decide, _, gw X.1 X.2.1 q1873, (nc_12_13_14_16_18_19_20_21_java_lang_IllegalArgumentException GA _ (by simpa using hn0)).2.2⟩) Z.2.2.2.1 (th_eq hf) hX
  refine AW.eq (g2 := F0 m 7 ls [.int x4, .int (0 : Int32), va_rf v2]) rfl ?_
  refine AW.lift (fun _ _ _ _ k => lv_i2l (pc := 7) X.2.2.1 X.2.2.2.1 dX0_account_7 rfl k) ?_
  refine a_lastore (pc := 8) X dX0_account_8 hf (fun h hf => ?_)
  refine AW.lift (fun _ _ _ _ k => lv_goto (pc := 9) (tgt := 15) X.2.2.1 X.2.2.2.1 dX0_account_9 rfl k) ?_
  refine AW.lift (fun _ _ _ _ k => lv_iconst (pc := 15) (v := (0 : Int32)) X.2.2.1 X.2.2.2.1 dX0_account_15 rfl k) ?_
  exact a_ireturn X Z.2.2.1 Z.2.2.2.1 dX0_account_16 hf
theorem w_X4_openMats_b4 {r : Except Nat (Int32) × AH} (GA : GA l s0 a0 K lam) (Z : WZ l s0 a0 K p s m c cX4_openMats yX4_openMats.cls 3 b R 1 20 meth [] (some (.int)) yX4_openMats) (v0 : Option Nat) (v1 : Int32) (v2 : Int32)  (rc4 : Int32 → Int32 → AM (Int32)) (hrc4 : ∀ (v1 : Int32) (v2 : Int32) (h : AH) (ls : Array Slot), LV ls 3 [(0, vR v0), (1, vI v1), (2, vI v2)] → rc4 v1 v2 h = some r → AW s0 K lam p l e R s m args below meth c (AQ s0 K lam below oI b r s) b h (F0 m 4 ls [])) {h : AH} {ls : Array Slot} (hl : LV ls 3 [(0, vR v0), (1, vI v1), (2, vI v2)]) (hf : f_X4_openMats_b4 K rc4 v0 v1 v2 h = some r) : AW s0 K lam p l e R s m args below meth c (AQ s0 K lam below oI b r s) b h (F0 m 4 ls []) := by
  unfold f_X4_openMats_b4 at hf
  have X := Z.1.1
  refine a_iload_n (pc := 4) X dX4_openMats_4 rfl hl 2 rfl ?_
  refine a_aload_n (pc := 5) X dX4_openMats_5 rfl hl 0 rfl ?_
  refine a_get (pc := 6) (φ := 100) pR_t X Z.1.2.1 (gw X.1 X.2.1 q3025) (fun _ q => q) (by decide) dX4_openMats_6 hf (fun x6 hf => ?_)
  refine AW.lift (fun _ _ _ _ k => lv_iconst (pc := 9) (v := (1 : Int32)) X.2.2.1 X.2.2.2.1 dX4_openMats_9 rfl k) ?_
  refine a_iaload (pc := 10) X dX4_openMats_10 hf (fun x10 hf => ?_)
  refine AW.lift2 (fun _ _ _ _ k1 k2 => lv_icmp_ge (pc := 11) (tgt := 35) X.2.2.1 X.2.2.2.1 dX4_openMats_11 rfl k1 k2) (fun c => ?_) (fun c => ?_)
  · have hf := ite_t c hf
    refine a_iload_n (pc := 35) X dX4_openMats_35 rfl hl 1 rfl ?_
    exact a_ireturn X Z.2.2.1 Z.2.2.2.1 dX4_openMats_36 hf
  · have hf := ite_f c hf
    refine a_iload_n (pc := 14) X dX4_openMats_14 rfl hl 1 rfl ?_
    refine a_aload_n (pc := 15) X dX4_openMats_15 rfl hl 0 rfl ?_
    refine a_get (pc := 16) (φ := 100) pR_t X Z.1.2.1 (gw X.1 X.2.1 q3025) (fun _ q => q) (by decide) dX4_openMats_16 hf (fun x16 hf => ?_)
    refine a_iload_n (pc := 19) X dX4_openMats_19 rfl hl 2 rfl ?_
    refine a_callb (pc := 20) (rs := [vR x16, vI v1]) (avs := [vI v2]) Z.1 (w_X4_of GA v2) (Or.inl rfl) q3123 q86 (by decide) (by decide) dX4_openMats_20 hl.1 (Nat.le_of_ble_eq_true rfl) hf (ct_S X (Or.inl rfl) q3123 q86 q3121 q3122 hy_X4_of np_X4_of rfl dX4_openMats_20) (fun q h he hX => a_out (unc_of Z.2.1 rfl) Z.2.2.2.1 he hX) (fun x20 h hf => ?kk20)
    refine AW.eq (g2 := F0 m 23 ls [.int x20, va_rf x16, .int v1]) rfl ?_
    refine AW.lift (fun _ _ _ _ k => lv_bipush (pc := 23) (v := (8 : Int32)) X.2.2.1 X.2.2.2.1 dX4_openMats_23 rfl k) ?_
    refine AW.lift (fun _ _ _ _ k => lv_iadd (pc := 25) X.2.2.1 X.2.2.2.1 dX4_openMats_25 k) ?_
    refine a_iaload (pc := 26) X dX4_openMats_26 hf (fun x26 hf => ?_)
    refine AW.lift (fun _ _ _ _ k => lv_iadd (pc := 27) X.2.2.1 X.2.2.2.1 dX4_openMats_27 k) ?_
    refine a_istore_n (pc := 28) X dX4_openMats_28 rfl hl (by decide) (lv' := [(1, vI (v1 + x26)), (0, vR v0), (2, vI v2)]) rfl (fun ls hl => ?_)
    refine a_iinc (pc := 29) (v := (v2 + (1 : Int32))) X dX4_openMats_29 hl (k := 2) rfl rfl (by decide) (lv' := [(2, vI (v2 + (1 : Int32))), (1, vI (v1 + x26)), (0, vR v0)]) rfl (fun ls hl => ?_)
    refine AW.lift (fun _ _ _ _ k => lv_goto (pc := 32) (tgt := 4) X.2.2.1 X.2.2.2.1 dX4_openMats_32 rfl k) ?_
    exact hrc4 (v1 + x26) (v2 + (1 : Int32)) _ _ (hl.sub [2, 1, 0] rfl) hf
theorem w_X4_openMats_l4 {r : Except Nat (Int32) × AH} (GA : GA l s0 a0 K lam) (Z : WZ l s0 a0 K p s m c cX4_openMats yX4_openMats.cls 3 b R 1 20 meth [] (some (.int)) yX4_openMats) (v0 : Option Nat)  : ∀ (n : Nat) (v1 : Int32) (v2 : Int32) (h : AH) (ls : Array Slot), LV ls 3 [(0, vR v0), (1, vI v1), (2, vI v2)] → f_X4_openMats_l4 K v0 n v1 v2 h = some r → AW s0 K lam p l e R s m args below meth c (AQ s0 K lam below oI b r s) b h (F0 m 4 ls []) := by
  intro n
  induction n with
  | zero => intro v1 v2 h ls hl hf; exact fl_no (h := h) hf
  | succ n ih => intro v1 v2 h ls hl hf; exact w_X4_openMats_b4 GA Z v0 v1 v2 (f_X4_openMats_l4 K v0 n) ih hl hf
theorem np_X4_openMats : npar yX4_openMats.desc 0 := by unfold npar; decide +kernel
theorem hy_X4_openMats : yX4_openMats.cls ≠ "java/lang/invoke/MethodHandle" ∧ yX4_openMats.cls ≠ "java/lang/invoke/VarHandle" := by decide +kernel
theorem w_X4_openMats (GA : GA l s0 a0 K lam) (v0 : Option Nat) : AMet l s0 K lam yX4_openMats (Cond.code yX4_openMats cX4_openMats (3 : Nat) (Option.some ClassFile.FieldType.int)) 1 20 [vR v0] oI (f_X4_openMats K v0) := by
  refine AMet.of GA.1 (plainFor_of_name (by decide +kernel)) (Nat.le_of_ble_eq_true rfl) ?_
  intro b r hf p e s m args below meth c X hr hlk hnm hnd ht ls hl
  have Z : WZ l s0 a0 K p s m c cX4_openMats yX4_openMats.cls 3 b { frames := 1, cells := K 0 - aX b, slots := K 1 - aW b, locals := 20 } 1 20 meth [] (some (.int)) yX4_openMats := ⟨⟨X, GA.2.1, GA.2.2.1, rfl, rfl, Nat.le_refl _, Nat.le_refl _⟩, tab_nil ht, hr, hlk, hnm, hnd⟩
  unfold f_X4_openMats at hf
  clear hr hlk hnm hnd ht
  refine AW.lift (fun _ _ _ _ k => lv_iconst (pc := 0) (v := (0 : Int32)) X.2.2.1 X.2.2.2.1 dX4_openMats_0 rfl k) ?_
  refine a_istore_n (pc := 1) X dX4_openMats_1 rfl hl (by decide) (lv' := [(1, vI (0 : Int32)), (0, vR v0)]) rfl (fun ls hl => ?_)
  refine AW.lift (fun _ _ _ _ k => lv_iconst (pc := 2) (v := (0 : Int32)) X.2.2.1 X.2.2.2.1 dX4_openMats_2 rfl k) ?_
  refine a_istore_n (pc := 3) X dX4_openMats_3 rfl hl (by decide) (lv' := [(2, vI (0 : Int32)), (1, vI (0 : Int32)), (0, vR v0)]) rfl (fun ls hl => ?_)
  exact w_X4_openMats_l4 GA Z v0  FU (0 : Int32) (0 : Int32) _ _ (hl.sub [2, 1, 0] rfl) hf
theorem w_X4_withSocks_j35 {r : Except Nat (Int32) × AH} (GA : GA l s0 a0 K lam) (Z : WZ l s0 a0 K p s m c cX4_withSocks yX4_withSocks.cls 3 b R 1 20 meth [] (some (.int)) yX4_withSocks) (v0 : Option Nat) (v2 : Int32) (t0 : Int32) (t1 : Int32) (rc4 : Int32 → Int32 → AM (Int32)) (hrc4 : ∀ (v1 : Int32) (v2 : Int32) (h : AH) (ls : Array Slot), LV ls 3 [(0, vR v0), (1, vI v1), (2, vI v2)] → rc4 v1 v2 h = some r → AW s0 K lam p l e R s m args below meth c (AQ s0 K lam below oI b r s) b h (F0 m 4 ls [])) {h : AH} {ls : Array Slot} (hl : LV ls 3 [(0, vR v0), (2, vI v2)]) (hf : f_X4_withSocks_j35 K rc4 v0 v2 t0 t1 h = some r) : AW s0 K lam p l e R s m args below meth c (AQ s0 K lam below oI b r s) b h (F0 m 35 ls [.int t0, .int t1]) := by
  unfold f_X4_withSocks_j35 at hf
  have X := Z.1.1
  refine AW.lift (fun _ _ _ _ k => lv_iadd (pc := 35) X.2.2.1 X.2.2.2.1 dX4_withSocks_35 k) ?_
  refine a_istore_n (pc := 36) X dX4_withSocks_36 rfl hl (by decide) (lv' := [(1, vI (t1 + t0)), (0, vR v0), (2, vI v2)]) rfl (fun ls hl => ?_)
  refine a_iinc (pc := 37) (v := (v2 + (1 : Int32))) X dX4_withSocks_37 hl (k := 2) rfl rfl (by decide) (lv' := [(2, vI (v2 + (1 : Int32))), (1, vI (t1 + t0)), (0, vR v0)]) rfl (fun ls hl => ?_)
  refine AW.lift (fun _ _ _ _ k => lv_goto (pc := 40) (tgt := 4) X.2.2.1 X.2.2.2.1 dX4_withSocks_40 rfl k) ?_
  exact hrc4 (t1 + t0) (v2 + (1 : Int32)) _ _ (hl.sub [2, 1, 0] rfl) hf
theorem w_X4_withSocks_b4 {r : Except Nat (Int32) × AH} (GA : GA l s0 a0 K lam) (Z : WZ l s0 a0 K p s m c cX4_withSocks yX4_withSocks.cls 3 b R 1 20 meth [] (some (.int)) yX4_withSocks) (v0 : Option Nat) (v1 : Int32) (v2 : Int32)  (rc4 : Int32 → Int32 → AM (Int32)) (hrc4 : ∀ (v1 : Int32) (v2 : Int32) (h : AH) (ls : Array Slot), LV ls 3 [(0, vR v0), (1, vI v1), (2, vI v2)] → rc4 v1 v2 h = some r → AW s0 K lam p l e R s m args below meth c (AQ s0 K lam below oI b r s) b h (F0 m 4 ls [])) {h : AH} {ls : Array Slot} (hl : LV ls 3 [(0, vR v0), (1, vI v1), (2, vI v2)]) (hf : f_X4_withSocks_b4 K rc4 v0 v1 v2 h = some r) : AW s0 K lam p l e R s m args below meth c (AQ s0 K lam below oI b r s) b h (F0 m 4 ls []) := by
  unfold f_X4_withSocks_b4 at hf
  have X := Z.1.1
  refine a_iload_n (pc := 4) X dX4_withSocks_4 rfl hl 2 rfl ?_
  refine a_aload_n (pc := 5) X dX4_withSocks_5 rfl hl 0 rfl ?_
  refine a_get (pc := 6) (φ := 100) pR_t X Z.1.2.1 (gw X.1 X.2.1 q3025) (fun _ q => q) (by decide) dX4_withSocks_6 hf (fun x6 hf => ?_)
  refine AW.lift (fun _ _ _ _ k => lv_iconst (pc := 9) (v := (2 : Int32)) X.2.2.1 X.2.2.2.1 dX4_withSocks_9 rfl k) ?_
  refine a_iaload (pc := 10) X dX4_withSocks_10 hf (fun x10 hf => ?_)
  refine AW.lift2 (fun _ _ _ _ k1 k2 => lv_icmp_ge (pc := 11) (tgt := 43) X.2.2.1 X.2.2.2.1 dX4_withSocks_11 rfl k1 k2) (fun c => ?_) (fun c => ?_)
  · have hf := ite_t c hf
    refine a_iload_n (pc := 43) X dX4_withSocks_43 rfl hl 1 rfl ?_
    exact a_ireturn X Z.2.2.1 Z.2.2.2.1 dX4_withSocks_44 hf
  · have hf := ite_f c hf
    refine a_iload_n (pc := 14) X dX4_withSocks_14 rfl hl 1 rfl ?_
    refine a_aload_n (pc := 15) X dX4_withSocks_15 rfl hl 0 rfl ?_
    refine a_get (pc := 16) (φ := 100) pR_t X Z.1.2.1 (gw X.1 X.2.1 q3025) (fun _ q => q) (by decide) dX4_withSocks_16 hf (fun x16 hf => ?_)
    refine a_iload_n (pc := 19) X dX4_withSocks_19 rfl hl 2 rfl ?_
    refine a_callb (pc := 20) (rs := [vR x16, vI v1]) (avs := [vI v2]) Z.1 (w_X4_at0 GA v2) (Or.inl rfl) q3154 q86 (by decide) (by decide) dX4_withSocks_20 hl.1 (Nat.le_of_ble_eq_true rfl) hf (ct_S X (Or.inl rfl) q3154 q86 q3152 q3153 hy_X4_at0 np_X4_at0 rfl dX4_withSocks_20) (fun q h he hX => a_out (unc_of Z.2.1 rfl) Z.2.2.2.1 he hX) (fun x20 h hf => ?kk20)
    refine AW.eq (g2 := F0 m 23 ls [.int x20, va_rf x16, .int v1]) rfl ?_
    refine AW.lift (fun _ _ _ _ k => lv_iconst (pc := 23) (v := (4 : Int32)) X.2.2.1 X.2.2.2.1 dX4_withSocks_23 rfl k) ?_
    refine AW.lift (fun _ _ _ _ k => lv_iadd (pc := 24) X.2.2.1 X.2.2.2.1 dX4_withSocks_24 k) ?_
    refine a_iaload (pc := 25) X dX4_withSocks_25 hf (fun x25 hf => ?_)
    refine AW.lift (fun _ _ _ _ k => lv_iconst (pc := 26) (v := (-1 : Int32)) X.2.2.1 X.2.2.2.1 dX4_withSocks_26 rfl k) ?_
    refine AW.lift2 (fun _ _ _ _ k1 k2 => lv_icmp_ne (pc := 27) (tgt := 34) X.2.2.1 X.2.2.2.1 dX4_withSocks_27 rfl k2 k1) (fun c => ?_) (fun c => ?_)
    · have hf := ite_t c hf
      refine AW.lift (fun _ _ _ _ k => lv_iconst (pc := 30) (v := (0 : Int32)) X.2.2.1 X.2.2.2.1 dX4_withSocks_30 rfl k) ?_
      refine AW.lift (fun _ _ _ _ k => lv_goto (pc := 31) (tgt := 35) X.2.2.1 X.2.2.2.1 dX4_withSocks_31 rfl k) ?_
      exact w_X4_withSocks_j35 GA Z v0 v2 (0 : Int32) v1 rc4 hrc4 (hl.sub [0, 2] rfl) hf
    · have hf := ite_f c hf
      refine AW.lift (fun _ _ _ _ k => lv_iconst (pc := 34) (v := (1 : Int32)) X.2.2.1 X.2.2.2.1 dX4_withSocks_34 rfl k) ?_
      exact w_X4_withSocks_j35 GA Z v0 v2 (1 : Int32) v1 rc4 hrc4 (hl.sub [0, 2] rfl) hf
theorem w_X4_withSocks_l4 {r : Except Nat (Int32) × AH} (GA : GA l s0 a0 K lam) (Z : WZ l s0 a0 K p s m c cX4_withSocks yX4_withSocks.cls 3 b R 1 20 meth [] (some (.int)) yX4_withSocks) (v0 : Option Nat)  : ∀ (n : Nat) (v1 : Int32) (v2 : Int32) (h : AH) (ls : Array Slot), LV ls 3 [(0, vR v0), (1, vI v1), (2, vI v2)] → f_X4_withSocks_l4 K v0 n v1 v2 h = some r → AW s0 K lam p l e R s m args below meth c (AQ s0 K lam below oI b r s) b h (F0 m 4 ls []) := by
  intro n
  induction n with
  | zero => intro v1 v2 h ls hl hf; exact fl_no (h := h) hf
  | succ n ih => intro v1 v2 h ls hl hf; exact w_X4_withSocks_b4 GA Z v0 v1 v2 (f_X4_withSocks_l4 K v0 n) ih hl hf
theorem np_X4_withSocks : npar yX4_withSocks.desc 0 := by unfold npar; decide +kernel
theorem hy_X4_withSocks : yX4_withSocks.cls ≠ "java/lang/invoke/MethodHandle" ∧ yX4_withSocks.cls ≠ "java/lang/invoke/VarHandle" := by decide +kernel
theorem w_X4_withSocks (GA : GA l s0 a0 K lam) (v0 : Option Nat) : AMet l s0 K lam yX4_withSocks (Cond.code yX4_withSocks cX4_withSocks (3 : Nat) (Option.some ClassFile.FieldType.int)) 1 20 [vR v0] oI (f_X4_withSocks K v0) := by
  refine AMet.of GA.1 (plainFor_of_name (by decide +kernel)) (Nat.le_of_ble_eq_true rfl) ?_
  intro b r hf p e s m args below meth c X hr hlk hnm hnd ht ls hl
  have Z : WZ l s0 a0 K p s m c cX4_withSocks yX4_withSocks.cls 3 b { frames := 1, cells := K 0 - aX b, slots := K 1 - aW b, locals := 20 } 1 20 meth [] (some (.int)) yX4_withSocks := ⟨⟨X, GA.2.1, GA.2.2.1, rfl, rfl, Nat.le_refl _, Nat.le_refl _⟩, tab_nil ht, hr, hlk, hnm, hnd⟩
  unfold f_X4_withSocks at hf
  clear hr hlk hnm hnd ht
  refine AW.lift (fun _ _ _ _ k => lv_iconst (pc := 0) (v := (0 : Int32)) X.2.2.1 X.2.2.2.1 dX4_withSocks_0 rfl k) ?_
  refine a_istore_n (pc := 1) X dX4_withSocks_1 rfl hl (by decide) (lv' := [(1, vI (0 : Int32)), (0, vR v0)]) rfl (fun ls hl => ?_)
  refine AW.lift (fun _ _ _ _ k => lv_iconst (pc := 2) (v := (0 : Int32)) X.2.2.1 X.2.2.2.1 dX4_withSocks_2 rfl k) ?_
  refine a_istore_n (pc := 3) X dX4_withSocks_3 rfl hl (by decide) (lv' := [(2, vI (0 : Int32)), (1, vI (0 : Int32)), (0, vR v0)]) rfl (fun ls hl => ?_)
  exact w_X4_withSocks_l4 GA Z v0  FU (0 : Int32) (0 : Int32) _ _ (hl.sub [2, 1, 0] rfl) hf
theorem w_X4_pairs_b4 {r : Except Nat (Int32) × AH} (GA : GA l s0 a0 K lam) (Z : WZ l s0 a0 K p s m c cX4_pairs yX4_pairs.cls 4 b R 1 22 meth [] (some (.int)) yX4_pairs) (v0 : Option Nat) (v1 : Int32) (v2 : Int32) (v3 : Int32)  (rc4 : Int32 → Int32 → AM (Int32)) (hrc4 : ∀ (v2 : Int32) (v3 : Int32) (h : AH) (ls : Array Slot), LV ls 4 [(0, vR v0), (1, vI v1), (2, vI v2), (3, vI v3)] → rc4 v2 v3 h = some r → AW s0 K lam p l e R s m args below meth c (AQ s0 K lam below oI b r s) b h (F0 m 4 ls [])) {h : AH} {ls : Array Slot} (hl : LV ls 4 [(0, vR v0), (1, vI v1), (2, vI v2), (3, vI v3)]) (hf : f_X4_pairs_b4 K rc4 v0 v1 v2 v3 h = some r) : AW s0 K lam p l e R s m args below meth c (AQ s0 K lam below oI b r s) b h (F0 m 4 ls []) := by
  unfold f_X4_pairs_b4 at hf
  have X := Z.1.1
  refine a_iload_n (pc := 4) X dX4_pairs_4 rfl hl 3 rfl ?_
  refine AW.lift (fun _ _ _ _ k => lv_iconst (pc := 5) (v := (5 : Int32)) X.2.2.1 X.2.2.2.1 dX4_pairs_5 rfl k) ?_
  refine AW.lift2 (fun _ _ _ _ k1 k2 => lv_icmp_ge (pc := 6) (tgt := 24) X.2.2.1 X.2.2.2.1 dX4_pairs_6 rfl k1 k2) (fun c => ?_) (fun c => ?_)
  · have hf := ite_t c hf
    refine a_iload_n (pc := 24) X dX4_pairs_24 rfl hl 2 rfl ?_
    exact a_ireturn X Z.2.2.1 Z.2.2.2.1 dX4_pairs_25 hf
  · have hf := ite_f c hf
    refine a_iload_n (pc := 9) X dX4_pairs_9 rfl hl 2 rfl ?_
    refine a_aload_n (pc := 10) X dX4_pairs_10 rfl hl 0 rfl ?_
    refine a_iload_n (pc := 11) X dX4_pairs_11 rfl hl 1 rfl ?_
    refine a_iload_n (pc := 12) X dX4_pairs_12 rfl hl 3 rfl ?_
    obtain ⟨a13, rfl, ⟨hk, hf⟩ | ⟨-, hf⟩⟩ := dv_some hf
    rotate_left
    · exact fl_none hf
    refine a_callb (pc := 13) (rs := [vI v2]) (avs := [vR (some a13), vI v1, vI v3]) Z.1 (w_X4_ofSize GA (some a13) v1 v3) (Or.inl rfl) q3266 q86 (by decide) (by decide) dX4_pairs_13 hl.1 (Nat.le_of_ble_eq_true rfl) hf (ct_V hk ⟨by decide, by decide⟩ X (Or.inl rfl) q3266 q3263 q3265 pv_50 hy_X4_ofSize np_X4_ofSize rfl dX4_pairs_13) (fun q h he hX => a_out (unc_of Z.2.1 rfl) Z.2.2.2.1 he hX) (fun x13 h hf => ?kk13)
    refine AW.eq (g2 := F0 m 16 ls [.int x13, .int v2]) rfl ?_
    refine AW.lift (fun _ _ _ _ k => lv_iadd (pc := 16) X.2.2.1 X.2.2.2.1 dX4_pairs_16 k) ?_
    refine a_istore_n (pc := 17) X dX4_pairs_17 rfl hl (by decide) (lv' := [(2, vI (v2 + x13)), (0, vR (some a13)), (1, vI v1), (3, vI v3)]) rfl (fun ls hl => ?_)
    refine a_iinc (pc := 18) (v := (v3 + (1 : Int32))) X dX4_pairs_18 hl (k := 3) rfl rfl (by decide) (lv' := [(3, vI (v3 + (1 : Int32))), (2, vI (v2 + x13)), (0, vR (some a13)), (1, vI v1)]) rfl (fun ls hl => ?_)
    refine AW.lift (fun _ _ _ _ k => lv_goto (pc := 21) (tgt := 4) X.2.2.1 X.2.2.2.1 dX4_pairs_21 rfl k) ?_
    exact hrc4 (v2 + x13) (v3 + (1 : Int32)) _ _ (hl.sub [2, 3, 1, 0] rfl) hf
theorem w_X4_pairs_l4 {r : Except Nat (Int32) × AH} (GA : GA l s0 a0 K lam) (Z : WZ l s0 a0 K p s m c cX4_pairs yX4_pairs.cls 4 b R 1 22 meth [] (some (.int)) yX4_pairs) (v0 : Option Nat) (v1 : Int32)  : ∀ (n : Nat) (v2 : Int32) (v3 : Int32) (h : AH) (ls : Array Slot), LV ls 4 [(0, vR v0), (1, vI v1), (2, vI v2), (3, vI v3)] → f_X4_pairs_l4 K v0 v1 n v2 v3 h = some r → AW s0 K lam p l e R s m args below meth c (AQ s0 K lam below oI b r s) b h (F0 m 4 ls []) := by
  intro n
  induction n with
  | zero => intro v2 v3 h ls hl hf; exact fl_no (h := h) hf
  | succ n ih => intro v2 v3 h ls hl hf; exact w_X4_pairs_b4 GA Z v0 v1 v2 v3 (f_X4_pairs_l4 K v0 v1 n) ih hl hf
theorem np_X4_pairs : npar yX4_pairs.desc 1 := by unfold npar; decide +kernel
theorem hy_X4_pairs : yX4_pairs.cls ≠ "java/lang/invoke/MethodHandle" ∧ yX4_pairs.cls ≠ "java/lang/invoke/VarHandle" := by decide +kernel
theorem w_X4_pairs (GA : GA l s0 a0 K lam) (v0 : Option Nat) (v1 : Int32) : AMet l s0 K lam yX4_pairs (Cond.code yX4_pairs cX4_pairs (4 : Nat) (Option.some ClassFile.FieldType.int)) 1 22 [vR v0, vI v1] oI (f_X4_pairs K v0 v1) := by
  refine AMet.of GA.1 (plainFor_of_name (by decide +kernel)) (Nat.le_of_ble_eq_true rfl) ?_
  intro b r hf p e s m args below meth c X hr hlk hnm hnd ht ls hl
  have Z : WZ l s0 a0 K p s m c cX4_pairs yX4_pairs.cls 4 b { frames := 1, cells := K 0 - aX b, slots := K 1 - aW b, locals := 22 } 1 22 meth [] (some (.int)) yX4_pairs := ⟨⟨X, GA.2.1, GA.2.2.1, rfl, rfl, Nat.le_refl _, Nat.le_refl _⟩, tab_nil ht, hr, hlk, hnm, hnd⟩
  unfold f_X4_pairs at hf
  clear hr hlk hnm hnd ht
  refine AW.lift (fun _ _ _ _ k => lv_iconst (pc := 0) (v := (0 : Int32)) X.2.2.1 X.2.2.2.1 dX4_pairs_0 rfl k) ?_
  refine a_istore_n (pc := 1) X dX4_pairs_1 rfl hl (by decide) (lv' := [(2, vI (0 : Int32)), (0, vR v0), (1, vI v1)]) rfl (fun ls hl => ?_)
  refine AW.lift (fun _ _ _ _ k => lv_iconst (pc := 2) (v := (0 : Int32)) X.2.2.1 X.2.2.2.1 dX4_pairs_2 rfl k) ?_
  refine a_istore_n (pc := 3) X dX4_pairs_3 rfl hl (by decide) (lv' := [(3, vI (0 : Int32)), (2, vI (0 : Int32)), (0, vR v0), (1, vI v1)]) rfl (fun ls hl => ?_)
  exact w_X4_pairs_l4 GA Z v0 v1  FU (0 : Int32) (0 : Int32) _ _ (hl.sub [2, 3, 1, 0] rfl) hf
theorem np_X4_account : npar yX4_account.desc 1 := by unfold npar; decide +kernel
theorem hy_X4_account : yX4_account.cls ≠ "java/lang/invoke/MethodHandle" ∧ yX4_account.cls ≠ "java/lang/invoke/VarHandle" := by decide +kernel
theorem w_X4_account (GA : GA l s0 a0 K lam) (v0 : Option Nat) (v1 : Int32) : AMet l s0 K lam yX4_account (Cond.code yX4_account cX4_account (2 : Nat) (Option.some ClassFile.FieldType.int)) 3 65 [vR v0, vI v1] oI (f_X4_account K v0 v1) := by
  refine AMet.of GA.1 (plainFor_of_name (by decide +kernel)) (Nat.le_of_ble_eq_true rfl) ?_
  intro b r hf p e s m args below meth c X hr hlk hnm hnd ht ls hl
  have Z : WZ l s0 a0 K p s m c cX4_account yX4_account.cls 2 b { frames := 3, cells := K 0 - aX b, slots := K 1 - aW b, locals := 65 } 3 65 meth [] (some (.int)) yX4_account := ⟨⟨X, GA.2.1, GA.2.2.1, rfl, rfl, Nat.le_refl _, Nat.le_refl _⟩, tab_nil ht, hr, hlk, hnm, hnd⟩
  unfold f_X4_account at hf
  clear hr hlk hnm hnd ht
  refine a_aload_n (pc := 0) X dX4_account_0 rfl hl 0 rfl ?_
  refine AW.lift (fun _ _ _ _ k => lv_iconst (pc := 1) (v := (0 : Int32)) X.2.2.1 X.2.2.2.1 dX4_account_1 rfl k) ?_
  refine a_put (pc := 2) (φ := 107) X Z.1.2.1 Z.1.2.2.1 (gw X.1 X.2.1 q3032) (fun _ q => q) (by decide) rfl rfl dX4_account_2 hf (fun h hf => ?_)
  refine a_iload_n (pc := 5) X dX4_account_5 rfl hl 1 rfl ?_
  by_cases c0 : v1 = (0 : Int32)
  · have hf := ite_t c0 hf
    refine AW.lift (fun _ _ _ _ k => lv_tableIn (pc := 6) (tgt := 100) (off := 94) X.2.2.1 X.2.2.2.1 dX4_account_6 (by rw [c0]; decide) (by rw [c0]; decide) (by rw [c0]; rfl) rfl k) ?_
    refine a_aload_n (pc := 100) X dX4_account_100 rfl hl 0 rfl ?_
    refine a_get (pc := 101) (φ := 100) pR_t X Z.1.2.1 (gw X.1 X.2.1 q3025) (fun _ q => q) (by decide) dX4_account_101 hf (fun x101 hf => ?_)
    refine AW.lift (fun _ _ _ _ k => lv_iconst (pc := 104) (v := (1 : Int32)) X.2.2.1 X.2.2.2.1 dX4_account_104 rfl k) ?_
    refine a_iaload (pc := 105) X dX4_account_105 hf (fun x105 hf => ?_)
    exact a_ireturn X Z.2.2.1 Z.2.2.2.1 dX4_account_106 hf
  have hf := ite_f c0 hf
  by_cases c1 : v1 = (1 : Int32)
  · have hf := ite_t c1 hf
    refine AW.lift (fun _ _ _ _ k => lv_tableIn (pc := 6) (tgt := 107) (off := 101) X.2.2.1 X.2.2.2.1 dX4_account_6 (by rw [c1]; decide) (by rw [c1]; decide) (by rw [c1]; rfl) rfl k) ?_
    refine a_aload_n (pc := 107) X dX4_account_107 rfl hl 0 rfl ?_
    obtain ⟨a108, rfl, ⟨hk, hf⟩ | ⟨-, hf⟩⟩ := dv_some hf
    rotate_left
    · exact fl_none hf
    refine a_callb (pc := 108) (rs := []) (avs := [vR (some a108)]) Z.1 (w_X4_openMats GA (some a108)) (Or.inl rfl) q3393 q86 (by decide) (by decide) dX4_account_108 hl.1 (Nat.le_of_ble_eq_true rfl) hf (ct_V hk ⟨by decide, by decide⟩ X (Or.inl rfl) q3393 q3390 q3392 pv_62 hy_X4_openMats np_X4_openMats rfl dX4_account_108) (fun q h he hX => a_out (unc_of Z.2.1 rfl) Z.2.2.2.1 he hX) (fun x108 h hf => ?kk108)
    refine AW.eq (g2 := F0 m 111 ls [.int x108]) rfl ?_
    exact a_ireturn X Z.2.2.1 Z.2.2.2.1 dX4_account_111 hf
  have hf := ite_f c1 hf
  by_cases c2 : v1 = (2 : Int32)
  · have hf := ite_t c2 hf
    refine AW.lift (fun _ _ _ _ k => lv_tableIn (pc := 6) (tgt := 112) (off := 106) X.2.2.1 X.2.2.2.1 dX4_account_6 (by rw [c2]; decide) (by rw [c2]; decide) (by rw [c2]; rfl) rfl k) ?_
    refine a_aload_n (pc := 112) X dX4_account_112 rfl hl 0 rfl ?_
    obtain ⟨a113, rfl, ⟨hk, hf⟩ | ⟨-, hf⟩⟩ := dv_some hf
    rotate_left
    · exact fl_none hf
    refine a_callb (pc := 113) (rs := []) (avs := [vR (some a113)]) Z.1 (w_X4_allBroken GA (some a113)) (Or.inl rfl) q3385 q86 (by decide) (by decide) dX4_account_113 hl.1 (Nat.le_of_ble_eq_true rfl) hf (ct_V hk ⟨by decide, by decide⟩ X (Or.inl rfl) q3385 q3382 q3384 pv_61 hy_X4_allBroken np_X4_allBroken rfl dX4_account_113) (fun q h he hX => a_out (unc_of Z.2.1 rfl) Z.2.2.2.1 he hX) (fun x113 h hf => ?kk113)
    refine AW.eq (g2 := F0 m 116 ls [.int x113]) rfl ?_
    exact a_ireturn X Z.2.2.1 Z.2.2.2.1 dX4_account_116 hf
  have hf := ite_f c2 hf
  by_cases c3 : v1 = (3 : Int32)
  · have hf := ite_t c3 hf
    refine AW.lift (fun _ _ _ _ k => lv_tableIn (pc := 6) (tgt := 117) (off := 111) X.2.2.1 X.2.2.2.1 dX4_account_6 (by rw [c3]; decide) (by rw [c3]; decide) (by rw [c3]; rfl) rfl k) ?_
    refine a_aload_n (pc := 117) X dX4_account_117 rfl hl 0 rfl ?_
    refine a_get (pc := 118) (φ := 100) pR_t X Z.1.2.1 (gw X.1 X.2.1 q3025) (fun _ q => q) (by decide) dX4_account_118 hf (fun x118 hf => ?_)
    refine AW.lift (fun _ _ _ _ k => lv_iconst (pc := 121) (v := (2 : Int32)) X.2.2.1 X.2.2.2.1 dX4_account_121 rfl k) ?_
    refine a_iaload (pc := 122) X dX4_account_122 hf (fun x122 hf => ?_)
    exact a_ireturn X Z.2.2.1 Z.2.2.2.1 dX4_account_123 hf
  have hf := ite_f c3 hf
  by_cases c4 : v1 = (4 : Int32)
  · have hf := ite_t c4 hf
    refine AW.lift (fun _ _ _ _ k => lv_tableIn (pc := 6) (tgt := 124) (off := 118) X.2.2.1 X.2.2.2.1 dX4_account_6 (by rw [c4]; decide) (by rw [c4]; decide) (by rw [c4]; rfl) rfl k) ?_
    refine a_aload_n (pc := 124) X dX4_account_124 rfl hl 0 rfl ?_
    refine a_iload_n (pc := 125) X dX4_account_125 rfl hl 1 rfl ?_
    refine AW.lift (fun _ _ _ _ k => lv_iconst (pc := 126) (v := (4 : Int32)) X.2.2.1 X.2.2.2.1 dX4_account_126 rfl k) ?_
    refine AW.lift (fun _ _ _ _ k => lv_isub (pc := 127) X.2.2.1 X.2.2.2.1 dX4_account_127 k) ?_
    obtain ⟨a128, rfl, ⟨hk, hf⟩ | ⟨-, hf⟩⟩ := dv_some hf
    rotate_left
    · exact fl_none hf
    refine a_callb (pc := 128) (rs := []) (avs := [vR (some a128), vI (v1 - (4 : Int32))]) Z.1 (w_X4_jumpersAt GA (some a128) (v1 - (4 : Int32))) (Or.inl rfl) q3245 q86 (by decide) (by decide) dX4_account_128 hl.1 (Nat.le_of_ble_eq_true rfl) hf (ct_V hk ⟨by decide, by decide⟩ X (Or.inl rfl) q3245 q3242 q3244 pv_48 hy_X4_jumpersAt np_X4_jumpersAt rfl dX4_account_128) (fun q h he hX => a_out (unc_of Z.2.1 rfl) Z.2.2.2.1 he hX) (fun x128 h hf => ?kk128)
    refine AW.eq (g2 := F0 m 131 ls [.int x128]) rfl ?_
    exact a_ireturn X Z.2.2.1 Z.2.2.2.1 dX4_account_131 hf
  have hf := ite_f c4 hf
  by_cases c5 : v1 = (5 : Int32)
  · have hf := ite_t c5 hf
    refine AW.lift (fun _ _ _ _ k => lv_tableIn (pc := 6) (tgt := 124) (off := 118) X.2.2.1 X.2.2.2.1 dX4_account_6 (by rw [c5]; decide) (by rw [c5]; decide) (by rw [c5]; rfl) rfl k) ?_
    refine a_aload_n (pc := 124) X dX4_account_124 rfl hl 0 rfl ?_
    refine a_iload_n (pc := 125) X dX4_account_125 rfl hl 1 rfl ?_
    refine AW.lift (fun _ _ _ _ k => lv_iconst (pc := 126) (v := (4 : Int32)) X.2.2.1 X.2.2.2.1 dX4_account_126 rfl k) ?_
    refine AW.lift (fun _ _ _ _ k => lv_isub (pc := 127) X.2.2.1 X.2.2.2.1 dX4_account_127 k) ?_
    obtain ⟨a128, rfl, ⟨hk, hf⟩ | ⟨-, hf⟩⟩ := dv_some hf
    rotate_left
    · exact fl_none hf
    refine a_callb (pc := 128) (rs := []) (avs := [vR (some a128), vI (v1 - (4 : Int32))]) Z.1 (w_X4_jumpersAt GA (some a128) (v1 - (4 : Int32))) (Or.inl rfl) q3245 q86 (by decide) (by decide) dX4_account_128 hl.1 (Nat.le_of_ble_eq_true rfl) hf (ct_V hk ⟨by decide, by decide⟩ X (Or.inl rfl) q3245 q3242 q3244 pv_48 hy_X4_jumpersAt np_X4_jumpersAt rfl dX4_account_128) (fun q h he hX => a_out (unc_of Z.2.1 rfl) Z.2.2.2.1 he hX) (fun x128 h hf => ?kk128x1)
    refine AW.eq (g2 := F0 m 131 ls [.int x128]) rfl ?_
    exact a_ireturn X Z.2.2.1 Z.2.2.2.1 dX4_account_131 hf
  have hf := ite_f c5 hf
  by_cases c6 : v1 = (6 : Int32)
  · have hf := ite_t c6 hf
    refine AW.lift (fun _ _ _ _ k => lv_tableIn (pc := 6) (tgt := 124) (off := 118) X.2.2.1 X.2.2.2.1 dX4_account_6 (by rw [c6]; decide) (by rw [c6]; decide) (by rw [c6]; rfl) rfl k) ?_
    refine a_aload_n (pc := 124) X dX4_account_124 rfl hl 0 rfl ?_
    refine a_iload_n (pc := 125) X dX4_account_125 rfl hl 1 rfl ?_
    refine AW.lift (fun _ _ _ _ k => lv_iconst (pc := 126) (v := (4 : Int32)) X.2.2.1 X.2.2.2.1 dX4_account_126 rfl k) ?_
    refine AW.lift (fun _ _ _ _ k => lv_isub (pc := 127) X.2.2.1 X.2.2.2.1 dX4_account_127 k) ?_
    obtain ⟨a128, rfl, ⟨hk, hf⟩ | ⟨-, hf⟩⟩ := dv_some hf
    rotate_left
    · exact fl_none hf
    refine a_callb (pc := 128) (rs := []) (avs := [vR (some a128), vI (v1 - (4 : Int32))]) Z.1 (w_X4_jumpersAt GA (some a128) (v1 - (4 : Int32))) (Or.inl rfl) q3245 q86 (by decide) (by decide) dX4_account_128 hl.1 (Nat.le_of_ble_eq_true rfl) hf (ct_V hk ⟨by decide, by decide⟩ X (Or.inl rfl) q3245 q3242 q3244 pv_48 hy_X4_jumpersAt np_X4_jumpersAt rfl dX4_account_128) (fun q h he hX => a_out (unc_of Z.2.1 rfl) Z.2.2.2.1 he hX) (fun x128 h hf => ?kk128x2)
    refine AW.eq (g2 := F0 m 131 ls [.int x128]) rfl ?_
    exact a_ireturn X Z.2.2.1 Z.2.2.2.1 dX4_account_131 hf
  have hf := ite_f c6 hf
  by_cases c7 : v1 = (7 : Int32)
  · have hf := ite_t c7 hf
    refine AW.lift (fun _ _ _ _ k => lv_tableIn (pc := 6) (tgt := 132) (off := 126) X.2.2.1 X.2.2.2.1 dX4_account_6 (by rw [c7]; decide) (by rw [c7]; decide) (by rw [c7]; rfl) rfl k) ?_
    refine a_aload_n (pc := 132) X dX4_account_132 rfl hl 0 rfl ?_
    obtain ⟨a133, rfl, ⟨hk, hf⟩ | ⟨-, hf⟩⟩ := dv_some hf
    rotate_left
    · exact fl_none hf
    refine a_callb (pc := 133) (rs := []) (avs := [vR (some a133)]) Z.1 (w_X4_withSocks GA (some a133)) (Or.inl rfl) q3397 q86 (by decide) (by decide) dX4_account_133 hl.1 (Nat.le_of_ble_eq_true rfl) hf (ct_V hk ⟨by decide, by decide⟩ X (Or.inl rfl) q3397 q3394 q3396 pv_63 hy_X4_withSocks np_X4_withSocks rfl dX4_account_133) (fun q h he hX => a_out (unc_of Z.2.1 rfl) Z.2.2.2.1 he hX) (fun x133 h hf => ?kk133)
    refine AW.eq (g2 := F0 m 136 ls [.int x133]) rfl ?_
    exact a_ireturn X Z.2.2.1 Z.2.2.2.1 dX4_account_136 hf
  have hf := ite_f c7 hf
  by_cases c8 : v1 = (8 : Int32)
  · have hf := ite_t c8 hf
    refine AW.lift (fun _ _ _ _ k => lv_tableIn (pc := 6) (tgt := 137) (off := 131) X.2.2.1 X.2.2.2.1 dX4_account_6 (by rw [c8]; decide) (by rw [c8]; decide) (by rw [c8]; rfl) rfl k) ?_
    refine a_aload_n (pc := 137) X dX4_account_137 rfl hl 0 rfl ?_
    refine AW.lift (fun _ _ _ _ k => lv_sipush (pc := 138) (v := (152 : Int32)) X.2.2.1 X.2.2.2.1 dX4_account_138 rfl k) ?_
    obtain ⟨a141, rfl, ⟨hk, hf⟩ | ⟨-, hf⟩⟩ := dv_some hf
    rotate_left
    · exact fl_none hf
    refine a_callb (pc := 141) (rs := []) (avs := [vR (some a141), vI (152 : Int32)]) Z.1 (w_X4_pairs GA (some a141) (152 : Int32)) (Or.inl rfl) q3401 q86 (by decide) (by decide) dX4_account_141 hl.1 (Nat.le_of_ble_eq_true rfl) hf (ct_V hk ⟨by decide, by decide⟩ X (Or.inl rfl) q3401 q3398 q3400 pv_64 hy_X4_pairs np_X4_pairs rfl dX4_account_141) (fun q h he hX => a_out (unc_of Z.2.1 rfl) Z.2.2.2.1 he hX) (fun x141 h hf => ?kk141)
    refine AW.eq (g2 := F0 m 144 ls [.int x141]) rfl ?_
    exact a_ireturn X Z.2.2.1 Z.2.2.2.1 dX4_account_144 hf
  have hf := ite_f c8 hf
  by_cases c9 : v1 = (9 : Int32)
  · have hf := ite_t c9 hf
    refine AW.lift (fun _ _ _ _ k => lv_tableIn (pc := 6) (tgt := 145) (off := 139) X.2.2.1 X.2.2.2.1 dX4_account_6 (by rw [c9]; decide) (by rw [c9]; decide) (by rw [c9]; rfl) rfl k) ?_
    refine a_aload_n (pc := 145) X dX4_account_145 rfl hl 0 rfl ?_
    refine AW.lift (fun _ _ _ _ k => lv_sipush (pc := 146) (v := (167 : Int32)) X.2.2.1 X.2.2.2.1 dX4_account_146 rfl k) ?_
    obtain ⟨a149, rfl, ⟨hk, hf⟩ | ⟨-, hf⟩⟩ := dv_some hf
    rotate_left
    · exact fl_none hf
    refine a_callb (pc := 149) (rs := []) (avs := [vR (some a149), vI (167 : Int32)]) Z.1 (w_X4_pairs GA (some a149) (167 : Int32)) (Or.inl rfl) q3401 q86 (by decide) (by decide) dX4_account_149 hl.1 (Nat.le_of_ble_eq_true rfl) hf (ct_V hk ⟨by decide, by decide⟩ X (Or.inl rfl) q3401 q3398 q3400 pv_64 hy_X4_pairs np_X4_pairs rfl dX4_account_149) (fun q h he hX => a_out (unc_of Z.2.1 rfl) Z.2.2.2.1 he hX) (fun x149 h hf => ?kk149)
    refine AW.eq (g2 := F0 m 152 ls [.int x149]) rfl ?_
    exact a_ireturn X Z.2.2.1 Z.2.2.2.1 dX4_account_152 hf
  have hf := ite_f c9 hf
  by_cases c10 : v1 = (10 : Int32)
  · have hf := ite_t c10 hf
    refine AW.lift (fun _ _ _ _ k => lv_tableIn (pc := 6) (tgt := 153) (off := 147) X.2.2.1 X.2.2.2.1 dX4_account_6 (by rw [c10]; decide) (by rw [c10]; decide) (by rw [c10]; rfl) rfl k) ?_
    refine a_aload_n (pc := 153) X dX4_account_153 rfl hl 0 rfl ?_
    refine a_get (pc := 154) (φ := 100) pR_t X Z.1.2.1 (gw X.1 X.2.1 q3025) (fun _ q => q) (by decide) dX4_account_154 hf (fun x154 hf => ?_)
    refine AW.lift (fun _ _ _ _ k => lv_iconst (pc := 157) (v := (5 : Int32)) X.2.2.1 X.2.2.2.1 dX4_account_157 rfl k) ?_
    refine a_iaload (pc := 158) X dX4_account_158 hf (fun x158 hf => ?_)
    exact a_ireturn X Z.2.2.1 Z.2.2.2.1 dX4_account_159 hf
  have hf := ite_f c10 hf
  by_cases c11 : v1 = (11 : Int32)
  · have hf := ite_t c11 hf
    refine AW.lift (fun _ _ _ _ k => lv_tableIn (pc := 6) (tgt := 160) (off := 154) X.2.2.1 X.2.2.2.1 dX4_account_6 (by rw [c11]; decide) (by rw [c11]; decide) (by rw [c11]; rfl) rfl k) ?_
    refine a_aload_n (pc := 160) X dX4_account_160 rfl hl 0 rfl ?_
    refine a_get (pc := 161) (φ := 100) pR_t X Z.1.2.1 (gw X.1 X.2.1 q3025) (fun _ q => q) (by decide) dX4_account_161 hf (fun x161 hf => ?_)
    refine AW.lift (fun _ _ _ _ k => lv_iconst (pc := 164) (v := (3 : Int32)) X.2.2.1 X.2.2.2.1 dX4_account_164 rfl k) ?_
    refine a_iaload (pc := 165) X dX4_account_165 hf (fun x165 hf => ?_)
    exact a_ireturn X Z.2.2.1 Z.2.2.2.1 dX4_account_166 hf
  have hf := ite_f c11 hf
  by_cases c12 : v1 = (12 : Int32)
  · have hf := ite_t c12 hf
    refine AW.lift (fun _ _ _ _ k => lv_tableIn (pc := 6) (tgt := 167) (off := 161) X.2.2.1 X.2.2.2.1 dX4_account_6 (by rw [c12]; decide) (by rw [c12]; decide) (by rw [c12]; rfl) rfl k) ?_
    refine a_aload_n (pc := 167) X dX4_account_167 rfl hl 0 rfl ?_
    refine a_iload_n (pc := 168) X dX4_account_168 rfl hl 1 rfl ?_
    refine AW.lift (fun _ _ _ _ k => lv_bipush (pc := 169) (v := (12 : Int32)) X.2.2.1 X.2.2.2.1 dX4_account_169 rfl k) ?_
    refine AW.lift (fun _ _ _ _ k => lv_isub (pc := 171) X.2.2.1 X.2.2.2.1 dX4_account_171 k) ?_
    obtain ⟨a172, rfl, ⟨hk, hf⟩ | ⟨-, hf⟩⟩ := dv_some hf
    rotate_left
    · exact fl_none hf
    refine a_callb (pc := 172) (rs := []) (avs := [vR (some a172), vI (v1 - (12 : Int32))]) Z.1 (w_X4_partiesAt GA (some a172) (v1 - (12 : Int32))) (Or.inl rfl) q3312 q86 (by decide) (by decide) dX4_account_172 hl.1 (Nat.le_of_ble_eq_true rfl) hf (ct_V hk ⟨by decide, by decide⟩ X (Or.inl rfl) q3312 q3309 q3311 pv_53 hy_X4_partiesAt np_X4_partiesAt rfl dX4_account_172) (fun q h he hX => a_out (unc_of Z.2.1 rfl) Z.2.2.2.1 he hX) (fun x172 h hf => ?kk172)
    refine AW.eq (g2 := F0 m 175 ls [.int x172]) rfl ?_
    exact a_ireturn X Z.2.2.1 Z.2.2.2.1 dX4_account_175 hf
  have hf := ite_f c12 hf
  by_cases c13 : v1 = (13 : Int32)
  · have hf := ite_t c13 hf
    refine AW.lift (fun _ _ _ _ k => lv_tableIn (pc := 6) (tgt := 167) (off := 161) X.2.2.1 X.2.2.2.1 dX4_account_6 (by rw [c13]; decide) (by rw [c13]; decide) (by rw [c13]; rfl) rfl k) ?_
    refine a_aload_n (pc := 167) X dX4_account_167 rfl hl 0 rfl ?_
    refine a_iload_n (pc := 168) X dX4_account_168 rfl hl 1 rfl ?_
    refine AW.lift (fun _ _ _ _ k => lv_bipush (pc := 169) (v := (12 : Int32)) X.2.2.1 X.2.2.2.1 dX4_account_169 rfl k) ?_
    refine AW.lift (fun _ _ _ _ k => lv_isub (pc := 171) X.2.2.1 X.2.2.2.1 dX4_account_171 k) ?_
    obtain ⟨a172, rfl, ⟨hk, hf⟩ | ⟨-, hf⟩⟩ := dv_some hf
    rotate_left
    · exact fl_none hf
    refine a_callb (pc := 172) (rs := []) (avs := [vR (some a172), vI (v1 - (12 : Int32))]) Z.1 (w_X4_partiesAt GA (some a172) (v1 - (12 : Int32))) (Or.inl rfl) q3312 q86 (by decide) (by decide) dX4_account_172 hl.1 (Nat.le_of_ble_eq_true rfl) hf (ct_V hk ⟨by decide, by decide⟩ X (Or.inl rfl) q3312 q3309 q3311 pv_53 hy_X4_partiesAt np_X4_partiesAt rfl dX4_account_172) (fun q h he hX => a_out (unc_of Z.2.1 rfl) Z.2.2.2.1 he hX) (fun x172 h hf => ?kk172x1)
    refine AW.eq (g2 := F0 m 175 ls [.int x172]) rfl ?_
    exact a_ireturn X Z.2.2.1 Z.2.2.2.1 dX4_account_175 hf
  have hf := ite_f c13 hf
  by_cases c14 : v1 = (14 : Int32)
  · have hf := ite_t c14 hf
    refine AW.lift (fun _ _ _ _ k => lv_tableIn (pc := 6) (tgt := 167) (off := 161) X.2.2.1 X.2.2.2.1 dX4_account_6 (by rw [c14]; decide) (by rw [c14]; decide) (by rw [c14]; rfl) rfl k) ?_
    refine a_aload_n (pc := 167) X dX4_account_167 rfl hl 0 rfl ?_
    refine a_iload_n (pc := 168) X dX4_account_168 rfl hl 1 rfl ?_
    refine AW.lift (fun _ _ _ _ k => lv_bipush (pc := 169) (v := (12 : Int32)) X.2.2.1 X.2.2.2.1 dX4_account_169 rfl k) ?_
    refine AW.lift (fun _ _ _ _ k => lv_isub (pc := 171) X.2.2.1 X.2.2.2.1 dX4_account_171 k) ?_
    obtain ⟨a172, rfl, ⟨hk, hf⟩ | ⟨-, hf⟩⟩ := dv_some hf
    rotate_left
    · exact fl_none hf
    refine a_callb (pc := 172) (rs := []) (avs := [vR (some a172), vI (v1 - (12 : Int32))]) Z.1 (w_X4_partiesAt GA (some a172) (v1 - (12 : Int32))) (Or.inl rfl) q3312 q86 (by decide) (by decide) dX4_account_172 hl.1 (Nat.le_of_ble_eq_true rfl) hf (ct_V hk ⟨by decide, by decide⟩ X (Or.inl rfl) q3312 q3309 q3311 pv_53 hy_X4_partiesAt np_X4_partiesAt rfl dX4_account_172) (fun q h he hX => a_out (unc_of Z.2.1 rfl) Z.2.2.2.1 he hX) (fun x172 h hf => ?kk172x2)
    refine AW.eq (g2 := F0 m 175 ls [.int x172]) rfl ?_
    exact a_ireturn X Z.2.2.1 Z.2.2.2.1 dX4_account_175 hf
  have hf := ite_f c14 hf
  by_cases c15 : v1 = (15 : Int32)
  · have hf := ite_t c15 hf
    refine AW.lift (fun _ _ _ _ k => lv_tableIn (pc := 6) (tgt := 176) (off := 170) X.2.2.1 X.2.2.2.1 dX4_account_6 (by rw [c15]; decide) (by rw [c15]; decide) (by rw [c15]; rfl) rfl k) ?_
    refine a_aload_n (pc := 176) X dX4_account_176 rfl hl 0 rfl ?_
    refine a_get (pc := 177) (φ := 100) pR_t X Z.1.2.1 (gw X.1 X.2.1 q3025) (fun _ q => q) (by decide) dX4_account_177 hf (fun x177 hf => ?_)
    refine AW.lift (fun _ _ _ _ k => lv_bipush (pc := 180) (v := (6 : Int32)) X.2.2.1 X.2.2.2.1 dX4_account_180 rfl k) ?_
    refine a_iaload (pc := 182) X dX4_account_182 hf (fun x182 hf => ?_)
    exact a_ireturn X Z.2.2.1 Z.2.2.2.1 dX4_account_183 hf
  have hf := ite_f c15 hf
  by_cases c16 : v1 = (16 : Int32)
  · have hf := ite_t c16 hf
    refine AW.lift (fun _ _ _ _ k => lv_tableIn (pc := 6) (tgt := 184) (off := 178) X.2.2.1 X.2.2.2.1 dX4_account_6 (by rw [c16]; decide) (by rw [c16]; decide) (by rw [c16]; rfl) rfl k) ?_
    refine a_aload_n (pc := 184) X dX4_account_184 rfl hl 0 rfl ?_
    refine a_get (pc := 185) (φ := 100) pR_t X Z.1.2.1 (gw X.1 X.2.1 q3025) (fun _ q => q) (by decide) dX4_account_185 hf (fun x185 hf => ?_)
    refine AW.lift (fun _ _ _ _ k => lv_bipush (pc := 188) (v := (7 : Int32)) X.2.2.1 X.2.2.2.1 dX4_account_188 rfl k) ?_
    refine a_iaload (pc := 190) X dX4_account_190 hf (fun x190 hf => ?_)
    exact a_ireturn X Z.2.2.1 Z.2.2.2.1 dX4_account_191 hf
  have hf := ite_f c16 hf
  by_cases c17 : v1 = (17 : Int32)
  · have hf := ite_t c17 hf
    refine AW.lift (fun _ _ _ _ k => lv_tableIn (pc := 6) (tgt := 192) (off := 186) X.2.2.1 X.2.2.2.1 dX4_account_6 (by rw [c17]; decide) (by rw [c17]; decide) (by rw [c17]; rfl) rfl k) ?_
    refine a_aload_n (pc := 192) X dX4_account_192 rfl hl 0 rfl ?_
    refine a_get (pc := 193) (φ := 100) pR_t X Z.1.2.1 (gw X.1 X.2.1 q3025) (fun _ q => q) (by decide) dX4_account_193 hf (fun x193 hf => ?_)
    refine AW.lift (fun _ _ _ _ k => lv_iconst (pc := 196) (v := (0 : Int32)) X.2.2.1 X.2.2.2.1 dX4_account_196 rfl k) ?_
    refine a_iaload (pc := 197) X dX4_account_197 hf (fun x197 hf => ?_)
    exact a_ireturn X Z.2.2.1 Z.2.2.2.1 dX4_account_198 hf
  have hf := ite_f c17 hf
  by_cases c18 : v1 = (18 : Int32)
  · have hf := ite_t c18 hf
    refine AW.lift (fun _ _ _ _ k => lv_tableIn (pc := 6) (tgt := 199) (off := 193) X.2.2.1 X.2.2.2.1 dX4_account_6 (by rw [c18]; decide) (by rw [c18]; decide) (by rw [c18]; rfl) rfl k) ?_
    refine a_aload_n (pc := 199) X dX4_account_199 rfl hl 0 rfl ?_
    refine a_get (pc := 200) (φ := 113) pI_t X Z.1.2.1 (gw X.1 X.2.1 q3038) (fun _ q => q) (by decide) dX4_account_200 hf (fun x200 hf => ?_)
    exact a_ireturn X Z.2.2.1 Z.2.2.2.1 dX4_account_203 hf
  have hf := ite_f c18 hf
  by_cases c19 : v1 = (19 : Int32)
  · have hf := ite_t c19 hf
    refine AW.lift (fun _ _ _ _ k => lv_tableIn (pc := 6) (tgt := 204) (off := 198) X.2.2.1 X.2.2.2.1 dX4_account_6 (by rw [c19]; decide) (by rw [c19]; decide) (by rw [c19]; rfl) rfl k) ?_
    refine a_aload_n (pc := 204) X dX4_account_204 rfl hl 0 rfl ?_
    refine a_get (pc := 205) (φ := 106) pI_t X Z.1.2.1 (gw X.1 X.2.1 q3031) (fun _ q => q) (by decide) dX4_account_205 hf (fun x205 hf => ?_)
    exact a_ireturn X Z.2.2.1 Z.2.2.2.1 dX4_account_208 hf
  have hf := ite_f c19 hf
  have n0 := lv_neT (a := 0) c0 rfl
  have n1 := lv_neT (a := 1) c1 rfl
  have n2 := lv_neT (a := 2) c2 rfl
  have n3 := lv_neT (a := 3) c3 rfl
  have n4 := lv_neT (a := 4) c4 rfl
  have n5 := lv_neT (a := 5) c5 rfl
  have n6 := lv_neT (a := 6) c6 rfl
  have n7 := lv_neT (a := 7) c7 rfl
  have n8 := lv_neT (a := 8) c8 rfl
  have n9 := lv_neT (a := 9) c9 rfl
  have n10 := lv_neT (a := 10) c10 rfl
  have n11 := lv_neT (a := 11) c11 rfl
  have n12 := lv_neT (a := 12) c12 rfl
  have n13 := lv_neT (a := 13) c13 rfl
  have n14 := lv_neT (a := 14) c14 rfl
  have n15 := lv_neT (a := 15) c15 rfl
  have n16 := lv_neT (a := 16) c16 rfl
  have n17 := lv_neT (a := 17) c17 rfl
  have n18 := lv_neT (a := 18) c18 rfl
  have n19 := lv_neT (a := 19) c19 rfl
  refine AW.lift (fun _ _ _ _ k => lv_tableOut (pc := 6) (tgt := 209) X.2.2.1 X.2.2.2.1 dX4_account_6 (by omega) rfl k) ?_
  refine a_aload_n (pc := 209) X dX4_account_209 rfl hl 0 rfl ?_
  refine AW.lift (fun _ _ _ _ k => lv_iconst (pc := 210) (v := (1 : Int32)) X.2.2.1 X.2.2.2.1 dX4_account_210 rfl k) ?_
  obtain ⟨a211, rfl, ⟨hk, hf⟩ | ⟨-, hf⟩⟩ := dv_some hf
  rotate_left
  · exact fl_none hf
  refine a_callb (pc := 211) (rs := []) (avs := [vR (some a211), vI (1 : Int32)]) Z.1 (w_X4_throwing GA (some a211) (1 : Int32)) (Or.inl rfl) q3120 q86 (by decide) (by decide) dX4_account_211 hl.1 (Nat.le_of_ble_eq_true rfl) hf (ct_V hk ⟨by decide, by decide⟩ X (Or.inl rfl) q3120 q3117 q3119 pv_30 hy_X4_throwing np_X4_throwing rfl dX4_account_211) (fun q h he hX => a_out (unc_of Z.2.1 rfl) Z.2.2.2.1 he hX) (fun x211 h hf => ?kk211)
  refine AW.eq (g2 := F0 m 214 ls [.int x211]) rfl ?_
  exact a_ireturn X Z.2.2.1 Z.2.2.2.1 dX4_account_214 hf
theorem np_J38_init_2 : npar yJ38_init_2.desc 0 := by unfold npar; decide +kernel
theorem hy_J38_init_2 : yJ38_init_2.cls ≠ "java/lang/invoke/MethodHandle" ∧ yJ38_init_2.cls ≠ "java/lang/invoke/VarHandle" := by decide +kernel
theorem w_J38_init_2 (GA : GA l s0 a0 K lam) (v0 : Option Nat) : AMet l s0 K lam yJ38_init_2 (Cond.code yJ38_init_2 cJ38_init_2 (1 : Nat) (Option.none : Option ClassFile.FieldType)) 7 380 [vR v0] oV (f_J38_init_2 K v0) := by
  refine AMet.of GA.1 (plainFor_of_name (by decide +kernel)) (Nat.le_of_ble_eq_true rfl) ?_
  intro b r hf p e s m args below meth c X hr hlk hnm hnd ht ls hl
  have Z : WZ l s0 a0 K p s m c cJ38_init_2 yJ38_init_2.cls 1 b { frames := 7, cells := K 0 - aX b, slots := K 1 - aW b, locals := 380 } 7 380 meth [] none yJ38_init_2 := ⟨⟨X, GA.2.1, GA.2.2.1, rfl, rfl, Nat.le_refl _, Nat.le_refl _⟩, tab_nil ht, hr, hlk, hnm, hnd⟩
  unfold f_J38_init_2 at hf
  clear hr hlk hnm hnd ht
  refine a_aload_n (pc := 0) X dJ38_init_2_0 rfl hl 0 rfl ?_
  obtain ⟨a1, rfl, hf⟩ := nz_some hf
  refine a_callb (pc := 1) (rs := []) (avs := [vR (some a1)]) Z.1 (w_J15_init GA (some a1)) (Or.inl rfl) q456 q97 (by decide) (by decide) dJ38_init_2_1 hl.1 (Nat.le_of_ble_eq_true rfl) hf (ct_I X q456 q2664 q455 rfl hy_J15_init np_J15_init rfl dJ38_init_2_1) (fun q h he hX => a_out (unc_of Z.2.1 rfl) Z.2.2.2.1 he hX) (fun _ h hf => ?kk1)
  refine AW.eq (g2 := F0 m 4 ls []) rfl ?_
  exact a_return X Z.2.2.1 Z.2.2.2.1 dJ38_init_2_4 hf
theorem np_X1_checkState : npar yX1_checkState.desc 1 := by unfold npar; decide +kernel
theorem hy_X1_checkState : yX1_checkState.cls ≠ "java/lang/invoke/MethodHandle" ∧ yX1_checkState.cls ≠ "java/lang/invoke/VarHandle" := by decide +kernel
theorem w_X1_checkState (GA : GA l s0 a0 K lam) (v0 : Int32) : AMet l s0 K lam yX1_checkState (Cond.code yX1_checkState cX1_checkState (1 : Nat) (Option.none : Option ClassFile.FieldType)) 8 400 [vI v0] oV (f_X1_checkState K v0) := by
  refine AMet.of GA.1 (plainFor_of_name (by decide +kernel)) (Nat.le_of_ble_eq_true rfl) ?_
  intro b r hf p e s m args below meth c X hr hlk hnm hnd ht ls hl
  have Z : WZ l s0 a0 K p s m c cX1_checkState yX1_checkState.cls 1 b { frames := 8, cells := K 0 - aX b, slots := K 1 - aW b, locals := 400 } 8 400 meth [] none yX1_checkState := ⟨⟨X, GA.2.1, GA.2.2.1, rfl, rfl, Nat.le_refl _, Nat.le_refl _⟩, tab_nil ht, hr, hlk, hnm, hnd⟩
  unfold f_X1_checkState at hf
  clear hr hlk hnm hnd ht
  refine a_iload_n (pc := 0) X dX1_checkState_0 rfl hl 0 rfl ?_
  refine AW.lift2 (fun _ _ _ _ k1 k2 => lv_if_ne (pc := 1) (tgt := 12) X.2.2.1 X.2.2.2.1 dX1_checkState_1 rfl k2 k1) (fun c => ?_) (fun c => ?_)
  · have hf := ite_t c hf
    refine a_new (pc := 4) (cK := 18) (n := 6) X Z.1.2.1 Z.1.2.2.1 Z.1.2.2.2.1 Z.1.2.2.2.2.1 ⟨by decide, by decide, by decide⟩ (gw X.1 X.2.1 q2660) (gw X.1 X.2.1 q2055) (gw X.1 X.2.1 q125) dX1_checkState_4 hf (fun x4 h hf => ?_)
    refine AW.lift (fun _ _ _ _ k => lv_dup (pc := 7) X.2.2.1 X.2.2.2.1 dX1_checkState_7 (cat_rf _) k) ?_
    refine a_callb (pc := 8) (rs := [vR (some x4)]) (avs := [vR (some x4)]) Z.1 (w_J38_init_2 GA (some x4)) (Or.inl rfl) q2663 q125 (by decide) (by decide) dX1_checkState_8 hl.1 (Nat.le_of_ble_eq_true rfl) hf (ct_I X q2663 q2661 q2662 rfl hy_J38_init_2 np_J38_init_2 rfl dX1_checkState_8) (fun q h he hX => a_out (unc_of Z.2.1 rfl) Z.2.2.2.1 he hX) (fun _ h hf => ?kk8)
    refine AW.eq (g2 := F0 m 11 ls [va_rf (some x4)]) rfl ?_
    exact a_athrow X dX1_checkState_11 hf (fun q e he hX => a_out (unc_of Z.2.1 rfl) Z.2.2.2.1 he hX)
  · have hf := ite_f c hf
    exact a_return X Z.2.2.1 Z.2.2.2.1 dX1_checkState_12 hf
theorem w_X1_append_j25 {r : Except Nat (Int32) × AH} (GA : GA l s0 a0 K lam) (Z : WZ l s0 a0 K p s m c cX1_append yX1_append.cls 2 b R 9 420 meth [] (some (.int)) yX1_append) (v0 : Option Nat) (v1 : Int32) (t0 : Int32)  {h : AH} {ls : Array Slot} (hl : LV ls 2 [(0, vR v0), (1, vI v1)]) (hf : f_X1_append_j25 K v0 v1 t0 h = some r) : AW s0 K lam p l e R s m args below meth c (AQ s0 K lam below oI b r s) b h (F0 m 25 ls [.int t0]) := by
  unfold f_X1_append_j25 at hf
  have X := Z.1.1
  refine a_callb (pc := 25) (rs := []) (avs := [vI t0]) Z.1 (w_X1_checkState GA t0) (Or.inl rfl) q2659 q74 (by decide) (by decide) dX1_append_25 hl.1 (Nat.le_of_ble_eq_true rfl) hf (ct_S X (Or.inl rfl) q2659 q74 q2657 q2658 hy_X1_checkState np_X1_checkState rfl dX1_append_25) (fun q h he hX => a_out (unc_of Z.2.1 rfl) Z.2.2.2.1 he hX) (fun _ h hf => ?kk25)
  refine AW.eq (g2 := F0 m 28 ls []) rfl ?_
  refine a_aload_n (pc := 28) X dX1_append_28 rfl hl 0 rfl ?_
  refine a_get (pc := 29) (φ := 203) pR_t X Z.1.2.1 (gw X.1 X.2.1 q312) (fun _ q => q) (by decide) dX1_append_29 hf (fun x29 hf => ?_)
  refine a_aload_n (pc := 32) X dX1_append_32 rfl hl 0 rfl ?_
  refine a_get (pc := 33) (φ := 205) pI_t X Z.1.2.1 (gw X.1 X.2.1 q314) (fun _ q => q) (by decide) dX1_append_33 hf (fun x33 hf => ?_)
  refine a_iload_n (pc := 36) X dX1_append_36 rfl hl 1 rfl ?_
  obtain ⟨hg, hf⟩ := chk_some hf
  refine a_castore (pc := 37) X hg dX1_append_37 hf (fun h hf => ?_)
  refine a_aload_n (pc := 38) X dX1_append_38 rfl hl 0 rfl ?_
  refine AW.lift (fun _ _ _ _ k => lv_dup (pc := 39) X.2.2.1 X.2.2.2.1 dX1_append_39 (cat_rf _) k) ?_
  refine a_get (pc := 40) (φ := 205) pI_t X Z.1.2.1 (gw X.1 X.2.1 q314) (fun _ q => q) (by decide) dX1_append_40 hf (fun x40 hf => ?_)
  refine AW.lift (fun _ _ _ _ k => lv_iconst (pc := 43) (v := (1 : Int32)) X.2.2.1 X.2.2.2.1 dX1_append_43 rfl k) ?_
  refine AW.lift (fun _ _ _ _ k => lv_iadd (pc := 44) X.2.2.1 X.2.2.2.1 dX1_append_44 k) ?_
  refine a_put (pc := 45) (φ := 205) X Z.1.2.1 Z.1.2.2.1 (gw X.1 X.2.1 q314) (fun _ q => q) (by decide) rfl rfl dX1_append_45 hf (fun h hf => ?_)
  refine a_aload_n (pc := 48) X dX1_append_48 rfl hl 0 rfl ?_
  refine a_get (pc := 49) (φ := 205) pI_t X Z.1.2.1 (gw X.1 X.2.1 q314) (fun _ q => q) (by decide) dX1_append_49 hf (fun x49 hf => ?_)
  exact a_ireturn X Z.2.2.1 Z.2.2.2.1 dX1_append_52 hf
theorem np_X1_append : npar yX1_append.desc 1 := by unfold npar; decide +kernel
theorem hy_X1_append : yX1_append.cls ≠ "java/lang/invoke/MethodHandle" ∧ yX1_append.cls ≠ "java/lang/invoke/VarHandle" := by decide +kernel
theorem w_X1_append (GA : GA l s0 a0 K lam) (v0 : Option Nat) (v1 : Int32) : AMet l s0 K lam yX1_append (Cond.code yX1_append cX1_append (2 : Nat) (Option.some ClassFile.FieldType.int)) 9 420 [vR v0, vI v1] oI (f_X1_append K v0 v1) := by
  refine AMet.of GA.1 (plainFor_of_name (by decide +kernel)) (Nat.le_of_ble_eq_true rfl) ?_
  intro b r hf p e s m args below meth c X hr hlk hnm hnd ht ls hl
  have Z : WZ l s0 a0 K p s m c cX1_append yX1_append.cls 2 b { frames := 9, cells := K 0 - aX b, slots := K 1 - aW b, locals := 420 } 9 420 meth [] (some (.int)) yX1_append := ⟨⟨X, GA.2.1, GA.2.2.1, rfl, rfl, Nat.le_refl _, Nat.le_refl _⟩, tab_nil ht, hr, hlk, hnm, hnd⟩
  unfold f_X1_append at hf
  clear hr hlk hnm hnd ht
  refine a_iload_n (pc := 0) X dX1_append_0 rfl hl 1 rfl ?_
  refine AW.lift (fun _ _ _ _ k => lv_bipush (pc := 1) (v := (32 : Int32)) X.2.2.1 X.2.2.2.1 dX1_append_1 rfl k) ?_
  refine AW.lift (fun _ _ _ _ k => lv_bipush (pc := 3) (v := (126 : Int32)) X.2.2.1 X.2.2.2.1 dX1_append_3 rfl k) ?_
  refine a_callb (pc := 5) (rs := []) (avs := [vI v1, vI (32 : Int32), vI (126 : Int32)]) Z.1 (w_X1_isIn GA v1 (32 : Int32) (126 : Int32)) (Or.inl rfl) q1812 q74 (by decide) (by decide) dX1_append_5 hl.1 (Nat.le_of_ble_eq_true rfl) hf (ct_S X (Or.inl rfl) q1812 q74 q1813 q1811 hy_X1_isIn np_X1_isIn rfl dX1_append_5) (fun q h he hX => a_out (unc_of Z.2.1 rfl) Z.2.2.2.1 he hX) (fun x5 h hf => ?kk5)
  refine AW.eq (g2 := F0 m 8 ls [.int x5]) rfl ?_
  refine a_callb (pc := 8) (rs := []) (avs := [vI x5]) Z.1 (w_X1_checkArgument GA x5) (Or.inl rfl) q1880 q74 (by decide) (by decide) dX1_append_8 hl.1 (Nat.le_of_ble_eq_true rfl) hf (ct_S X (Or.inl rfl) q1880 q74 q1878 q1879 hy_X1_checkArgument np_X1_checkArgument rfl dX1_append_8) (fun q h he hX => a_out (unc_of Z.2.1 rfl) Z.2.2.2.1 he hX) (fun _ h hf => ?kk8)
  refine AW.eq (g2 := F0 m 11 ls []) rfl ?_
  refine a_aload_n (pc := 11) X dX1_append_11 rfl hl 0 rfl ?_
  refine a_get (pc := 12) (φ := 205) pI_t X Z.1.2.1 (gw X.1 X.2.1 q314) (fun _ q => q) (by decide) dX1_append_12 hf (fun x12 hf => ?_)
  refine AW.lift (fun _ _ _ _ k => lv_bipush (pc := 15) (v := (60 : Int32)) X.2.2.1 X.2.2.2.1 dX1_append_15 rfl k) ?_
  refine AW.lift2 (fun _ _ _ _ k1 k2 => lv_icmp_ge (pc := 17) (tgt := 24) X.2.2.1 X.2.2.2.1 dX1_append_17 rfl k1 k2) (fun c => ?_) (fun c => ?_)
  · have hf := ite_t c hf
    refine AW.lift (fun _ _ _ _ k => lv_iconst (pc := 24) (v := (0 : Int32)) X.2.2.1 X.2.2.2.1 dX1_append_24 rfl k) ?_
    exact w_X1_append_j25 GA Z v0 v1 (0 : Int32)  (hl.sub [0, 1] rfl) hf
  · have hf := ite_f c hf
    refine AW.lift (fun _ _ _ _ k => lv_iconst (pc := 20) (v := (1 : Int32)) X.2.2.1 X.2.2.2.1 dX1_append_20 rfl k) ?_
    refine AW.lift (fun _ _ _ _ k => lv_goto (pc := 21) (tgt := 25) X.2.2.1 X.2.2.2.1 dX1_append_21 rfl k) ?_
    exact w_X1_append_j25 GA Z v0 v1 (1 : Int32)  (hl.sub [0, 1] rfl) hf
theorem np_X0_append : npar yX0_append.desc 3 := by unfold npar; decide +kernel
theorem hy_X0_append : yX0_append.cls ≠ "java/lang/invoke/MethodHandle" ∧ yX0_append.cls ≠ "java/lang/invoke/VarHandle" := by decide +kernel
theorem w_X0_append (GA : GA l s0 a0 K lam) (v0 : Option Nat) (v1 : Int32) (v2 : Option Nat) : AMet l s0 K lam yX0_append (Cond.codeWith yX0_append cX0_append (4 : Nat) (Option.some ClassFile.FieldType.int) [((0 : Nat), (9 : Nat), (12 : Nat), (28 : Nat)), ((0 : Nat), (9 : Nat), (15 : Nat), (125 : Nat))]) 10 441 [vR v0, vI v1, vR v2] oI (f_X0_append K v0 v1 v2) := by
  refine AMet.ofW GA.1 (plainFor_of_name (by decide +kernel)) (Nat.le_of_ble_eq_true rfl) ?_
  intro b r hf p e s m args below meth c X hr hlk hnm hnd ht ls hl
  have Z : WZ l s0 a0 K p s m c cX0_append yX0_append.cls 4 b { frames := 10, cells := K 0 - aX b, slots := K 1 - aW b, locals := 441 } 10 441 meth [(0, 9, 12, 28), (0, 9, 15, 125)] (some (.int)) yX0_append := ⟨⟨X, GA.2.1, GA.2.2.1, rfl, rfl, Nat.le_refl _, Nat.le_refl _⟩, ht, hr, hlk, hnm, hnd⟩
  unfold f_X0_append at hf
  clear hr hlk hnm hnd ht
  refine a_aload_n (pc := 0) X dX0_append_0 rfl hl 2 rfl ?_
  refine AW.lift (fun _ _ _ _ k => lv_iconst (pc := 1) (v := (0 : Int32)) X.2.2.1 X.2.2.2.1 dX0_append_1 rfl k) ?_
  refine a_aload_n (pc := 2) X dX0_append_2 rfl hl 0 rfl ?_
  refine a_iload_n (pc := 3) X dX0_append_3 rfl hl 1 rfl ?_
  obtain ⟨a4, rfl, ⟨hk, hf⟩ | ⟨-, hf⟩⟩ := dv_tsome hf
  rotate_left
  · exact fl_tnone hf
  refine a_callt (pc := 4) (rs := [vI (0 : Int32), vR v2]) (avs := [vR (some a4), vI v1]) Z.1 (w_X1_append GA (some a4) v1) (Or.inl rfl) q2656 q74 (by decide) (by decide) dX0_append_4 hl.1 (Nat.le_of_ble_eq_true rfl) hf (ct_V hk ⟨by decide, by decide⟩ X (Or.inl rfl) q2656 q2653 q2654 q2655 hy_X1_append np_X1_append rfl dX0_append_4) (fun q h hf hX => ?hx4) (fun x4 h hf => ?kk4)
  case hx4 =>
    rcases ctc_some hf with ⟨hy, hf⟩ | ⟨hn0, hf⟩
    · refine a_catchH (st := 0) (en := 9) (hp := 12) (ct := 28) (pre := []) (suf := [(0, 9, 15, 125)]) X hX Z.2.1 rfl (fun z hz => nomatch hz) (by decide) (Or.inr ⟨by decide, _, gw X.1 X.2.1 q1873, (cs_X17 GA) _ hy⟩) (AW.eq (g2 := F0 m 12 ls [va_rf (some q)]) rfl ?_)
      refine a_astore_n (pc := 12) X dX0_append_12 rfl hl (by decide) (lv' := [(3, vR (some q)), (0, vR (some a4)), (1, vI v1), (2, vR v2)]) rfl (fun ls hl => ?_)
      refine AW.lift (fun _ _ _ _ k => lv_iconst (pc := 13) (v := (1 : Int32)) X.2.2.1 X.2.2.2.1 dX0_append_13 rfl k) ?_
      exact a_ireturn X Z.2.2.1 Z.2.2.2.1 dX0_append_14 hf
    · skip
      rcases ctc_some hf with ⟨hy, hf⟩ | ⟨hn1, hf⟩
      · refine a_catchH (st := 0) (en := 9) (hp := 15) (ct := 125) (pre := [(0, 9, 12, 28)]) (suf := []) X hX Z.2.1 rfl (by intro z hz; simp only [List.mem_cons, List.not_mem_nil, or_false] at hz; rcases hz with rfl <;> first | exact Or.inl (by decide) | exact Or.inr ⟨by decide, _, gw X.1 X.2.1 q1873, (nc_12_13_14_16_18_19_20_21_java_lang_IllegalArgumentException GA _ (by simpa using hn0)).2.2⟩) (by decide) (Or.inr ⟨by decide, _, gw X.1 X.2.1 q2652, (cs_X18 GA) _ hy⟩) (AW.eq (g2 := F0 m 15 ls [va_rf (some q)]) rfl ?_)
        refine a_astore_n (pc := 15) X dX0_append_15 rfl hl (by decide) (lv' := [(3, vR (some q)), (0, vR (some a4)), (1, vI v1), (2, vR v2)]) rfl (fun ls hl => ?_)
        refine AW.lift (fun _ _ _ _ k => lv_iconst (pc := 16) (v := (2 : Int32)) X.2.2.1 X.2.2.2.1 dX0_append_16 rfl k) ?_
        exact a_ireturn X Z.2.2.1 Z.2.2.2.1 dX0_append_17 hf
      · skip
        exact a_outH X Z.2.1 (by intro z hz; simp only [List.mem_cons, List.not_mem_nil, or_false] at hz; rcases hz with rfl | rfl <;> first | exact Or.inl (by decide) | exact Or.inr ⟨by decide, _, gw X.1 X.2.1 q1873, (nc_12_13_14_16_18_19_20_21_java_lang_IllegalArgumentException GA _ (by simpa using hn0)).2.2⟩ | exact Or.inr ⟨by decide, _, gw X.1 X.2.1 q2652, (nc_12_13_14_16_17_19_20_21_java_lang_IllegalStateException GA _ (by simpa using hn1)).2.2⟩) Z.2.2.2.1 (th_eq hf) hX
  refine AW.eq (g2 := F0 m 7 ls [.int x4, .int (0 : Int32), va_rf v2]) rfl ?_
  refine AW.lift (fun _ _ _ _ k => lv_i2l (pc := 7) X.2.2.1 X.2.2.2.1 dX0_append_7 rfl k) ?_
  refine a_lastore (pc := 8) X dX0_append_8 hf (fun h hf => ?_)
  refine AW.lift (fun _ _ _ _ k => lv_goto (pc := 9) (tgt := 18) X.2.2.1 X.2.2.2.1 dX0_append_9 rfl k) ?_
  refine AW.lift (fun _ _ _ _ k => lv_iconst (pc := 18) (v := (0 : Int32)) X.2.2.1 X.2.2.2.1 dX0_append_18 rfl k) ?_
  exact a_ireturn X Z.2.2.1 Z.2.2.2.1 dX0_append_19 hf
theorem np_X4_append : npar yX4_append.desc 1 := by unfold npar; decide +kernel
theorem hy_X4_append : yX4_append.cls ≠ "java/lang/invoke/MethodHandle" ∧ yX4_append.cls ≠ "java/lang/invoke/VarHandle" := by decide +kernel
theorem w_X4_append (GA : GA l s0 a0 K lam) (v0 : Option Nat) (v1 : Int32) : AMet l s0 K lam yX4_append (Cond.code yX4_append cX4_append (2 : Nat) (Option.some ClassFile.FieldType.int)) 1 25 [vR v0, vI v1] oI (f_X4_append K v0 v1) := by
  refine AMet.of GA.1 (plainFor_of_name (by decide +kernel)) (Nat.le_of_ble_eq_true rfl) ?_
  intro b r hf p e s m args below meth c X hr hlk hnm hnd ht ls hl
  have Z : WZ l s0 a0 K p s m c cX4_append yX4_append.cls 2 b { frames := 1, cells := K 0 - aX b, slots := K 1 - aW b, locals := 25 } 1 25 meth [] (some (.int)) yX4_append := ⟨⟨X, GA.2.1, GA.2.2.1, rfl, rfl, Nat.le_refl _, Nat.le_refl _⟩, tab_nil ht, hr, hlk, hnm, hnd⟩
  unfold f_X4_append at hf
  clear hr hlk hnm hnd ht
  refine a_aload_n (pc := 0) X dX4_append_0 rfl hl 0 rfl ?_
  refine AW.lift (fun _ _ _ _ k => lv_iconst (pc := 1) (v := (0 : Int32)) X.2.2.1 X.2.2.2.1 dX4_append_1 rfl k) ?_
  refine a_put (pc := 2) (φ := 107) X Z.1.2.1 Z.1.2.2.1 (gw X.1 X.2.1 q3032) (fun _ q => q) (by decide) rfl rfl dX4_append_2 hf (fun h hf => ?_)
  refine a_iload_n (pc := 5) X dX4_append_5 rfl hl 1 rfl ?_
  refine AW.lift (fun _ _ _ _ k => lv_i2l (pc := 6) X.2.2.1 X.2.2.2.1 dX4_append_6 rfl k) ?_
  refine AW.lift (fun _ _ _ _ k => lv_ldc2 (pc := 7) X.2.2.1 X.2.2.2.1 X.2.2.2.2.1 (gw X.1 X.2.1 q3406) dX4_append_7 k) ?_
  refine AW.lift (fun _ _ _ _ k => lv_ldc2 (pc := 10) X.2.2.1 X.2.2.2.1 X.2.2.2.2.1 (gw X.1 X.2.1 q3407) dX4_append_10 k) ?_
  refine a_callb (pc := 13) (rs := []) (avs := [vJ (v1.toInt64), vJ (32 : Int64), vJ (126 : Int64)]) Z.1 (w_X4_in GA (v1.toInt64) (32 : Int64) (126 : Int64)) (Or.inl rfl) q3142 q86 (by decide) (by decide) dX4_append_13 hl.1 (Nat.le_of_ble_eq_true rfl) hf (ct_S X (Or.inl rfl) q3142 q86 q3140 q3141 hy_X4_in np_X4_in rfl dX4_append_13) (fun q h he hX => a_out (unc_of Z.2.1 rfl) Z.2.2.2.1 he hX) (fun x13 h hf => ?kk13)
  refine AW.eq (g2 := F0 m 16 ls [.int x13]) rfl ?_
  refine AW.lift2 (fun _ _ _ _ k1 k2 => lv_if_ne (pc := 16) (tgt := 25) X.2.2.1 X.2.2.2.1 dX4_append_16 rfl k2 k1) (fun c => ?_) (fun c => ?_)
  · have hf := ite_t c hf
    refine a_aload_n (pc := 19) X dX4_append_19 rfl hl 0 rfl ?_
    refine AW.lift (fun _ _ _ _ k => lv_iconst (pc := 20) (v := (1 : Int32)) X.2.2.1 X.2.2.2.1 dX4_append_20 rfl k) ?_
    obtain ⟨a21, rfl, ⟨hk, hf⟩ | ⟨-, hf⟩⟩ := dv_some hf
    rotate_left
    · exact fl_none hf
    refine a_callb (pc := 21) (rs := []) (avs := [vR (some a21), vI (1 : Int32)]) Z.1 (w_X4_throwing GA (some a21) (1 : Int32)) (Or.inl rfl) q3120 q86 (by decide) (by decide) dX4_append_21 hl.1 (Nat.le_of_ble_eq_true rfl) hf (ct_V hk ⟨by decide, by decide⟩ X (Or.inl rfl) q3120 q3117 q3119 pv_30 hy_X4_throwing np_X4_throwing rfl dX4_append_21) (fun q h he hX => a_out (unc_of Z.2.1 rfl) Z.2.2.2.1 he hX) (fun x21 h hf => ?kk21)
    refine AW.eq (g2 := F0 m 24 ls [.int x21]) rfl ?_
    exact a_ireturn X Z.2.2.1 Z.2.2.2.1 dX4_append_24 hf
  · have hf := ite_f c hf
    refine a_aload_n (pc := 25) X dX4_append_25 rfl hl 0 rfl ?_
    refine a_get (pc := 26) (φ := 113) pI_t X Z.1.2.1 (gw X.1 X.2.1 q3038) (fun _ q => q) (by decide) dX4_append_26 hf (fun x26 hf => ?_)
    refine AW.lift (fun _ _ _ _ k => lv_bipush (pc := 29) (v := (60 : Int32)) X.2.2.1 X.2.2.2.1 dX4_append_29 rfl k) ?_
    refine AW.lift2 (fun _ _ _ _ k1 k2 => lv_icmp_ne (pc := 31) (tgt := 40) X.2.2.1 X.2.2.2.1 dX4_append_31 rfl k2 k1) (fun c => ?_) (fun c => ?_)
    · have hf := ite_t c hf
      refine a_aload_n (pc := 34) X dX4_append_34 rfl hl 0 rfl ?_
      refine AW.lift (fun _ _ _ _ k => lv_iconst (pc := 35) (v := (2 : Int32)) X.2.2.1 X.2.2.2.1 dX4_append_35 rfl k) ?_
      obtain ⟨a36, rfl, ⟨hk, hf⟩ | ⟨-, hf⟩⟩ := dv_some hf
      rotate_left
      · exact fl_none hf
      refine a_callb (pc := 36) (rs := []) (avs := [vR (some a36), vI (2 : Int32)]) Z.1 (w_X4_throwing GA (some a36) (2 : Int32)) (Or.inl rfl) q3120 q86 (by decide) (by decide) dX4_append_36 hl.1 (Nat.le_of_ble_eq_true rfl) hf (ct_V hk ⟨by decide, by decide⟩ X (Or.inl rfl) q3120 q3117 q3119 pv_30 hy_X4_throwing np_X4_throwing rfl dX4_append_36) (fun q h he hX => a_out (unc_of Z.2.1 rfl) Z.2.2.2.1 he hX) (fun x36 h hf => ?kk36)
      refine AW.eq (g2 := F0 m 39 ls [.int x36]) rfl ?_
      exact a_ireturn X Z.2.2.1 Z.2.2.2.1 dX4_append_39 hf
    · have hf := ite_f c hf
      refine a_aload_n (pc := 40) X dX4_append_40 rfl hl 0 rfl ?_
      refine a_get (pc := 41) (φ := 112) pR_t X Z.1.2.1 (gw X.1 X.2.1 q3037) (fun _ q => q) (by decide) dX4_append_41 hf (fun x41 hf => ?_)
      refine a_aload_n (pc := 44) X dX4_append_44 rfl hl 0 rfl ?_
      refine a_get (pc := 45) (φ := 113) pI_t X Z.1.2.1 (gw X.1 X.2.1 q3038) (fun _ q => q) (by decide) dX4_append_45 hf (fun x45 hf => ?_)
      refine a_iload_n (pc := 48) X dX4_append_48 rfl hl 1 rfl ?_
      refine a_iastore (pc := 49) X dX4_append_49 hf (fun h hf => ?_)
      refine a_aload_n (pc := 50) X dX4_append_50 rfl hl 0 rfl ?_
      refine AW.lift (fun _ _ _ _ k => lv_dup (pc := 51) X.2.2.1 X.2.2.2.1 dX4_append_51 (cat_rf _) k) ?_
      refine a_get (pc := 52) (φ := 113) pI_t X Z.1.2.1 (gw X.1 X.2.1 q3038) (fun _ q => q) (by decide) dX4_append_52 hf (fun x52 hf => ?_)
      refine AW.lift (fun _ _ _ _ k => lv_iconst (pc := 55) (v := (1 : Int32)) X.2.2.1 X.2.2.2.1 dX4_append_55 rfl k) ?_
      refine AW.lift (fun _ _ _ _ k => lv_iadd (pc := 56) X.2.2.1 X.2.2.2.1 dX4_append_56 k) ?_
      refine a_put (pc := 57) (φ := 113) X Z.1.2.1 Z.1.2.2.1 (gw X.1 X.2.1 q3038) (fun _ q => q) (by decide) rfl rfl dX4_append_57 hf (fun h hf => ?_)
      refine a_aload_n (pc := 60) X dX4_append_60 rfl hl 0 rfl ?_
      refine a_get (pc := 61) (φ := 113) pI_t X Z.1.2.1 (gw X.1 X.2.1 q3038) (fun _ q => q) (by decide) dX4_append_61 hf (fun x61 hf => ?_)
      exact a_ireturn X Z.2.2.1 Z.2.2.2.1 dX4_append_64 hf
theorem np_X11_init : npar yX11_init.desc 2 := by unfold npar; decide +kernel
theorem hy_X11_init : yX11_init.cls ≠ "java/lang/invoke/MethodHandle" ∧ yX11_init.cls ≠ "java/lang/invoke/VarHandle" := by decide +kernel
theorem w_X11_init (GA : GA l s0 a0 K lam) (v0 : Option Nat) (v1 : Option Nat) (v2 : Int32) : AMet l s0 K lam yX11_init (Cond.code yX11_init cX11_init (3 : Nat) (Option.none : Option ClassFile.FieldType)) 4 80 [vR v0, vR v1, vI v2] oV (f_X11_init K v0 v1 v2) := by
  refine AMet.of GA.1 (plainFor_of_name (by decide +kernel)) (Nat.le_of_ble_eq_true rfl) ?_
  intro b r hf p e s m args below meth c X hr hlk hnm hnd ht ls hl
  have Z : WZ l s0 a0 K p s m c cX11_init yX11_init.cls 3 b { frames := 4, cells := K 0 - aX b, slots := K 1 - aW b, locals := 80 } 4 80 meth [] none yX11_init := ⟨⟨X, GA.2.1, GA.2.2.1, rfl, rfl, Nat.le_refl _, Nat.le_refl _⟩, tab_nil ht, hr, hlk, hnm, hnd⟩
  unfold f_X11_init at hf
  clear hr hlk hnm hnd ht
  refine a_aload_n (pc := 0) X dX11_init_0 rfl hl 0 rfl ?_
  obtain ⟨a1, rfl, hf⟩ := nz_some hf
  refine a_objInit (pc := 1) (rs := []) Z.1 q2678 q144 q145 (by decide) (by decide) hl.1 (Nat.le_of_ble_eq_true rfl) dX11_init_1 ?_
  refine AW.eq (g2 := F0 m 4 ls []) rfl ?_
  refine a_aload_n (pc := 4) X dX11_init_4 rfl hl 0 rfl ?_
  refine a_new (pc := 5) (cK := 25) (n := 3) X Z.1.2.1 Z.1.2.2.1 Z.1.2.2.2.1 Z.1.2.2.2.2.1 ⟨by decide, by decide, by decide⟩ (gw X.1 X.2.1 q2679) (gw X.1 X.2.1 q153) (gw X.1 X.2.1 q78) dX11_init_5 hf (fun x5 h hf => ?_)
  refine AW.lift (fun _ _ _ _ k => lv_dup (pc := 8) X.2.2.1 X.2.2.2.1 dX11_init_8 (cat_rf _) k) ?_
  refine a_callb (pc := 9) (rs := [vR (some x5), vR (some a1)]) (avs := [vR (some x5)]) Z.1 (w_J2_init GA (some x5)) (Or.inl rfl) q156 q78 (by decide) (by decide) dX11_init_9 hl.1 (Nat.le_of_ble_eq_true rfl) hf (ct_I X q156 q2680 q155 rfl hy_J2_init np_J2_init rfl dX11_init_9) (fun q h he hX => a_out (unc_of Z.2.1 rfl) Z.2.2.2.1 he hX) (fun _ h hf => ?kk9)
  refine AW.eq (g2 := F0 m 12 ls [va_rf (some x5), va_rf (some a1)]) rfl ?_
  refine a_putF (pc := 12) (φ := 902) X Z.1.2.1 Z.1.2.2.1 (gw X.1 X.2.1 q2683) (fun _ q => q) (by decide) rfl Z.2.2.2.2.1 rfl (fits_rf _ (Or.inl ⟨_, rfl⟩)) dX11_init_12 hf (fun h hf => ?_)
  refine a_aload_n (pc := 15) X dX11_init_15 rfl hl 0 rfl ?_
  refine a_aload_n (pc := 16) X dX11_init_16 rfl hl 1 rfl ?_
  refine a_putF (pc := 17) (φ := 900) X Z.1.2.1 Z.1.2.2.1 (gw X.1 X.2.1 q2681) (fun _ q => q) (by decide) rfl Z.2.2.2.2.1 rfl (fits_rf _ (Or.inr ⟨_, rfl⟩)) dX11_init_17 hf (fun h hf => ?_)
  refine a_aload_n (pc := 20) X dX11_init_20 rfl hl 0 rfl ?_
  refine a_iload_n (pc := 21) X dX11_init_21 rfl hl 2 rfl ?_
  refine a_putF (pc := 22) (φ := 901) X Z.1.2.1 Z.1.2.2.1 (gw X.1 X.2.1 q2682) (fun _ q => q) (by decide) rfl Z.2.2.2.2.1 rfl rfl dX11_init_22 hf (fun h hf => ?_)
  exact a_return X Z.2.2.1 Z.2.2.2.1 dX11_init_25 hf
theorem np_J17_requireNonNull : npar yJ17_requireNonNull.desc 1 := by unfold npar; decide +kernel
theorem hy_J17_requireNonNull : yJ17_requireNonNull.cls ≠ "java/lang/invoke/MethodHandle" ∧ yJ17_requireNonNull.cls ≠ "java/lang/invoke/VarHandle" := by decide +kernel
theorem w_J17_requireNonNull (GA : GA l s0 a0 K lam) (v0 : Option Nat) : AMet l s0 K lam yJ17_requireNonNull (Cond.code yJ17_requireNonNull cJ17_requireNonNull (1 : Nat) (Option.some (ClassFile.FieldType.object "java/lang/Object"))) 0 0 [vR v0] oR (f_J17_requireNonNull K v0) := by
  refine AMet.of GA.1 (plainFor_of_name (by decide +kernel)) (Nat.le_of_ble_eq_true rfl) ?_
  intro b r hf p e s m args below meth c X hr hlk hnm hnd ht ls hl
  have Z : WZ l s0 a0 K p s m c cJ17_requireNonNull yJ17_requireNonNull.cls 1 b { frames := 0, cells := K 0 - aX b, slots := K 1 - aW b, locals := 0 } 0 0 meth [] (some (.object "java/lang/Object")) yJ17_requireNonNull := ⟨⟨X, GA.2.1, GA.2.2.1, rfl, rfl, Nat.le_refl _, Nat.le_refl _⟩, tab_nil ht, hr, hlk, hnm, hnd⟩
  unfold f_J17_requireNonNull at hf
  clear hr hlk hnm hnd ht
  refine a_aload_n (pc := 0) X dJ17_requireNonNull_0 rfl hl 0 rfl ?_
  refine a_ifnonnull (pc := 1) (tgt := 12) X dJ17_requireNonNull_1 rfl (fun c => ?_) (fun c => ?_)
  · have hf := ite_f c hf
    refine a_aload_n (pc := 12) X dJ17_requireNonNull_12 rfl hl 0 rfl ?_
    exact a_areturn X Z.2.2.1 (Or.inl ⟨_, rfl⟩) Z.2.2.2.1 dJ17_requireNonNull_13 hf
  · have hf := ite_t c hf
    exact fl_no hf
theorem np_J42_init : npar yJ42_init.desc 0 := by unfold npar; decide +kernel
theorem hy_J42_init : yJ42_init.cls ≠ "java/lang/invoke/MethodHandle" ∧ yJ42_init.cls ≠ "java/lang/invoke/VarHandle" := by decide +kernel
theorem w_J42_init (GA : GA l s0 a0 K lam) (v0 : Option Nat) : AMet l s0 K lam yJ42_init (Cond.code yJ42_init cJ42_init (1 : Nat) (Option.none : Option ClassFile.FieldType)) 2 40 [vR v0] oV (f_J42_init K v0) := by
  refine AMet.of GA.1 (plainFor_of_name (by decide +kernel)) (Nat.le_of_ble_eq_true rfl) ?_
  intro b r hf p e s m args below meth c X hr hlk hnm hnd ht ls hl
  have Z : WZ l s0 a0 K p s m c cJ42_init yJ42_init.cls 1 b { frames := 2, cells := K 0 - aX b, slots := K 1 - aW b, locals := 40 } 2 40 meth [] none yJ42_init := ⟨⟨X, GA.2.1, GA.2.2.1, rfl, rfl, Nat.le_refl _, Nat.le_refl _⟩, tab_nil ht, hr, hlk, hnm, hnd⟩
  unfold f_J42_init at hf
  clear hr hlk hnm hnd ht
  refine a_aload_n (pc := 0) X dJ42_init_0 rfl hl 0 rfl ?_
  obtain ⟨a1, rfl, hf⟩ := nz_some hf
  refine a_callb (pc := 1) (rs := []) (avs := [vR (some a1)]) Z.1 (w_J0_init GA (some a1)) (Or.inl rfl) q162 q76 (by decide) (by decide) dJ42_init_1 hl.1 (Nat.le_of_ble_eq_true rfl) hf (ct_I X q162 q2740 q161 rfl hy_J0_init np_J0_init rfl dJ42_init_1) (fun q h he hX => a_out (unc_of Z.2.1 rfl) Z.2.2.2.1 he hX) (fun _ h hf => ?kk1)
  refine AW.eq (g2 := F0 m 4 ls []) rfl ?_
  exact a_return X Z.2.2.1 Z.2.2.2.1 dJ42_init_4 hf
theorem np_J43_init : npar yJ43_init.desc 0 := by unfold npar; decide +kernel
theorem hy_J43_init : yJ43_init.cls ≠ "java/lang/invoke/MethodHandle" ∧ yJ43_init.cls ≠ "java/lang/invoke/VarHandle" := by decide +kernel
theorem w_J43_init (GA : GA l s0 a0 K lam) (v0 : Option Nat) : AMet l s0 K lam yJ43_init (Cond.code yJ43_init cJ43_init (1 : Nat) (Option.none : Option ClassFile.FieldType)) 3 60 [vR v0] oV (f_J43_init K v0) := by
  refine AMet.of GA.1 (plainFor_of_name (by decide +kernel)) (Nat.le_of_ble_eq_true rfl) ?_
  intro b r hf p e s m args below meth c X hr hlk hnm hnd ht ls hl
  have Z : WZ l s0 a0 K p s m c cJ43_init yJ43_init.cls 1 b { frames := 3, cells := K 0 - aX b, slots := K 1 - aW b, locals := 60 } 3 60 meth [] none yJ43_init := ⟨⟨X, GA.2.1, GA.2.2.1, rfl, rfl, Nat.le_refl _, Nat.le_refl _⟩, tab_nil ht, hr, hlk, hnm, hnd⟩
  unfold f_J43_init at hf
  clear hr hlk hnm hnd ht
  refine a_aload_n (pc := 0) X dJ43_init_0 rfl hl 0 rfl ?_
  obtain ⟨a1, rfl, hf⟩ := nz_some hf
  refine a_callb (pc := 1) (rs := []) (avs := [vR (some a1)]) Z.1 (w_J42_init GA (some a1)) (Or.inl rfl) q2739 q131 (by decide) (by decide) dJ43_init_1 hl.1 (Nat.le_of_ble_eq_true rfl) hf (ct_I X q2739 q2737 q2738 rfl hy_J42_init np_J42_init rfl dJ43_init_1) (fun q h he hX => a_out (unc_of Z.2.1 rfl) Z.2.2.2.1 he hX) (fun _ h hf => ?kk1)
  refine AW.eq (g2 := F0 m 4 ls []) rfl ?_
  exact a_return X Z.2.2.1 Z.2.2.2.1 dJ43_init_4 hf
theorem np_J45_init : npar yJ45_init.desc 2 := by unfold npar; decide +kernel
theorem hy_J45_init : yJ45_init.cls ≠ "java/lang/invoke/MethodHandle" ∧ yJ45_init.cls ≠ "java/lang/invoke/VarHandle" := by decide +kernel
theorem w_J45_init (GA : GA l s0 a0 K lam) (v0 : Option Nat) (v1 : Option Nat) (v2 : Int32) : AMet l s0 K lam yJ45_init (Cond.code yJ45_init cJ45_init (3 : Nat) (Option.none : Option ClassFile.FieldType)) 4 80 [vR v0, vR v1, vI v2] oV (f_J45_init K v0 v1 v2) := by
  refine AMet.of GA.1 (plainFor_of_name (by decide +kernel)) (Nat.le_of_ble_eq_true rfl) ?_
  intro b r hf p e s m args below meth c X hr hlk hnm hnd ht ls hl
  have Z : WZ l s0 a0 K p s m c cJ45_init yJ45_init.cls 3 b { frames := 4, cells := K 0 - aX b, slots := K 1 - aW b, locals := 80 } 4 80 meth [] none yJ45_init := ⟨⟨X, GA.2.1, GA.2.2.1, rfl, rfl, Nat.le_refl _, Nat.le_refl _⟩, tab_nil ht, hr, hlk, hnm, hnd⟩
  unfold f_J45_init at hf
  clear hr hlk hnm hnd ht
  refine a_aload_n (pc := 0) X dJ45_init_0 rfl hl 0 rfl ?_
  obtain ⟨a1, rfl, hf⟩ := nz_some hf
  refine a_callb (pc := 1) (rs := []) (avs := [vR (some a1)]) Z.1 (w_J43_init GA (some a1)) (Or.inl rfl) q2736 q132 (by decide) (by decide) dJ45_init_1 hl.1 (Nat.le_of_ble_eq_true rfl) hf (ct_I X q2736 q2757 q2735 rfl hy_J43_init np_J43_init rfl dJ45_init_1) (fun q h he hX => a_out (unc_of Z.2.1 rfl) Z.2.2.2.1 he hX) (fun _ h hf => ?kk1)
  refine AW.eq (g2 := F0 m 4 ls []) rfl ?_
  refine a_aload_n (pc := 4) X dJ45_init_4 rfl hl 0 rfl ?_
  refine a_aload_n (pc := 5) X dJ45_init_5 rfl hl 1 rfl ?_
  refine a_putF (pc := 6) (φ := 3700) X Z.1.2.1 Z.1.2.2.1 (gw X.1 X.2.1 q2758) (fun _ q => q) (by decide) rfl Z.2.2.2.2.1 rfl (fits_rf _ (Or.inr ⟨_, rfl⟩)) dJ45_init_6 hf (fun h hf => ?_)
  refine a_aload_n (pc := 9) X dJ45_init_9 rfl hl 0 rfl ?_
  refine a_iload_n (pc := 10) X dJ45_init_10 rfl hl 2 rfl ?_
  obtain ⟨hg, hf⟩ := chk_some hf
  refine a_putF (pc := 11) (φ := 3701) X Z.1.2.1 Z.1.2.2.1 (gw X.1 X.2.1 q2759) (fun _ q => q) (by decide) rfl Z.2.2.2.2.1 rfl hg dJ45_init_11 hf (fun h hf => ?_)
  exact a_return X Z.2.2.1 Z.2.2.2.1 dJ45_init_14 hf
theorem w_J19_listFromTrustedArray_j52 {r : Except Nat (Option Nat) × AH} (GA : GA l s0 a0 K lam) (Z : WZ l s0 a0 K p s m c cJ19_listFromTrustedArray yJ19_listFromTrustedArray.cls 5 b R 5 102 meth [] (some (.object "java/util/List")) yJ19_listFromTrustedArray) (v0 : Option Nat)   {h : AH} {ls : Array Slot} (hl : LV ls 5 [(0, vR v0)]) (hf : f_J19_listFromTrustedArray_j52 K v0 h = some r) : AW s0 K lam p l e R s m args below meth c (AQ s0 K lam below oR b r s) b h (F0 m 52 ls []) := by
  unfold f_J19_listFromTrustedArray_j52 at hf
  have X := Z.1.1
  refine a_aload_n (pc := 52) X dJ19_listFromTrustedArray_52 rfl hl 0 rfl ?_
  refine a_arraylength (pc := 53) X dJ19_listFromTrustedArray_53 hf (fun x53 hf => ?_)
  by_cases c0 : x53 = (0 : Int32)
  · have hf := ite_t c0 hf
    refine AW.lift (fun _ _ _ _ k => lv_tableIn (pc := 54) (tgt := 80) (off := 26) X.2.2.1 X.2.2.2.1 dJ19_listFromTrustedArray_54 (by rw [c0]; decide) (by rw [c0]; decide) (by rw [c0]; rfl) rfl k) ?_
    exact fl_no hf
  have hf := ite_f c0 hf
  by_cases c1 : x53 = (1 : Int32)
  · have hf := ite_t c1 hf
    refine AW.lift (fun _ _ _ _ k => lv_tableIn (pc := 54) (tgt := 86) (off := 32) X.2.2.1 X.2.2.2.1 dJ19_listFromTrustedArray_54 (by rw [c1]; decide) (by rw [c1]; decide) (by rw [c1]; rfl) rfl k) ?_
    exact fl_no hf
  have hf := ite_f c1 hf
  by_cases c2 : x53 = (2 : Int32)
  · have hf := ite_t c2 hf
    refine AW.lift (fun _ _ _ _ k => lv_tableIn (pc := 54) (tgt := 99) (off := 45) X.2.2.1 X.2.2.2.1 dJ19_listFromTrustedArray_54 (by rw [c2]; decide) (by rw [c2]; decide) (by rw [c2]; rfl) rfl k) ?_
    exact fl_no hf
  have hf := ite_f c2 hf
  have n0 := lv_neT (a := 0) c0 rfl
  have n1 := lv_neT (a := 1) c1 rfl
  have n2 := lv_neT (a := 2) c2 rfl
  refine AW.lift (fun _ _ _ _ k => lv_tableOut (pc := 54) (tgt := 115) X.2.2.1 X.2.2.2.1 dJ19_listFromTrustedArray_54 (by omega) rfl k) ?_
  refine a_new (pc := 115) (cK := 37) (n := 2) X Z.1.2.1 Z.1.2.2.1 Z.1.2.2.2.1 Z.1.2.2.2.2.1 ⟨by decide, by decide, by decide⟩ (gw X.1 X.2.1 q2752) (gw X.1 X.2.1 q2753) (gw X.1 X.2.1 q134) dJ19_listFromTrustedArray_115 hf (fun x115 h hf => ?_)
  refine AW.lift (fun _ _ _ _ k => lv_dup (pc := 118) X.2.2.1 X.2.2.2.1 dJ19_listFromTrustedArray_118 (cat_rf _) k) ?_
  refine a_aload_n (pc := 119) X dJ19_listFromTrustedArray_119 rfl hl 0 rfl ?_
  refine AW.lift (fun _ _ _ _ k => lv_iconst (pc := 120) (v := (0 : Int32)) X.2.2.1 X.2.2.2.1 dJ19_listFromTrustedArray_120 rfl k) ?_
  refine a_callb (pc := 121) (rs := [vR (some x115)]) (avs := [vR (some x115), vR v0, vI (0 : Int32)]) Z.1 (w_J45_init GA (some x115) v0 (0 : Int32)) (Or.inl rfl) q2756 q134 (by decide) (by decide) dJ19_listFromTrustedArray_121 hl.1 (Nat.le_of_ble_eq_true rfl) hf (ct_IN X q2756 q2754 q2755 rfl hy_J45_init np_J45_init rfl dJ19_listFromTrustedArray_121) (fun q h he hX => a_out (unc_of Z.2.1 rfl) Z.2.2.2.1 he hX) (fun _ h hf => ?kk121)
  refine AW.eq (g2 := F0 m 124 ls [va_rf (some x115)]) rfl ?_
  exact a_areturn X Z.2.2.1 (Or.inl ⟨_, rfl⟩) Z.2.2.2.1 dJ19_listFromTrustedArray_124 hf
theorem w_J19_listFromTrustedArray_b30 {r : Except Nat (Option Nat) × AH} (GA : GA l s0 a0 K lam) (Z : WZ l s0 a0 K p s m c cJ19_listFromTrustedArray yJ19_listFromTrustedArray.cls 5 b R 5 102 meth [] (some (.object "java/util/List")) yJ19_listFromTrustedArray) (v0 : Option Nat) (v1 : Option Nat) (v2 : Int32) (v3 : Int32)  (rc30 : Int32 → AM (Option Nat)) (hrc30 : ∀ (v3 : Int32) (h : AH) (ls : Array Slot), LV ls 5 [(0, vR v0), (1, vR v1), (2, vI v2), (3, vI v3)] → rc30 v3 h = some r → AW s0 K lam p l e R s m args below meth c (AQ s0 K lam below oR b r s) b h (F0 m 30 ls [])) {h : AH} {ls : Array Slot} (hl : LV ls 5 [(0, vR v0), (1, vR v1), (2, vI v2), (3, vI v3)]) (hf : f_J19_listFromTrustedArray_b30 K rc30 v0 v1 v2 v3 h = some r) : AW s0 K lam p l e R s m args below meth c (AQ s0 K lam below oR b r s) b h (F0 m 30 ls []) := by
  unfold f_J19_listFromTrustedArray_b30 at hf
  have X := Z.1.1
  refine a_iload_n (pc := 30) X dJ19_listFromTrustedArray_30 rfl hl 3 rfl ?_
  refine a_iload_n (pc := 31) X dJ19_listFromTrustedArray_31 rfl hl 2 rfl ?_
  refine AW.lift2 (fun _ _ _ _ k1 k2 => lv_icmp_ge (pc := 32) (tgt := 52) X.2.2.1 X.2.2.2.1 dJ19_listFromTrustedArray_32 rfl k1 k2) (fun c => ?_) (fun c => ?_)
  · have hf := ite_t c hf
    exact w_J19_listFromTrustedArray_j52 GA Z v0   (hl.sub [0] rfl) hf
  · have hf := ite_f c hf
    refine a_aload_n (pc := 35) X dJ19_listFromTrustedArray_35 rfl hl 1 rfl ?_
    refine a_iload_n (pc := 36) X dJ19_listFromTrustedArray_36 rfl hl 3 rfl ?_
    refine a_aaload (pc := 37) (t := 1006) (by decide) rfl X dJ19_listFromTrustedArray_37 hf (fun x37 hf => ?_)
    refine a_astore (pc := 38) X dJ19_listFromTrustedArray_38 hl (by decide) (lv' := [(4, vR x37), (0, vR v0), (1, vR v1), (2, vI v2), (3, vI v3)]) rfl (fun ls hl => ?_)
    refine a_aload (pc := 40) X dJ19_listFromTrustedArray_40 hl 0 rfl ?_
    refine a_callb (pc := 42) (rs := []) (avs := [vR x37]) Z.1 (w_J17_requireNonNull GA x37) (Or.inl rfl) q2726 q99 (by decide) (by decide) dJ19_listFromTrustedArray_42 hl.1 (Nat.le_of_ble_eq_true rfl) hf (ct_S X (Or.inl rfl) q2726 q99 q2724 q2725 hy_J17_requireNonNull np_J17_requireNonNull rfl dJ19_listFromTrustedArray_42) (fun q h he hX => a_out (unc_of Z.2.1 rfl) Z.2.2.2.1 he hX) (fun x42 h hf => ?kk42)
    refine AW.eq (g2 := F0 m 45 ls [va_rf x42]) rfl ?_
    refine AW.lift (fun _ _ _ _ k => lv_pop (pc := 45) X.2.2.1 X.2.2.2.1 dJ19_listFromTrustedArray_45 (cat_rf _) k) ?_
    refine a_iinc (pc := 46) (v := (v3 + (1 : Int32))) X dJ19_listFromTrustedArray_46 hl (k := 4) rfl rfl (by decide) (lv' := [(3, vI (v3 + (1 : Int32))), (4, vR x37), (0, vR v0), (1, vR v1), (2, vI v2)]) rfl (fun ls hl => ?_)
    refine AW.lift (fun _ _ _ _ k => lv_goto (pc := 49) (tgt := 30) X.2.2.1 X.2.2.2.1 dJ19_listFromTrustedArray_49 rfl k) ?_
    exact hrc30 (v3 + (1 : Int32)) _ _ (hl.sub [2, 3, 4, 0] rfl) hf
theorem w_J19_listFromTrustedArray_l30 {r : Except Nat (Option Nat) × AH} (GA : GA l s0 a0 K lam) (Z : WZ l s0 a0 K p s m c cJ19_listFromTrustedArray yJ19_listFromTrustedArray.cls 5 b R 5 102 meth [] (some (.object "java/util/List")) yJ19_listFromTrustedArray) (v0 : Option Nat) (v1 : Option Nat) (v2 : Int32)  : ∀ (n : Nat) (v3 : Int32) (h : AH) (ls : Array Slot), LV ls 5 [(0, vR v0), (1, vR v1), (2, vI v2), (3, vI v3)] → f_J19_listFromTrustedArray_l30 K v0 v1 v2 n v3 h = some r → AW s0 K lam p l e R s m args below meth c (AQ s0 K lam below oR b r s) b h (F0 m 30 ls []) := by
  intro n
  induction n with
  | zero => intro v3 h ls hl hf; exact fl_no (h := h) hf
  | succ n ih => intro v3 h ls hl hf; exact w_J19_listFromTrustedArray_b30 GA Z v0 v1 v2 v3 (f_J19_listFromTrustedArray_l30 K v0 v1 v2 n) ih hl hf
theorem w_J19_listFromTrustedArray_j23 {r : Except Nat (Option Nat) × AH} (GA : GA l s0 a0 K lam) (Z : WZ l s0 a0 K p s m c cJ19_listFromTrustedArray yJ19_listFromTrustedArray.cls 5 b R 5 102 meth [] (some (.object "java/util/List")) yJ19_listFromTrustedArray) (v0 : Option Nat)   {h : AH} {ls : Array Slot} (hl : LV ls 5 [(0, vR v0)]) (hf : f_J19_listFromTrustedArray_j23 K v0 h = some r) : AW s0 K lam p l e R s m args below meth c (AQ s0 K lam below oR b r s) b h (F0 m 23 ls []) := by
  unfold f_J19_listFromTrustedArray_j23 at hf
  have X := Z.1.1
  refine a_aload_n (pc := 23) X dJ19_listFromTrustedArray_23 rfl hl 0 rfl ?_
  refine a_astore_n (pc := 24) X dJ19_listFromTrustedArray_24 rfl hl (by decide) (lv' := [(1, vR v0), (0, vR v0)]) rfl (fun ls hl => ?_)
  refine a_aload_n (pc := 25) X dJ19_listFromTrustedArray_25 rfl hl 0 rfl ?_
  refine a_arraylength (pc := 26) X dJ19_listFromTrustedArray_26 hf (fun x26 hf => ?_)
  refine a_istore_n (pc := 27) X dJ19_listFromTrustedArray_27 rfl hl (by decide) (lv' := [(2, vI x26), (1, vR v0), (0, vR v0)]) rfl (fun ls hl => ?_)
  refine AW.lift (fun _ _ _ _ k => lv_iconst (pc := 28) (v := (0 : Int32)) X.2.2.1 X.2.2.2.1 dJ19_listFromTrustedArray_28 rfl k) ?_
  refine a_istore_n (pc := 29) X dJ19_listFromTrustedArray_29 rfl hl (by decide) (lv' := [(3, vI (0 : Int32)), (2, vI x26), (1, vR v0), (0, vR v0)]) rfl (fun ls hl => ?_)
  exact w_J19_listFromTrustedArray_l30 GA Z v0 v0 x26  FU (0 : Int32) _ _ (hl.sub [3, 2, 1, 0] rfl) hf
theorem np_J19_listFromTrustedArray : npar yJ19_listFromTrustedArray.desc 1 := by unfold npar; decide +kernel
theorem hy_J19_listFromTrustedArray : yJ19_listFromTrustedArray.cls ≠ "java/lang/invoke/MethodHandle" ∧ yJ19_listFromTrustedArray.cls ≠ "java/lang/invoke/VarHandle" := by decide +kernel
theorem w_J19_listFromTrustedArray (GA : GA l s0 a0 K lam) (v0 : Option Nat) : AMet l s0 K lam yJ19_listFromTrustedArray (Cond.code yJ19_listFromTrustedArray cJ19_listFromTrustedArray (5 : Nat) (Option.some (ClassFile.FieldType.object "java/util/List"))) 5 102 [vR v0] oR (f_J19_listFromTrustedArray K v0) := by
  refine AMet.of GA.1 (plainFor_of_name (by decide +kernel)) (Nat.le_of_ble_eq_true rfl) ?_
  intro b r hf p e s m args below meth c X hr hlk hnm hnd ht ls hl
  have Z : WZ l s0 a0 K p s m c cJ19_listFromTrustedArray yJ19_listFromTrustedArray.cls 5 b { frames := 5, cells := K 0 - aX b, slots := K 1 - aW b, locals := 102 } 5 102 meth [] (some (.object "java/util/List")) yJ19_listFromTrustedArray := ⟨⟨X, GA.2.1, GA.2.2.1, rfl, rfl, Nat.le_refl _, Nat.le_refl _⟩, tab_nil ht, hr, hlk, hnm, hnd⟩
  unfold f_J19_listFromTrustedArray at hf
  clear hr hlk hnm hnd ht
  refine a_getstatic (pc := 0) (v := .int (1 : Int32)) X (st_java_util_ImmutableCollections GA) (gw X.1 X.2.1 q2720) (fun _ q => q) dJ19_listFromTrustedArray_0 ?_
  refine AW.lift2 (fun _ _ _ _ k1 k2 => lv_if_ne (pc := 3) (tgt := 23) X.2.2.1 X.2.2.2.1 dJ19_listFromTrustedArray_3 rfl k2 k1) (fun c => ?_) (fun c => ?_)
  · have hf := ite_t c hf
    refine a_aload_n (pc := 6) X dJ19_listFromTrustedArray_6 rfl hl 0 rfl ?_
    exact fl_no hf
  · have hf := ite_f c hf
    exact w_J19_listFromTrustedArray_j23 GA Z v0   (hl.sub [0] rfl) hf
theorem np_J41_of : npar yJ41_of.desc 7 := by unfold npar; decide +kernel
theorem hy_J41_of : yJ41_of.cls ≠ "java/lang/invoke/MethodHandle" ∧ yJ41_of.cls ≠ "java/lang/invoke/VarHandle" := by decide +kernel
theorem w_J41_of (GA : GA l s0 a0 K lam) (v0 : Option Nat) (v1 : Option Nat) (v2 : Option Nat) (v3 : Option Nat) (v4 : Option Nat) (v5 : Option Nat) (v6 : Option Nat) : AMet l s0 K lam yJ41_of (Cond.code yJ41_of cJ41_of (7 : Nat) (Option.some (ClassFile.FieldType.object "java/util/List"))) 6 126 [vR v0, vR v1, vR v2, vR v3, vR v4, vR v5, vR v6] oR (f_J41_of K v0 v1 v2 v3 v4 v5 v6) := by
  refine AMet.of GA.1 (plainFor_of_name (by decide +kernel)) (Nat.le_of_ble_eq_true rfl) ?_
  intro b r hf p e s m args below meth c X hr hlk hnm hnd ht ls hl
  have Z : WZ l s0 a0 K p s m c cJ41_of yJ41_of.cls 7 b { frames := 6, cells := K 0 - aX b, slots := K 1 - aW b, locals := 126 } 6 126 meth [] (some (.object "java/util/List")) yJ41_of := ⟨⟨X, GA.2.1, GA.2.2.1, rfl, rfl, Nat.le_refl _, Nat.le_refl _⟩, tab_nil ht, hr, hlk, hnm, hnd⟩
  unfold f_J41_of at hf
  clear hr hlk hnm hnd ht
  refine AW.lift (fun _ _ _ _ k => lv_bipush (pc := 0) (v := (7 : Int32)) X.2.2.1 X.2.2.2.1 dJ41_of_0 rfl k) ?_
  refine a_anewarray (pc := 2) (t := 1006) (C := "java/lang/Object") (by decide) rfl X Z.1.2.2.2.1 Z.1.2.2.2.2.1 (gw X.1 X.2.1 q2716) (ao_1006 GA) dJ41_of_2 hf (fun x2 h hf => ?_)
  refine AW.lift (fun _ _ _ _ k => lv_dup (pc := 5) X.2.2.1 X.2.2.2.1 dJ41_of_5 (cat_rf _) k) ?_
  refine AW.lift (fun _ _ _ _ k => lv_iconst (pc := 6) (v := (0 : Int32)) X.2.2.1 X.2.2.2.1 dJ41_of_6 rfl k) ?_
  refine a_aload_n (pc := 7) X dJ41_of_7 rfl hl 0 rfl ?_
  refine a_aastore (pc := 8) (t := 1006) (C := "java/lang/Object") (by decide) rfl X (cs_java_lang_Object GA) dJ41_of_8 hf (fun h hf => ?_)
  refine AW.lift (fun _ _ _ _ k => lv_dup (pc := 9) X.2.2.1 X.2.2.2.1 dJ41_of_9 (cat_rf _) k) ?_
  refine AW.lift (fun _ _ _ _ k => lv_iconst (pc := 10) (v := (1 : Int32)) X.2.2.1 X.2.2.2.1 dJ41_of_10 rfl k) ?_
  refine a_aload_n (pc := 11) X dJ41_of_11 rfl hl 1 rfl ?_
  refine a_aastore (pc := 12) (t := 1006) (C := "java/lang/Object") (by decide) rfl X (cs_java_lang_Object GA) dJ41_of_12 hf (fun h hf => ?_)
  refine AW.lift (fun _ _ _ _ k => lv_dup (pc := 13) X.2.2.1 X.2.2.2.1 dJ41_of_13 (cat_rf _) k) ?_
  refine AW.lift (fun _ _ _ _ k => lv_iconst (pc := 14) (v := (2 : Int32)) X.2.2.1 X.2.2.2.1 dJ41_of_14 rfl k) ?_
  refine a_aload_n (pc := 15) X dJ41_of_15 rfl hl 2 rfl ?_
  refine a_aastore (pc := 16) (t := 1006) (C := "java/lang/Object") (by decide) rfl X (cs_java_lang_Object GA) dJ41_of_16 hf (fun h hf => ?_)
  refine AW.lift (fun _ _ _ _ k => lv_dup (pc := 17) X.2.2.1 X.2.2.2.1 dJ41_of_17 (cat_rf _) k) ?_
  refine AW.lift (fun _ _ _ _ k => lv_iconst (pc := 18) (v := (3 : Int32)) X.2.2.1 X.2.2.2.1 dJ41_of_18 rfl k) ?_
  refine a_aload_n (pc := 19) X dJ41_of_19 rfl hl 3 rfl ?_
  refine a_aastore (pc := 20) (t := 1006) (C := "java/lang/Object") (by decide) rfl X (cs_java_lang_Object GA) dJ41_of_20 hf (fun h hf => ?_)
  refine AW.lift (fun _ _ _ _ k => lv_dup (pc := 21) X.2.2.1 X.2.2.2.1 dJ41_of_21 (cat_rf _) k) ?_
  refine AW.lift (fun _ _ _ _ k => lv_iconst (pc := 22) (v := (4 : Int32)) X.2.2.1 X.2.2.2.1 dJ41_of_22 rfl k) ?_
  refine a_aload (pc := 23) X dJ41_of_23 hl 4 rfl ?_
  refine a_aastore (pc := 25) (t := 1006) (C := "java/lang/Object") (by decide) rfl X (cs_java_lang_Object GA) dJ41_of_25 hf (fun h hf => ?_)
  refine AW.lift (fun _ _ _ _ k => lv_dup (pc := 26) X.2.2.1 X.2.2.2.1 dJ41_of_26 (cat_rf _) k) ?_
  refine AW.lift (fun _ _ _ _ k => lv_iconst (pc := 27) (v := (5 : Int32)) X.2.2.1 X.2.2.2.1 dJ41_of_27 rfl k) ?_
  refine a_aload (pc := 28) X dJ41_of_28 hl 5 rfl ?_
  refine a_aastore (pc := 30) (t := 1006) (C := "java/lang/Object") (by decide) rfl X (cs_java_lang_Object GA) dJ41_of_30 hf (fun h hf => ?_)
  refine AW.lift (fun _ _ _ _ k => lv_dup (pc := 31) X.2.2.1 X.2.2.2.1 dJ41_of_31 (cat_rf _) k) ?_
  refine AW.lift (fun _ _ _ _ k => lv_bipush (pc := 32) (v := (6 : Int32)) X.2.2.1 X.2.2.2.1 dJ41_of_32 rfl k) ?_
  refine a_aload (pc := 34) X dJ41_of_34 hl 6 rfl ?_
  refine a_aastore (pc := 36) (t := 1006) (C := "java/lang/Object") (by decide) rfl X (cs_java_lang_Object GA) dJ41_of_36 hf (fun h hf => ?_)
  refine a_callb (pc := 37) (rs := []) (avs := [vR (some x2)]) Z.1 (w_J19_listFromTrustedArray GA (some x2)) (Or.inl rfl) q2719 q101 (by decide) (by decide) dJ41_of_37 hl.1 (Nat.le_of_ble_eq_true rfl) hf (ct_S X (Or.inl rfl) q2719 q101 q2717 q2718 hy_J19_listFromTrustedArray np_J19_listFromTrustedArray rfl dJ41_of_37) (fun q h he hX => a_out (unc_of Z.2.1 rfl) Z.2.2.2.1 he hX) (fun x37 h hf => ?kk37)
  refine AW.eq (g2 := F0 m 40 ls [va_rf x37]) rfl ?_
  exact a_areturn X Z.2.2.1 (Or.inl ⟨_, rfl⟩) Z.2.2.2.1 dJ41_of_40 hf
theorem np_J5_getValue : npar yJ5_getValue.desc 0 := by unfold npar; decide +kernel
theorem hy_J5_getValue : yJ5_getValue.cls ≠ "java/lang/invoke/MethodHandle" ∧ yJ5_getValue.cls ≠ "java/lang/invoke/VarHandle" := by decide +kernel
theorem w_J5_getValue (GA : GA l s0 a0 K lam) (v0 : Option Nat) : AMet l s0 K lam yJ5_getValue (Cond.code yJ5_getValue cJ5_getValue (1 : Nat) (Option.some (ClassFile.FieldType.array ClassFile.FieldType.byte))) 0 0 [vR v0] oR (f_J5_getValue K v0) := by
  refine AMet.of GA.1 (plainFor_of_name (by decide +kernel)) (Nat.le_of_ble_eq_true rfl) ?_
  intro b r hf p e s m args below meth c X hr hlk hnm hnd ht ls hl
  have Z : WZ l s0 a0 K p s m c cJ5_getValue yJ5_getValue.cls 1 b { frames := 0, cells := K 0 - aX b, slots := K 1 - aW b, locals := 0 } 0 0 meth [] (some (.array (.byte))) yJ5_getValue := ⟨⟨X, GA.2.1, GA.2.2.1, rfl, rfl, Nat.le_refl _, Nat.le_refl _⟩, tab_nil ht, hr, hlk, hnm, hnd⟩
  unfold f_J5_getValue at hf
  clear hr hlk hnm hnd ht
  refine a_aload_n (pc := 0) X dJ5_getValue_0 rfl hl 0 rfl ?_
  refine a_get (pc := 1) (φ := 3500) pR_t X Z.1.2.1 (gw X.1 X.2.1 q293) (fun _ q => q) (by decide) dJ5_getValue_1 hf (fun x1 hf => ?_)
  exact a_areturn X Z.2.2.1 (Or.inr ⟨_, rfl⟩) Z.2.2.2.1 dJ5_getValue_4 hf
theorem np_J13_checkLength : npar yJ13_checkLength.desc 2 := by unfold npar; decide +kernel
theorem hy_J13_checkLength : yJ13_checkLength.cls ≠ "java/lang/invoke/MethodHandle" ∧ yJ13_checkLength.cls ≠ "java/lang/invoke/VarHandle" := by decide +kernel
theorem w_J13_checkLength (GA : GA l s0 a0 K lam) (v0 : Int32) (v1 : Int32) : AMet l s0 K lam yJ13_checkLength (Cond.code yJ13_checkLength cJ13_checkLength (2 : Nat) (Option.none : Option ClassFile.FieldType)) 6 143 [vI v0, vI v1] oV (f_J13_checkLength K v0 v1) := by
  refine AMet.of GA.1 (plainFor_of_name (by decide +kernel)) (Nat.le_of_ble_eq_true rfl) ?_
  intro b r hf p e s m args below meth c X hr hlk hnm hnd ht ls hl
  have Z : WZ l s0 a0 K p s m c cJ13_checkLength yJ13_checkLength.cls 2 b { frames := 6, cells := K 0 - aX b, slots := K 1 - aW b, locals := 143 } 6 143 meth [] none yJ13_checkLength := ⟨⟨X, GA.2.1, GA.2.2.1, rfl, rfl, Nat.le_refl _, Nat.le_refl _⟩, tab_nil ht, hr, hlk, hnm, hnd⟩
  unfold f_J13_checkLength at hf
  clear hr hlk hnm hnd ht
  refine a_iload_n (pc := 0) X dJ13_checkLength_0 rfl hl 1 rfl ?_
  refine a_iload_n (pc := 1) X dJ13_checkLength_1 rfl hl 0 rfl ?_
  refine AW.lift2 (fun _ _ _ _ k1 k2 => lv_icmp_ge (pc := 2) (tgt := 37) X.2.2.1 X.2.2.2.1 dJ13_checkLength_2 rfl k1 k2) (fun c => ?_) (fun c => ?_)
  · have hf := ite_t c hf
    exact a_return X Z.2.2.1 Z.2.2.2.1 dJ13_checkLength_37 hf
  · have hf := ite_f c hf
    refine a_new (pc := 5) (cK := 17) (n := 6) X Z.1.2.1 Z.1.2.2.1 Z.1.2.2.2.1 Z.1.2.2.2.2.1 ⟨by decide, by decide, by decide⟩ (gw X.1 X.2.1 q733) (gw X.1 X.2.1 q734) (gw X.1 X.2.1 q106) dJ13_checkLength_5 hf (fun x5 h hf => ?_)
    refine AW.lift (fun _ _ _ _ k => lv_dup (pc := 8) X.2.2.1 X.2.2.2.1 dJ13_checkLength_8 (cat_rf _) k) ?_
    refine a_new (pc := 9) (cK := 36) (n := 4) X Z.1.2.1 Z.1.2.2.1 Z.1.2.2.2.1 Z.1.2.2.2.2.1 ⟨by decide, by decide, by decide⟩ (gw X.1 X.2.1 q742) (gw X.1 X.2.1 q276) (gw X.1 X.2.1 q83) dJ13_checkLength_9 hf (fun x9 h hf => ?_)
    refine AW.lift (fun _ _ _ _ k => lv_dup (pc := 12) X.2.2.1 X.2.2.2.1 dJ13_checkLength_12 (cat_rf _) k) ?_
    refine a_callb (pc := 13) (rs := [vR (some x9), vR (some x5), vR (some x5)]) (avs := [vR (some x9)]) Z.1 (w_J6_init GA (some x9)) (Or.inl rfl) q279 q83 (by decide) (by decide) dJ13_checkLength_13 hl.1 (Nat.le_of_ble_eq_true rfl) hf (ct_I X q279 q743 q278 rfl hy_J6_init np_J6_init rfl dJ13_checkLength_13) (fun q h he hX => a_out (unc_of Z.2.1 rfl) Z.2.2.2.1 he hX) (fun _ h hf => ?kk13)
    refine AW.eq (g2 := F0 m 16 ls [va_rf (some x9), va_rf (some x5), va_rf (some x5)]) rfl ?_
    refine a_iload_n (pc := 16) X dJ13_checkLength_16 rfl hl 0 rfl ?_
    rcases dv_someS hf with ⟨hk, hf⟩ | ⟨-, hf⟩
    rotate_left
    · exact fl_none hf
    refine a_callb (pc := 17) (rs := [vR (some x5), vR (some x5)]) (avs := [vR (some x9), vI v0]) Z.1 (w_J6_append_2 GA (some x9) v0) (Or.inl rfl) q665 q83 (by decide) (by decide) dJ13_checkLength_17 hl.1 (Nat.le_of_ble_eq_true rfl) hf (ct_V hk ⟨by decide, by decide⟩ X (Or.inl rfl) q665 q744 q663 q664 hy_J6_append_2 np_J6_append_2 rfl dJ13_checkLength_17) (fun q h he hX => a_out (unc_of Z.2.1 rfl) Z.2.2.2.1 he hX) (fun x17 h hf => ?kk17)
    refine AW.eq (g2 := F0 m 20 ls [va_rf x17, va_rf (some x5), va_rf (some x5)]) rfl ?_
    exact fl_no hf
end WK
