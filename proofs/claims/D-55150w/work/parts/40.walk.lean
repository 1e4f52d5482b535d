section WK
variable {l : Launch} {s0 : State} {a0 : Array Value} {K : Nat → Nat} {lam : Nat → ClassId}
variable {p : Program} {e : Env} {R : Room} {s : State} {m : MethodId} {args : Array Value} {below : List Frame} {meth : Method} {c : Code} {b : AH}
theorem np_X0_lasts : npar yX0_lasts.desc 3 := by unfold npar; decide +kernel
theorem hy_X0_lasts : yX0_lasts.cls ≠ "java/lang/invoke/MethodHandle" ∧ yX0_lasts.cls ≠ "java/lang/invoke/VarHandle" := by decide +kernel
theorem w_X0_lasts (GA : GA l s0 a0 K lam) (v0 : Option Nat) (v1 : Int32) (v2 : Option Nat) : AMet l s0 K lam yX0_lasts (Cond.codeWith yX0_lasts cX0_lasts (4 : Nat) (Option.some ClassFile.FieldType.int) [((0 : Nat), (9 : Nat), (12 : Nat), (19 : Nat)), ((0 : Nat), (9 : Nat), (15 : Nat), (39 : Nat))]) 13 3157 [vR v0, vI v1, vR v2] oI (f_X0_lasts K v0 v1 v2) := by
  refine AMet.ofW GA.1 (plainFor_of_name (by decide +kernel)) (Nat.le_of_ble_eq_true rfl) ?_
  intro b r hf p e s m args below meth c X hr hlk hnm hnd ht ls hl
  have Z : WZ l s0 a0 K p s m c cX0_lasts yX0_lasts.cls 4 b { frames := 13, cells := K 0 - aX b, slots := K 1 - aW b, locals := 3157 } 13 3157 meth [(0, 9, 12, 19), (0, 9, 15, 39)] (some (.int)) yX0_lasts := ⟨⟨X, GA.2.1, GA.2.2.1, rfl, rfl, Nat.le_refl _, Nat.le_refl _⟩, ht, hr, hlk, hnm, hnd⟩
  unfold f_X0_lasts at hf
  clear hr hlk hnm hnd ht
  refine a_aload_n (pc := 0) X dX0_lasts_0 rfl hl 2 rfl ?_
  refine AW.lift (fun _ _ _ _ k => lv_iconst (pc := 1) (v := (0 : Int32)) X.2.2.1 X.2.2.2.1 dX0_lasts_1 rfl k) ?_
  refine a_aload_n (pc := 2) X dX0_lasts_2 rfl hl 0 rfl ?_
  refine a_iload_n (pc := 3) X dX0_lasts_3 rfl hl 1 rfl ?_
  obtain ⟨a4, rfl, ⟨hk, hf⟩ | ⟨-, hf⟩⟩ := dv_tsome hf
  rotate_left
  · exact fl_tnone hf
  refine a_callt (pc := 4) (rs := [vI (0 : Int32), vR v2]) (avs := [vR (some a4), vI v1]) Z.1 (w_X1_lasts GA (some a4) v1) (Or.inl rfl) q1965 q74 (by decide) (by decide) dX0_lasts_4 hl.1 (Nat.le_of_ble_eq_true rfl) hf (ct_V hk ⟨by decide, by decide⟩ X (Or.inl rfl) q1965 q1962 q1963 q1964 hy_X1_lasts np_X1_lasts rfl dX0_lasts_4) (fun q h hf hX => ?hx4) (fun x4 h hf => ?kk4)
  case hx4 =>
    rcases ctc_some hf with ⟨hy, hf⟩ | ⟨hn0, hf⟩
    · refine a_catchH (st := 0) (en := 9) (hp := 12) (ct := 19) (pre := []) (suf := [(0, 9, 15, 39)]) X hX Z.2.1 rfl (fun z hz => nomatch hz) (by decide) (Or.inr ⟨by decide, _, gw X.1 X.2.1 q1786, (cs_X19 GA) _ hy⟩) (AW.eq (g2 := F0 m 12 ls [va_rf (some q)]) rfl ?_)
      refine a_astore_n (pc := 12) X dX0_lasts_12 rfl hl (by decide) (lv' := [(3, vR (some q)), (0, vR (some a4)), (1, vI v1), (2, vR v2)]) rfl (fun ls hl => ?_)
      refine AW.lift (fun _ _ _ _ k => lv_iconst (pc := 13) (v := (1 : Int32)) X.2.2.1 X.2.2.2.1 dX0_lasts_13 rfl k) ?_
      exact a_ireturn X Z.2.2.1 Z.2.2.2.1 dX0_lasts_14 hf
    · skip
      rcases ctc_some hf with ⟨hy, hf⟩ | ⟨hn1, hf⟩
      · refine a_catchH (st := 0) (en := 9) (hp := 15) (ct := 39) (pre := [(0, 9, 12, 19)]) (suf := []) X hX Z.2.1 rfl (by intro z hz; simp only [List.mem_cons, List.not_mem_nil, or_false] at hz; rcases hz with rfl <;> first | exact Or.inl (by decide) | exact Or.inr ⟨by decide, _, gw X.1 X.2.1 q1786, (nc_12_13_14_16_17_18_20_21_java_lang_IndexOutOfBoundsException GA _ (by simpa using hn0)).2.2⟩) (by decide) (Or.inr ⟨by decide, _, gw X.1 X.2.1 q1961, (cs_X20 GA) _ hy⟩) (AW.eq (g2 := F0 m 15 ls [va_rf (some q)]) rfl ?_)
        refine a_astore_n (pc := 15) X dX0_lasts_15 rfl hl (by decide) (lv' := [(3, vR (some q)), (0, vR (some a4)), (1, vI v1), (2, vR v2)]) rfl (fun ls hl => ?_)
        refine AW.lift (fun _ _ _ _ k => lv_iconst (pc := 16) (v := (2 : Int32)) X.2.2.1 X.2.2.2.1 dX0_lasts_16 rfl k) ?_
        exact a_ireturn X Z.2.2.1 Z.2.2.2.1 dX0_lasts_17 hf
      · skip
        exact a_outH X Z.2.1 (by intro z hz; simp only [List.mem_cons, List.not_mem_nil, or_false] at hz; rcases hz with rfl | rfl <;> first | exact Or.inl (by decide) | exact Or.inr ⟨by decide, _, gw X.1 X.2.1 q1786, (nc_12_13_14_16_17_18_20_21_java_lang_IndexOutOfBoundsException GA _ (by simpa using hn0)).2.2⟩ | exact Or.inr ⟨by decide, _, gw X.1 X.2.1 q1961, (nc_12_13_14_16_17_18_19_21_java_util_NoSuchElementException GA _ (by simpa using hn1)).2.2⟩) Z.2.2.2.1 (th_eq hf) hX
  refine AW.eq (g2 := F0 m 7 ls [.int x4, .int (0 : Int32), va_rf v2]) rfl ?_
  refine AW.lift (fun _ _ _ _ k => lv_i2l (pc := 7) X.2.2.1 X.2.2.2.1 dX0_lasts_7 rfl k) ?_
  refine a_lastore (pc := 8) X dX0_lasts_8 hf (fun h hf => ?_)
  refine AW.lift (fun _ _ _ _ k => lv_goto (pc := 9) (tgt := 18) X.2.2.1 X.2.2.2.1 dX0_lasts_9 rfl k) ?_
  refine AW.lift (fun _ _ _ _ k => lv_iconst (pc := 18) (v := (0 : Int32)) X.2.2.1 X.2.2.2.1 dX0_lasts_18 rfl k) ?_
  exact a_ireturn X Z.2.2.1 Z.2.2.2.1 dX0_lasts_19 hf
theorem w_X4_jumps_j60 {r : Except Nat (Unit) × AH} (GA : GA l s0 a0 K lam) (Z : WZ l s0 a0 K p s m c cX4_jumps yX4_jumps.cls 5 b R 1 29 meth [] none yX4_jumps) (v0 : Option Nat) (v1 : Int32) (v2 : Int32) (v3 : Int32)   {h : AH} {ls : Array Slot} (hl : LV ls 5 [(0, vR v0), (1, vI v1), (2, vI v2), (3, vI v3)]) (hf : f_X4_jumps_j60 K v0 v1 v2 v3 h = some r) : AW s0 K lam p l e R s m args below meth c (AQ s0 K lam below oV b r s) b h (F0 m 60 ls []) := by
  unfold f_X4_jumps_j60 at hf
  have X := Z.1.1
  refine a_aload_n (pc := 60) X dX4_jumps_60 rfl hl 0 rfl ?_
  refine a_get (pc := 61) (φ := 100) pR_t X Z.1.2.1 (gw X.1 X.2.1 q3025) (fun _ q => q) (by decide) dX4_jumps_61 hf (fun x61 hf => ?_)
  refine a_iload_n (pc := 64) X dX4_jumps_64 rfl hl 2 rfl ?_
  refine a_iload_n (pc := 65) X dX4_jumps_65 rfl hl 3 rfl ?_
  refine AW.lift (fun _ _ _ _ k => lv_iadd (pc := 66) X.2.2.1 X.2.2.2.1 dX4_jumps_66 k) ?_
  refine AW.lift (fun _ _ _ _ k => lv_bipush (pc := 67) (v := (9 : Int32)) X.2.2.1 X.2.2.2.1 dX4_jumps_67 rfl k) ?_
  refine a_aload_n (pc := 69) X dX4_jumps_69 rfl hl 0 rfl ?_
  refine a_get (pc := 70) (φ := 100) pR_t X Z.1.2.1 (gw X.1 X.2.1 q3025) (fun _ q => q) (by decide) dX4_jumps_70 hf (fun x70 hf => ?_)
  refine a_iload_n (pc := 73) X dX4_jumps_73 rfl hl 2 rfl ?_
  refine a_iload_n (pc := 74) X dX4_jumps_74 rfl hl 3 rfl ?_
  refine AW.lift (fun _ _ _ _ k => lv_iadd (pc := 75) X.2.2.1 X.2.2.2.1 dX4_jumps_75 k) ?_
  refine a_iaload (pc := 76) X dX4_jumps_76 hf (fun x76 hf => ?_)
  refine AW.lift (fun _ _ _ _ k => lv_iconst (pc := 77) (v := (1 : Int32)) X.2.2.1 X.2.2.2.1 dX4_jumps_77 rfl k) ?_
  refine AW.lift (fun _ _ _ _ k => lv_iadd (pc := 78) X.2.2.1 X.2.2.2.1 dX4_jumps_78 k) ?_
  refine a_aload_n (pc := 79) X dX4_jumps_79 rfl hl 0 rfl ?_
  refine a_get (pc := 80) (φ := 100) pR_t X Z.1.2.1 (gw X.1 X.2.1 q3025) (fun _ q => q) (by decide) dX4_jumps_80 hf (fun x80 hf => ?_)
  refine a_iload_n (pc := 83) X dX4_jumps_83 rfl hl 1 rfl ?_
  refine a_callb (pc := 84) (rs := [vR x80, vI (x76 + (1 : Int32)), vI (9 : Int32), vI (v2 + v3), vR x61]) (avs := [vI v1]) Z.1 (w_X4_at0 GA v1) (Or.inl rfl) q3154 q86 (by decide) (by decide) dX4_jumps_84 hl.1 (Nat.le_of_ble_eq_true rfl) hf (ct_S X (Or.inl rfl) q3154 q86 q3152 q3153 hy_X4_at0 np_X4_at0 rfl dX4_jumps_84) (fun q h he hX => a_out (unc_of Z.2.1 rfl) Z.2.2.2.1 he hX) (fun x84 h hf => ?kk84)
  refine AW.eq (g2 := F0 m 87 ls [.int x84, va_rf x80, .int (x76 + (1 : Int32)), .int (9 : Int32), .int (v2 + v3), va_rf x61]) rfl ?_
  refine AW.lift (fun _ _ _ _ k => lv_iconst (pc := 87) (v := (0 : Int32)) X.2.2.1 X.2.2.2.1 dX4_jumps_87 rfl k) ?_
  refine AW.lift (fun _ _ _ _ k => lv_iadd (pc := 88) X.2.2.1 X.2.2.2.1 dX4_jumps_88 k) ?_
  refine a_iaload (pc := 89) X dX4_jumps_89 hf (fun x89 hf => ?_)
  refine AW.lift (fun _ _ _ _ k => lv_bipush (pc := 90) (v := (40 : Int32)) X.2.2.1 X.2.2.2.1 dX4_jumps_90 rfl k) ?_
  refine AW.lift (fun _ _ _ _ k => lv_idiv (pc := 92) X.2.2.1 X.2.2.2.1 dX4_jumps_92 (by decide) k) ?_
  refine AW.lift (fun _ _ _ _ k => lv_iadd (pc := 93) X.2.2.1 X.2.2.2.1 dX4_jumps_93 k) ?_
  refine AW.lift_c Z.1 (fun _ _ _ _ hc hs k => va_mmin (pc := 94) X.2.2.1 X.2.2.2.1 (X.2.2.2.2.2.trans hl.1.symm) X.2.2.2.2.1 (gw X.1 X.2.1 q3254) (gw X.1 X.2.1 q583) (gw X.1 X.2.1 q93) (gw X.1 X.2.1 q584) (Nat.le_trans (by decide) Z.1.2.2.2.2.2.1) (cat_le (rs := [vI (v2 + v3), vR x61]) (Nat.le_of_ble_eq_true rfl) Z.1.2.2.2.2.2.2) hc hs dX4_jumps_94 k) ?_
  refine AW.eq (g2 := F0 m 97 ls [.int (if ((x76 + (1 : Int32)) + (x89 / (40 : Int32))) < (9 : Int32) then ((x76 + (1 : Int32)) + (x89 / (40 : Int32))) else (9 : Int32)), .int (v2 + v3), va_rf x61]) rfl ?_
  refine a_iastore (pc := 97) X dX4_jumps_97 hf (fun h hf => ?_)
  refine a_aload_n (pc := 98) X dX4_jumps_98 rfl hl 0 rfl ?_
  refine a_get (pc := 99) (φ := 100) pR_t X Z.1.2.1 (gw X.1 X.2.1 q3025) (fun _ q => q) (by decide) dX4_jumps_99 hf (fun x99 hf => ?_)
  refine a_iload_n (pc := 102) X dX4_jumps_102 rfl hl 1 rfl ?_
  refine a_callb (pc := 103) (rs := [vR x99]) (avs := [vI v1]) Z.1 (w_X4_at0 GA v1) (Or.inl rfl) q3154 q86 (by decide) (by decide) dX4_jumps_103 hl.1 (Nat.le_of_ble_eq_true rfl) hf (ct_S X (Or.inl rfl) q3154 q86 q3152 q3153 hy_X4_at0 np_X4_at0 rfl dX4_jumps_103) (fun q h he hX => a_out (unc_of Z.2.1 rfl) Z.2.2.2.1 he hX) (fun x103 h hf => ?kk103)
  refine AW.eq (g2 := F0 m 106 ls [.int x103, va_rf x99]) rfl ?_
  refine AW.lift (fun _ _ _ _ k => lv_iconst (pc := 106) (v := (5 : Int32)) X.2.2.1 X.2.2.2.1 dX4_jumps_106 rfl k) ?_
  refine AW.lift (fun _ _ _ _ k => lv_iadd (pc := 107) X.2.2.1 X.2.2.2.1 dX4_jumps_107 k) ?_
  refine AW.lift (fun _ _ _ _ k => lv_dup2_11 (pc := 108) X.2.2.1 X.2.2.2.1 dX4_jumps_108 rfl (cat_rf _) k) ?_
  refine a_iaload (pc := 109) X dX4_jumps_109 hf (fun x109 hf => ?_)
  refine AW.lift (fun _ _ _ _ k => lv_iconst (pc := 110) (v := (1 : Int32)) X.2.2.1 X.2.2.2.1 dX4_jumps_110 rfl k) ?_
  refine AW.lift (fun _ _ _ _ k => lv_iadd (pc := 111) X.2.2.1 X.2.2.2.1 dX4_jumps_111 k) ?_
  refine a_iastore (pc := 112) X dX4_jumps_112 hf (fun h hf => ?_)
  exact a_return X Z.2.2.1 Z.2.2.2.1 dX4_jumps_113 hf
theorem w_X4_jumps_j53 {r : Except Nat (Unit) × AH} (GA : GA l s0 a0 K lam) (Z : WZ l s0 a0 K p s m c cX4_jumps yX4_jumps.cls 5 b R 1 29 meth [] none yX4_jumps) (v0 : Option Nat) (v1 : Int32) (v2 : Int32) (v4 : Int32) (t0 : Int32) (rc20 : Int32 → Int32 → AM (Unit)) (hrc20 : ∀ (v3 : Int32) (v4 : Int32) (h : AH) (ls : Array Slot), LV ls 5 [(0, vR v0), (1, vI v1), (2, vI v2), (3, vI v3), (4, vI v4)] → rc20 v3 v4 h = some r → AW s0 K lam p l e R s m args below meth c (AQ s0 K lam below oV b r s) b h (F0 m 20 ls [])) {h : AH} {ls : Array Slot} (hl : LV ls 5 [(0, vR v0), (1, vI v1), (2, vI v2), (4, vI v4)]) (hf : f_X4_jumps_j53 K rc20 v0 v1 v2 v4 t0 h = some r) : AW s0 K lam p l e R s m args below meth c (AQ s0 K lam below oV b r s) b h (F0 m 53 ls [.int t0]) := by
  unfold f_X4_jumps_j53 at hf
  have X := Z.1.1
  refine a_istore_n (pc := 53) X dX4_jumps_53 rfl hl (by decide) (lv' := [(3, vI t0), (0, vR v0), (1, vI v1), (2, vI v2), (4, vI v4)]) rfl (fun ls hl => ?_)
  refine a_iinc (pc := 54) (v := (v4 + (1 : Int32))) X dX4_jumps_54 hl (k := 4) rfl rfl (by decide) (lv' := [(4, vI (v4 + (1 : Int32))), (3, vI t0), (0, vR v0), (1, vI v1), (2, vI v2)]) rfl (fun ls hl => ?_)
  refine AW.lift (fun _ _ _ _ k => lv_goto (pc := 57) (tgt := 20) X.2.2.1 X.2.2.2.1 dX4_jumps_57 rfl k) ?_
  exact hrc20 t0 (v4 + (1 : Int32)) _ _ (hl.sub [2, 3, 4, 1, 0] rfl) hf
theorem w_X4_jumps_b20 {r : Except Nat (Unit) × AH} (GA : GA l s0 a0 K lam) (Z : WZ l s0 a0 K p s m c cX4_jumps yX4_jumps.cls 5 b R 1 29 meth [] none yX4_jumps) (v0 : Option Nat) (v1 : Int32) (v2 : Int32) (v3 : Int32) (v4 : Int32)  (rc20 : Int32 → Int32 → AM (Unit)) (hrc20 : ∀ (v3 : Int32) (v4 : Int32) (h : AH) (ls : Array Slot), LV ls 5 [(0, vR v0), (1, vI v1), (2, vI v2), (3, vI v3), (4, vI v4)] → rc20 v3 v4 h = some r → AW s0 K lam p l e R s m args below meth c (AQ s0 K lam below oV b r s) b h (F0 m 20 ls [])) {h : AH} {ls : Array Slot} (hl : LV ls 5 [(0, vR v0), (1, vI v1), (2, vI v2), (3, vI v3), (4, vI v4)]) (hf : f_X4_jumps_b20 K rc20 v0 v1 v2 v3 v4 h = some r) : AW s0 K lam p l e R s m args below meth c (AQ s0 K lam below oV b r s) b h (F0 m 20 ls []) := by
  unfold f_X4_jumps_b20 at hf
  have X := Z.1.1
  refine a_iload (pc := 20) X dX4_jumps_20 hl 4 rfl ?_
  refine AW.lift (fun _ _ _ _ k => lv_bipush (pc := 22) (v := (8 : Int32)) X.2.2.1 X.2.2.2.1 dX4_jumps_22 rfl k) ?_
  refine AW.lift2 (fun _ _ _ _ k1 k2 => lv_icmp_ge (pc := 24) (tgt := 60) X.2.2.1 X.2.2.2.1 dX4_jumps_24 rfl k1 k2) (fun c => ?_) (fun c => ?_)
  · have hf := ite_t c hf
    exact w_X4_jumps_j60 GA Z v0 v1 v2 v3   (hl.sub [0, 1, 2, 3] rfl) hf
  · have hf := ite_f c hf
    refine a_aload_n (pc := 27) X dX4_jumps_27 rfl hl 0 rfl ?_
    refine a_get (pc := 28) (φ := 100) pR_t X Z.1.2.1 (gw X.1 X.2.1 q3025) (fun _ q => q) (by decide) dX4_jumps_28 hf (fun x28 hf => ?_)
    refine a_iload_n (pc := 31) X dX4_jumps_31 rfl hl 2 rfl ?_
    refine a_iload (pc := 32) X dX4_jumps_32 hl 4 rfl ?_
    refine AW.lift (fun _ _ _ _ k => lv_iadd (pc := 34) X.2.2.1 X.2.2.2.1 dX4_jumps_34 k) ?_
    refine a_iaload (pc := 35) X dX4_jumps_35 hf (fun x35 hf => ?_)
    refine a_aload_n (pc := 36) X dX4_jumps_36 rfl hl 0 rfl ?_
    refine a_get (pc := 37) (φ := 100) pR_t X Z.1.2.1 (gw X.1 X.2.1 q3025) (fun _ q => q) (by decide) dX4_jumps_37 hf (fun x37 hf => ?_)
    refine a_iload_n (pc := 40) X dX4_jumps_40 rfl hl 2 rfl ?_
    refine a_iload_n (pc := 41) X dX4_jumps_41 rfl hl 3 rfl ?_
    refine AW.lift (fun _ _ _ _ k => lv_iadd (pc := 42) X.2.2.1 X.2.2.2.1 dX4_jumps_42 k) ?_
    refine a_iaload (pc := 43) X dX4_jumps_43 hf (fun x43 hf => ?_)
    refine AW.lift2 (fun _ _ _ _ k1 k2 => lv_icmp_ge (pc := 44) (tgt := 52) X.2.2.1 X.2.2.2.1 dX4_jumps_44 rfl k1 k2) (fun c => ?_) (fun c => ?_)
    · have hf := ite_t c hf
      refine a_iload_n (pc := 52) X dX4_jumps_52 rfl hl 3 rfl ?_
      exact w_X4_jumps_j53 GA Z v0 v1 v2 v4 v3 rc20 hrc20 (hl.sub [0, 1, 2, 4] rfl) hf
    · have hf := ite_f c hf
      refine a_iload (pc := 47) X dX4_jumps_47 hl 4 rfl ?_
      refine AW.lift (fun _ _ _ _ k => lv_goto (pc := 49) (tgt := 53) X.2.2.1 X.2.2.2.1 dX4_jumps_49 rfl k) ?_
      exact w_X4_jumps_j53 GA Z v0 v1 v2 v4 v4 rc20 hrc20 (hl.sub [0, 1, 2, 4] rfl) hf
theorem w_X4_jumps_l20 {r : Except Nat (Unit) × AH} (GA : GA l s0 a0 K lam) (Z : WZ l s0 a0 K p s m c cX4_jumps yX4_jumps.cls 5 b R 1 29 meth [] none yX4_jumps) (v0 : Option Nat) (v1 : Int32) (v2 : Int32)  : ∀ (n : Nat) (v3 : Int32) (v4 : Int32) (h : AH) (ls : Array Slot), LV ls 5 [(0, vR v0), (1, vI v1), (2, vI v2), (3, vI v3), (4, vI v4)] → f_X4_jumps_l20 K v0 v1 v2 n v3 v4 h = some r → AW s0 K lam p l e R s m args below meth c (AQ s0 K lam below oV b r s) b h (F0 m 20 ls []) := by
  intro n
  induction n with
  | zero => intro v3 v4 h ls hl hf; exact fl_no (h := h) hf
  | succ n ih => intro v3 v4 h ls hl hf; exact w_X4_jumps_b20 GA Z v0 v1 v2 v3 v4 (f_X4_jumps_l20 K v0 v1 v2 n) ih hl hf
theorem np_X4_jumps : npar yX4_jumps.desc 1 := by unfold npar; decide +kernel
theorem hy_X4_jumps : yX4_jumps.cls ≠ "java/lang/invoke/MethodHandle" ∧ yX4_jumps.cls ≠ "java/lang/invoke/VarHandle" := by decide +kernel
theorem w_X4_jumps (GA : GA l s0 a0 K lam) (v0 : Option Nat) (v1 : Int32) : AMet l s0 K lam yX4_jumps (Cond.code yX4_jumps cX4_jumps (5 : Nat) (Option.none : Option ClassFile.FieldType)) 1 29 [vR v0, vI v1] oV (f_X4_jumps K v0 v1) := by
  refine AMet.of GA.1 (plainFor_of_name (by decide +kernel)) (Nat.le_of_ble_eq_true rfl) ?_
  intro b r hf p e s m args below meth c X hr hlk hnm hnd ht ls hl
  have Z : WZ l s0 a0 K p s m c cX4_jumps yX4_jumps.cls 5 b { frames := 1, cells := K 0 - aX b, slots := K 1 - aW b, locals := 29 } 1 29 meth [] none yX4_jumps := ⟨⟨X, GA.2.1, GA.2.2.1, rfl, rfl, Nat.le_refl _, Nat.le_refl _⟩, tab_nil ht, hr, hlk, hnm, hnd⟩
  unfold f_X4_jumps at hf
  clear hr hlk hnm hnd ht
  refine a_aload_n (pc := 0) X dX4_jumps_0 rfl hl 0 rfl ?_
  refine a_get (pc := 1) (φ := 100) pR_t X Z.1.2.1 (gw X.1 X.2.1 q3025) (fun _ q => q) (by decide) dX4_jumps_1 hf (fun x1 hf => ?_)
  refine a_iload_n (pc := 4) X dX4_jumps_4 rfl hl 1 rfl ?_
  refine a_callb (pc := 5) (rs := [vR x1]) (avs := [vI v1]) Z.1 (w_X4_at0 GA v1) (Or.inl rfl) q3154 q86 (by decide) (by decide) dX4_jumps_5 hl.1 (Nat.le_of_ble_eq_true rfl) hf (ct_S X (Or.inl rfl) q3154 q86 q3152 q3153 hy_X4_at0 np_X4_at0 rfl dX4_jumps_5) (fun q h he hX => a_out (unc_of Z.2.1 rfl) Z.2.2.2.1 he hX) (fun x5 h hf => ?kk5)
  refine AW.eq (g2 := F0 m 8 ls [.int x5, va_rf x1]) rfl ?_
  refine AW.lift (fun _ _ _ _ k => lv_iconst (pc := 8) (v := (3 : Int32)) X.2.2.1 X.2.2.2.1 dX4_jumps_8 rfl k) ?_
  refine AW.lift (fun _ _ _ _ k => lv_iadd (pc := 9) X.2.2.1 X.2.2.2.1 dX4_jumps_9 k) ?_
  refine a_iaload (pc := 10) X dX4_jumps_10 hf (fun x10 hf => ?_)
  refine a_callb (pc := 11) (rs := []) (avs := [vI x10]) Z.1 (w_X4_of GA x10) (Or.inl rfl) q3123 q86 (by decide) (by decide) dX4_jumps_11 hl.1 (Nat.le_of_ble_eq_true rfl) hf (ct_S X (Or.inl rfl) q3123 q86 q3121 q3122 hy_X4_of np_X4_of rfl dX4_jumps_11) (fun q h he hX => a_out (unc_of Z.2.1 rfl) Z.2.2.2.1 he hX) (fun x11 h hf => ?kk11)
  refine AW.eq (g2 := F0 m 14 ls [.int x11]) rfl ?_
  refine a_istore_n (pc := 14) X dX4_jumps_14 rfl hl (by decide) (lv' := [(2, vI x11), (0, vR v0), (1, vI v1)]) rfl (fun ls hl => ?_)
  refine AW.lift (fun _ _ _ _ k => lv_iconst (pc := 15) (v := (0 : Int32)) X.2.2.1 X.2.2.2.1 dX4_jumps_15 rfl k) ?_
  refine a_istore_n (pc := 16) X dX4_jumps_16 rfl hl (by decide) (lv' := [(3, vI (0 : Int32)), (2, vI x11), (0, vR v0), (1, vI v1)]) rfl (fun ls hl => ?_)
  refine AW.lift (fun _ _ _ _ k => lv_iconst (pc := 17) (v := (1 : Int32)) X.2.2.1 X.2.2.2.1 dX4_jumps_17 rfl k) ?_
  refine a_istore (pc := 18) X dX4_jumps_18 hl (by decide) (lv' := [(4, vI (1 : Int32)), (3, vI (0 : Int32)), (2, vI x11), (0, vR v0), (1, vI v1)]) rfl (fun ls hl => ?_)
  exact w_X4_jumps_l20 GA Z v0 v1 x11  FU (0 : Int32) (1 : Int32) _ _ (hl.sub [3, 4, 2, 1, 0] rfl) hf
theorem w_X4_sinks_j72 {r : Except Nat (Int32) × AH} (GA : GA l s0 a0 K lam) (Z : WZ l s0 a0 K p s m c cX4_sinks yX4_sinks.cls 4 b R 3 66 meth [] (some (.int)) yX4_sinks) (v0 : Option Nat) (v1 : Int32) (v2 : Int32)   {h : AH} {ls : Array Slot} (hl : LV ls 4 [(0, vR v0), (1, vI v1), (2, vI v2)]) (hf : f_X4_sinks_j72 K v0 v1 v2 h = some r) : AW s0 K lam p l e R s m args below meth c (AQ s0 K lam below oI b r s) b h (F0 m 72 ls []) := by
  unfold f_X4_sinks_j72 at hf
  have X := Z.1.1
  refine a_aload_n (pc := 72) X dX4_sinks_72 rfl hl 0 rfl ?_
  refine a_get (pc := 73) (φ := 100) pR_t X Z.1.2.1 (gw X.1 X.2.1 q3025) (fun _ q => q) (by decide) dX4_sinks_73 hf (fun x73 hf => ?_)
  refine a_iload_n (pc := 76) X dX4_sinks_76 rfl hl 1 rfl ?_
  refine a_callb (pc := 77) (rs := [vR x73]) (avs := [vI v1]) Z.1 (w_X4_of GA v1) (Or.inl rfl) q3123 q86 (by decide) (by decide) dX4_sinks_77 hl.1 (Nat.le_of_ble_eq_true rfl) hf (ct_S X (Or.inl rfl) q3123 q86 q3121 q3122 hy_X4_of np_X4_of rfl dX4_sinks_77) (fun q h he hX => a_out (unc_of Z.2.1 rfl) Z.2.2.2.1 he hX) (fun x77 h hf => ?kk77)
  refine AW.eq (g2 := F0 m 80 ls [.int x77, va_rf x73]) rfl ?_
  refine AW.lift (fun _ _ _ _ k => lv_bipush (pc := 80) (v := (8 : Int32)) X.2.2.1 X.2.2.2.1 dX4_sinks_80 rfl k) ?_
  refine AW.lift (fun _ _ _ _ k => lv_iadd (pc := 82) X.2.2.1 X.2.2.2.1 dX4_sinks_82 k) ?_
  refine AW.lift (fun _ _ _ _ k => lv_iconst (pc := 83) (v := (0 : Int32)) X.2.2.1 X.2.2.2.1 dX4_sinks_83 rfl k) ?_
  refine a_iastore (pc := 84) X dX4_sinks_84 hf (fun h hf => ?_)
  refine a_aload_n (pc := 85) X dX4_sinks_85 rfl hl 0 rfl ?_
  refine a_get (pc := 86) (φ := 100) pR_t X Z.1.2.1 (gw X.1 X.2.1 q3025) (fun _ q => q) (by decide) dX4_sinks_86 hf (fun x86 hf => ?_)
  refine AW.lift (fun _ _ _ _ k => lv_bipush (pc := 89) (v := (6 : Int32)) X.2.2.1 X.2.2.2.1 dX4_sinks_89 rfl k) ?_
  refine AW.lift (fun _ _ _ _ k => lv_dup2_11 (pc := 91) X.2.2.1 X.2.2.2.1 dX4_sinks_91 rfl (cat_rf _) k) ?_
  refine a_iaload (pc := 92) X dX4_sinks_92 hf (fun x92 hf => ?_)
  refine a_iload_n (pc := 93) X dX4_sinks_93 rfl hl 2 rfl ?_
  refine AW.lift (fun _ _ _ _ k => lv_iadd (pc := 94) X.2.2.1 X.2.2.2.1 dX4_sinks_94 k) ?_
  refine a_iastore (pc := 95) X dX4_sinks_95 hf (fun h hf => ?_)
  refine a_iload_n (pc := 96) X dX4_sinks_96 rfl hl 2 rfl ?_
  exact a_ireturn X Z.2.2.1 Z.2.2.2.1 dX4_sinks_97 hf
theorem w_X4_sinks_j66 {r : Except Nat (Int32) × AH} (GA : GA l s0 a0 K lam) (Z : WZ l s0 a0 K p s m c cX4_sinks yX4_sinks.cls 4 b R 3 66 meth [] (some (.int)) yX4_sinks) (v0 : Option Nat) (v1 : Int32) (v2 : Int32) (v3 : Int32)  (rc20 : Int32 → Int32 → AM (Int32)) (hrc20 : ∀ (v2 : Int32) (v3 : Int32) (h : AH) (ls : Array Slot), LV ls 4 [(0, vR v0), (1, vI v1), (2, vI v2), (3, vI v3)] → rc20 v2 v3 h = some r → AW s0 K lam p l e R s m args below meth c (AQ s0 K lam below oI b r s) b h (F0 m 20 ls [])) {h : AH} {ls : Array Slot} (hl : LV ls 4 [(0, vR v0), (1, vI v1), (2, vI v2), (3, vI v3)]) (hf : f_X4_sinks_j66 K rc20 v0 v1 v2 v3 h = some r) : AW s0 K lam p l e R s m args below meth c (AQ s0 K lam below oI b r s) b h (F0 m 66 ls []) := by
  unfold f_X4_sinks_j66 at hf
  have X := Z.1.1
  refine a_iinc (pc := 66) (v := (v3 + (1 : Int32))) X dX4_sinks_66 hl (k := 3) rfl rfl (by decide) (lv' := [(3, vI (v3 + (1 : Int32))), (0, vR v0), (1, vI v1), (2, vI v2)]) rfl (fun ls hl => ?_)
  refine AW.lift (fun _ _ _ _ k => lv_goto (pc := 69) (tgt := 20) X.2.2.1 X.2.2.2.1 dX4_sinks_69 rfl k) ?_
  exact hrc20 v2 (v3 + (1 : Int32)) _ _ (hl.sub [1, 2, 3, 0] rfl) hf
theorem w_X4_sinks_b20 {r : Except Nat (Int32) × AH} (GA : GA l s0 a0 K lam) (Z : WZ l s0 a0 K p s m c cX4_sinks yX4_sinks.cls 4 b R 3 66 meth [] (some (.int)) yX4_sinks) (v0 : Option Nat) (v1 : Int32) (v2 : Int32) (v3 : Int32)  (rc20 : Int32 → Int32 → AM (Int32)) (hrc20 : ∀ (v2 : Int32) (v3 : Int32) (h : AH) (ls : Array Slot), LV ls 4 [(0, vR v0), (1, vI v1), (2, vI v2), (3, vI v3)] → rc20 v2 v3 h = some r → AW s0 K lam p l e R s m args below meth c (AQ s0 K lam below oI b r s) b h (F0 m 20 ls [])) {h : AH} {ls : Array Slot} (hl : LV ls 4 [(0, vR v0), (1, vI v1), (2, vI v2), (3, vI v3)]) (hf : f_X4_sinks_b20 K rc20 v0 v1 v2 v3 h = some r) : AW s0 K lam p l e R s m args below meth c (AQ s0 K lam below oI b r s) b h (F0 m 20 ls []) := by
  unfold f_X4_sinks_b20 at hf
  have X := Z.1.1
  refine a_iload_n (pc := 20) X dX4_sinks_20 rfl hl 3 rfl ?_
  refine a_aload_n (pc := 21) X dX4_sinks_21 rfl hl 0 rfl ?_
  refine a_get (pc := 22) (φ := 100) pR_t X Z.1.2.1 (gw X.1 X.2.1 q3025) (fun _ q => q) (by decide) dX4_sinks_22 hf (fun x22 hf => ?_)
  refine AW.lift (fun _ _ _ _ k => lv_iconst (pc := 25) (v := (2 : Int32)) X.2.2.1 X.2.2.2.1 dX4_sinks_25 rfl k) ?_
  refine a_iaload (pc := 26) X dX4_sinks_26 hf (fun x26 hf => ?_)
  refine AW.lift2 (fun _ _ _ _ k1 k2 => lv_icmp_ge (pc := 27) (tgt := 72) X.2.2.1 X.2.2.2.1 dX4_sinks_27 rfl k1 k2) (fun c => ?_) (fun c => ?_)
  · have hf := ite_t c hf
    exact w_X4_sinks_j72 GA Z v0 v1 v2   (hl.sub [0, 1, 2] rfl) hf
  · have hf := ite_f c hf
    refine a_aload_n (pc := 30) X dX4_sinks_30 rfl hl 0 rfl ?_
    refine a_iload_n (pc := 31) X dX4_sinks_31 rfl hl 3 rfl ?_
    refine a_iload_n (pc := 32) X dX4_sinks_32 rfl hl 1 rfl ?_
    obtain ⟨a33, rfl, ⟨hk, hf⟩ | ⟨-, hf⟩⟩ := dv_some hf
    rotate_left
    · exact fl_none hf
    refine a_callb (pc := 33) (rs := []) (avs := [vR (some a33), vI v3, vI v1]) Z.1 (w_X4_isOn GA (some a33) v3 v1) (Or.inl rfl) q3151 q86 (by decide) (by decide) dX4_sinks_33 hl.1 (Nat.le_of_ble_eq_true rfl) hf (ct_V hk ⟨by decide, by decide⟩ X (Or.inl rfl) q3151 q3148 q3150 pv_35 hy_X4_isOn np_X4_isOn rfl dX4_sinks_33) (fun q h he hX => a_out (unc_of Z.2.1 rfl) Z.2.2.2.1 he hX) (fun x33 h hf => ?kk33)
    refine AW.eq (g2 := F0 m 36 ls [.int x33]) rfl ?_
    refine AW.lift2 (fun _ _ _ _ k1 k2 => lv_if_eq (pc := 36) (tgt := 66) X.2.2.1 X.2.2.2.1 dX4_sinks_36 rfl k1 k2) (fun c => ?_) (fun c => ?_)
    · have hf := ite_t c hf
      exact w_X4_sinks_j66 GA Z (some a33) v1 v2 v3  rc20 hrc20 (hl.sub [0, 1, 2, 3] rfl) hf
    · have hf := ite_f c hf
      refine a_aload_n (pc := 39) X dX4_sinks_39 rfl hl 0 rfl ?_
      refine a_get (pc := 40) (φ := 100) pR_t X Z.1.2.1 (gw X.1 X.2.1 q3025) (fun _ q => q) (by decide) dX4_sinks_40 hf (fun x40 hf => ?_)
      refine a_iload_n (pc := 43) X dX4_sinks_43 rfl hl 3 rfl ?_
      refine a_callb (pc := 44) (rs := [vR x40]) (avs := [vI v3]) Z.1 (w_X4_at0 GA v3) (Or.inl rfl) q3154 q86 (by decide) (by decide) dX4_sinks_44 hl.1 (Nat.le_of_ble_eq_true rfl) hf (ct_S X (Or.inl rfl) q3154 q86 q3152 q3153 hy_X4_at0 np_X4_at0 rfl dX4_sinks_44) (fun q h he hX => a_out (unc_of Z.2.1 rfl) Z.2.2.2.1 he hX) (fun x44 h hf => ?kk44)
      refine AW.eq (g2 := F0 m 47 ls [.int x44, va_rf x40]) rfl ?_
      refine AW.lift (fun _ _ _ _ k => lv_iconst (pc := 47) (v := (2 : Int32)) X.2.2.1 X.2.2.2.1 dX4_sinks_47 rfl k) ?_
      refine AW.lift (fun _ _ _ _ k => lv_iadd (pc := 48) X.2.2.1 X.2.2.2.1 dX4_sinks_48 k) ?_
      refine AW.lift (fun _ _ _ _ k => lv_iconst (pc := 49) (v := (0 : Int32)) X.2.2.1 X.2.2.2.1 dX4_sinks_49 rfl k) ?_
      refine a_iastore (pc := 50) X dX4_sinks_50 hf (fun h hf => ?_)
      refine a_aload_n (pc := 51) X dX4_sinks_51 rfl hl 0 rfl ?_
      refine a_get (pc := 52) (φ := 100) pR_t X Z.1.2.1 (gw X.1 X.2.1 q3025) (fun _ q => q) (by decide) dX4_sinks_52 hf (fun x52 hf => ?_)
      refine a_iload_n (pc := 55) X dX4_sinks_55 rfl hl 3 rfl ?_
      refine a_callb (pc := 56) (rs := [vR x52]) (avs := [vI v3]) Z.1 (w_X4_at0 GA v3) (Or.inl rfl) q3154 q86 (by decide) (by decide) dX4_sinks_56 hl.1 (Nat.le_of_ble_eq_true rfl) hf (ct_S X (Or.inl rfl) q3154 q86 q3152 q3153 hy_X4_at0 np_X4_at0 rfl dX4_sinks_56) (fun q h he hX => a_out (unc_of Z.2.1 rfl) Z.2.2.2.1 he hX) (fun x56 h hf => ?kk56)
      refine AW.eq (g2 := F0 m 59 ls [.int x56, va_rf x52]) rfl ?_
      refine AW.lift (fun _ _ _ _ k => lv_iconst (pc := 59) (v := (3 : Int32)) X.2.2.1 X.2.2.2.1 dX4_sinks_59 rfl k) ?_
      refine AW.lift (fun _ _ _ _ k => lv_iadd (pc := 60) X.2.2.1 X.2.2.2.1 dX4_sinks_60 k) ?_
      refine AW.lift (fun _ _ _ _ k => lv_iconst (pc := 61) (v := (-1 : Int32)) X.2.2.1 X.2.2.2.1 dX4_sinks_61 rfl k) ?_
      refine a_iastore (pc := 62) X dX4_sinks_62 hf (fun h hf => ?_)
      refine a_iinc (pc := 63) (v := (v2 + (1 : Int32))) X dX4_sinks_63 hl (k := 2) rfl rfl (by decide) (lv' := [(2, vI (v2 + (1 : Int32))), (0, vR (some a33)), (1, vI v1), (3, vI v3)]) rfl (fun ls hl => ?_)
      exact w_X4_sinks_j66 GA Z (some a33) v1 (v2 + (1 : Int32)) v3  rc20 hrc20 (hl.sub [1, 2, 0, 3] rfl) hf
theorem w_X4_sinks_l20 {r : Except Nat (Int32) × AH} (GA : GA l s0 a0 K lam) (Z : WZ l s0 a0 K p s m c cX4_sinks yX4_sinks.cls 4 b R 3 66 meth [] (some (.int)) yX4_sinks) (v0 : Option Nat) (v1 : Int32)  : ∀ (n : Nat) (v2 : Int32) (v3 : Int32) (h : AH) (ls : Array Slot), LV ls 4 [(0, vR v0), (1, vI v1), (2, vI v2), (3, vI v3)] → f_X4_sinks_l20 K v0 v1 n v2 v3 h = some r → AW s0 K lam p l e R s m args below meth c (AQ s0 K lam below oI b r s) b h (F0 m 20 ls []) := by
  intro n
  induction n with
  | zero => intro v2 v3 h ls hl hf; exact fl_no (h := h) hf
  | succ n ih => intro v2 v3 h ls hl hf; exact w_X4_sinks_b20 GA Z v0 v1 v2 v3 (f_X4_sinks_l20 K v0 v1 n) ih hl hf
theorem np_X4_sinks : npar yX4_sinks.desc 1 := by unfold npar; decide +kernel
theorem hy_X4_sinks : yX4_sinks.cls ≠ "java/lang/invoke/MethodHandle" ∧ yX4_sinks.cls ≠ "java/lang/invoke/VarHandle" := by decide +kernel
theorem w_X4_sinks (GA : GA l s0 a0 K lam) (v0 : Option Nat) (v1 : Int32) : AMet l s0 K lam yX4_sinks (Cond.code yX4_sinks cX4_sinks (4 : Nat) (Option.some ClassFile.FieldType.int)) 3 66 [vR v0, vI v1] oI (f_X4_sinks K v0 v1) := by
  refine AMet.of GA.1 (plainFor_of_name (by decide +kernel)) (Nat.le_of_ble_eq_true rfl) ?_
  intro b r hf p e s m args below meth c X hr hlk hnm hnd ht ls hl
  have Z : WZ l s0 a0 K p s m c cX4_sinks yX4_sinks.cls 4 b { frames := 3, cells := K 0 - aX b, slots := K 1 - aW b, locals := 66 } 3 66 meth [] (some (.int)) yX4_sinks := ⟨⟨X, GA.2.1, GA.2.2.1, rfl, rfl, Nat.le_refl _, Nat.le_refl _⟩, tab_nil ht, hr, hlk, hnm, hnd⟩
  unfold f_X4_sinks at hf
  clear hr hlk hnm hnd ht
  refine a_aload_n (pc := 0) X dX4_sinks_0 rfl hl 0 rfl ?_
  refine a_iload_n (pc := 1) X dX4_sinks_1 rfl hl 1 rfl ?_
  refine AW.lift (fun _ _ _ _ k => lv_iconst (pc := 2) (v := (1 : Int32)) X.2.2.1 X.2.2.2.1 dX4_sinks_2 rfl k) ?_
  obtain ⟨a3, rfl, ⟨hk, hf⟩ | ⟨-, hf⟩⟩ := dv_some hf
  rotate_left
  · exact fl_none hf
  refine a_callb (pc := 3) (rs := []) (avs := [vR (some a3), vI v1, vI (1 : Int32)]) Z.1 (w_X4_on GA (some a3) v1 (1 : Int32)) (Or.inl rfl) q3182 q86 (by decide) (by decide) dX4_sinks_3 hl.1 (Nat.le_of_ble_eq_true rfl) hf (ct_V hk ⟨by decide, by decide⟩ X (Or.inl rfl) q3182 q3179 q3181 pv_40 hy_X4_on np_X4_on rfl dX4_sinks_3) (fun q h he hX => a_out (unc_of Z.2.1 rfl) Z.2.2.2.1 he hX) (fun x3 h hf => ?kk3)
  refine AW.eq (g2 := F0 m 6 ls [.int x3]) rfl ?_
  refine a_aload_n (pc := 6) X dX4_sinks_6 rfl hl 0 rfl ?_
  refine a_iload_n (pc := 7) X dX4_sinks_7 rfl hl 1 rfl ?_
  rcases dv_someS hf with ⟨hk, hf⟩ | ⟨-, hf⟩
  rotate_left
  · exact fl_none hf
  refine a_callb (pc := 8) (rs := [vI x3]) (avs := [vR (some a3), vI v1]) Z.1 (w_X4_bears GA (some a3) v1) (Or.inl rfl) q3158 q86 (by decide) (by decide) dX4_sinks_8 hl.1 (Nat.le_of_ble_eq_true rfl) hf (ct_V hk ⟨by decide, by decide⟩ X (Or.inl rfl) q3158 q3155 q3157 pv_36 hy_X4_bears np_X4_bears rfl dX4_sinks_8) (fun q h he hX => a_out (unc_of Z.2.1 rfl) Z.2.2.2.1 he hX) (fun x8 h hf => ?kk8)
  refine AW.eq (g2 := F0 m 11 ls [.int x8, .int x3]) rfl ?_
  refine AW.lift2 (fun _ _ _ _ k1 k2 => lv_icmp_gt (pc := 11) (tgt := 16) X.2.2.1 X.2.2.2.1 dX4_sinks_11 rfl k1 k2) (fun c => ?_) (fun c => ?_)
  · have hf := ite_t c hf
    refine AW.lift (fun _ _ _ _ k => lv_iconst (pc := 16) (v := (0 : Int32)) X.2.2.1 X.2.2.2.1 dX4_sinks_16 rfl k) ?_
    refine a_istore_n (pc := 17) X dX4_sinks_17 rfl hl (by decide) (lv' := [(2, vI (0 : Int32)), (0, vR (some a3)), (1, vI v1)]) rfl (fun ls hl => ?_)
    refine AW.lift (fun _ _ _ _ k => lv_iconst (pc := 18) (v := (0 : Int32)) X.2.2.1 X.2.2.2.1 dX4_sinks_18 rfl k) ?_
    refine a_istore_n (pc := 19) X dX4_sinks_19 rfl hl (by decide) (lv' := [(3, vI (0 : Int32)), (2, vI (0 : Int32)), (0, vR (some a3)), (1, vI v1)]) rfl (fun ls hl => ?_)
    exact w_X4_sinks_l20 GA Z (some a3) v1  FU (0 : Int32) (0 : Int32) _ _ (hl.sub [2, 3, 1, 0] rfl) hf
  · have hf := ite_f c hf
    refine AW.lift (fun _ _ _ _ k => lv_iconst (pc := 14) (v := (0 : Int32)) X.2.2.1 X.2.2.2.1 dX4_sinks_14 rfl k) ?_
    exact a_ireturn X Z.2.2.1 Z.2.2.2.1 dX4_sinks_15 hf
theorem np_X4_party : npar yX4_party.desc 1 := by unfold npar; decide +kernel
theorem hy_X4_party : yX4_party.cls ≠ "java/lang/invoke/MethodHandle" ∧ yX4_party.cls ≠ "java/lang/invoke/VarHandle" := by decide +kernel
theorem w_X4_party (GA : GA l s0 a0 K lam) (v0 : Int32) : AMet l s0 K lam yX4_party (Cond.code yX4_party cX4_party (1 : Nat) (Option.some ClassFile.FieldType.int)) 0 0 [vI v0] oI (f_X4_party K v0) := by
  refine AMet.of GA.1 (plainFor_of_name (by decide +kernel)) (Nat.le_of_ble_eq_true rfl) ?_
  intro b r hf p e s m args below meth c X hr hlk hnm hnd ht ls hl
  have Z : WZ l s0 a0 K p s m c cX4_party yX4_party.cls 1 b { frames := 0, cells := K 0 - aX b, slots := K 1 - aW b, locals := 0 } 0 0 meth [] (some (.int)) yX4_party := ⟨⟨X, GA.2.1, GA.2.2.1, rfl, rfl, Nat.le_refl _, Nat.le_refl _⟩, tab_nil ht, hr, hlk, hnm, hnd⟩
  unfold f_X4_party at hf
  clear hr hlk hnm hnd ht
  refine AW.lift (fun _ _ _ _ k => lv_sipush (pc := 0) (v := (186 : Int32)) X.2.2.1 X.2.2.2.1 dX4_party_0 rfl k) ?_
  refine AW.lift (fun _ _ _ _ k => lv_bipush (pc := 3) (v := (6 : Int32)) X.2.2.1 X.2.2.2.1 dX4_party_3 rfl k) ?_
  refine a_iload_n (pc := 5) X dX4_party_5 rfl hl 0 rfl ?_
  refine AW.lift (fun _ _ _ _ k => lv_imul (pc := 6) X.2.2.1 X.2.2.2.1 dX4_party_6 k) ?_
  refine AW.lift (fun _ _ _ _ k => lv_iadd (pc := 7) X.2.2.1 X.2.2.2.1 dX4_party_7 k) ?_
  exact a_ireturn X Z.2.2.1 Z.2.2.2.1 dX4_party_8 hf
theorem np_X4_jumperComes : npar yX4_jumperComes.desc 3 := by unfold npar; decide +kernel
theorem hy_X4_jumperComes : yX4_jumperComes.cls ≠ "java/lang/invoke/MethodHandle" ∧ yX4_jumperComes.cls ≠ "java/lang/invoke/VarHandle" := by decide +kernel
theorem w_X4_jumperComes (GA : GA l s0 a0 K lam) (v0 : Option Nat) (v1 : Int32) (v2 : Int32) (v3 : Int32) : AMet l s0 K lam yX4_jumperComes (Cond.code yX4_jumperComes cX4_jumperComes (5 : Nat) (Option.some ClassFile.FieldType.int)) 1 20 [vR v0, vI v1, vI v2, vI v3] oI (f_X4_jumperComes K v0 v1 v2 v3) := by
  refine AMet.of GA.1 (plainFor_of_name (by decide +kernel)) (Nat.le_of_ble_eq_true rfl) ?_
  intro b r hf p e s m args below meth c X hr hlk hnm hnd ht ls hl
  have Z : WZ l s0 a0 K p s m c cX4_jumperComes yX4_jumperComes.cls 5 b { frames := 1, cells := K 0 - aX b, slots := K 1 - aW b, locals := 20 } 1 20 meth [] (some (.int)) yX4_jumperComes := ⟨⟨X, GA.2.1, GA.2.2.1, rfl, rfl, Nat.le_refl _, Nat.le_refl _⟩, tab_nil ht, hr, hlk, hnm, hnd⟩
  unfold f_X4_jumperComes at hf
  clear hr hlk hnm hnd ht
  refine a_aload_n (pc := 0) X dX4_jumperComes_0 rfl hl 0 rfl ?_
  refine a_get (pc := 1) (φ := 100) pR_t X Z.1.2.1 (gw X.1 X.2.1 q3025) (fun _ q => q) (by decide) dX4_jumperComes_1 hf (fun x1 hf => ?_)
  refine AW.lift (fun _ _ _ _ k => lv_iconst (pc := 4) (v := (2 : Int32)) X.2.2.1 X.2.2.2.1 dX4_jumperComes_4 rfl k) ?_
  refine a_iaload (pc := 5) X dX4_jumperComes_5 hf (fun x5 hf => ?_)
  refine a_callb (pc := 6) (rs := []) (avs := [vI x5]) Z.1 (w_X4_at0 GA x5) (Or.inl rfl) q3154 q86 (by decide) (by decide) dX4_jumperComes_6 hl.1 (Nat.le_of_ble_eq_true rfl) hf (ct_S X (Or.inl rfl) q3154 q86 q3152 q3153 hy_X4_at0 np_X4_at0 rfl dX4_jumperComes_6) (fun q h he hX => a_out (unc_of Z.2.1 rfl) Z.2.2.2.1 he hX) (fun x6 h hf => ?kk6)
  refine AW.eq (g2 := F0 m 9 ls [.int x6]) rfl ?_
  refine a_istore (pc := 9) X dX4_jumperComes_9 hl (by decide) (lv' := [(4, vI x6), (0, vR v0), (1, vI v1), (2, vI v2), (3, vI v3)]) rfl (fun ls hl => ?_)
  refine a_aload_n (pc := 11) X dX4_jumperComes_11 rfl hl 1 rfl ?_
  refine a_get (pc := 12) (φ := 100) pR_t X Z.1.2.1 (gw X.1 X.2.1 q3025) (fun _ q => q) (by decide) dX4_jumperComes_12 hf (fun x12 hf => ?_)
  refine a_iload (pc := 15) X dX4_jumperComes_15 hl 0 rfl ?_
  refine AW.lift (fun _ _ _ _ k => lv_iconst (pc := 17) (v := (0 : Int32)) X.2.2.1 X.2.2.2.1 dX4_jumperComes_17 rfl k) ?_
  refine AW.lift (fun _ _ _ _ k => lv_iadd (pc := 18) X.2.2.1 X.2.2.2.1 dX4_jumperComes_18 k) ?_
  refine a_iload_n (pc := 19) X dX4_jumperComes_19 rfl hl 2 rfl ?_
  refine a_iastore (pc := 20) X dX4_jumperComes_20 hf (fun h hf => ?_)
  refine a_aload_n (pc := 21) X dX4_jumperComes_21 rfl hl 1 rfl ?_
  refine a_get (pc := 22) (φ := 100) pR_t X Z.1.2.1 (gw X.1 X.2.1 q3025) (fun _ q => q) (by decide) dX4_jumperComes_22 hf (fun x22 hf => ?_)
  refine a_iload (pc := 25) X dX4_jumperComes_25 hl 0 rfl ?_
  refine AW.lift (fun _ _ _ _ k => lv_iconst (pc := 27) (v := (1 : Int32)) X.2.2.1 X.2.2.2.1 dX4_jumperComes_27 rfl k) ?_
  refine AW.lift (fun _ _ _ _ k => lv_iadd (pc := 28) X.2.2.1 X.2.2.2.1 dX4_jumperComes_28 k) ?_
  refine a_iload_n (pc := 29) X dX4_jumperComes_29 rfl hl 3 rfl ?_
  refine a_iastore (pc := 30) X dX4_jumperComes_30 hf (fun h hf => ?_)
  refine a_aload_n (pc := 31) X dX4_jumperComes_31 rfl hl 1 rfl ?_
  refine a_get (pc := 32) (φ := 100) pR_t X Z.1.2.1 (gw X.1 X.2.1 q3025) (fun _ q => q) (by decide) dX4_jumperComes_32 hf (fun x32 hf => ?_)
  refine a_iload (pc := 35) X dX4_jumperComes_35 hl 0 rfl ?_
  refine AW.lift (fun _ _ _ _ k => lv_iconst (pc := 37) (v := (2 : Int32)) X.2.2.1 X.2.2.2.1 dX4_jumperComes_37 rfl k) ?_
  refine AW.lift (fun _ _ _ _ k => lv_iadd (pc := 38) X.2.2.1 X.2.2.2.1 dX4_jumperComes_38 k) ?_
  refine AW.lift (fun _ _ _ _ k => lv_iconst (pc := 39) (v := (0 : Int32)) X.2.2.1 X.2.2.2.1 dX4_jumperComes_39 rfl k) ?_
  refine a_iastore (pc := 40) X dX4_jumperComes_40 hf (fun h hf => ?_)
  refine a_aload_n (pc := 41) X dX4_jumperComes_41 rfl hl 1 rfl ?_
  refine a_get (pc := 42) (φ := 100) pR_t X Z.1.2.1 (gw X.1 X.2.1 q3025) (fun _ q => q) (by decide) dX4_jumperComes_42 hf (fun x42 hf => ?_)
  refine a_iload (pc := 45) X dX4_jumperComes_45 hl 0 rfl ?_
  refine AW.lift (fun _ _ _ _ k => lv_iconst (pc := 47) (v := (3 : Int32)) X.2.2.1 X.2.2.2.1 dX4_jumperComes_47 rfl k) ?_
  refine AW.lift (fun _ _ _ _ k => lv_iadd (pc := 48) X.2.2.1 X.2.2.2.1 dX4_jumperComes_48 k) ?_
  refine AW.lift (fun _ _ _ _ k => lv_iconst (pc := 49) (v := (-1 : Int32)) X.2.2.1 X.2.2.2.1 dX4_jumperComes_49 rfl k) ?_
  refine a_iastore (pc := 50) X dX4_jumperComes_50 hf (fun h hf => ?_)
  refine a_aload_n (pc := 51) X dX4_jumperComes_51 rfl hl 1 rfl ?_
  refine a_get (pc := 52) (φ := 100) pR_t X Z.1.2.1 (gw X.1 X.2.1 q3025) (fun _ q => q) (by decide) dX4_jumperComes_52 hf (fun x52 hf => ?_)
  refine a_iload (pc := 55) X dX4_jumperComes_55 hl 0 rfl ?_
  refine AW.lift (fun _ _ _ _ k => lv_iconst (pc := 57) (v := (4 : Int32)) X.2.2.1 X.2.2.2.1 dX4_jumperComes_57 rfl k) ?_
  refine AW.lift (fun _ _ _ _ k => lv_iadd (pc := 58) X.2.2.1 X.2.2.2.1 dX4_jumperComes_58 k) ?_
  refine AW.lift (fun _ _ _ _ k => lv_iconst (pc := 59) (v := (-1 : Int32)) X.2.2.1 X.2.2.2.1 dX4_jumperComes_59 rfl k) ?_
  refine a_iastore (pc := 60) X dX4_jumperComes_60 hf (fun h hf => ?_)
  refine a_aload_n (pc := 61) X dX4_jumperComes_61 rfl hl 1 rfl ?_
  refine a_get (pc := 62) (φ := 100) pR_t X Z.1.2.1 (gw X.1 X.2.1 q3025) (fun _ q => q) (by decide) dX4_jumperComes_62 hf (fun x62 hf => ?_)
  refine a_iload (pc := 65) X dX4_jumperComes_65 hl 0 rfl ?_
  refine AW.lift (fun _ _ _ _ k => lv_iconst (pc := 67) (v := (5 : Int32)) X.2.2.1 X.2.2.2.1 dX4_jumperComes_67 rfl k) ?_
  refine AW.lift (fun _ _ _ _ k => lv_iadd (pc := 68) X.2.2.1 X.2.2.2.1 dX4_jumperComes_68 k) ?_
  refine AW.lift (fun _ _ _ _ k => lv_iconst (pc := 69) (v := (0 : Int32)) X.2.2.1 X.2.2.2.1 dX4_jumperComes_69 rfl k) ?_
  refine a_iastore (pc := 70) X dX4_jumperComes_70 hf (fun h hf => ?_)
  refine a_aload_n (pc := 71) X dX4_jumperComes_71 rfl hl 1 rfl ?_
  refine a_get (pc := 72) (φ := 100) pR_t X Z.1.2.1 (gw X.1 X.2.1 q3025) (fun _ q => q) (by decide) dX4_jumperComes_72 hf (fun x72 hf => ?_)
  refine a_iload (pc := 75) X dX4_jumperComes_75 hl 0 rfl ?_
  refine AW.lift (fun _ _ _ _ k => lv_bipush (pc := 77) (v := (6 : Int32)) X.2.2.1 X.2.2.2.1 dX4_jumperComes_77 rfl k) ?_
  refine AW.lift (fun _ _ _ _ k => lv_iadd (pc := 79) X.2.2.1 X.2.2.2.1 dX4_jumperComes_79 k) ?_
  refine a_iload_n (pc := 80) X dX4_jumperComes_80 rfl hl 4 rfl ?_
  refine a_iastore (pc := 81) X dX4_jumperComes_81 hf (fun h hf => ?_)
  refine a_aload_n (pc := 82) X dX4_jumperComes_82 rfl hl 1 rfl ?_
  refine a_get (pc := 83) (φ := 100) pR_t X Z.1.2.1 (gw X.1 X.2.1 q3025) (fun _ q => q) (by decide) dX4_jumperComes_83 hf (fun x83 hf => ?_)
  refine AW.lift (fun _ _ _ _ k => lv_iconst (pc := 86) (v := (2 : Int32)) X.2.2.1 X.2.2.2.1 dX4_jumperComes_86 rfl k) ?_
  refine AW.lift (fun _ _ _ _ k => lv_dup2_11 (pc := 87) X.2.2.1 X.2.2.2.1 dX4_jumperComes_87 rfl (cat_rf _) k) ?_
  refine a_iaload (pc := 88) X dX4_jumperComes_88 hf (fun x88 hf => ?_)
  refine AW.lift (fun _ _ _ _ k => lv_iconst (pc := 89) (v := (1 : Int32)) X.2.2.1 X.2.2.2.1 dX4_jumperComes_89 rfl k) ?_
  refine AW.lift (fun _ _ _ _ k => lv_iadd (pc := 90) X.2.2.1 X.2.2.2.1 dX4_jumperComes_90 k) ?_
  refine a_iastore (pc := 91) X dX4_jumperComes_91 hf (fun h hf => ?_)
  refine a_aload_n (pc := 92) X dX4_jumperComes_92 rfl hl 1 rfl ?_
  refine a_get (pc := 93) (φ := 100) pR_t X Z.1.2.1 (gw X.1 X.2.1 q3025) (fun _ q => q) (by decide) dX4_jumperComes_93 hf (fun x93 hf => ?_)
  refine AW.lift (fun _ _ _ _ k => lv_iconst (pc := 96) (v := (2 : Int32)) X.2.2.1 X.2.2.2.1 dX4_jumperComes_96 rfl k) ?_
  refine a_iaload (pc := 97) X dX4_jumperComes_97 hf (fun x97 hf => ?_)
  refine AW.lift (fun _ _ _ _ k => lv_iconst (pc := 98) (v := (1 : Int32)) X.2.2.1 X.2.2.2.1 dX4_jumperComes_98 rfl k) ?_
  refine AW.lift (fun _ _ _ _ k => lv_isub (pc := 99) X.2.2.1 X.2.2.2.1 dX4_jumperComes_99 k) ?_
  exact a_ireturn X Z.2.2.1 Z.2.2.2.1 dX4_jumperComes_100 hf
theorem w_X4_partyComes_b16 {r : Except Nat (Unit) × AH} (GA : GA l s0 a0 K lam) (Z : WZ l s0 a0 K p s m c cX4_partyComes yX4_partyComes.cls 4 b R 2 44 meth [] none yX4_partyComes) (v0 : Option Nat) (v1 : Int32) (v2 : Int32) (v3 : Int32)  (rc16 : Int32 → AM (Unit)) (hrc16 : ∀ (v3 : Int32) (h : AH) (ls : Array Slot), LV ls 4 [(0, vR v0), (1, vI v1), (2, vI v2), (3, vI v3)] → rc16 v3 h = some r → AW s0 K lam p l e R s m args below meth c (AQ s0 K lam below oV b r s) b h (F0 m 16 ls [])) {h : AH} {ls : Array Slot} (hl : LV ls 4 [(0, vR v0), (1, vI v1), (2, vI v2), (3, vI v3)]) (hf : f_X4_partyComes_b16 K rc16 v0 v1 v2 v3 h = some r) : AW s0 K lam p l e R s m args below meth c (AQ s0 K lam below oV b r s) b h (F0 m 16 ls []) := by
  unfold f_X4_partyComes_b16 at hf
  have X := Z.1.1
  refine a_iload_n (pc := 16) X dX4_partyComes_16 rfl hl 3 rfl ?_
  refine a_aload_n (pc := 17) X dX4_partyComes_17 rfl hl 0 rfl ?_
  refine a_get (pc := 18) (φ := 100) pR_t X Z.1.2.1 (gw X.1 X.2.1 q3025) (fun _ q => q) (by decide) dX4_partyComes_18 hf (fun x18 hf => ?_)
  refine a_iload_n (pc := 21) X dX4_partyComes_21 rfl hl 2 rfl ?_
  refine AW.lift (fun _ _ _ _ k => lv_iconst (pc := 22) (v := (1 : Int32)) X.2.2.1 X.2.2.2.1 dX4_partyComes_22 rfl k) ?_
  refine AW.lift (fun _ _ _ _ k => lv_iadd (pc := 23) X.2.2.1 X.2.2.2.1 dX4_partyComes_23 k) ?_
  refine a_iaload (pc := 24) X dX4_partyComes_24 hf (fun x24 hf => ?_)
  refine AW.lift2 (fun _ _ _ _ k1 k2 => lv_icmp_ge (pc := 25) (tgt := 79) X.2.2.1 X.2.2.2.1 dX4_partyComes_25 rfl k1 k2) (fun c => ?_) (fun c => ?_)
  · have hf := ite_t c hf
    exact a_return X Z.2.2.1 Z.2.2.2.1 dX4_partyComes_79 hf
  · have hf := ite_f c hf
    refine a_aload_n (pc := 28) X dX4_partyComes_28 rfl hl 0 rfl ?_
    refine a_get (pc := 29) (φ := 100) pR_t X Z.1.2.1 (gw X.1 X.2.1 q3025) (fun _ q => q) (by decide) dX4_partyComes_29 hf (fun x29 hf => ?_)
    refine AW.lift (fun _ _ _ _ k => lv_iconst (pc := 32) (v := (2 : Int32)) X.2.2.1 X.2.2.2.1 dX4_partyComes_32 rfl k) ?_
    refine a_iaload (pc := 33) X dX4_partyComes_33 hf (fun x33 hf => ?_)
    refine AW.lift (fun _ _ _ _ k => lv_bipush (pc := 34) (v := (12 : Int32)) X.2.2.1 X.2.2.2.1 dX4_partyComes_34 rfl k) ?_
    refine AW.lift2 (fun _ _ _ _ k1 k2 => lv_icmp_ge (pc := 36) (tgt := 79) X.2.2.1 X.2.2.2.1 dX4_partyComes_36 rfl k1 k2) (fun c => ?_) (fun c => ?_)
    · have hf := ite_t c hf
      exact a_return X Z.2.2.1 Z.2.2.2.1 dX4_partyComes_79 hf
    · have hf := ite_f c hf
      refine a_aload_n (pc := 39) X dX4_partyComes_39 rfl hl 0 rfl ?_
      refine a_aload_n (pc := 40) X dX4_partyComes_40 rfl hl 0 rfl ?_
      refine a_get (pc := 41) (φ := 100) pR_t X Z.1.2.1 (gw X.1 X.2.1 q3025) (fun _ q => q) (by decide) dX4_partyComes_41 hf (fun x41 hf => ?_)
      refine a_iload_n (pc := 44) X dX4_partyComes_44 rfl hl 2 rfl ?_
      refine AW.lift (fun _ _ _ _ k => lv_iconst (pc := 45) (v := (4 : Int32)) X.2.2.1 X.2.2.2.1 dX4_partyComes_45 rfl k) ?_
      refine AW.lift (fun _ _ _ _ k => lv_iadd (pc := 46) X.2.2.1 X.2.2.2.1 dX4_partyComes_46 k) ?_
      refine a_iaload (pc := 47) X dX4_partyComes_47 hf (fun x47 hf => ?_)
      refine a_aload_n (pc := 48) X dX4_partyComes_48 rfl hl 0 rfl ?_
      refine a_get (pc := 49) (φ := 100) pR_t X Z.1.2.1 (gw X.1 X.2.1 q3025) (fun _ q => q) (by decide) dX4_partyComes_49 hf (fun x49 hf => ?_)
      refine a_iload_n (pc := 52) X dX4_partyComes_52 rfl hl 2 rfl ?_
      refine AW.lift (fun _ _ _ _ k => lv_iconst (pc := 53) (v := (5 : Int32)) X.2.2.1 X.2.2.2.1 dX4_partyComes_53 rfl k) ?_
      refine AW.lift (fun _ _ _ _ k => lv_iadd (pc := 54) X.2.2.1 X.2.2.2.1 dX4_partyComes_54 k) ?_
      refine a_iaload (pc := 55) X dX4_partyComes_55 hf (fun x55 hf => ?_)
      refine a_iload_n (pc := 56) X dX4_partyComes_56 rfl hl 1 rfl ?_
      obtain ⟨a57, rfl, ⟨hk, hf⟩ | ⟨-, hf⟩⟩ := dv_some hf
      rotate_left
      · exact fl_none hf
      refine a_callb (pc := 57) (rs := []) (avs := [vR (some a57), vI x47, vI x55, vI v1]) Z.1 (w_X4_jumperComes GA (some a57) x47 x55 v1) (Or.inl rfl) q3209 q86 (by decide) (by decide) dX4_partyComes_57 hl.1 (Nat.le_of_ble_eq_true rfl) hf (ct_V hk ⟨by decide, by decide⟩ X (Or.inl rfl) q3209 q3206 q3208 pv_42 hy_X4_jumperComes np_X4_jumperComes rfl dX4_partyComes_57) (fun q h he hX => a_out (unc_of Z.2.1 rfl) Z.2.2.2.1 he hX) (fun x57 h hf => ?kk57)
      refine AW.eq (g2 := F0 m 60 ls [.int x57]) rfl ?_
      refine AW.lift (fun _ _ _ _ k => lv_pop (pc := 60) X.2.2.1 X.2.2.2.1 dX4_partyComes_60 rfl k) ?_
      refine a_aload_n (pc := 61) X dX4_partyComes_61 rfl hl 0 rfl ?_
      refine a_get (pc := 62) (φ := 100) pR_t X Z.1.2.1 (gw X.1 X.2.1 q3025) (fun _ q => q) (by decide) dX4_partyComes_62 hf (fun x62 hf => ?_)
      refine a_iload_n (pc := 65) X dX4_partyComes_65 rfl hl 2 rfl ?_
      refine AW.lift (fun _ _ _ _ k => lv_iconst (pc := 66) (v := (3 : Int32)) X.2.2.1 X.2.2.2.1 dX4_partyComes_66 rfl k) ?_
      refine AW.lift (fun _ _ _ _ k => lv_iadd (pc := 67) X.2.2.1 X.2.2.2.1 dX4_partyComes_67 k) ?_
      refine AW.lift (fun _ _ _ _ k => lv_dup2_11 (pc := 68) X.2.2.1 X.2.2.2.1 dX4_partyComes_68 rfl (cat_rf _) k) ?_
      refine a_iaload (pc := 69) X dX4_partyComes_69 hf (fun x69 hf => ?_)
      refine AW.lift (fun _ _ _ _ k => lv_iconst (pc := 70) (v := (1 : Int32)) X.2.2.1 X.2.2.2.1 dX4_partyComes_70 rfl k) ?_
      refine AW.lift (fun _ _ _ _ k => lv_iadd (pc := 71) X.2.2.1 X.2.2.2.1 dX4_partyComes_71 k) ?_
      refine a_iastore (pc := 72) X dX4_partyComes_72 hf (fun h hf => ?_)
      refine a_iinc (pc := 73) (v := (v3 + (1 : Int32))) X dX4_partyComes_73 hl (k := 3) rfl rfl (by decide) (lv' := [(3, vI (v3 + (1 : Int32))), (0, vR (some a57)), (1, vI v1), (2, vI v2)]) rfl (fun ls hl => ?_)
      refine AW.lift (fun _ _ _ _ k => lv_goto (pc := 76) (tgt := 16) X.2.2.1 X.2.2.2.1 dX4_partyComes_76 rfl k) ?_
      exact hrc16 (v3 + (1 : Int32)) _ _ (hl.sub [1, 2, 3, 0] rfl) hf
theorem w_X4_partyComes_l16 {r : Except Nat (Unit) × AH} (GA : GA l s0 a0 K lam) (Z : WZ l s0 a0 K p s m c cX4_partyComes yX4_partyComes.cls 4 b R 2 44 meth [] none yX4_partyComes) (v0 : Option Nat) (v1 : Int32) (v2 : Int32)  : ∀ (n : Nat) (v3 : Int32) (h : AH) (ls : Array Slot), LV ls 4 [(0, vR v0), (1, vI v1), (2, vI v2), (3, vI v3)] → f_X4_partyComes_l16 K v0 v1 v2 n v3 h = some r → AW s0 K lam p l e R s m args below meth c (AQ s0 K lam below oV b r s) b h (F0 m 16 ls []) := by
  intro n
  induction n with
  | zero => intro v3 h ls hl hf; exact fl_no (h := h) hf
  | succ n ih => intro v3 h ls hl hf; exact w_X4_partyComes_b16 GA Z v0 v1 v2 v3 (f_X4_partyComes_l16 K v0 v1 v2 n) ih hl hf
theorem np_X4_partyComes : npar yX4_partyComes.desc 1 := by unfold npar; decide +kernel
theorem hy_X4_partyComes : yX4_partyComes.cls ≠ "java/lang/invoke/MethodHandle" ∧ yX4_partyComes.cls ≠ "java/lang/invoke/VarHandle" := by decide +kernel
theorem w_X4_partyComes (GA : GA l s0 a0 K lam) (v0 : Option Nat) (v1 : Int32) : AMet l s0 K lam yX4_partyComes (Cond.code yX4_partyComes cX4_partyComes (4 : Nat) (Option.none : Option ClassFile.FieldType)) 2 44 [vR v0, vI v1] oV (f_X4_partyComes K v0 v1) := by
  refine AMet.of GA.1 (plainFor_of_name (by decide +kernel)) (Nat.le_of_ble_eq_true rfl) ?_
  intro b r hf p e s m args below meth c X hr hlk hnm hnd ht ls hl
  have Z : WZ l s0 a0 K p s m c cX4_partyComes yX4_partyComes.cls 4 b { frames := 2, cells := K 0 - aX b, slots := K 1 - aW b, locals := 44 } 2 44 meth [] none yX4_partyComes := ⟨⟨X, GA.2.1, GA.2.2.1, rfl, rfl, Nat.le_refl _, Nat.le_refl _⟩, tab_nil ht, hr, hlk, hnm, hnd⟩
  unfold f_X4_partyComes at hf
  clear hr hlk hnm hnd ht
  refine a_iload_n (pc := 0) X dX4_partyComes_0 rfl hl 1 rfl ?_
  refine a_callb (pc := 1) (rs := []) (avs := [vI v1]) Z.1 (w_X4_party GA v1) (Or.inl rfl) q3315 q86 (by decide) (by decide) dX4_partyComes_1 hl.1 (Nat.le_of_ble_eq_true rfl) hf (ct_S X (Or.inl rfl) q3315 q86 q3313 q3314 hy_X4_party np_X4_party rfl dX4_partyComes_1) (fun q h he hX => a_out (unc_of Z.2.1 rfl) Z.2.2.2.1 he hX) (fun x1 h hf => ?kk1)
  refine AW.eq (g2 := F0 m 4 ls [.int x1]) rfl ?_
  refine a_istore_n (pc := 4) X dX4_partyComes_4 rfl hl (by decide) (lv' := [(2, vI x1), (0, vR v0), (1, vI v1)]) rfl (fun ls hl => ?_)
  refine a_aload_n (pc := 5) X dX4_partyComes_5 rfl hl 1 rfl ?_
  refine a_get (pc := 6) (φ := 100) pR_t X Z.1.2.1 (gw X.1 X.2.1 q3025) (fun _ q => q) (by decide) dX4_partyComes_6 hf (fun x6 hf => ?_)
  refine a_iload_n (pc := 9) X dX4_partyComes_9 rfl hl 0 rfl ?_
  refine AW.lift (fun _ _ _ _ k => lv_iconst (pc := 10) (v := (2 : Int32)) X.2.2.1 X.2.2.2.1 dX4_partyComes_10 rfl k) ?_
  refine AW.lift (fun _ _ _ _ k => lv_iadd (pc := 11) X.2.2.1 X.2.2.2.1 dX4_partyComes_11 k) ?_
  refine AW.lift (fun _ _ _ _ k => lv_iconst (pc := 12) (v := (1 : Int32)) X.2.2.1 X.2.2.2.1 dX4_partyComes_12 rfl k) ?_
  refine a_iastore (pc := 13) X dX4_partyComes_13 hf (fun h hf => ?_)
  refine AW.lift (fun _ _ _ _ k => lv_iconst (pc := 14) (v := (0 : Int32)) X.2.2.1 X.2.2.2.1 dX4_partyComes_14 rfl k) ?_
  refine a_istore_n (pc := 15) X dX4_partyComes_15 rfl hl (by decide) (lv' := [(3, vI (0 : Int32)), (2, vI x1), (0, vR v0), (1, vI v1)]) rfl (fun ls hl => ?_)
  exact w_X4_partyComes_l16 GA Z v0 v1 x1  FU (0 : Int32) _ _ (hl.sub [2, 3, 1, 0] rfl) hf
theorem w_X4_minuteGoes_j137 {r : Except Nat (Int32) × AH} (GA : GA l s0 a0 K lam) (Z : WZ l s0 a0 K p s m c cX4_minuteGoes yX4_minuteGoes.cls 3 b R 4 89 meth [] (some (.int)) yX4_minuteGoes) (v0 : Option Nat) (v1 : Int32) (v2 : Int32)  (rc90 : Int32 → AM (Int32)) (hrc90 : ∀ (v2 : Int32) (h : AH) (ls : Array Slot), LV ls 3 [(0, vR v0), (1, vI v1), (2, vI v2)] → rc90 v2 h = some r → AW s0 K lam p l e R s m args below meth c (AQ s0 K lam below oI b r s) b h (F0 m 90 ls [])) {h : AH} {ls : Array Slot} (hl : LV ls 3 [(0, vR v0), (1, vI v1), (2, vI v2)]) (hf : f_X4_minuteGoes_j137 K rc90 v0 v1 v2 h = some r) : AW s0 K lam p l e R s m args below meth c (AQ s0 K lam below oI b r s) b h (F0 m 137 ls []) := by
  unfold f_X4_minuteGoes_j137 at hf
  have X := Z.1.1
  refine a_iinc (pc := 137) (v := (v2 + (1 : Int32))) X dX4_minuteGoes_137 hl (k := 2) rfl rfl (by decide) (lv' := [(2, vI (v2 + (1 : Int32))), (0, vR v0), (1, vI v1)]) rfl (fun ls hl => ?_)
  refine AW.lift (fun _ _ _ _ k => lv_goto (pc := 140) (tgt := 90) X.2.2.1 X.2.2.2.1 dX4_minuteGoes_140 rfl k) ?_
  exact hrc90 (v2 + (1 : Int32)) _ _ (hl.sub [1, 2, 0] rfl) hf
theorem w_X4_minuteGoes_b90 {r : Except Nat (Int32) × AH} (GA : GA l s0 a0 K lam) (Z : WZ l s0 a0 K p s m c cX4_minuteGoes yX4_minuteGoes.cls 3 b R 4 89 meth [] (some (.int)) yX4_minuteGoes) (v0 : Option Nat) (v1 : Int32) (v2 : Int32)  (rc90 : Int32 → AM (Int32)) (hrc90 : ∀ (v2 : Int32) (h : AH) (ls : Array Slot), LV ls 3 [(0, vR v0), (1, vI v1), (2, vI v2)] → rc90 v2 h = some r → AW s0 K lam p l e R s m args below meth c (AQ s0 K lam below oI b r s) b h (F0 m 90 ls [])) {h : AH} {ls : Array Slot} (hl : LV ls 3 [(0, vR v0), (1, vI v1), (2, vI v2)]) (hf : f_X4_minuteGoes_b90 K rc90 v0 v1 v2 h = some r) : AW s0 K lam p l e R s m args below meth c (AQ s0 K lam below oI b r s) b h (F0 m 90 ls []) := by
  unfold f_X4_minuteGoes_b90 at hf
  have X := Z.1.1
  refine a_iload_n (pc := 90) X dX4_minuteGoes_90 rfl hl 2 rfl ?_
  refine a_aload_n (pc := 91) X dX4_minuteGoes_91 rfl hl 0 rfl ?_
  refine a_get (pc := 92) (φ := 100) pR_t X Z.1.2.1 (gw X.1 X.2.1 q3025) (fun _ q => q) (by decide) dX4_minuteGoes_92 hf (fun x92 hf => ?_)
  refine AW.lift (fun _ _ _ _ k => lv_iconst (pc := 95) (v := (4 : Int32)) X.2.2.1 X.2.2.2.1 dX4_minuteGoes_95 rfl k) ?_
  refine a_iaload (pc := 96) X dX4_minuteGoes_96 hf (fun x96 hf => ?_)
  refine AW.lift2 (fun _ _ _ _ k1 k2 => lv_icmp_ge (pc := 97) (tgt := 143) X.2.2.1 X.2.2.2.1 dX4_minuteGoes_97 rfl k1 k2) (fun c => ?_) (fun c => ?_)
  · have hf := ite_t c hf
    refine a_iload_n (pc := 143) X dX4_minuteGoes_143 rfl hl 1 rfl ?_
    exact a_ireturn X Z.2.2.1 Z.2.2.2.1 dX4_minuteGoes_144 hf
  · have hf := ite_f c hf
    refine a_aload_n (pc := 100) X dX4_minuteGoes_100 rfl hl 0 rfl ?_
    refine a_get (pc := 101) (φ := 100) pR_t X Z.1.2.1 (gw X.1 X.2.1 q3025) (fun _ q => q) (by decide) dX4_minuteGoes_101 hf (fun x101 hf => ?_)
    refine a_iload_n (pc := 104) X dX4_minuteGoes_104 rfl hl 2 rfl ?_
    refine a_callb (pc := 105) (rs := [vR x101]) (avs := [vI v2]) Z.1 (w_X4_party GA v2) (Or.inl rfl) q3315 q86 (by decide) (by decide) dX4_minuteGoes_105 hl.1 (Nat.le_of_ble_eq_true rfl) hf (ct_S X (Or.inl rfl) q3315 q86 q3313 q3314 hy_X4_party np_X4_party rfl dX4_minuteGoes_105) (fun q h he hX => a_out (unc_of Z.2.1 rfl) Z.2.2.2.1 he hX) (fun x105 h hf => ?kk105)
    refine AW.eq (g2 := F0 m 108 ls [.int x105, va_rf x101]) rfl ?_
    refine AW.lift (fun _ _ _ _ k => lv_iconst (pc := 108) (v := (2 : Int32)) X.2.2.1 X.2.2.2.1 dX4_minuteGoes_108 rfl k) ?_
    refine AW.lift (fun _ _ _ _ k => lv_iadd (pc := 109) X.2.2.1 X.2.2.2.1 dX4_minuteGoes_109 k) ?_
    refine a_iaload (pc := 110) X dX4_minuteGoes_110 hf (fun x110 hf => ?_)
    refine AW.lift2 (fun _ _ _ _ k1 k2 => lv_if_ne (pc := 111) (tgt := 137) X.2.2.1 X.2.2.2.1 dX4_minuteGoes_111 rfl k2 k1) (fun c => ?_) (fun c => ?_)
    · have hf := ite_t c hf
      refine a_aload_n (pc := 114) X dX4_minuteGoes_114 rfl hl 0 rfl ?_
      refine a_get (pc := 115) (φ := 100) pR_t X Z.1.2.1 (gw X.1 X.2.1 q3025) (fun _ q => q) (by decide) dX4_minuteGoes_115 hf (fun x115 hf => ?_)
      refine a_iload_n (pc := 118) X dX4_minuteGoes_118 rfl hl 2 rfl ?_
      refine a_callb (pc := 119) (rs := [vR x115]) (avs := [vI v2]) Z.1 (w_X4_party GA v2) (Or.inl rfl) q3315 q86 (by decide) (by decide) dX4_minuteGoes_119 hl.1 (Nat.le_of_ble_eq_true rfl) hf (ct_S X (Or.inl rfl) q3315 q86 q3313 q3314 hy_X4_party np_X4_party rfl dX4_minuteGoes_119) (fun q h he hX => a_out (unc_of Z.2.1 rfl) Z.2.2.2.1 he hX) (fun x119 h hf => ?kk119)
      refine AW.eq (g2 := F0 m 122 ls [.int x119, va_rf x115]) rfl ?_
      refine a_iaload (pc := 122) X dX4_minuteGoes_122 hf (fun x122 hf => ?_)
      refine a_aload_n (pc := 123) X dX4_minuteGoes_123 rfl hl 0 rfl ?_
      refine a_get (pc := 124) (φ := 100) pR_t X Z.1.2.1 (gw X.1 X.2.1 q3025) (fun _ q => q) (by decide) dX4_minuteGoes_124 hf (fun x124 hf => ?_)
      refine AW.lift (fun _ _ _ _ k => lv_iconst (pc := 127) (v := (0 : Int32)) X.2.2.1 X.2.2.2.1 dX4_minuteGoes_127 rfl k) ?_
      refine a_iaload (pc := 128) X dX4_minuteGoes_128 hf (fun x128 hf => ?_)
      refine AW.lift2 (fun _ _ _ _ k1 k2 => lv_icmp_ne (pc := 129) (tgt := 137) X.2.2.1 X.2.2.2.1 dX4_minuteGoes_129 rfl k2 k1) (fun c => ?_) (fun c => ?_)
      · have hf := ite_t c hf
        refine a_aload_n (pc := 132) X dX4_minuteGoes_132 rfl hl 0 rfl ?_
        refine a_iload_n (pc := 133) X dX4_minuteGoes_133 rfl hl 2 rfl ?_
        obtain ⟨a134, rfl, ⟨hk, hf⟩ | ⟨-, hf⟩⟩ := dv_some hf
        rotate_left
        · exact fl_none hf
        refine a_callb (pc := 134) (rs := []) (avs := [vR (some a134), vI v2]) Z.1 (w_X4_partyComes GA (some a134) v2) (Or.inl rfl) q3357 q86 (by decide) (by decide) dX4_minuteGoes_134 hl.1 (Nat.le_of_ble_eq_true rfl) hf (ct_V hk ⟨by decide, by decide⟩ X (Or.inl rfl) q3357 q3354 q3356 pv_59 hy_X4_partyComes np_X4_partyComes rfl dX4_minuteGoes_134) (fun q h he hX => a_out (unc_of Z.2.1 rfl) Z.2.2.2.1 he hX) (fun _ h hf => ?kk134)
        refine AW.eq (g2 := F0 m 137 ls []) rfl ?_
        exact w_X4_minuteGoes_j137 GA Z (some a134) v1 v2  rc90 hrc90 (hl.sub [0, 1, 2] rfl) hf
      · have hf := ite_f c hf
        exact w_X4_minuteGoes_j137 GA Z v0 v1 v2  rc90 hrc90 (hl.sub [0, 1, 2] rfl) hf
    · have hf := ite_f c hf
      exact w_X4_minuteGoes_j137 GA Z v0 v1 v2  rc90 hrc90 (hl.sub [0, 1, 2] rfl) hf
theorem w_X4_minuteGoes_l90 {r : Except Nat (Int32) × AH} (GA : GA l s0 a0 K lam) (Z : WZ l s0 a0 K p s m c cX4_minuteGoes yX4_minuteGoes.cls 3 b R 4 89 meth [] (some (.int)) yX4_minuteGoes) (v0 : Option Nat) (v1 : Int32)  : ∀ (n : Nat) (v2 : Int32) (h : AH) (ls : Array Slot), LV ls 3 [(0, vR v0), (1, vI v1), (2, vI v2)] → f_X4_minuteGoes_l90 K v0 v1 n v2 h = some r → AW s0 K lam p l e R s m args below meth c (AQ s0 K lam below oI b r s) b h (F0 m 90 ls []) := by
  intro n
  induction n with
  | zero => intro v2 h ls hl hf; exact fl_no (h := h) hf
  | succ n ih => intro v2 h ls hl hf; exact w_X4_minuteGoes_b90 GA Z v0 v1 v2 (f_X4_minuteGoes_l90 K v0 v1 n) ih hl hf
theorem w_X4_minuteGoes_j78 {r : Except Nat (Int32) × AH} (GA : GA l s0 a0 K lam) (Z : WZ l s0 a0 K p s m c cX4_minuteGoes yX4_minuteGoes.cls 3 b R 4 89 meth [] (some (.int)) yX4_minuteGoes) (v0 : Option Nat) (v1 : Int32)   {h : AH} {ls : Array Slot} (hl : LV ls 3 [(0, vR v0), (1, vI v1)]) (hf : f_X4_minuteGoes_j78 K v0 v1 h = some r) : AW s0 K lam p l e R s m args below meth c (AQ s0 K lam below oI b r s) b h (F0 m 78 ls []) := by
  unfold f_X4_minuteGoes_j78 at hf
  have X := Z.1.1
  refine a_aload_n (pc := 78) X dX4_minuteGoes_78 rfl hl 0 rfl ?_
  refine a_get (pc := 79) (φ := 100) pR_t X Z.1.2.1 (gw X.1 X.2.1 q3025) (fun _ q => q) (by decide) dX4_minuteGoes_79 hf (fun x79 hf => ?_)
  refine AW.lift (fun _ _ _ _ k => lv_iconst (pc := 82) (v := (0 : Int32)) X.2.2.1 X.2.2.2.1 dX4_minuteGoes_82 rfl k) ?_
  refine AW.lift (fun _ _ _ _ k => lv_dup2_11 (pc := 83) X.2.2.1 X.2.2.2.1 dX4_minuteGoes_83 rfl (cat_rf _) k) ?_
  refine a_iaload (pc := 84) X dX4_minuteGoes_84 hf (fun x84 hf => ?_)
  refine AW.lift (fun _ _ _ _ k => lv_iconst (pc := 85) (v := (1 : Int32)) X.2.2.1 X.2.2.2.1 dX4_minuteGoes_85 rfl k) ?_
  refine AW.lift (fun _ _ _ _ k => lv_iadd (pc := 86) X.2.2.1 X.2.2.2.1 dX4_minuteGoes_86 k) ?_
  refine a_iastore (pc := 87) X dX4_minuteGoes_87 hf (fun h hf => ?_)
  refine AW.lift (fun _ _ _ _ k => lv_iconst (pc := 88) (v := (0 : Int32)) X.2.2.1 X.2.2.2.1 dX4_minuteGoes_88 rfl k) ?_
  refine a_istore_n (pc := 89) X dX4_minuteGoes_89 rfl hl (by decide) (lv' := [(2, vI (0 : Int32)), (0, vR v0), (1, vI v1)]) rfl (fun ls hl => ?_)
  exact w_X4_minuteGoes_l90 GA Z v0 v1  FU (0 : Int32) _ _ (hl.sub [1, 2, 0] rfl) hf
theorem w_X4_minuteGoes_b54 {r : Except Nat (Int32) × AH} (GA : GA l s0 a0 K lam) (Z : WZ l s0 a0 K p s m c cX4_minuteGoes yX4_minuteGoes.cls 3 b R 4 89 meth [] (some (.int)) yX4_minuteGoes) (v0 : Option Nat) (v1 : Int32) (v2 : Int32)  (rc54 : Int32 → Int32 → AM (Int32)) (hrc54 : ∀ (v1 : Int32) (v2 : Int32) (h : AH) (ls : Array Slot), LV ls 3 [(0, vR v0), (1, vI v1), (2, vI v2)] → rc54 v1 v2 h = some r → AW s0 K lam p l e R s m args below meth c (AQ s0 K lam below oI b r s) b h (F0 m 54 ls [])) {h : AH} {ls : Array Slot} (hl : LV ls 3 [(0, vR v0), (1, vI v1), (2, vI v2)]) (hf : f_X4_minuteGoes_b54 K rc54 v0 v1 v2 h = some r) : AW s0 K lam p l e R s m args below meth c (AQ s0 K lam below oI b r s) b h (F0 m 54 ls []) := by
  unfold f_X4_minuteGoes_b54 at hf
  have X := Z.1.1
  refine a_iload_n (pc := 54) X dX4_minuteGoes_54 rfl hl 2 rfl ?_
  refine a_aload_n (pc := 55) X dX4_minuteGoes_55 rfl hl 0 rfl ?_
  refine a_get (pc := 56) (φ := 100) pR_t X Z.1.2.1 (gw X.1 X.2.1 q3025) (fun _ q => q) (by decide) dX4_minuteGoes_56 hf (fun x56 hf => ?_)
  refine AW.lift (fun _ _ _ _ k => lv_iconst (pc := 59) (v := (1 : Int32)) X.2.2.1 X.2.2.2.1 dX4_minuteGoes_59 rfl k) ?_
  refine a_iaload (pc := 60) X dX4_minuteGoes_60 hf (fun x60 hf => ?_)
  refine AW.lift2 (fun _ _ _ _ k1 k2 => lv_icmp_ge (pc := 61) (tgt := 78) X.2.2.1 X.2.2.2.1 dX4_minuteGoes_61 rfl k1 k2) (fun c => ?_) (fun c => ?_)
  · have hf := ite_t c hf
    exact w_X4_minuteGoes_j78 GA Z v0 v1   (hl.sub [0, 1] rfl) hf
  · have hf := ite_f c hf
    refine a_iload_n (pc := 64) X dX4_minuteGoes_64 rfl hl 1 rfl ?_
    refine a_aload_n (pc := 65) X dX4_minuteGoes_65 rfl hl 0 rfl ?_
    refine a_iload_n (pc := 66) X dX4_minuteGoes_66 rfl hl 2 rfl ?_
    obtain ⟨a67, rfl, ⟨hk, hf⟩ | ⟨-, hf⟩⟩ := dv_some hf
    rotate_left
    · exact fl_none hf
    refine a_callb (pc := 67) (rs := [vI v1]) (avs := [vR (some a67), vI v2]) Z.1 (w_X4_sinks GA (some a67) v2) (Or.inl rfl) q3353 q86 (by decide) (by decide) dX4_minuteGoes_67 hl.1 (Nat.le_of_ble_eq_true rfl) hf (ct_V hk ⟨by decide, by decide⟩ X (Or.inl rfl) q3353 q3350 q3352 pv_58 hy_X4_sinks np_X4_sinks rfl dX4_minuteGoes_67) (fun q h he hX => a_out (unc_of Z.2.1 rfl) Z.2.2.2.1 he hX) (fun x67 h hf => ?kk67)
    refine AW.eq (g2 := F0 m 70 ls [.int x67, .int v1]) rfl ?_
    refine AW.lift (fun _ _ _ _ k => lv_iadd (pc := 70) X.2.2.1 X.2.2.2.1 dX4_minuteGoes_70 k) ?_
    refine a_istore_n (pc := 71) X dX4_minuteGoes_71 rfl hl (by decide) (lv' := [(1, vI (v1 + x67)), (0, vR (some a67)), (2, vI v2)]) rfl (fun ls hl => ?_)
    refine a_iinc (pc := 72) (v := (v2 + (1 : Int32))) X dX4_minuteGoes_72 hl (k := 2) rfl rfl (by decide) (lv' := [(2, vI (v2 + (1 : Int32))), (1, vI (v1 + x67)), (0, vR (some a67))]) rfl (fun ls hl => ?_)
    refine AW.lift (fun _ _ _ _ k => lv_goto (pc := 75) (tgt := 54) X.2.2.1 X.2.2.2.1 dX4_minuteGoes_75 rfl k) ?_
    exact hrc54 (v1 + x67) (v2 + (1 : Int32)) _ _ (hl.sub [2, 1, 0] rfl) hf
theorem w_X4_minuteGoes_l54 {r : Except Nat (Int32) × AH} (GA : GA l s0 a0 K lam) (Z : WZ l s0 a0 K p s m c cX4_minuteGoes yX4_minuteGoes.cls 3 b R 4 89 meth [] (some (.int)) yX4_minuteGoes) (v0 : Option Nat)  : ∀ (n : Nat) (v1 : Int32) (v2 : Int32) (h : AH) (ls : Array Slot), LV ls 3 [(0, vR v0), (1, vI v1), (2, vI v2)] → f_X4_minuteGoes_l54 K v0 n v1 v2 h = some r → AW s0 K lam p l e R s m args below meth c (AQ s0 K lam below oI b r s) b h (F0 m 54 ls []) := by
  intro n
  induction n with
  | zero => intro v1 v2 h ls hl hf; exact fl_no (h := h) hf
  | succ n ih => intro v1 v2 h ls hl hf; exact w_X4_minuteGoes_b54 GA Z v0 v1 v2 (f_X4_minuteGoes_l54 K v0 n) ih hl hf
theorem w_X4_minuteGoes_j50 {r : Except Nat (Int32) × AH} (GA : GA l s0 a0 K lam) (Z : WZ l s0 a0 K p s m c cX4_minuteGoes yX4_minuteGoes.cls 3 b R 4 89 meth [] (some (.int)) yX4_minuteGoes) (v0 : Option Nat)   {h : AH} {ls : Array Slot} (hl : LV ls 3 [(0, vR v0)]) (hf : f_X4_minuteGoes_j50 K v0 h = some r) : AW s0 K lam p l e R s m args below meth c (AQ s0 K lam below oI b r s) b h (F0 m 50 ls []) := by
  unfold f_X4_minuteGoes_j50 at hf
  have X := Z.1.1
  refine AW.lift (fun _ _ _ _ k => lv_iconst (pc := 50) (v := (0 : Int32)) X.2.2.1 X.2.2.2.1 dX4_minuteGoes_50 rfl k) ?_
  refine a_istore_n (pc := 51) X dX4_minuteGoes_51 rfl hl (by decide) (lv' := [(1, vI (0 : Int32)), (0, vR v0)]) rfl (fun ls hl => ?_)
  refine AW.lift (fun _ _ _ _ k => lv_iconst (pc := 52) (v := (0 : Int32)) X.2.2.1 X.2.2.2.1 dX4_minuteGoes_52 rfl k) ?_
  refine a_istore_n (pc := 53) X dX4_minuteGoes_53 rfl hl (by decide) (lv' := [(2, vI (0 : Int32)), (1, vI (0 : Int32)), (0, vR v0)]) rfl (fun ls hl => ?_)
  exact w_X4_minuteGoes_l54 GA Z v0  FU (0 : Int32) (0 : Int32) _ _ (hl.sub [2, 1, 0] rfl) hf
theorem w_X4_minuteGoes_j44 {r : Except Nat (Int32) × AH} (GA : GA l s0 a0 K lam) (Z : WZ l s0 a0 K p s m c cX4_minuteGoes yX4_minuteGoes.cls 3 b R 4 89 meth [] (some (.int)) yX4_minuteGoes) (v0 : Option Nat) (v1 : Int32)  (rc2 : Int32 → AM (Int32)) (hrc2 : ∀ (v1 : Int32) (h : AH) (ls : Array Slot), LV ls 3 [(0, vR v0), (1, vI v1)] → rc2 v1 h = some r → AW s0 K lam p l e R s m args below meth c (AQ s0 K lam below oI b r s) b h (F0 m 2 ls [])) {h : AH} {ls : Array Slot} (hl : LV ls 3 [(0, vR v0), (1, vI v1)]) (hf : f_X4_minuteGoes_j44 K rc2 v0 v1 h = some r) : AW s0 K lam p l e R s m args below meth c (AQ s0 K lam below oI b r s) b h (F0 m 44 ls []) := by
  unfold f_X4_minuteGoes_j44 at hf
  have X := Z.1.1
  refine a_iinc (pc := 44) (v := (v1 + (1 : Int32))) X dX4_minuteGoes_44 hl (k := 1) rfl rfl (by decide) (lv' := [(1, vI (v1 + (1 : Int32))), (0, vR v0)]) rfl (fun ls hl => ?_)
  refine AW.lift (fun _ _ _ _ k => lv_goto (pc := 47) (tgt := 2) X.2.2.1 X.2.2.2.1 dX4_minuteGoes_47 rfl k) ?_
  exact hrc2 (v1 + (1 : Int32)) _ _ (hl.sub [1, 0] rfl) hf
theorem w_X4_minuteGoes_j38 {r : Except Nat (Int32) × AH} (GA : GA l s0 a0 K lam) (Z : WZ l s0 a0 K p s m c cX4_minuteGoes yX4_minuteGoes.cls 3 b R 4 89 meth [] (some (.int)) yX4_minuteGoes) (v0 : Option Nat) (v1 : Int32) (v2 : Int32)  (rc2 : Int32 → AM (Int32)) (hrc2 : ∀ (v1 : Int32) (h : AH) (ls : Array Slot), LV ls 3 [(0, vR v0), (1, vI v1)] → rc2 v1 h = some r → AW s0 K lam p l e R s m args below meth c (AQ s0 K lam below oI b r s) b h (F0 m 2 ls [])) (rc14 : Int32 → AM (Int32)) (hrc14 : ∀ (v2 : Int32) (h : AH) (ls : Array Slot), LV ls 3 [(0, vR v0), (1, vI v1), (2, vI v2)] → rc14 v2 h = some r → AW s0 K lam p l e R s m args below meth c (AQ s0 K lam below oI b r s) b h (F0 m 14 ls [])) {h : AH} {ls : Array Slot} (hl : LV ls 3 [(0, vR v0), (1, vI v1), (2, vI v2)]) (hf : f_X4_minuteGoes_j38 K rc2 rc14 v0 v1 v2 h = some r) : AW s0 K lam p l e R s m args below meth c (AQ s0 K lam below oI b r s) b h (F0 m 38 ls []) := by
  unfold f_X4_minuteGoes_j38 at hf
  have X := Z.1.1
  refine a_iinc (pc := 38) (v := (v2 + (1 : Int32))) X dX4_minuteGoes_38 hl (k := 2) rfl rfl (by decide) (lv' := [(2, vI (v2 + (1 : Int32))), (0, vR v0), (1, vI v1)]) rfl (fun ls hl => ?_)
  refine AW.lift (fun _ _ _ _ k => lv_goto (pc := 41) (tgt := 14) X.2.2.1 X.2.2.2.1 dX4_minuteGoes_41 rfl k) ?_
  exact hrc14 (v2 + (1 : Int32)) _ _ (hl.sub [1, 2, 0] rfl) hf
theorem w_X4_minuteGoes_b14 {r : Except Nat (Int32) × AH} (GA : GA l s0 a0 K lam) (Z : WZ l s0 a0 K p s m c cX4_minuteGoes yX4_minuteGoes.cls 3 b R 4 89 meth [] (some (.int)) yX4_minuteGoes) (v0 : Option Nat) (v1 : Int32) (v2 : Int32)  (rc2 : Int32 → AM (Int32)) (hrc2 : ∀ (v1 : Int32) (h : AH) (ls : Array Slot), LV ls 3 [(0, vR v0), (1, vI v1)] → rc2 v1 h = some r → AW s0 K lam p l e R s m args below meth c (AQ s0 K lam below oI b r s) b h (F0 m 2 ls [])) (rc14 : Int32 → AM (Int32)) (hrc14 : ∀ (v2 : Int32) (h : AH) (ls : Array Slot), LV ls 3 [(0, vR v0), (1, vI v1), (2, vI v2)] → rc14 v2 h = some r → AW s0 K lam p l e R s m args below meth c (AQ s0 K lam below oI b r s) b h (F0 m 14 ls [])) {h : AH} {ls : Array Slot} (hl : LV ls 3 [(0, vR v0), (1, vI v1), (2, vI v2)]) (hf : f_X4_minuteGoes_b14 K rc2 rc14 v0 v1 v2 h = some r) : AW s0 K lam p l e R s m args below meth c (AQ s0 K lam below oI b r s) b h (F0 m 14 ls []) := by
  unfold f_X4_minuteGoes_b14 at hf
  have X := Z.1.1
  refine a_iload_n (pc := 14) X dX4_minuteGoes_14 rfl hl 2 rfl ?_
  refine a_aload_n (pc := 15) X dX4_minuteGoes_15 rfl hl 0 rfl ?_
  refine a_get (pc := 16) (φ := 100) pR_t X Z.1.2.1 (gw X.1 X.2.1 q3025) (fun _ q => q) (by decide) dX4_minuteGoes_16 hf (fun x16 hf => ?_)
  refine AW.lift (fun _ _ _ _ k => lv_iconst (pc := 19) (v := (2 : Int32)) X.2.2.1 X.2.2.2.1 dX4_minuteGoes_19 rfl k) ?_
  refine a_iaload (pc := 20) X dX4_minuteGoes_20 hf (fun x20 hf => ?_)
  refine AW.lift2 (fun _ _ _ _ k1 k2 => lv_icmp_ge (pc := 21) (tgt := 44) X.2.2.1 X.2.2.2.1 dX4_minuteGoes_21 rfl k1 k2) (fun c => ?_) (fun c => ?_)
  · have hf := ite_t c hf
    exact w_X4_minuteGoes_j44 GA Z v0 v1  rc2 hrc2 (hl.sub [0, 1] rfl) hf
  · have hf := ite_f c hf
    refine a_aload_n (pc := 24) X dX4_minuteGoes_24 rfl hl 0 rfl ?_
    refine a_iload_n (pc := 25) X dX4_minuteGoes_25 rfl hl 2 rfl ?_
    refine a_iload_n (pc := 26) X dX4_minuteGoes_26 rfl hl 1 rfl ?_
    obtain ⟨a27, rfl, ⟨hk, hf⟩ | ⟨-, hf⟩⟩ := dv_some hf
    rotate_left
    · exact fl_none hf
    refine a_callb (pc := 27) (rs := []) (avs := [vR (some a27), vI v2, vI v1]) Z.1 (w_X4_isOn GA (some a27) v2 v1) (Or.inl rfl) q3151 q86 (by decide) (by decide) dX4_minuteGoes_27 hl.1 (Nat.le_of_ble_eq_true rfl) hf (ct_V hk ⟨by decide, by decide⟩ X (Or.inl rfl) q3151 q3148 q3150 pv_35 hy_X4_isOn np_X4_isOn rfl dX4_minuteGoes_27) (fun q h he hX => a_out (unc_of Z.2.1 rfl) Z.2.2.2.1 he hX) (fun x27 h hf => ?kk27)
    refine AW.eq (g2 := F0 m 30 ls [.int x27]) rfl ?_
    refine AW.lift2 (fun _ _ _ _ k1 k2 => lv_if_eq (pc := 30) (tgt := 38) X.2.2.1 X.2.2.2.1 dX4_minuteGoes_30 rfl k1 k2) (fun c => ?_) (fun c => ?_)
    · have hf := ite_t c hf
      exact w_X4_minuteGoes_j38 GA Z (some a27) v1 v2  rc2 hrc2 rc14 hrc14 (hl.sub [0, 1, 2] rfl) hf
    · have hf := ite_f c hf
      refine a_aload_n (pc := 33) X dX4_minuteGoes_33 rfl hl 0 rfl ?_
      refine a_iload_n (pc := 34) X dX4_minuteGoes_34 rfl hl 2 rfl ?_
      rcases dv_someS hf with ⟨hk, hf⟩ | ⟨-, hf⟩
      rotate_left
      · exact fl_none hf
      refine a_callb (pc := 35) (rs := []) (avs := [vR (some a27), vI v2]) Z.1 (w_X4_jumps GA (some a27) v2) (Or.inl rfl) q3349 q86 (by decide) (by decide) dX4_minuteGoes_35 hl.1 (Nat.le_of_ble_eq_true rfl) hf (ct_V hk ⟨by decide, by decide⟩ X (Or.inl rfl) q3349 q3346 q3348 pv_57 hy_X4_jumps np_X4_jumps rfl dX4_minuteGoes_35) (fun q h he hX => a_out (unc_of Z.2.1 rfl) Z.2.2.2.1 he hX) (fun _ h hf => ?kk35)
      refine AW.eq (g2 := F0 m 38 ls []) rfl ?_
      exact w_X4_minuteGoes_j38 GA Z (some a27) v1 v2  rc2 hrc2 rc14 hrc14 (hl.sub [0, 1, 2] rfl) hf
theorem w_X4_minuteGoes_l14 {r : Except Nat (Int32) × AH} (GA : GA l s0 a0 K lam) (Z : WZ l s0 a0 K p s m c cX4_minuteGoes yX4_minuteGoes.cls 3 b R 4 89 meth [] (some (.int)) yX4_minuteGoes) (v0 : Option Nat) (v1 : Int32) (rc2 : Int32 → AM (Int32)) (hrc2 : ∀ (v1 : Int32) (h : AH) (ls : Array Slot), LV ls 3 [(0, vR v0), (1, vI v1)] → rc2 v1 h = some r → AW s0 K lam p l e R s m args below meth c (AQ s0 K lam below oI b r s) b h (F0 m 2 ls [])) : ∀ (n : Nat) (v2 : Int32) (h : AH) (ls : Array Slot), LV ls 3 [(0, vR v0), (1, vI v1), (2, vI v2)] → f_X4_minuteGoes_l14 K rc2 v0 v1 n v2 h = some r → AW s0 K lam p l e R s m args below meth c (AQ s0 K lam below oI b r s) b h (F0 m 14 ls []) := by
  intro n
  induction n with
  | zero => intro v2 h ls hl hf; exact fl_no (h := h) hf
  | succ n ih => intro v2 h ls hl hf; exact w_X4_minuteGoes_b14 GA Z v0 v1 v2 rc2 hrc2 (f_X4_minuteGoes_l14 K rc2 v0 v1 n) ih hl hf
theorem w_X4_minuteGoes_b2 {r : Except Nat (Int32) × AH} (GA : GA l s0 a0 K lam) (Z : WZ l s0 a0 K p s m c cX4_minuteGoes yX4_minuteGoes.cls 3 b R 4 89 meth [] (some (.int)) yX4_minuteGoes) (v0 : Option Nat) (v1 : Int32)  (rc2 : Int32 → AM (Int32)) (hrc2 : ∀ (v1 : Int32) (h : AH) (ls : Array Slot), LV ls 3 [(0, vR v0), (1, vI v1)] → rc2 v1 h = some r → AW s0 K lam p l e R s m args below meth c (AQ s0 K lam below oI b r s) b h (F0 m 2 ls [])) {h : AH} {ls : Array Slot} (hl : LV ls 3 [(0, vR v0), (1, vI v1)]) (hf : f_X4_minuteGoes_b2 K rc2 v0 v1 h = some r) : AW s0 K lam p l e R s m args below meth c (AQ s0 K lam below oI b r s) b h (F0 m 2 ls []) := by
  unfold f_X4_minuteGoes_b2 at hf
  have X := Z.1.1
  refine a_iload_n (pc := 2) X dX4_minuteGoes_2 rfl hl 1 rfl ?_
  refine a_aload_n (pc := 3) X dX4_minuteGoes_3 rfl hl 0 rfl ?_
  refine a_get (pc := 4) (φ := 100) pR_t X Z.1.2.1 (gw X.1 X.2.1 q3025) (fun _ q => q) (by decide) dX4_minuteGoes_4 hf (fun x4 hf => ?_)
  refine AW.lift (fun _ _ _ _ k => lv_iconst (pc := 7) (v := (1 : Int32)) X.2.2.1 X.2.2.2.1 dX4_minuteGoes_7 rfl k) ?_
  refine a_iaload (pc := 8) X dX4_minuteGoes_8 hf (fun x8 hf => ?_)
  refine AW.lift2 (fun _ _ _ _ k1 k2 => lv_icmp_ge (pc := 9) (tgt := 50) X.2.2.1 X.2.2.2.1 dX4_minuteGoes_9 rfl k1 k2) (fun c => ?_) (fun c => ?_)
  · have hf := ite_t c hf
    exact w_X4_minuteGoes_j50 GA Z v0   (hl.sub [0] rfl) hf
  · have hf := ite_f c hf
    refine AW.lift (fun _ _ _ _ k => lv_iconst (pc := 12) (v := (0 : Int32)) X.2.2.1 X.2.2.2.1 dX4_minuteGoes_12 rfl k) ?_
    refine a_istore_n (pc := 13) X dX4_minuteGoes_13 rfl hl (by decide) (lv' := [(2, vI (0 : Int32)), (0, vR v0), (1, vI v1)]) rfl (fun ls hl => ?_)
    exact w_X4_minuteGoes_l14 GA Z v0 v1 rc2 hrc2 FU (0 : Int32) _ _ (hl.sub [1, 2, 0] rfl) hf
theorem w_X4_minuteGoes_l2 {r : Except Nat (Int32) × AH} (GA : GA l s0 a0 K lam) (Z : WZ l s0 a0 K p s m c cX4_minuteGoes yX4_minuteGoes.cls 3 b R 4 89 meth [] (some (.int)) yX4_minuteGoes) (v0 : Option Nat)  : ∀ (n : Nat) (v1 : Int32) (h : AH) (ls : Array Slot), LV ls 3 [(0, vR v0), (1, vI v1)] → f_X4_minuteGoes_l2 K v0 n v1 h = some r → AW s0 K lam p l e R s m args below meth c (AQ s0 K lam below oI b r s) b h (F0 m 2 ls []) := by
  intro n
  induction n with
  | zero => intro v1 h ls hl hf; exact fl_no (h := h) hf
  | succ n ih => intro v1 h ls hl hf; exact w_X4_minuteGoes_b2 GA Z v0 v1 (f_X4_minuteGoes_l2 K v0 n) ih hl hf
theorem np_X4_minuteGoes : npar yX4_minuteGoes.desc 0 := by unfold npar; decide +kernel
theorem hy_X4_minuteGoes : yX4_minuteGoes.cls ≠ "java/lang/invoke/MethodHandle" ∧ yX4_minuteGoes.cls ≠ "java/lang/invoke/VarHandle" := by decide +kernel
theorem w_X4_minuteGoes (GA : GA l s0 a0 K lam) (v0 : Option Nat) : AMet l s0 K lam yX4_minuteGoes (Cond.code yX4_minuteGoes cX4_minuteGoes (3 : Nat) (Option.some ClassFile.FieldType.int)) 4 89 [vR v0] oI (f_X4_minuteGoes K v0) := by
  refine AMet.of GA.1 (plainFor_of_name (by decide +kernel)) (Nat.le_of_ble_eq_true rfl) ?_
  intro b r hf p e s m args below meth c X hr hlk hnm hnd ht ls hl
  have Z : WZ l s0 a0 K p s m c cX4_minuteGoes yX4_minuteGoes.cls 3 b { frames := 4, cells := K 0 - aX b, slots := K 1 - aW b, locals := 89 } 4 89 meth [] (some (.int)) yX4_minuteGoes := ⟨⟨X, GA.2.1, GA.2.2.1, rfl, rfl, Nat.le_refl _, Nat.le_refl _⟩, tab_nil ht, hr, hlk, hnm, hnd⟩
  unfold f_X4_minuteGoes at hf
  clear hr hlk hnm hnd ht
  refine AW.lift (fun _ _ _ _ k => lv_iconst (pc := 0) (v := (0 : Int32)) X.2.2.1 X.2.2.2.1 dX4_minuteGoes_0 rfl k) ?_
  refine a_istore_n (pc := 1) X dX4_minuteGoes_1 rfl hl (by decide) (lv' := [(1, vI (0 : Int32)), (0, vR v0)]) rfl (fun ls hl => ?_)
  exact w_X4_minuteGoes_l2 GA Z v0  FU (0 : Int32) _ _ (hl.sub [1, 0] rfl) hf
theorem w_X4_lasts_b85 {r : Except Nat (Int32) × AH} (GA : GA l s0 a0 K lam) (Z : WZ l s0 a0 K p s m c cX4_lasts yX4_lasts.cls 4 b R 5 111 meth [] (some (.int)) yX4_lasts) (v0 : Option Nat) (v2 : Int32) (v3 : Int32)  (rc85 : Int32 → AM (Int32)) (hrc85 : ∀ (v3 : Int32) (h : AH) (ls : Array Slot), LV ls 4 [(0, vR v0), (2, vI v2), (3, vI v3)] → rc85 v3 h = some r → AW s0 K lam p l e R s m args below meth c (AQ s0 K lam below oI b r s) b h (F0 m 85 ls [])) {h : AH} {ls : Array Slot} (hl : LV ls 4 [(0, vR v0), (2, vI v2), (3, vI v3)]) (hf : f_X4_lasts_b85 K rc85 v0 v2 v3 h = some r) : AW s0 K lam p l e R s m args below meth c (AQ s0 K lam below oI b r s) b h (F0 m 85 ls []) := by
  unfold f_X4_lasts_b85 at hf
  have X := Z.1.1
  refine a_iload_n (pc := 85) X dX4_lasts_85 rfl hl 2 rfl ?_
  refine AW.lift (fun _ _ _ _ k => lv_sipush (pc := 86) (v := (306 : Int32)) X.2.2.1 X.2.2.2.1 dX4_lasts_86 rfl k) ?_
  refine AW.lift2 (fun _ _ _ _ k1 k2 => lv_icmp_ge (pc := 89) (tgt := 110) X.2.2.1 X.2.2.2.1 dX4_lasts_89 rfl k1 k2) (fun c => ?_) (fun c => ?_)
  · have hf := ite_t c hf
    refine a_iload_n (pc := 110) X dX4_lasts_110 rfl hl 1 rfl ?_
    exact a_ireturn X Z.2.2.1 Z.2.2.2.1 dX4_lasts_111 hf
  · have hf := ite_f c hf
    refine a_aload_n (pc := 92) X dX4_lasts_92 rfl hl 0 rfl ?_
    refine a_get (pc := 93) (φ := 100) pR_t X Z.1.2.1 (gw X.1 X.2.1 q3025) (fun _ q => q) (by decide) dX4_lasts_93 hf (fun x93 hf => ?_)
    refine a_iload_n (pc := 96) X dX4_lasts_96 rfl hl 2 rfl ?_
    refine a_aload_n (pc := 97) X dX4_lasts_97 rfl hl 0 rfl ?_
    refine a_get (pc := 98) (φ := 102) pR_t X Z.1.2.1 (gw X.1 X.2.1 q3027) (fun _ q => q) (by decide) dX4_lasts_98 hf (fun x98 hf => ?_)
    refine a_iload_n (pc := 101) X dX4_lasts_101 rfl hl 2 rfl ?_
    refine a_iaload (pc := 102) X dX4_lasts_102 hf (fun x102 hf => ?_)
    refine a_iastore (pc := 103) X dX4_lasts_103 hf (fun h hf => ?_)
    refine a_iinc (pc := 104) (v := (v3 + (1 : Int32))) X dX4_lasts_104 hl (k := 2) rfl rfl (by decide) (lv' := [(3, vI (v3 + (1 : Int32))), (0, vR v0), (2, vI v2)]) rfl (fun ls hl => ?_)
    refine AW.lift (fun _ _ _ _ k => lv_goto (pc := 107) (tgt := 85) X.2.2.1 X.2.2.2.1 dX4_lasts_107 rfl k) ?_
    exact hrc85 (v3 + (1 : Int32)) _ _ (hl.sub [1, 2, 0] rfl) hf
theorem w_X4_lasts_l85 {r : Except Nat (Int32) × AH} (GA : GA l s0 a0 K lam) (Z : WZ l s0 a0 K p s m c cX4_lasts yX4_lasts.cls 4 b R 5 111 meth [] (some (.int)) yX4_lasts) (v0 : Option Nat) (v2 : Int32)  : ∀ (n : Nat) (v3 : Int32) (h : AH) (ls : Array Slot), LV ls 4 [(0, vR v0), (2, vI v2), (3, vI v3)] → f_X4_lasts_l85 K v0 v2 n v3 h = some r → AW s0 K lam p l e R s m args below meth c (AQ s0 K lam below oI b r s) b h (F0 m 85 ls []) := by
  intro n
  induction n with
  | zero => intro v3 h ls hl hf; exact fl_no (h := h) hf
  | succ n ih => intro v3 h ls hl hf; exact w_X4_lasts_b85 GA Z v0 v2 v3 (f_X4_lasts_l85 K v0 v2 n) ih hl hf
theorem w_X4_lasts_j83 {r : Except Nat (Int32) × AH} (GA : GA l s0 a0 K lam) (Z : WZ l s0 a0 K p s m c cX4_lasts yX4_lasts.cls 4 b R 5 111 meth [] (some (.int)) yX4_lasts) (v0 : Option Nat) (v2 : Int32)   {h : AH} {ls : Array Slot} (hl : LV ls 4 [(0, vR v0), (2, vI v2)]) (hf : f_X4_lasts_j83 K v0 v2 h = some r) : AW s0 K lam p l e R s m args below meth c (AQ s0 K lam below oI b r s) b h (F0 m 83 ls []) := by
  unfold f_X4_lasts_j83 at hf
  have X := Z.1.1
  refine AW.lift (fun _ _ _ _ k => lv_iconst (pc := 83) (v := (0 : Int32)) X.2.2.1 X.2.2.2.1 dX4_lasts_83 rfl k) ?_
  refine a_istore_n (pc := 84) X dX4_lasts_84 rfl hl (by decide) (lv' := [(3, vI (0 : Int32)), (0, vR v0), (2, vI v2)]) rfl (fun ls hl => ?_)
  exact w_X4_lasts_l85 GA Z v0 v2  FU (0 : Int32) _ _ (hl.sub [1, 2, 0] rfl) hf
theorem w_X4_lasts_b63 {r : Except Nat (Int32) × AH} (GA : GA l s0 a0 K lam) (Z : WZ l s0 a0 K p s m c cX4_lasts yX4_lasts.cls 4 b R 5 111 meth [] (some (.int)) yX4_lasts) (v0 : Option Nat) (v1 : Int32) (v2 : Int32)  (rc63 : Int32 → AM (Int32)) (hrc63 : ∀ (v2 : Int32) (h : AH) (ls : Array Slot), LV ls 4 [(0, vR v0), (1, vI v1), (2, vI v2)] → rc63 v2 h = some r → AW s0 K lam p l e R s m args below meth c (AQ s0 K lam below oI b r s) b h (F0 m 63 ls [])) {h : AH} {ls : Array Slot} (hl : LV ls 4 [(0, vR v0), (1, vI v1), (2, vI v2)]) (hf : f_X4_lasts_b63 K rc63 v0 v1 v2 h = some r) : AW s0 K lam p l e R s m args below meth c (AQ s0 K lam below oI b r s) b h (F0 m 63 ls []) := by
  unfold f_X4_lasts_b63 at hf
  have X := Z.1.1
  refine a_aload_n (pc := 63) X dX4_lasts_63 rfl hl 0 rfl ?_
  refine a_iload_n (pc := 64) X dX4_lasts_64 rfl hl 1 rfl ?_
  obtain ⟨a65, rfl, ⟨hk, hf⟩ | ⟨-, hf⟩⟩ := dv_some hf
  rotate_left
  · exact fl_none hf
  refine a_callb (pc := 65) (rs := []) (avs := [vR (some a65), vI v1]) Z.1 (w_X4_lowestOn GA (some a65) v1) (Or.inl rfl) q3147 q86 (by decide) (by decide) dX4_lasts_65 hl.1 (Nat.le_of_ble_eq_true rfl) hf (ct_V hk ⟨by decide, by decide⟩ X (Or.inl rfl) q3147 q3144 q3146 pv_34 hy_X4_lowestOn np_X4_lowestOn rfl dX4_lasts_65) (fun q h he hX => a_out (unc_of Z.2.1 rfl) Z.2.2.2.1 he hX) (fun x65 h hf => ?kk65)
  refine AW.eq (g2 := F0 m 68 ls [.int x65]) rfl ?_
  refine AW.lift (fun _ _ _ _ k => lv_iconst (pc := 68) (v := (-1 : Int32)) X.2.2.1 X.2.2.2.1 dX4_lasts_68 rfl k) ?_
  refine AW.lift2 (fun _ _ _ _ k1 k2 => lv_icmp_eq (pc := 69) (tgt := 83) X.2.2.1 X.2.2.2.1 dX4_lasts_69 rfl k1 k2) (fun c => ?_) (fun c => ?_)
  · have hf := ite_t c hf
    exact w_X4_lasts_j83 GA Z (some a65) v2   (hl.sub [0, 2] rfl) hf
  · have hf := ite_f c hf
    refine a_aload_n (pc := 72) X dX4_lasts_72 rfl hl 0 rfl ?_
    rcases dv_someS hf with ⟨hk, hf⟩ | ⟨-, hf⟩
    rotate_left
    · exact fl_none hf
    refine a_callb (pc := 73) (rs := []) (avs := [vR (some a65)]) Z.1 (w_X4_minuteGoes GA (some a65)) (Or.inl rfl) q3345 q86 (by decide) (by decide) dX4_lasts_73 hl.1 (Nat.le_of_ble_eq_true rfl) hf (ct_V hk ⟨by decide, by decide⟩ X (Or.inl rfl) q3345 q3342 q3344 pv_56 hy_X4_minuteGoes np_X4_minuteGoes rfl dX4_lasts_73) (fun q h he hX => a_out (unc_of Z.2.1 rfl) Z.2.2.2.1 he hX) (fun x73 h hf => ?kk73)
    refine AW.eq (g2 := F0 m 76 ls [.int x73]) rfl ?_
    refine AW.lift (fun _ _ _ _ k => lv_pop (pc := 76) X.2.2.1 X.2.2.2.1 dX4_lasts_76 rfl k) ?_
    refine a_iinc (pc := 77) (v := (v2 + (1 : Int32))) X dX4_lasts_77 hl (k := 2) rfl rfl (by decide) (lv' := [(2, vI (v2 + (1 : Int32))), (0, vR (some a65)), (1, vI v1)]) rfl (fun ls hl => ?_)
    refine AW.lift (fun _ _ _ _ k => lv_goto (pc := 80) (tgt := 63) X.2.2.1 X.2.2.2.1 dX4_lasts_80 rfl k) ?_
    exact hrc63 (v2 + (1 : Int32)) _ _ (hl.sub [1, 2, 0] rfl) hf
theorem w_X4_lasts_l63 {r : Except Nat (Int32) × AH} (GA : GA l s0 a0 K lam) (Z : WZ l s0 a0 K p s m c cX4_lasts yX4_lasts.cls 4 b R 5 111 meth [] (some (.int)) yX4_lasts) (v0 : Option Nat) (v1 : Int32)  : ∀ (n : Nat) (v2 : Int32) (h : AH) (ls : Array Slot), LV ls 4 [(0, vR v0), (1, vI v1), (2, vI v2)] → f_X4_lasts_l63 K v0 v1 n v2 h = some r → AW s0 K lam p l e R s m args below meth c (AQ s0 K lam below oI b r s) b h (F0 m 63 ls []) := by
  intro n
  induction n with
  | zero => intro v2 h ls hl hf; exact fl_no (h := h) hf
  | succ n ih => intro v2 h ls hl hf; exact w_X4_lasts_b63 GA Z v0 v1 v2 (f_X4_lasts_l63 K v0 v1 n) ih hl hf
theorem w_X4_lasts_j61 {r : Except Nat (Int32) × AH} (GA : GA l s0 a0 K lam) (Z : WZ l s0 a0 K p s m c cX4_lasts yX4_lasts.cls 4 b R 5 111 meth [] (some (.int)) yX4_lasts) (v0 : Option Nat) (v1 : Int32)   {h : AH} {ls : Array Slot} (hl : LV ls 4 [(0, vR v0), (1, vI v1)]) (hf : f_X4_lasts_j61 K v0 v1 h = some r) : AW s0 K lam p l e R s m args below meth c (AQ s0 K lam below oI b r s) b h (F0 m 61 ls []) := by
  unfold f_X4_lasts_j61 at hf
  have X := Z.1.1
  refine AW.lift (fun _ _ _ _ k => lv_iconst (pc := 61) (v := (0 : Int32)) X.2.2.1 X.2.2.2.1 dX4_lasts_61 rfl k) ?_
  refine a_istore_n (pc := 62) X dX4_lasts_62 rfl hl (by decide) (lv' := [(2, vI (0 : Int32)), (0, vR v0), (1, vI v1)]) rfl (fun ls hl => ?_)
  exact w_X4_lasts_l63 GA Z v0 v1  FU (0 : Int32) _ _ (hl.sub [1, 2, 0] rfl) hf
theorem w_X4_lasts_b36 {r : Except Nat (Int32) × AH} (GA : GA l s0 a0 K lam) (Z : WZ l s0 a0 K p s m c cX4_lasts yX4_lasts.cls 4 b R 5 111 meth [] (some (.int)) yX4_lasts) (v0 : Option Nat) (v1 : Int32) (v2 : Int32)  (rc36 : Int32 → AM (Int32)) (hrc36 : ∀ (v2 : Int32) (h : AH) (ls : Array Slot), LV ls 4 [(0, vR v0), (1, vI v1), (2, vI v2)] → rc36 v2 h = some r → AW s0 K lam p l e R s m args below meth c (AQ s0 K lam below oI b r s) b h (F0 m 36 ls [])) {h : AH} {ls : Array Slot} (hl : LV ls 4 [(0, vR v0), (1, vI v1), (2, vI v2)]) (hf : f_X4_lasts_b36 K rc36 v0 v1 v2 h = some r) : AW s0 K lam p l e R s m args below meth c (AQ s0 K lam below oI b r s) b h (F0 m 36 ls []) := by
  unfold f_X4_lasts_b36 at hf
  have X := Z.1.1
  refine a_iload_n (pc := 36) X dX4_lasts_36 rfl hl 2 rfl ?_
  refine AW.lift (fun _ _ _ _ k => lv_sipush (pc := 37) (v := (306 : Int32)) X.2.2.1 X.2.2.2.1 dX4_lasts_37 rfl k) ?_
  refine AW.lift2 (fun _ _ _ _ k1 k2 => lv_icmp_ge (pc := 40) (tgt := 61) X.2.2.1 X.2.2.2.1 dX4_lasts_40 rfl k1 k2) (fun c => ?_) (fun c => ?_)
  · have hf := ite_t c hf
    exact w_X4_lasts_j61 GA Z v0 v1   (hl.sub [0, 1] rfl) hf
  · have hf := ite_f c hf
    refine a_aload_n (pc := 43) X dX4_lasts_43 rfl hl 0 rfl ?_
    refine a_get (pc := 44) (φ := 102) pR_t X Z.1.2.1 (gw X.1 X.2.1 q3027) (fun _ q => q) (by decide) dX4_lasts_44 hf (fun x44 hf => ?_)
    refine a_iload_n (pc := 47) X dX4_lasts_47 rfl hl 2 rfl ?_
    refine a_aload_n (pc := 48) X dX4_lasts_48 rfl hl 0 rfl ?_
    refine a_get (pc := 49) (φ := 100) pR_t X Z.1.2.1 (gw X.1 X.2.1 q3025) (fun _ q => q) (by decide) dX4_lasts_49 hf (fun x49 hf => ?_)
    refine a_iload_n (pc := 52) X dX4_lasts_52 rfl hl 2 rfl ?_
    refine a_iaload (pc := 53) X dX4_lasts_53 hf (fun x53 hf => ?_)
    refine a_iastore (pc := 54) X dX4_lasts_54 hf (fun h hf => ?_)
    refine a_iinc (pc := 55) (v := (v2 + (1 : Int32))) X dX4_lasts_55 hl (k := 2) rfl rfl (by decide) (lv' := [(2, vI (v2 + (1 : Int32))), (0, vR v0), (1, vI v1)]) rfl (fun ls hl => ?_)
    refine AW.lift (fun _ _ _ _ k => lv_goto (pc := 58) (tgt := 36) X.2.2.1 X.2.2.2.1 dX4_lasts_58 rfl k) ?_
    exact hrc36 (v2 + (1 : Int32)) _ _ (hl.sub [1, 2, 0] rfl) hf
theorem w_X4_lasts_l36 {r : Except Nat (Int32) × AH} (GA : GA l s0 a0 K lam) (Z : WZ l s0 a0 K p s m c cX4_lasts yX4_lasts.cls 4 b R 5 111 meth [] (some (.int)) yX4_lasts) (v0 : Option Nat) (v1 : Int32)  : ∀ (n : Nat) (v2 : Int32) (h : AH) (ls : Array Slot), LV ls 4 [(0, vR v0), (1, vI v1), (2, vI v2)] → f_X4_lasts_l36 K v0 v1 n v2 h = some r → AW s0 K lam p l e R s m args below meth c (AQ s0 K lam below oI b r s) b h (F0 m 36 ls []) := by
  intro n
  induction n with
  | zero => intro v2 h ls hl hf; exact fl_no (h := h) hf
  | succ n ih => intro v2 h ls hl hf; exact w_X4_lasts_b36 GA Z v0 v1 v2 (f_X4_lasts_l36 K v0 v1 n) ih hl hf
theorem np_X4_lasts : npar yX4_lasts.desc 1 := by unfold npar; decide +kernel
theorem hy_X4_lasts : yX4_lasts.cls ≠ "java/lang/invoke/MethodHandle" ∧ yX4_lasts.cls ≠ "java/lang/invoke/VarHandle" := by decide +kernel
theorem w_X4_lasts (GA : GA l s0 a0 K lam) (v0 : Option Nat) (v1 : Int32) : AMet l s0 K lam yX4_lasts (Cond.code yX4_lasts cX4_lasts (4 : Nat) (Option.some ClassFile.FieldType.int)) 5 111 [vR v0, vI v1] oI (f_X4_lasts K v0 v1) := by
  refine AMet.of GA.1 (plainFor_of_name (by decide +kernel)) (Nat.le_of_ble_eq_true rfl) ?_
  intro b r hf p e s m args below meth c X hr hlk hnm hnd ht ls hl
  have Z : WZ l s0 a0 K p s m c cX4_lasts yX4_lasts.cls 4 b { frames := 5, cells := K 0 - aX b, slots := K 1 - aW b, locals := 111 } 5 111 meth [] (some (.int)) yX4_lasts := ⟨⟨X, GA.2.1, GA.2.2.1, rfl, rfl, Nat.le_refl _, Nat.le_refl _⟩, tab_nil ht, hr, hlk, hnm, hnd⟩
  unfold f_X4_lasts at hf
  clear hr hlk hnm hnd ht
  refine a_aload_n (pc := 0) X dX4_lasts_0 rfl hl 0 rfl ?_
  refine AW.lift (fun _ _ _ _ k => lv_iconst (pc := 1) (v := (0 : Int32)) X.2.2.1 X.2.2.2.1 dX4_lasts_1 rfl k) ?_
  refine a_put (pc := 2) (φ := 107) X Z.1.2.1 Z.1.2.2.1 (gw X.1 X.2.1 q3032) (fun _ q => q) (by decide) rfl rfl dX4_lasts_2 hf (fun h hf => ?_)
  refine a_aload_n (pc := 5) X dX4_lasts_5 rfl hl 0 rfl ?_
  refine a_iload_n (pc := 6) X dX4_lasts_6 rfl hl 1 rfl ?_
  obtain ⟨a7, rfl, ⟨hk, hf⟩ | ⟨-, hf⟩⟩ := dv_some hf
  rotate_left
  · exact fl_none hf
  refine a_callb (pc := 7) (rs := []) (avs := [vR (some a7), vI v1]) Z.1 (w_X4_isMat GA (some a7) v1) (Or.inl rfl) q3139 q86 (by decide) (by decide) dX4_lasts_7 hl.1 (Nat.le_of_ble_eq_true rfl) hf (ct_V hk ⟨by decide, by decide⟩ X (Or.inl rfl) q3139 q3136 q3138 pv_33 hy_X4_isMat np_X4_isMat rfl dX4_lasts_7) (fun q h he hX => a_out (unc_of Z.2.1 rfl) Z.2.2.2.1 he hX) (fun x7 h hf => ?kk7)
  refine AW.eq (g2 := F0 m 10 ls [.int x7]) rfl ?_
  refine AW.lift2 (fun _ _ _ _ k1 k2 => lv_if_ne (pc := 10) (tgt := 19) X.2.2.1 X.2.2.2.1 dX4_lasts_10 rfl k2 k1) (fun c => ?_) (fun c => ?_)
  · have hf := ite_t c hf
    refine a_aload_n (pc := 13) X dX4_lasts_13 rfl hl 0 rfl ?_
    refine AW.lift (fun _ _ _ _ k => lv_iconst (pc := 14) (v := (1 : Int32)) X.2.2.1 X.2.2.2.1 dX4_lasts_14 rfl k) ?_
    rcases dv_someS hf with ⟨hk, hf⟩ | ⟨-, hf⟩
    rotate_left
    · exact fl_none hf
    refine a_callb (pc := 15) (rs := []) (avs := [vR (some a7), vI (1 : Int32)]) Z.1 (w_X4_throwing GA (some a7) (1 : Int32)) (Or.inl rfl) q3120 q86 (by decide) (by decide) dX4_lasts_15 hl.1 (Nat.le_of_ble_eq_true rfl) hf (ct_V hk ⟨by decide, by decide⟩ X (Or.inl rfl) q3120 q3117 q3119 pv_30 hy_X4_throwing np_X4_throwing rfl dX4_lasts_15) (fun q h he hX => a_out (unc_of Z.2.1 rfl) Z.2.2.2.1 he hX) (fun x15 h hf => ?kk15)
    refine AW.eq (g2 := F0 m 18 ls [.int x15]) rfl ?_
    exact a_ireturn X Z.2.2.1 Z.2.2.2.1 dX4_lasts_18 hf
  · have hf := ite_f c hf
    refine a_aload_n (pc := 19) X dX4_lasts_19 rfl hl 0 rfl ?_
    refine a_iload_n (pc := 20) X dX4_lasts_20 rfl hl 1 rfl ?_
    rcases dv_someS hf with ⟨hk, hf⟩ | ⟨-, hf⟩
    rotate_left
    · exact fl_none hf
    refine a_callb (pc := 21) (rs := []) (avs := [vR (some a7), vI v1]) Z.1 (w_X4_lowestOn GA (some a7) v1) (Or.inl rfl) q3147 q86 (by decide) (by decide) dX4_lasts_21 hl.1 (Nat.le_of_ble_eq_true rfl) hf (ct_V hk ⟨by decide, by decide⟩ X (Or.inl rfl) q3147 q3144 q3146 pv_34 hy_X4_lowestOn np_X4_lowestOn rfl dX4_lasts_21) (fun q h he hX => a_out (unc_of Z.2.1 rfl) Z.2.2.2.1 he hX) (fun x21 h hf => ?kk21)
    refine AW.eq (g2 := F0 m 24 ls [.int x21]) rfl ?_
    refine AW.lift (fun _ _ _ _ k => lv_iconst (pc := 24) (v := (-1 : Int32)) X.2.2.1 X.2.2.2.1 dX4_lasts_24 rfl k) ?_
    refine AW.lift2 (fun _ _ _ _ k1 k2 => lv_icmp_ne (pc := 25) (tgt := 34) X.2.2.1 X.2.2.2.1 dX4_lasts_25 rfl k2 k1) (fun c => ?_) (fun c => ?_)
    · have hf := ite_t c hf
      refine a_aload_n (pc := 28) X dX4_lasts_28 rfl hl 0 rfl ?_
      refine AW.lift (fun _ _ _ _ k => lv_iconst (pc := 29) (v := (2 : Int32)) X.2.2.1 X.2.2.2.1 dX4_lasts_29 rfl k) ?_
      rcases dv_someS hf with ⟨hk, hf⟩ | ⟨-, hf⟩
      rotate_left
      · exact fl_none hf
      refine a_callb (pc := 30) (rs := []) (avs := [vR (some a7), vI (2 : Int32)]) Z.1 (w_X4_throwing GA (some a7) (2 : Int32)) (Or.inl rfl) q3120 q86 (by decide) (by decide) dX4_lasts_30 hl.1 (Nat.le_of_ble_eq_true rfl) hf (ct_V hk ⟨by decide, by decide⟩ X (Or.inl rfl) q3120 q3117 q3119 pv_30 hy_X4_throwing np_X4_throwing rfl dX4_lasts_30) (fun q h he hX => a_out (unc_of Z.2.1 rfl) Z.2.2.2.1 he hX) (fun x30 h hf => ?kk30)
      refine AW.eq (g2 := F0 m 33 ls [.int x30]) rfl ?_
      exact a_ireturn X Z.2.2.1 Z.2.2.2.1 dX4_lasts_33 hf
    · have hf := ite_f c hf
      refine AW.lift (fun _ _ _ _ k => lv_iconst (pc := 34) (v := (0 : Int32)) X.2.2.1 X.2.2.2.1 dX4_lasts_34 rfl k) ?_
      refine a_istore_n (pc := 35) X dX4_lasts_35 rfl hl (by decide) (lv' := [(2, vI (0 : Int32)), (0, vR (some a7)), (1, vI v1)]) rfl (fun ls hl => ?_)
      exact w_X4_lasts_l36 GA Z (some a7) v1  FU (0 : Int32) _ _ (hl.sub [1, 2, 0] rfl) hf
theorem w_X2_bestMat_j110 {r : Except Nat (Int32) × AH} (GA : GA l s0 a0 K lam) (Z : WZ l s0 a0 K p s m c cX2_bestMat yX2_bestMat.cls 5 b R 3 64 meth [] (some (.int)) yX2_bestMat) (v0 : Option Nat) (v2 : Int32) (t0 : Int32) (rc4 : Int32 → Int32 → AM (Int32)) (hrc4 : ∀ (v1 : Int32) (v2 : Int32) (h : AH) (ls : Array Slot), LV ls 5 [(0, vR v0), (1, vI v1), (2, vI v2)] → rc4 v1 v2 h = some r → AW s0 K lam p l e R s m args below meth c (AQ s0 K lam below oI b r s) b h (F0 m 4 ls [])) {h : AH} {ls : Array Slot} (hl : LV ls 5 [(0, vR v0), (2, vI v2)]) (hf : f_X2_bestMat_j110 K rc4 v0 v2 t0 h = some r) : AW s0 K lam p l e R s m args below meth c (AQ s0 K lam below oI b r s) b h (F0 m 110 ls [.int t0]) := by
  unfold f_X2_bestMat_j110 at hf
  have X := Z.1.1
  refine a_istore_n (pc := 110) X dX2_bestMat_110 rfl hl (by decide) (lv' := [(1, vI t0), (0, vR v0), (2, vI v2)]) rfl (fun ls hl => ?_)
  refine a_iinc (pc := 111) (v := (v2 + (1 : Int32))) X dX2_bestMat_111 hl (k := 2) rfl rfl (by decide) (lv' := [(2, vI (v2 + (1 : Int32))), (1, vI t0), (0, vR v0)]) rfl (fun ls hl => ?_)
  refine AW.lift (fun _ _ _ _ k => lv_goto (pc := 114) (tgt := 4) X.2.2.1 X.2.2.2.1 dX2_bestMat_114 rfl k) ?_
  exact hrc4 t0 (v2 + (1 : Int32)) _ _ (hl.sub [2, 1, 0] rfl) hf
theorem w_X2_bestMat_j105 {r : Except Nat (Int32) × AH} (GA : GA l s0 a0 K lam) (Z : WZ l s0 a0 K p s m c cX2_bestMat yX2_bestMat.cls 5 b R 3 64 meth [] (some (.int)) yX2_bestMat) (v0 : Option Nat) (v2 : Int32)  (rc4 : Int32 → Int32 → AM (Int32)) (hrc4 : ∀ (v1 : Int32) (v2 : Int32) (h : AH) (ls : Array Slot), LV ls 5 [(0, vR v0), (1, vI v1), (2, vI v2)] → rc4 v1 v2 h = some r → AW s0 K lam p l e R s m args below meth c (AQ s0 K lam below oI b r s) b h (F0 m 4 ls [])) {h : AH} {ls : Array Slot} (hl : LV ls 5 [(0, vR v0), (2, vI v2)]) (hf : f_X2_bestMat_j105 K rc4 v0 v2 h = some r) : AW s0 K lam p l e R s m args below meth c (AQ s0 K lam below oI b r s) b h (F0 m 105 ls []) := by
  unfold f_X2_bestMat_j105 at hf
  have X := Z.1.1
  refine a_iload_n (pc := 105) X dX2_bestMat_105 rfl hl 1 rfl ?_
  refine AW.lift (fun _ _ _ _ k => lv_goto (pc := 106) (tgt := 110) X.2.2.1 X.2.2.2.1 dX2_bestMat_106 rfl k) ?_
  exact w_X2_bestMat_j110 GA Z v0 v2 v2 rc4 hrc4 (hl.sub [0, 1] rfl) hf
theorem w_X2_bestMat_j94 {r : Except Nat (Int32) × AH} (GA : GA l s0 a0 K lam) (Z : WZ l s0 a0 K p s m c cX2_bestMat yX2_bestMat.cls 5 b R 3 64 meth [] (some (.int)) yX2_bestMat) (v0 : Option Nat) (v1 : Int32) (v2 : Int32) (v3 : Int32) (t0 : Int32) (rc4 : Int32 → Int32 → AM (Int32)) (hrc4 : ∀ (v1 : Int32) (v2 : Int32) (h : AH) (ls : Array Slot), LV ls 5 [(0, vR v0), (1, vI v1), (2, vI v2)] → rc4 v1 v2 h = some r → AW s0 K lam p l e R s m args below meth c (AQ s0 K lam below oI b r s) b h (F0 m 4 ls [])) {h : AH} {ls : Array Slot} (hl : LV ls 5 [(0, vR v0), (1, vI v1), (2, vI v2), (3, vI v3)]) (hf : f_X2_bestMat_j94 K rc4 v0 v1 v2 v3 t0 h = some r) : AW s0 K lam p l e R s m args below meth c (AQ s0 K lam below oI b r s) b h (F0 m 94 ls [.int t0]) := by
  unfold f_X2_bestMat_j94 at hf
  have X := Z.1.1
  refine a_istore (pc := 94) X dX2_bestMat_94 hl (by decide) (lv' := [(4, vI t0), (0, vR v0), (1, vI v1), (2, vI v2), (3, vI v3)]) rfl (fun ls hl => ?_)
  refine a_iload_n (pc := 96) X dX2_bestMat_96 rfl hl 4 rfl ?_
  refine AW.lift2 (fun _ _ _ _ k1 k2 => lv_if_gt (pc := 97) (tgt := 105) X.2.2.1 X.2.2.2.1 dX2_bestMat_97 rfl k1 k2) (fun c => ?_) (fun c => ?_)
  · have hf := ite_t c hf
    exact w_X2_bestMat_j105 GA Z v0 v2  rc4 hrc4 (hl.sub [1, 3] rfl) hf
  · have hf := ite_f c hf
    refine a_iload (pc := 100) X dX2_bestMat_100 hl 0 rfl ?_
    refine AW.lift2 (fun _ _ _ _ k1 k2 => lv_if_eq (pc := 102) (tgt := 109) X.2.2.1 X.2.2.2.1 dX2_bestMat_102 rfl k1 k2) (fun c => ?_) (fun c => ?_)
    · have hf := ite_t c hf
      refine a_iload_n (pc := 109) X dX2_bestMat_109 rfl hl 2 rfl ?_
      exact w_X2_bestMat_j110 GA Z v0 v2 v1 rc4 hrc4 (hl.sub [1, 3] rfl) hf
    · have hf := ite_f c hf
      exact w_X2_bestMat_j105 GA Z v0 v2  rc4 hrc4 (hl.sub [1, 3] rfl) hf
theorem w_X2_bestMat_j93 {r : Except Nat (Int32) × AH} (GA : GA l s0 a0 K lam) (Z : WZ l s0 a0 K p s m c cX2_bestMat yX2_bestMat.cls 5 b R 3 64 meth [] (some (.int)) yX2_bestMat) (v0 : Option Nat) (v1 : Int32) (v2 : Int32) (v3 : Int32)  (rc4 : Int32 → Int32 → AM (Int32)) (hrc4 : ∀ (v1 : Int32) (v2 : Int32) (h : AH) (ls : Array Slot), LV ls 5 [(0, vR v0), (1, vI v1), (2, vI v2)] → rc4 v1 v2 h = some r → AW s0 K lam p l e R s m args below meth c (AQ s0 K lam below oI b r s) b h (F0 m 4 ls [])) {h : AH} {ls : Array Slot} (hl : LV ls 5 [(0, vR v0), (1, vI v1), (2, vI v2), (3, vI v3)]) (hf : f_X2_bestMat_j93 K rc4 v0 v1 v2 v3 h = some r) : AW s0 K lam p l e R s m args below meth c (AQ s0 K lam below oI b r s) b h (F0 m 93 ls []) := by
  unfold f_X2_bestMat_j93 at hf
  have X := Z.1.1
  refine AW.lift (fun _ _ _ _ k => lv_iconst (pc := 93) (v := (0 : Int32)) X.2.2.1 X.2.2.2.1 dX2_bestMat_93 rfl k) ?_
  exact w_X2_bestMat_j94 GA Z v0 v1 v2 v3 (0 : Int32) rc4 hrc4 (hl.sub [0, 1, 2, 3] rfl) hf
theorem w_X2_bestMat_j53 {r : Except Nat (Int32) × AH} (GA : GA l s0 a0 K lam) (Z : WZ l s0 a0 K p s m c cX2_bestMat yX2_bestMat.cls 5 b R 3 64 meth [] (some (.int)) yX2_bestMat) (v0 : Option Nat) (v1 : Int32) (v2 : Int32) (t0 : Int32) (rc4 : Int32 → Int32 → AM (Int32)) (hrc4 : ∀ (v1 : Int32) (v2 : Int32) (h : AH) (ls : Array Slot), LV ls 5 [(0, vR v0), (1, vI v1), (2, vI v2)] → rc4 v1 v2 h = some r → AW s0 K lam p l e R s m args below meth c (AQ s0 K lam below oI b r s) b h (F0 m 4 ls [])) {h : AH} {ls : Array Slot} (hl : LV ls 5 [(0, vR v0), (1, vI v1), (2, vI v2)]) (hf : f_X2_bestMat_j53 K rc4 v0 v1 v2 t0 h = some r) : AW s0 K lam p l e R s m args below meth c (AQ s0 K lam below oI b r s) b h (F0 m 53 ls [.int t0]) := by
  unfold f_X2_bestMat_j53 at hf
  have X := Z.1.1
  refine a_istore_n (pc := 53) X dX2_bestMat_53 rfl hl (by decide) (lv' := [(3, vI t0), (0, vR v0), (1, vI v1), (2, vI v2)]) rfl (fun ls hl => ?_)
  refine a_iload_n (pc := 54) X dX2_bestMat_54 rfl hl 0 rfl ?_
  refine AW.lift2 (fun _ _ _ _ k1 k2 => lv_if_ne (pc := 55) (tgt := 93) X.2.2.1 X.2.2.2.1 dX2_bestMat_55 rfl k2 k1) (fun c => ?_) (fun c => ?_)
  · have hf := ite_t c hf
    refine a_aload_n (pc := 58) X dX2_bestMat_58 rfl hl 1 rfl ?_
    refine a_get (pc := 59) (φ := 300) pR_t X Z.1.2.1 (gw X.1 X.2.1 q228) (fun _ q => q) (by decide) dX2_bestMat_59 hf (fun x59 hf => ?_)
    refine a_iload_n (pc := 62) X dX2_bestMat_62 rfl hl 3 rfl ?_
    obtain ⟨a63, rfl, ⟨hk, hf⟩ | ⟨-, hf⟩⟩ := dv_some hf
    rotate_left
    · exact fl_none hf
    refine a_callb (pc := 63) (rs := []) (avs := [vR (some a63), vI v2]) Z.1 (w_J2_get GA (some a63) v2) (Or.inl rfl) q505 q78 (by decide) (by decide) dX2_bestMat_63 hl.1 (Nat.le_of_ble_eq_true rfl) hf (ct_V hk ⟨by decide, by decide⟩ X (Or.inl rfl) q505 q1828 q503 q3487 hy_J2_get np_J2_get rfl dX2_bestMat_63) (fun q h he hX => a_out (unc_of Z.2.1 rfl) Z.2.2.2.1 he hX) (fun x63 h hf => ?kk63)
    refine AW.eq (g2 := F0 m 66 ls [va_rf x63]) rfl ?_
    refine a_checkcast (pc := 66) X (gw X.1 X.2.1 q802) (cs_JumpHall_Mat GA) dX2_bestMat_66 hf (fun hf => ?_)
    obtain ⟨a69, rfl, ⟨hk, hf⟩ | ⟨-, hf⟩⟩ := dv_some hf
    rotate_left
    · exact fl_none hf
    refine a_callb (pc := 69) (rs := []) (avs := [vR (some a69)]) Z.1 (w_X7_sum GA (some a69)) (Or.inl rfl) q1894 q91 (by decide) (by decide) dX2_bestMat_69 hl.1 (Nat.le_of_ble_eq_true rfl) hf (ct_V hk ⟨by decide, by decide⟩ X (Or.inl rfl) q1894 q1992 q1892 q1893 hy_X7_sum np_X7_sum rfl dX2_bestMat_69) (fun q h he hX => a_out (unc_of Z.2.1 rfl) Z.2.2.2.1 he hX) (fun x69 h hf => ?kk69)
    refine AW.eq (g2 := F0 m 72 ls [.int x69]) rfl ?_
    refine a_aload_n (pc := 72) X dX2_bestMat_72 rfl hl 1 rfl ?_
    refine a_get (pc := 73) (φ := 300) pR_t X Z.1.2.1 (gw X.1 X.2.1 q228) (fun _ q => q) (by decide) dX2_bestMat_73 hf (fun x73 hf => ?_)
    refine a_iload_n (pc := 76) X dX2_bestMat_76 rfl hl 2 rfl ?_
    obtain ⟨a77, rfl, ⟨hk, hf⟩ | ⟨-, hf⟩⟩ := dv_some hf
    rotate_left
    · exact fl_none hf
    refine a_callb (pc := 77) (rs := [vI x69]) (avs := [vR (some a77), vI v1]) Z.1 (w_J2_get GA (some a77) v1) (Or.inl rfl) q505 q78 (by decide) (by decide) dX2_bestMat_77 hl.1 (Nat.le_of_ble_eq_true rfl) hf (ct_V hk ⟨by decide, by decide⟩ X (Or.inl rfl) q505 q1828 q503 q3487 hy_J2_get np_J2_get rfl dX2_bestMat_77) (fun q h he hX => a_out (unc_of Z.2.1 rfl) Z.2.2.2.1 he hX) (fun x77 h hf => ?kk77)
    refine AW.eq (g2 := F0 m 80 ls [va_rf x77, .int x69]) rfl ?_
    refine a_checkcast (pc := 80) X (gw X.1 X.2.1 q802) (cs_JumpHall_Mat GA) dX2_bestMat_80 hf (fun hf => ?_)
    obtain ⟨a83, rfl, ⟨hk, hf⟩ | ⟨-, hf⟩⟩ := dv_some hf
    rotate_left
    · exact fl_none hf
    refine a_callb (pc := 83) (rs := [vI x69]) (avs := [vR (some a83)]) Z.1 (w_X7_sum GA (some a83)) (Or.inl rfl) q1894 q91 (by decide) (by decide) dX2_bestMat_83 hl.1 (Nat.le_of_ble_eq_true rfl) hf (ct_V hk ⟨by decide, by decide⟩ X (Or.inl rfl) q1894 q1992 q1892 q1893 hy_X7_sum np_X7_sum rfl dX2_bestMat_83) (fun q h he hX => a_out (unc_of Z.2.1 rfl) Z.2.2.2.1 he hX) (fun x83 h hf => ?kk83)
    refine AW.eq (g2 := F0 m 86 ls [.int x83, .int x69]) rfl ?_
    refine AW.lift2 (fun _ _ _ _ k1 k2 => lv_icmp_ge (pc := 86) (tgt := 93) X.2.2.1 X.2.2.2.1 dX2_bestMat_86 rfl k1 k2) (fun c => ?_) (fun c => ?_)
    · have hf := ite_t c hf
      exact w_X2_bestMat_j93 GA Z v0 v1 v2 t0  rc4 hrc4 (hl.sub [1, 2, 3, 0] rfl) hf
    · have hf := ite_f c hf
      refine AW.lift (fun _ _ _ _ k => lv_iconst (pc := 89) (v := (1 : Int32)) X.2.2.1 X.2.2.2.1 dX2_bestMat_89 rfl k) ?_
      refine AW.lift (fun _ _ _ _ k => lv_goto (pc := 90) (tgt := 94) X.2.2.1 X.2.2.2.1 dX2_bestMat_90 rfl k) ?_
      exact w_X2_bestMat_j94 GA Z v0 v1 v2 t0 (1 : Int32) rc4 hrc4 (hl.sub [1, 2, 3, 0] rfl) hf
  · have hf := ite_f c hf
    exact w_X2_bestMat_j93 GA Z v0 v1 v2 t0  rc4 hrc4 (hl.sub [1, 2, 3, 0] rfl) hf
theorem w_X2_bestMat_b4 {r : Except Nat (Int32) × AH} (GA : GA l s0 a0 K lam) (Z : WZ l s0 a0 K p s m c cX2_bestMat yX2_bestMat.cls 5 b R 3 64 meth [] (some (.int)) yX2_bestMat) (v0 : Option Nat) (v1 : Int32) (v2 : Int32)  (rc4 : Int32 → Int32 → AM (Int32)) (hrc4 : ∀ (v1 : Int32) (v2 : Int32) (h : AH) (ls : Array Slot), LV ls 5 [(0, vR v0), (1, vI v1), (2, vI v2)] → rc4 v1 v2 h = some r → AW s0 K lam p l e R s m args below meth c (AQ s0 K lam below oI b r s) b h (F0 m 4 ls [])) {h : AH} {ls : Array Slot} (hl : LV ls 5 [(0, vR v0), (1, vI v1), (2, vI v2)]) (hf : f_X2_bestMat_b4 K rc4 v0 v1 v2 h = some r) : AW s0 K lam p l e R s m args below meth c (AQ s0 K lam below oI b r s) b h (F0 m 4 ls []) := by
  unfold f_X2_bestMat_b4 at hf
  have X := Z.1.1
  refine a_iload_n (pc := 4) X dX2_bestMat_4 rfl hl 2 rfl ?_
  refine a_aload_n (pc := 5) X dX2_bestMat_5 rfl hl 0 rfl ?_
  refine a_get (pc := 6) (φ := 300) pR_t X Z.1.2.1 (gw X.1 X.2.1 q228) (fun _ q => q) (by decide) dX2_bestMat_6 hf (fun x6 hf => ?_)
  obtain ⟨a9, rfl, ⟨hk, hf⟩ | ⟨-, hf⟩⟩ := dv_some hf
  rotate_left
  · exact fl_none hf
  refine a_callb (pc := 9) (rs := [vI v2]) (avs := [vR (some a9)]) Z.1 (w_J2_size GA (some a9)) (Or.inl rfl) q1012 q78 (by decide) (by decide) dX2_bestMat_9 hl.1 (Nat.le_of_ble_eq_true rfl) hf (ct_V hk ⟨by decide, by decide⟩ X (Or.inl rfl) q1012 q1720 q1011 q3486 hy_J2_size np_J2_size rfl dX2_bestMat_9) (fun q h he hX => a_out (unc_of Z.2.1 rfl) Z.2.2.2.1 he hX) (fun x9 h hf => ?kk9)
  refine AW.eq (g2 := F0 m 12 ls [.int x9, .int v2]) rfl ?_
  refine AW.lift2 (fun _ _ _ _ k1 k2 => lv_icmp_ge (pc := 12) (tgt := 117) X.2.2.1 X.2.2.2.1 dX2_bestMat_12 rfl k1 k2) (fun c => ?_) (fun c => ?_)
  · have hf := ite_t c hf
    refine a_iload_n (pc := 117) X dX2_bestMat_117 rfl hl 1 rfl ?_
    exact a_ireturn X Z.2.2.1 Z.2.2.2.1 dX2_bestMat_118 hf
  · have hf := ite_f c hf
    refine a_iload_n (pc := 15) X dX2_bestMat_15 rfl hl 1 rfl ?_
    refine AW.lift (fun _ _ _ _ k => lv_iconst (pc := 16) (v := (-1 : Int32)) X.2.2.1 X.2.2.2.1 dX2_bestMat_16 rfl k) ?_
    refine AW.lift2 (fun _ _ _ _ k1 k2 => lv_icmp_ne (pc := 17) (tgt := 24) X.2.2.1 X.2.2.2.1 dX2_bestMat_17 rfl k2 k1) (fun c => ?_) (fun c => ?_)
    · have hf := ite_t c hf
      refine AW.lift (fun _ _ _ _ k => lv_iconst (pc := 20) (v := (1 : Int32)) X.2.2.1 X.2.2.2.1 dX2_bestMat_20 rfl k) ?_
      refine AW.lift (fun _ _ _ _ k => lv_goto (pc := 21) (tgt := 53) X.2.2.1 X.2.2.2.1 dX2_bestMat_21 rfl k) ?_
      exact w_X2_bestMat_j53 GA Z v0 v1 v2 (1 : Int32) rc4 hrc4 (hl.sub [0, 1, 2] rfl) hf
    · have hf := ite_f c hf
      refine a_aload_n (pc := 24) X dX2_bestMat_24 rfl hl 0 rfl ?_
      refine a_get (pc := 25) (φ := 300) pR_t X Z.1.2.1 (gw X.1 X.2.1 q228) (fun _ q => q) (by decide) dX2_bestMat_25 hf (fun x25 hf => ?_)
      refine a_iload_n (pc := 28) X dX2_bestMat_28 rfl hl 2 rfl ?_
      obtain ⟨a29, rfl, ⟨hk, hf⟩ | ⟨-, hf⟩⟩ := dv_some hf
      rotate_left
      · exact fl_none hf
      refine a_callb (pc := 29) (rs := []) (avs := [vR (some a29), vI v2]) Z.1 (w_J2_get GA (some a29) v2) (Or.inl rfl) q505 q78 (by decide) (by decide) dX2_bestMat_29 hl.1 (Nat.le_of_ble_eq_true rfl) hf (ct_V hk ⟨by decide, by decide⟩ X (Or.inl rfl) q505 q1828 q503 q3487 hy_J2_get np_J2_get rfl dX2_bestMat_29) (fun q h he hX => a_out (unc_of Z.2.1 rfl) Z.2.2.2.1 he hX) (fun x29 h hf => ?kk29)
      refine AW.eq (g2 := F0 m 32 ls [va_rf x29]) rfl ?_
      refine a_checkcast (pc := 32) X (gw X.1 X.2.1 q802) (cs_JumpHall_Mat GA) dX2_bestMat_32 hf (fun hf => ?_)
      obtain ⟨a35, rfl, ⟨hk, hf⟩ | ⟨-, hf⟩⟩ := dv_some hf
      rotate_left
      · exact fl_none hf
      refine a_callb (pc := 35) (rs := []) (avs := [vR (some a35)]) Z.1 (w_X7_bears GA (some a35)) (Or.inl rfl) q1846 q91 (by decide) (by decide) dX2_bestMat_35 hl.1 (Nat.le_of_ble_eq_true rfl) hf (ct_V hk ⟨by decide, by decide⟩ X (Or.inl rfl) q1846 q1843 q1844 q1845 hy_X7_bears np_X7_bears rfl dX2_bestMat_35) (fun q h he hX => a_out (unc_of Z.2.1 rfl) Z.2.2.2.1 he hX) (fun x35 h hf => ?kk35)
      refine AW.eq (g2 := F0 m 38 ls [.int x35]) rfl ?_
      refine a_aload_n (pc := 38) X dX2_bestMat_38 rfl hl 0 rfl ?_
      refine a_get (pc := 39) (φ := 300) pR_t X Z.1.2.1 (gw X.1 X.2.1 q228) (fun _ q => q) (by decide) dX2_bestMat_39 hf (fun x39 hf => ?_)
      refine a_iload_n (pc := 42) X dX2_bestMat_42 rfl hl 1 rfl ?_
      obtain ⟨a43, rfl, ⟨hk, hf⟩ | ⟨-, hf⟩⟩ := dv_some hf
      rotate_left
      · exact fl_none hf
      refine a_callb (pc := 43) (rs := [vI x35]) (avs := [vR (some a43), vI v1]) Z.1 (w_J2_get GA (some a43) v1) (Or.inl rfl) q505 q78 (by decide) (by decide) dX2_bestMat_43 hl.1 (Nat.le_of_ble_eq_true rfl) hf (ct_V hk ⟨by decide, by decide⟩ X (Or.inl rfl) q505 q1828 q503 q3487 hy_J2_get np_J2_get rfl dX2_bestMat_43) (fun q h he hX => a_out (unc_of Z.2.1 rfl) Z.2.2.2.1 he hX) (fun x43 h hf => ?kk43)
      refine AW.eq (g2 := F0 m 46 ls [va_rf x43, .int x35]) rfl ?_
      refine a_checkcast (pc := 46) X (gw X.1 X.2.1 q802) (cs_JumpHall_Mat GA) dX2_bestMat_46 hf (fun hf => ?_)
      obtain ⟨a49, rfl, ⟨hk, hf⟩ | ⟨-, hf⟩⟩ := dv_some hf
      rotate_left
      · exact fl_none hf
      refine a_callb (pc := 49) (rs := [vI x35]) (avs := [vR (some a49)]) Z.1 (w_X7_bears GA (some a49)) (Or.inl rfl) q1846 q91 (by decide) (by decide) dX2_bestMat_49 hl.1 (Nat.le_of_ble_eq_true rfl) hf (ct_V hk ⟨by decide, by decide⟩ X (Or.inl rfl) q1846 q1843 q1844 q1845 hy_X7_bears np_X7_bears rfl dX2_bestMat_49) (fun q h he hX => a_out (unc_of Z.2.1 rfl) Z.2.2.2.1 he hX) (fun x49 h hf => ?kk49)
      refine AW.eq (g2 := F0 m 52 ls [.int x49, .int x35]) rfl ?_
      refine AW.lift (fun _ _ _ _ k => lv_isub (pc := 52) X.2.2.1 X.2.2.2.1 dX2_bestMat_52 k) ?_
      exact w_X2_bestMat_j53 GA Z v0 v1 v2 (x35 - x49) rc4 hrc4 (hl.sub [0, 1, 2] rfl) hf
theorem w_X2_bestMat_l4 {r : Except Nat (Int32) × AH} (GA : GA l s0 a0 K lam) (Z : WZ l s0 a0 K p s m c cX2_bestMat yX2_bestMat.cls 5 b R 3 64 meth [] (some (.int)) yX2_bestMat) (v0 : Option Nat)  : ∀ (n : Nat) (v1 : Int32) (v2 : Int32) (h : AH) (ls : Array Slot), LV ls 5 [(0, vR v0), (1, vI v1), (2, vI v2)] → f_X2_bestMat_l4 K v0 n v1 v2 h = some r → AW s0 K lam p l e R s m args below meth c (AQ s0 K lam below oI b r s) b h (F0 m 4 ls []) := by
  intro n
  induction n with
  | zero => intro v1 v2 h ls hl hf; exact fl_no (h := h) hf
  | succ n ih => intro v1 v2 h ls hl hf; exact w_X2_bestMat_b4 GA Z v0 v1 v2 (f_X2_bestMat_l4 K v0 n) ih hl hf
theorem np_X2_bestMat : npar yX2_bestMat.desc 0 := by unfold npar; decide +kernel
theorem hy_X2_bestMat : yX2_bestMat.cls ≠ "java/lang/invoke/MethodHandle" ∧ yX2_bestMat.cls ≠ "java/lang/invoke/VarHandle" := by decide +kernel
theorem w_X2_bestMat (GA : GA l s0 a0 K lam) (v0 : Option Nat) : AMet l s0 K lam yX2_bestMat (Cond.code yX2_bestMat cX2_bestMat (5 : Nat) (Option.some ClassFile.FieldType.int)) 3 64 [vR v0] oI (f_X2_bestMat K v0) := by
  refine AMet.of GA.1 (plainFor_of_name (by decide +kernel)) (Nat.le_of_ble_eq_true rfl) ?_
  intro b r hf p e s m args below meth c X hr hlk hnm hnd ht ls hl
  have Z : WZ l s0 a0 K p s m c cX2_bestMat yX2_bestMat.cls 5 b { frames := 3, cells := K 0 - aX b, slots := K 1 - aW b, locals := 64 } 3 64 meth [] (some (.int)) yX2_bestMat := ⟨⟨X, GA.2.1, GA.2.2.1, rfl, rfl, Nat.le_refl _, Nat.le_refl _⟩, tab_nil ht, hr, hlk, hnm, hnd⟩
  unfold f_X2_bestMat at hf
  clear hr hlk hnm hnd ht
  refine AW.lift (fun _ _ _ _ k => lv_iconst (pc := 0) (v := (-1 : Int32)) X.2.2.1 X.2.2.2.1 dX2_bestMat_0 rfl k) ?_
  refine a_istore_n (pc := 1) X dX2_bestMat_1 rfl hl (by decide) (lv' := [(1, vI (-1 : Int32)), (0, vR v0)]) rfl (fun ls hl => ?_)
  refine AW.lift (fun _ _ _ _ k => lv_iconst (pc := 2) (v := (0 : Int32)) X.2.2.1 X.2.2.2.1 dX2_bestMat_2 rfl k) ?_
  refine a_istore_n (pc := 3) X dX2_bestMat_3 rfl hl (by decide) (lv' := [(2, vI (0 : Int32)), (1, vI (-1 : Int32)), (0, vR v0)]) rfl (fun ls hl => ?_)
  exact w_X2_bestMat_l4 GA Z v0  FU (-1 : Int32) (0 : Int32) _ _ (hl.sub [2, 1, 0] rfl) hf
theorem w_X1_bestMat_j18 {r : Except Nat (Int32) × AH} (GA : GA l s0 a0 K lam) (Z : WZ l s0 a0 K p s m c cX1_bestMat yX1_bestMat.cls 2 b R 9 420 meth [] (some (.int)) yX1_bestMat) (v1 : Int32) (t0 : Int32)  {h : AH} {ls : Array Slot} (hl : LV ls 2 [(1, vI v1)]) (hf : f_X1_bestMat_j18 K v1 t0 h = some r) : AW s0 K lam p l e R s m args below meth c (AQ s0 K lam below oI b r s) b h (F0 m 18 ls [.int t0]) := by
  unfold f_X1_bestMat_j18 at hf
  have X := Z.1.1
  refine a_callb (pc := 18) (rs := []) (avs := [vI t0]) Z.1 (w_X1_checkElement GA t0) (Or.inl rfl) q1968 q74 (by decide) (by decide) dX1_bestMat_18 hl.1 (Nat.le_of_ble_eq_true rfl) hf (ct_S X (Or.inl rfl) q1968 q74 q1966 q1967 hy_X1_checkElement np_X1_checkElement rfl dX1_bestMat_18) (fun q h he hX => a_out (unc_of Z.2.1 rfl) Z.2.2.2.1 he hX) (fun _ h hf => ?kk18)
  refine AW.eq (g2 := F0 m 21 ls []) rfl ?_
  refine a_iload_n (pc := 21) X dX1_bestMat_21 rfl hl 0 rfl ?_
  exact a_ireturn X Z.2.2.1 Z.2.2.2.1 dX1_bestMat_22 hf
theorem np_X1_bestMat : npar yX1_bestMat.desc 0 := by unfold npar; decide +kernel
theorem hy_X1_bestMat : yX1_bestMat.cls ≠ "java/lang/invoke/MethodHandle" ∧ yX1_bestMat.cls ≠ "java/lang/invoke/VarHandle" := by decide +kernel
theorem w_X1_bestMat (GA : GA l s0 a0 K lam) (v0 : Option Nat) : AMet l s0 K lam yX1_bestMat (Cond.code yX1_bestMat cX1_bestMat (2 : Nat) (Option.some ClassFile.FieldType.int)) 9 420 [vR v0] oI (f_X1_bestMat K v0) := by
  refine AMet.of GA.1 (plainFor_of_name (by decide +kernel)) (Nat.le_of_ble_eq_true rfl) ?_
  intro b r hf p e s m args below meth c X hr hlk hnm hnd ht ls hl
  have Z : WZ l s0 a0 K p s m c cX1_bestMat yX1_bestMat.cls 2 b { frames := 9, cells := K 0 - aX b, slots := K 1 - aW b, locals := 420 } 9 420 meth [] (some (.int)) yX1_bestMat := ⟨⟨X, GA.2.1, GA.2.2.1, rfl, rfl, Nat.le_refl _, Nat.le_refl _⟩, tab_nil ht, hr, hlk, hnm, hnd⟩
  unfold f_X1_bestMat at hf
  clear hr hlk hnm hnd ht
  refine a_aload_n (pc := 0) X dX1_bestMat_0 rfl hl 0 rfl ?_
  refine a_get (pc := 1) (φ := 200) pR_t X Z.1.2.1 (gw X.1 X.2.1 q309) (fun _ q => q) (by decide) dX1_bestMat_1 hf (fun x1 hf => ?_)
  obtain ⟨a4, rfl, ⟨hk, hf⟩ | ⟨-, hf⟩⟩ := dv_some hf
  rotate_left
  · exact fl_none hf
  refine a_callb (pc := 4) (rs := []) (avs := [vR (some a4)]) Z.1 (w_X2_bestMat GA (some a4)) (Or.inl rfl) q1991 q75 (by decide) (by decide) dX1_bestMat_4 hl.1 (Nat.le_of_ble_eq_true rfl) hf (ct_V hk ⟨by decide, by decide⟩ X (Or.inl rfl) q1991 q1988 q1989 q1990 hy_X2_bestMat np_X2_bestMat rfl dX1_bestMat_4) (fun q h he hX => a_out (unc_of Z.2.1 rfl) Z.2.2.2.1 he hX) (fun x4 h hf => ?kk4)
  refine AW.eq (g2 := F0 m 7 ls [.int x4]) rfl ?_
  refine a_istore_n (pc := 7) X dX1_bestMat_7 rfl hl (by decide) (lv' := [(1, vI x4), (0, vR v0)]) rfl (fun ls hl => ?_)
  refine a_iload_n (pc := 8) X dX1_bestMat_8 rfl hl 0 rfl ?_
  refine AW.lift (fun _ _ _ _ k => lv_iconst (pc := 9) (v := (-1 : Int32)) X.2.2.1 X.2.2.2.1 dX1_bestMat_9 rfl k) ?_
  refine AW.lift2 (fun _ _ _ _ k1 k2 => lv_icmp_eq (pc := 10) (tgt := 17) X.2.2.1 X.2.2.2.1 dX1_bestMat_10 rfl k1 k2) (fun c => ?_) (fun c => ?_)
  · have hf := ite_t c hf
    refine AW.lift (fun _ _ _ _ k => lv_iconst (pc := 17) (v := (0 : Int32)) X.2.2.1 X.2.2.2.1 dX1_bestMat_17 rfl k) ?_
    exact w_X1_bestMat_j18 GA Z x4 (0 : Int32)  (hl.sub [0] rfl) hf
  · have hf := ite_f c hf
    refine AW.lift (fun _ _ _ _ k => lv_iconst (pc := 13) (v := (1 : Int32)) X.2.2.1 X.2.2.2.1 dX1_bestMat_13 rfl k) ?_
    refine AW.lift (fun _ _ _ _ k => lv_goto (pc := 14) (tgt := 18) X.2.2.1 X.2.2.2.1 dX1_bestMat_14 rfl k) ?_
    exact w_X1_bestMat_j18 GA Z x4 (1 : Int32)  (hl.sub [0] rfl) hf
theorem np_X0_bestMat : npar yX0_bestMat.desc 2 := by unfold npar; decide +kernel
theorem hy_X0_bestMat : yX0_bestMat.cls ≠ "java/lang/invoke/MethodHandle" ∧ yX0_bestMat.cls ≠ "java/lang/invoke/VarHandle" := by decide +kernel
theorem w_X0_bestMat (GA : GA l s0 a0 K lam) (v0 : Option Nat) (v1 : Option Nat) : AMet l s0 K lam yX0_bestMat (Cond.codeWith yX0_bestMat cX0_bestMat (3 : Nat) (Option.some ClassFile.FieldType.int) [((0 : Nat), (8 : Nat), (11 : Nat), (39 : Nat))]) 10 441 [vR v0, vR v1] oI (f_X0_bestMat K v0 v1) := by
  refine AMet.ofW GA.1 (plainFor_of_name (by decide +kernel)) (Nat.le_of_ble_eq_true rfl) ?_
  intro b r hf p e s m args below meth c X hr hlk hnm hnd ht ls hl
  have Z : WZ l s0 a0 K p s m c cX0_bestMat yX0_bestMat.cls 3 b { frames := 10, cells := K 0 - aX b, slots := K 1 - aW b, locals := 441 } 10 441 meth [(0, 8, 11, 39)] (some (.int)) yX0_bestMat := ⟨⟨X, GA.2.1, GA.2.2.1, rfl, rfl, Nat.le_refl _, Nat.le_refl _⟩, ht, hr, hlk, hnm, hnd⟩
  unfold f_X0_bestMat at hf
  clear hr hlk hnm hnd ht
  refine a_aload_n (pc := 0) X dX0_bestMat_0 rfl hl 1 rfl ?_
  refine AW.lift (fun _ _ _ _ k => lv_iconst (pc := 1) (v := (0 : Int32)) X.2.2.1 X.2.2.2.1 dX0_bestMat_1 rfl k) ?_
  refine a_aload_n (pc := 2) X dX0_bestMat_2 rfl hl 0 rfl ?_
  obtain ⟨a3, rfl, ⟨hk, hf⟩ | ⟨-, hf⟩⟩ := dv_tsome hf
  rotate_left
  · exact fl_tnone hf
  refine a_callt (pc := 3) (rs := [vI (0 : Int32), vR v1]) (avs := [vR (some a3)]) Z.1 (w_X1_bestMat GA (some a3)) (Or.inl rfl) q1987 q74 (by decide) (by decide) dX0_bestMat_3 hl.1 (Nat.le_of_ble_eq_true rfl) hf (ct_V hk ⟨by decide, by decide⟩ X (Or.inl rfl) q1987 q1984 q1985 q1986 hy_X1_bestMat np_X1_bestMat rfl dX0_bestMat_3) (fun q h hf hX => ?hx3) (fun x3 h hf => ?kk3)
  case hx3 =>
    rcases ctc_some hf with ⟨hy, hf⟩ | ⟨hn0, hf⟩
    · refine a_catchH (st := 0) (en := 8) (hp := 11) (ct := 39) (pre := []) (suf := []) X hX Z.2.1 rfl (fun z hz => nomatch hz) (by decide) (Or.inr ⟨by decide, _, gw X.1 X.2.1 q1961, (cs_X20 GA) _ hy⟩) (AW.eq (g2 := F0 m 11 ls [va_rf (some q)]) rfl ?_)
      refine a_astore_n (pc := 11) X dX0_bestMat_11 rfl hl (by decide) (lv' := [(2, vR (some q)), (0, vR (some a3)), (1, vR v1)]) rfl (fun ls hl => ?_)
      refine AW.lift (fun _ _ _ _ k => lv_iconst (pc := 12) (v := (1 : Int32)) X.2.2.1 X.2.2.2.1 dX0_bestMat_12 rfl k) ?_
      exact a_ireturn X Z.2.2.1 Z.2.2.2.1 dX0_bestMat_13 hf
    · skip
      exact a_outH X Z.2.1 (by intro z hz; simp only [List.mem_cons, List.not_mem_nil, or_false] at hz; rcases hz with rfl <;> first | exact Or.inl (by decide) | exact Or.inr ⟨by decide, _, gw X.1 X.2.1 q1961, (nc_12_13_14_16_17_18_19_21_java_util_NoSuchElementException GA _ (by simpa using hn0)).2.2⟩) Z.2.2.2.1 (th_eq hf) hX
  refine AW.eq (g2 := F0 m 6 ls [.int x3, .int (0 : Int32), va_rf v1]) rfl ?_
  refine AW.lift (fun _ _ _ _ k => lv_i2l (pc := 6) X.2.2.1 X.2.2.2.1 dX0_bestMat_6 rfl k) ?_
  refine a_lastore (pc := 7) X dX0_bestMat_7 hf (fun h hf => ?_)
  refine AW.lift (fun _ _ _ _ k => lv_goto (pc := 8) (tgt := 14) X.2.2.1 X.2.2.2.1 dX0_bestMat_8 rfl k) ?_
  refine AW.lift (fun _ _ _ _ k => lv_iconst (pc := 14) (v := (0 : Int32)) X.2.2.1 X.2.2.2.1 dX0_bestMat_14 rfl k) ?_
  exact a_ireturn X Z.2.2.1 Z.2.2.2.1 dX0_bestMat_15 hf
end WK
