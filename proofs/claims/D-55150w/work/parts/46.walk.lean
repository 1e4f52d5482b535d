section WK
variable {l : Launch} {s0 : State} {a0 : Array Value} {K : Nat → Nat} {lam : Nat → ClassId}
variable {p : Program} {e : Env} {R : Room} {s : State} {m : MethodId} {args : Array Value} {below : List Frame} {meth : Method} {c : Code} {b : AH}
theorem w_X4_tell_j154 {r : Except Nat (Int32) × AH} (GA : GA l s0 a0 K lam) (Z : WZ l s0 a0 K p s m c cX4_tell yX4_tell.cls 3 b R 2 46 meth [] (some (.int)) yX4_tell) (v0 : Option Nat)   {h : AH} {ls : Array Slot} (hl : LV ls 3 [(0, vR v0)]) (hf : f_X4_tell_j154 K v0 h = some r) : AW s0 K lam p l e R s m args below meth c (AQ s0 K lam below oI b r s) b h (F0 m 154 ls []) := by
  unfold f_X4_tell_j154 at hf
  have X := Z.1.1
  refine a_aload_n (pc := 154) X dX4_tell_154 rfl hl 0 rfl ?_
  refine a_get (pc := 155) (φ := 116) pI_t X Z.1.2.1 (gw X.1 X.2.1 q3041) (fun _ q => q) (by decide) dX4_tell_155 hf (fun x155 hf => ?_)
  exact a_ireturn X Z.2.2.1 Z.2.2.2.1 dX4_tell_158 hf
theorem w_X4_tell_j133 {r : Except Nat (Int32) × AH} (GA : GA l s0 a0 K lam) (Z : WZ l s0 a0 K p s m c cX4_tell yX4_tell.cls 3 b R 2 46 meth [] (some (.int)) yX4_tell) (v0 : Option Nat) (v1 : Int32)   {h : AH} {ls : Array Slot} (hl : LV ls 3 [(0, vR v0), (1, vI v1)]) (hf : f_X4_tell_j133 K v0 v1 h = some r) : AW s0 K lam p l e R s m args below meth c (AQ s0 K lam below oI b r s) b h (F0 m 133 ls []) := by
  unfold f_X4_tell_j133 at hf
  have X := Z.1.1
  refine a_aload_n (pc := 133) X dX4_tell_133 rfl hl 0 rfl ?_
  refine a_get (pc := 134) (φ := 100) pR_t X Z.1.2.1 (gw X.1 X.2.1 q3025) (fun _ q => q) (by decide) dX4_tell_134 hf (fun x134 hf => ?_)
  refine a_iload_n (pc := 137) X dX4_tell_137 rfl hl 1 rfl ?_
  refine a_callb (pc := 138) (rs := [vR x134]) (avs := [vI v1]) Z.1 (w_X4_of GA v1) (Or.inl rfl) q3123 q86 (by decide) (by decide) dX4_tell_138 hl.1 (Nat.le_of_ble_eq_true rfl) hf (ct_S X (Or.inl rfl) q3123 q86 q3121 q3122 hy_X4_of np_X4_of rfl dX4_tell_138) (fun q h he hX => a_out (unc_of Z.2.1 rfl) Z.2.2.2.1 he hX) (fun x138 h hf => ?kk138)
  refine AW.eq (g2 := F0 m 141 ls [.int x138, va_rf x134]) rfl ?_
  refine AW.lift (fun _ _ _ _ k => lv_bipush (pc := 141) (v := (8 : Int32)) X.2.2.1 X.2.2.2.1 dX4_tell_141 rfl k) ?_
  refine AW.lift (fun _ _ _ _ k => lv_iadd (pc := 143) X.2.2.1 X.2.2.2.1 dX4_tell_143 k) ?_
  refine a_iaload (pc := 144) X dX4_tell_144 hf (fun x144 hf => ?_)
  refine AW.lift2 (fun _ _ _ _ k1 k2 => lv_if_ne (pc := 145) (tgt := 154) X.2.2.1 X.2.2.2.1 dX4_tell_145 rfl k2 k1) (fun c => ?_) (fun c => ?_)
  · have hf := ite_t c hf
    refine a_aload_n (pc := 148) X dX4_tell_148 rfl hl 0 rfl ?_
    refine AW.lift (fun _ _ _ _ k => lv_bipush (pc := 149) (v := (120 : Int32)) X.2.2.1 X.2.2.2.1 dX4_tell_149 rfl k) ?_
    obtain ⟨a151, rfl, ⟨hk, hf⟩ | ⟨-, hf⟩⟩ := dv_some hf
    rotate_left
    · exact fl_none hf
    refine a_callb (pc := 151) (rs := []) (avs := [vR (some a151), vI (120 : Int32)]) Z.1 (w_X4_sign GA (some a151) (120 : Int32)) (Or.inl rfl) q3369 q86 (by decide) (by decide) dX4_tell_151 hl.1 (Nat.le_of_ble_eq_true rfl) hf (ct_V hk ⟨by decide, by decide⟩ X (Or.inl rfl) q3369 q3366 q3368 pv_60 hy_X4_sign np_X4_sign rfl dX4_tell_151) (fun q h he hX => a_out (unc_of Z.2.1 rfl) Z.2.2.2.1 he hX) (fun _ h hf => ?kk151)
    refine AW.eq (g2 := F0 m 154 ls []) rfl ?_
    exact w_X4_tell_j154 GA Z (some a151)   (hl.sub [0] rfl) hf
  · have hf := ite_f c hf
    exact w_X4_tell_j154 GA Z v0   (hl.sub [0] rfl) hf
theorem w_X4_tell_j127 {r : Except Nat (Int32) × AH} (GA : GA l s0 a0 K lam) (Z : WZ l s0 a0 K p s m c cX4_tell yX4_tell.cls 3 b R 2 46 meth [] (some (.int)) yX4_tell) (v0 : Option Nat) (v1 : Int32) (v2 : Int32)  (rc79 : Int32 → AM (Int32)) (hrc79 : ∀ (v2 : Int32) (h : AH) (ls : Array Slot), LV ls 3 [(0, vR v0), (1, vI v1), (2, vI v2)] → rc79 v2 h = some r → AW s0 K lam p l e R s m args below meth c (AQ s0 K lam below oI b r s) b h (F0 m 79 ls [])) {h : AH} {ls : Array Slot} (hl : LV ls 3 [(0, vR v0), (1, vI v1), (2, vI v2)]) (hf : f_X4_tell_j127 K rc79 v0 v1 v2 h = some r) : AW s0 K lam p l e R s m args below meth c (AQ s0 K lam below oI b r s) b h (F0 m 127 ls []) := by
  unfold f_X4_tell_j127 at hf
  have X := Z.1.1
  refine a_iinc (pc := 127) (v := (v2 + (1 : Int32))) X dX4_tell_127 hl (k := 2) rfl rfl (by decide) (lv' := [(2, vI (v2 + (1 : Int32))), (0, vR v0), (1, vI v1)]) rfl (fun ls hl => ?_)
  refine AW.lift (fun _ _ _ _ k => lv_goto (pc := 130) (tgt := 79) X.2.2.1 X.2.2.2.1 dX4_tell_130 rfl k) ?_
  exact hrc79 (v2 + (1 : Int32)) _ _ (hl.sub [1, 2, 0] rfl) hf
theorem w_X4_tell_j116 {r : Except Nat (Int32) × AH} (GA : GA l s0 a0 K lam) (Z : WZ l s0 a0 K p s m c cX4_tell yX4_tell.cls 3 b R 2 46 meth [] (some (.int)) yX4_tell) (v0 : Option Nat) (v1 : Int32) (v2 : Int32)  (rc79 : Int32 → AM (Int32)) (hrc79 : ∀ (v2 : Int32) (h : AH) (ls : Array Slot), LV ls 3 [(0, vR v0), (1, vI v1), (2, vI v2)] → rc79 v2 h = some r → AW s0 K lam p l e R s m args below meth c (AQ s0 K lam below oI b r s) b h (F0 m 79 ls [])) {h : AH} {ls : Array Slot} (hl : LV ls 3 [(0, vR v0), (1, vI v1), (2, vI v2)]) (hf : f_X4_tell_j116 K rc79 v0 v1 v2 h = some r) : AW s0 K lam p l e R s m args below meth c (AQ s0 K lam below oI b r s) b h (F0 m 116 ls []) := by
  unfold f_X4_tell_j116 at hf
  have X := Z.1.1
  refine a_aload_n (pc := 116) X dX4_tell_116 rfl hl 0 rfl ?_
  refine AW.lift (fun _ _ _ _ k => lv_bipush (pc := 117) (v := (48 : Int32)) X.2.2.1 X.2.2.2.1 dX4_tell_117 rfl k) ?_
  refine a_iload_n (pc := 119) X dX4_tell_119 rfl hl 2 rfl ?_
  refine AW.lift (fun _ _ _ _ k => lv_bipush (pc := 120) (v := (10 : Int32)) X.2.2.1 X.2.2.2.1 dX4_tell_120 rfl k) ?_
  refine AW.lift (fun _ _ _ _ k => lv_irem (pc := 122) X.2.2.1 X.2.2.2.1 dX4_tell_122 (by decide) k) ?_
  refine AW.lift (fun _ _ _ _ k => lv_iadd (pc := 123) X.2.2.1 X.2.2.2.1 dX4_tell_123 k) ?_
  obtain ⟨a124, rfl, ⟨hk, hf⟩ | ⟨-, hf⟩⟩ := dv_some hf
  rotate_left
  · exact fl_none hf
  refine a_callb (pc := 124) (rs := []) (avs := [vR (some a124), vI ((48 : Int32) + (v2 - v2 / (10 : Int32) * (10 : Int32)))]) Z.1 (w_X4_sign GA (some a124) ((48 : Int32) + (v2 - v2 / (10 : Int32) * (10 : Int32)))) (Or.inl rfl) q3369 q86 (by decide) (by decide) dX4_tell_124 hl.1 (Nat.le_of_ble_eq_true rfl) hf (ct_V hk ⟨by decide, by decide⟩ X (Or.inl rfl) q3369 q3366 q3368 pv_60 hy_X4_sign np_X4_sign rfl dX4_tell_124) (fun q h he hX => a_out (unc_of Z.2.1 rfl) Z.2.2.2.1 he hX) (fun _ h hf => ?kk124)
  refine AW.eq (g2 := F0 m 127 ls []) rfl ?_
  exact w_X4_tell_j127 GA Z (some a124) v1 v2  rc79 hrc79 (hl.sub [0, 1, 2] rfl) hf
theorem w_X4_tell_b79 {r : Except Nat (Int32) × AH} (GA : GA l s0 a0 K lam) (Z : WZ l s0 a0 K p s m c cX4_tell yX4_tell.cls 3 b R 2 46 meth [] (some (.int)) yX4_tell) (v0 : Option Nat) (v1 : Int32) (v2 : Int32)  (rc79 : Int32 → AM (Int32)) (hrc79 : ∀ (v2 : Int32) (h : AH) (ls : Array Slot), LV ls 3 [(0, vR v0), (1, vI v1), (2, vI v2)] → rc79 v2 h = some r → AW s0 K lam p l e R s m args below meth c (AQ s0 K lam below oI b r s) b h (F0 m 79 ls [])) {h : AH} {ls : Array Slot} (hl : LV ls 3 [(0, vR v0), (1, vI v1), (2, vI v2)]) (hf : f_X4_tell_b79 K rc79 v0 v1 v2 h = some r) : AW s0 K lam p l e R s m args below meth c (AQ s0 K lam below oI b r s) b h (F0 m 79 ls []) := by
  unfold f_X4_tell_b79 at hf
  have X := Z.1.1
  refine a_iload_n (pc := 79) X dX4_tell_79 rfl hl 2 rfl ?_
  refine a_aload_n (pc := 80) X dX4_tell_80 rfl hl 0 rfl ?_
  refine a_get (pc := 81) (φ := 100) pR_t X Z.1.2.1 (gw X.1 X.2.1 q3025) (fun _ q => q) (by decide) dX4_tell_81 hf (fun x81 hf => ?_)
  refine AW.lift (fun _ _ _ _ k => lv_iconst (pc := 84) (v := (2 : Int32)) X.2.2.1 X.2.2.2.1 dX4_tell_84 rfl k) ?_
  refine a_iaload (pc := 85) X dX4_tell_85 hf (fun x85 hf => ?_)
  refine AW.lift2 (fun _ _ _ _ k1 k2 => lv_icmp_ge (pc := 86) (tgt := 133) X.2.2.1 X.2.2.2.1 dX4_tell_86 rfl k1 k2) (fun c => ?_) (fun c => ?_)
  · have hf := ite_t c hf
    exact w_X4_tell_j133 GA Z v0 v1   (hl.sub [0, 1] rfl) hf
  · have hf := ite_f c hf
    refine a_aload_n (pc := 89) X dX4_tell_89 rfl hl 0 rfl ?_
    refine a_iload_n (pc := 90) X dX4_tell_90 rfl hl 2 rfl ?_
    refine a_iload_n (pc := 91) X dX4_tell_91 rfl hl 1 rfl ?_
    obtain ⟨a92, rfl, ⟨hk, hf⟩ | ⟨-, hf⟩⟩ := dv_some hf
    rotate_left
    · exact fl_none hf
    refine a_callb (pc := 92) (rs := []) (avs := [vR (some a92), vI v2, vI v1]) Z.1 (w_X4_isOn GA (some a92) v2 v1) (Or.inl rfl) q3151 q86 (by decide) (by decide) dX4_tell_92 hl.1 (Nat.le_of_ble_eq_true rfl) hf (ct_V hk ⟨by decide, by decide⟩ X (Or.inl rfl) q3151 q3148 q3150 pv_35 hy_X4_isOn np_X4_isOn rfl dX4_tell_92) (fun q h he hX => a_out (unc_of Z.2.1 rfl) Z.2.2.2.1 he hX) (fun x92 h hf => ?kk92)
    refine AW.eq (g2 := F0 m 95 ls [.int x92]) rfl ?_
    refine AW.lift2 (fun _ _ _ _ k1 k2 => lv_if_eq (pc := 95) (tgt := 127) X.2.2.1 X.2.2.2.1 dX4_tell_95 rfl k1 k2) (fun c => ?_) (fun c => ?_)
    · have hf := ite_t c hf
      exact w_X4_tell_j127 GA Z (some a92) v1 v2  rc79 hrc79 (hl.sub [0, 1, 2] rfl) hf
    · have hf := ite_f c hf
      refine a_aload_n (pc := 98) X dX4_tell_98 rfl hl 0 rfl ?_
      refine AW.lift (fun _ _ _ _ k => lv_bipush (pc := 99) (v := (124 : Int32)) X.2.2.1 X.2.2.2.1 dX4_tell_99 rfl k) ?_
      rcases dv_someS hf with ⟨hk, hf⟩ | ⟨-, hf⟩
      rotate_left
      · exact fl_none hf
      refine a_callb (pc := 101) (rs := []) (avs := [vR (some a92), vI (124 : Int32)]) Z.1 (w_X4_sign GA (some a92) (124 : Int32)) (Or.inl rfl) q3369 q86 (by decide) (by decide) dX4_tell_101 hl.1 (Nat.le_of_ble_eq_true rfl) hf (ct_V hk ⟨by decide, by decide⟩ X (Or.inl rfl) q3369 q3366 q3368 pv_60 hy_X4_sign np_X4_sign rfl dX4_tell_101) (fun q h he hX => a_out (unc_of Z.2.1 rfl) Z.2.2.2.1 he hX) (fun _ h hf => ?kk101)
      refine AW.eq (g2 := F0 m 104 ls []) rfl ?_
      refine a_iload_n (pc := 104) X dX4_tell_104 rfl hl 2 rfl ?_
      refine AW.lift (fun _ _ _ _ k => lv_bipush (pc := 105) (v := (9 : Int32)) X.2.2.1 X.2.2.2.1 dX4_tell_105 rfl k) ?_
      refine AW.lift2 (fun _ _ _ _ k1 k2 => lv_icmp_le (pc := 107) (tgt := 116) X.2.2.1 X.2.2.2.1 dX4_tell_107 rfl k1 k2) (fun c => ?_) (fun c => ?_)
      · have hf := ite_t c hf
        exact w_X4_tell_j116 GA Z (some a92) v1 v2  rc79 hrc79 (hl.sub [0, 1, 2] rfl) hf
      · have hf := ite_f c hf
        refine a_aload_n (pc := 110) X dX4_tell_110 rfl hl 0 rfl ?_
        refine AW.lift (fun _ _ _ _ k => lv_bipush (pc := 111) (v := (49 : Int32)) X.2.2.1 X.2.2.2.1 dX4_tell_111 rfl k) ?_
        rcases dv_someS hf with ⟨hk, hf⟩ | ⟨-, hf⟩
        rotate_left
        · exact fl_none hf
        refine a_callb (pc := 113) (rs := []) (avs := [vR (some a92), vI (49 : Int32)]) Z.1 (w_X4_sign GA (some a92) (49 : Int32)) (Or.inl rfl) q3369 q86 (by decide) (by decide) dX4_tell_113 hl.1 (Nat.le_of_ble_eq_true rfl) hf (ct_V hk ⟨by decide, by decide⟩ X (Or.inl rfl) q3369 q3366 q3368 pv_60 hy_X4_sign np_X4_sign rfl dX4_tell_113) (fun q h he hX => a_out (unc_of Z.2.1 rfl) Z.2.2.2.1 he hX) (fun _ h hf => ?kk113)
        refine AW.eq (g2 := F0 m 116 ls []) rfl ?_
        exact w_X4_tell_j116 GA Z (some a92) v1 v2  rc79 hrc79 (hl.sub [0, 1, 2] rfl) hf
theorem w_X4_tell_l79 {r : Except Nat (Int32) × AH} (GA : GA l s0 a0 K lam) (Z : WZ l s0 a0 K p s m c cX4_tell yX4_tell.cls 3 b R 2 46 meth [] (some (.int)) yX4_tell) (v0 : Option Nat) (v1 : Int32)  : ∀ (n : Nat) (v2 : Int32) (h : AH) (ls : Array Slot), LV ls 3 [(0, vR v0), (1, vI v1), (2, vI v2)] → f_X4_tell_l79 K v0 v1 n v2 h = some r → AW s0 K lam p l e R s m args below meth c (AQ s0 K lam below oI b r s) b h (F0 m 79 ls []) := by
  intro n
  induction n with
  | zero => intro v2 h ls hl hf; exact fl_no (h := h) hf
  | succ n ih => intro v2 h ls hl hf; exact w_X4_tell_b79 GA Z v0 v1 v2 (f_X4_tell_l79 K v0 v1 n) ih hl hf
theorem w_X4_tell_j77 {r : Except Nat (Int32) × AH} (GA : GA l s0 a0 K lam) (Z : WZ l s0 a0 K p s m c cX4_tell yX4_tell.cls 3 b R 2 46 meth [] (some (.int)) yX4_tell) (v0 : Option Nat) (v1 : Int32)   {h : AH} {ls : Array Slot} (hl : LV ls 3 [(0, vR v0), (1, vI v1)]) (hf : f_X4_tell_j77 K v0 v1 h = some r) : AW s0 K lam p l e R s m args below meth c (AQ s0 K lam below oI b r s) b h (F0 m 77 ls []) := by
  unfold f_X4_tell_j77 at hf
  have X := Z.1.1
  refine AW.lift (fun _ _ _ _ k => lv_iconst (pc := 77) (v := (0 : Int32)) X.2.2.1 X.2.2.2.1 dX4_tell_77 rfl k) ?_
  refine a_istore_n (pc := 78) X dX4_tell_78 rfl hl (by decide) (lv' := [(2, vI (0 : Int32)), (0, vR v0), (1, vI v1)]) rfl (fun ls hl => ?_)
  exact w_X4_tell_l79 GA Z v0 v1  FU (0 : Int32) _ _ (hl.sub [1, 2, 0] rfl) hf
theorem w_X4_tell_j68 {r : Except Nat (Int32) × AH} (GA : GA l s0 a0 K lam) (Z : WZ l s0 a0 K p s m c cX4_tell yX4_tell.cls 3 b R 2 46 meth [] (some (.int)) yX4_tell) (v0 : Option Nat) (v1 : Int32) (v2 : Int32) (t0 : Int32) (t1 : Option Nat) (rc26 : Int32 → AM (Int32)) (hrc26 : ∀ (v2 : Int32) (h : AH) (ls : Array Slot), LV ls 3 [(0, vR v0), (1, vI v1), (2, vI v2)] → rc26 v2 h = some r → AW s0 K lam p l e R s m args below meth c (AQ s0 K lam below oI b r s) b h (F0 m 26 ls [])) {h : AH} {ls : Array Slot} (hl : LV ls 3 [(0, vR v0), (1, vI v1), (2, vI v2)]) (hf : f_X4_tell_j68 K rc26 v0 v1 v2 t0 t1 h = some r) : AW s0 K lam p l e R s m args below meth c (AQ s0 K lam below oI b r s) b h (F0 m 68 ls [.int t0, va_rf t1]) := by
  unfold f_X4_tell_j68 at hf
  have X := Z.1.1
  obtain ⟨a68, rfl, ⟨hk, hf⟩ | ⟨-, hf⟩⟩ := dv_some hf
  rotate_left
  · exact fl_none hf
  refine a_callb (pc := 68) (rs := []) (avs := [vR (some a68), vI t0]) Z.1 (w_X4_sign GA (some a68) t0) (Or.inl rfl) q3369 q86 (by decide) (by decide) dX4_tell_68 hl.1 (Nat.le_of_ble_eq_true rfl) hf (ct_V hk ⟨by decide, by decide⟩ X (Or.inl rfl) q3369 q3366 q3368 pv_60 hy_X4_sign np_X4_sign rfl dX4_tell_68) (fun q h he hX => a_out (unc_of Z.2.1 rfl) Z.2.2.2.1 he hX) (fun _ h hf => ?kk68)
  refine AW.eq (g2 := F0 m 71 ls []) rfl ?_
  refine a_iinc (pc := 71) (v := (v2 + (1 : Int32))) X dX4_tell_71 hl (k := 2) rfl rfl (by decide) (lv' := [(2, vI (v2 + (1 : Int32))), (0, vR v0), (1, vI v1)]) rfl (fun ls hl => ?_)
  refine AW.lift (fun _ _ _ _ k => lv_goto (pc := 74) (tgt := 26) X.2.2.1 X.2.2.2.1 dX4_tell_74 rfl k) ?_
  exact hrc26 (v2 + (1 : Int32)) _ _ (hl.sub [1, 2, 0] rfl) hf
theorem w_X4_tell_b26 {r : Except Nat (Int32) × AH} (GA : GA l s0 a0 K lam) (Z : WZ l s0 a0 K p s m c cX4_tell yX4_tell.cls 3 b R 2 46 meth [] (some (.int)) yX4_tell) (v0 : Option Nat) (v1 : Int32) (v2 : Int32)  (rc26 : Int32 → AM (Int32)) (hrc26 : ∀ (v2 : Int32) (h : AH) (ls : Array Slot), LV ls 3 [(0, vR v0), (1, vI v1), (2, vI v2)] → rc26 v2 h = some r → AW s0 K lam p l e R s m args below meth c (AQ s0 K lam below oI b r s) b h (F0 m 26 ls [])) {h : AH} {ls : Array Slot} (hl : LV ls 3 [(0, vR v0), (1, vI v1), (2, vI v2)]) (hf : f_X4_tell_b26 K rc26 v0 v1 v2 h = some r) : AW s0 K lam p l e R s m args below meth c (AQ s0 K lam below oI b r s) b h (F0 m 26 ls []) := by
  unfold f_X4_tell_b26 at hf
  have X := Z.1.1
  refine a_iload_n (pc := 26) X dX4_tell_26 rfl hl 2 rfl ?_
  refine AW.lift (fun _ _ _ _ k => lv_bipush (pc := 27) (v := (8 : Int32)) X.2.2.1 X.2.2.2.1 dX4_tell_27 rfl k) ?_
  refine AW.lift2 (fun _ _ _ _ k1 k2 => lv_icmp_ge (pc := 29) (tgt := 77) X.2.2.1 X.2.2.2.1 dX4_tell_29 rfl k1 k2) (fun c => ?_) (fun c => ?_)
  · have hf := ite_t c hf
    exact w_X4_tell_j77 GA Z v0 v1   (hl.sub [0, 1] rfl) hf
  · have hf := ite_f c hf
    refine a_aload_n (pc := 32) X dX4_tell_32 rfl hl 0 rfl ?_
    refine a_aload_n (pc := 33) X dX4_tell_33 rfl hl 0 rfl ?_
    refine a_get (pc := 34) (φ := 100) pR_t X Z.1.2.1 (gw X.1 X.2.1 q3025) (fun _ q => q) (by decide) dX4_tell_34 hf (fun x34 hf => ?_)
    refine a_iload_n (pc := 37) X dX4_tell_37 rfl hl 1 rfl ?_
    refine a_callb (pc := 38) (rs := [vR x34, vR v0]) (avs := [vI v1]) Z.1 (w_X4_of GA v1) (Or.inl rfl) q3123 q86 (by decide) (by decide) dX4_tell_38 hl.1 (Nat.le_of_ble_eq_true rfl) hf (ct_S X (Or.inl rfl) q3123 q86 q3121 q3122 hy_X4_of np_X4_of rfl dX4_tell_38) (fun q h he hX => a_out (unc_of Z.2.1 rfl) Z.2.2.2.1 he hX) (fun x38 h hf => ?kk38)
    refine AW.eq (g2 := F0 m 41 ls [.int x38, va_rf x34, va_rf v0]) rfl ?_
    refine a_iload_n (pc := 41) X dX4_tell_41 rfl hl 2 rfl ?_
    refine AW.lift (fun _ _ _ _ k => lv_iadd (pc := 42) X.2.2.1 X.2.2.2.1 dX4_tell_42 k) ?_
    refine a_iaload (pc := 43) X dX4_tell_43 hf (fun x43 hf => ?_)
    refine AW.lift (fun _ _ _ _ k => lv_bipush (pc := 44) (v := (9 : Int32)) X.2.2.1 X.2.2.2.1 dX4_tell_44 rfl k) ?_
    refine AW.lift2 (fun _ _ _ _ k1 k2 => lv_icmp_ne (pc := 46) (tgt := 54) X.2.2.1 X.2.2.2.1 dX4_tell_46 rfl k2 k1) (fun c => ?_) (fun c => ?_)
    · have hf := ite_t c hf
      refine AW.lift (fun _ _ _ _ k => lv_bipush (pc := 49) (v := (42 : Int32)) X.2.2.1 X.2.2.2.1 dX4_tell_49 rfl k) ?_
      refine AW.lift (fun _ _ _ _ k => lv_goto (pc := 51) (tgt := 68) X.2.2.1 X.2.2.2.1 dX4_tell_51 rfl k) ?_
      exact w_X4_tell_j68 GA Z v0 v1 v2 (42 : Int32) v0 rc26 hrc26 (hl.sub [0, 1, 2] rfl) hf
    · have hf := ite_f c hf
      refine AW.lift (fun _ _ _ _ k => lv_bipush (pc := 54) (v := (48 : Int32)) X.2.2.1 X.2.2.2.1 dX4_tell_54 rfl k) ?_
      refine a_aload_n (pc := 56) X dX4_tell_56 rfl hl 0 rfl ?_
      refine a_get (pc := 57) (φ := 100) pR_t X Z.1.2.1 (gw X.1 X.2.1 q3025) (fun _ q => q) (by decide) dX4_tell_57 hf (fun x57 hf => ?_)
      refine a_iload_n (pc := 60) X dX4_tell_60 rfl hl 1 rfl ?_
      refine a_callb (pc := 61) (rs := [vR x57, vI (48 : Int32), vR v0]) (avs := [vI v1]) Z.1 (w_X4_of GA v1) (Or.inl rfl) q3123 q86 (by decide) (by decide) dX4_tell_61 hl.1 (Nat.le_of_ble_eq_true rfl) hf (ct_S X (Or.inl rfl) q3123 q86 q3121 q3122 hy_X4_of np_X4_of rfl dX4_tell_61) (fun q h he hX => a_out (unc_of Z.2.1 rfl) Z.2.2.2.1 he hX) (fun x61 h hf => ?kk61)
      refine AW.eq (g2 := F0 m 64 ls [.int x61, va_rf x57, .int (48 : Int32), va_rf v0]) rfl ?_
      refine a_iload_n (pc := 64) X dX4_tell_64 rfl hl 2 rfl ?_
      refine AW.lift (fun _ _ _ _ k => lv_iadd (pc := 65) X.2.2.1 X.2.2.2.1 dX4_tell_65 k) ?_
      refine a_iaload (pc := 66) X dX4_tell_66 hf (fun x66 hf => ?_)
      refine AW.lift (fun _ _ _ _ k => lv_iadd (pc := 67) X.2.2.1 X.2.2.2.1 dX4_tell_67 k) ?_
      exact w_X4_tell_j68 GA Z v0 v1 v2 ((48 : Int32) + x66) v0 rc26 hrc26 (hl.sub [0, 1, 2] rfl) hf
theorem w_X4_tell_l26 {r : Except Nat (Int32) × AH} (GA : GA l s0 a0 K lam) (Z : WZ l s0 a0 K p s m c cX4_tell yX4_tell.cls 3 b R 2 46 meth [] (some (.int)) yX4_tell) (v0 : Option Nat) (v1 : Int32)  : ∀ (n : Nat) (v2 : Int32) (h : AH) (ls : Array Slot), LV ls 3 [(0, vR v0), (1, vI v1), (2, vI v2)] → f_X4_tell_l26 K v0 v1 n v2 h = some r → AW s0 K lam p l e R s m args below meth c (AQ s0 K lam below oI b r s) b h (F0 m 26 ls []) := by
  intro n
  induction n with
  | zero => intro v2 h ls hl hf; exact fl_no (h := h) hf
  | succ n ih => intro v2 h ls hl hf; exact w_X4_tell_b26 GA Z v0 v1 v2 (f_X4_tell_l26 K v0 v1 n) ih hl hf
theorem np_X4_tell : npar yX4_tell.desc 1 := by unfold npar; decide +kernel
theorem hy_X4_tell : yX4_tell.cls ≠ "java/lang/invoke/MethodHandle" ∧ yX4_tell.cls ≠ "java/lang/invoke/VarHandle" := by decide +kernel
theorem w_X4_tell (GA : GA l s0 a0 K lam) (v0 : Option Nat) (v1 : Int32) : AMet l s0 K lam yX4_tell (Cond.code yX4_tell cX4_tell (3 : Nat) (Option.some ClassFile.FieldType.int)) 2 46 [vR v0, vI v1] oI (f_X4_tell K v0 v1) := by
  refine AMet.of GA.1 (plainFor_of_name (by decide +kernel)) (Nat.le_of_ble_eq_true rfl) ?_
  intro b r hf p e s m args below meth c X hr hlk hnm hnd ht ls hl
  have Z : WZ l s0 a0 K p s m c cX4_tell yX4_tell.cls 3 b { frames := 2, cells := K 0 - aX b, slots := K 1 - aW b, locals := 46 } 2 46 meth [] (some (.int)) yX4_tell := ⟨⟨X, GA.2.1, GA.2.2.1, rfl, rfl, Nat.le_refl _, Nat.le_refl _⟩, tab_nil ht, hr, hlk, hnm, hnd⟩
  unfold f_X4_tell at hf
  clear hr hlk hnm hnd ht
  refine a_aload_n (pc := 0) X dX4_tell_0 rfl hl 0 rfl ?_
  refine AW.lift (fun _ _ _ _ k => lv_iconst (pc := 1) (v := (0 : Int32)) X.2.2.1 X.2.2.2.1 dX4_tell_1 rfl k) ?_
  refine a_put (pc := 2) (φ := 107) X Z.1.2.1 Z.1.2.2.1 (gw X.1 X.2.1 q3032) (fun _ q => q) (by decide) rfl rfl dX4_tell_2 hf (fun h hf => ?_)
  refine a_aload_n (pc := 5) X dX4_tell_5 rfl hl 0 rfl ?_
  refine a_iload_n (pc := 6) X dX4_tell_6 rfl hl 1 rfl ?_
  obtain ⟨a7, rfl, ⟨hk, hf⟩ | ⟨-, hf⟩⟩ := dv_some hf
  rotate_left
  · exact fl_none hf
  refine a_callb (pc := 7) (rs := []) (avs := [vR (some a7), vI v1]) Z.1 (w_X4_isMat GA (some a7) v1) (Or.inl rfl) q3139 q86 (by decide) (by decide) dX4_tell_7 hl.1 (Nat.le_of_ble_eq_true rfl) hf (ct_V hk ⟨by decide, by decide⟩ X (Or.inl rfl) q3139 q3136 q3138 pv_33 hy_X4_isMat np_X4_isMat rfl dX4_tell_7) (fun q h he hX => a_out (unc_of Z.2.1 rfl) Z.2.2.2.1 he hX) (fun x7 h hf => ?kk7)
  refine AW.eq (g2 := F0 m 10 ls [.int x7]) rfl ?_
  refine AW.lift2 (fun _ _ _ _ k1 k2 => lv_if_ne (pc := 10) (tgt := 19) X.2.2.1 X.2.2.2.1 dX4_tell_10 rfl k2 k1) (fun c => ?_) (fun c => ?_)
  · have hf := ite_t c hf
    refine a_aload_n (pc := 13) X dX4_tell_13 rfl hl 0 rfl ?_
    refine AW.lift (fun _ _ _ _ k => lv_iconst (pc := 14) (v := (1 : Int32)) X.2.2.1 X.2.2.2.1 dX4_tell_14 rfl k) ?_
    rcases dv_someS hf with ⟨hk, hf⟩ | ⟨-, hf⟩
    rotate_left
    · exact fl_none hf
    refine a_callb (pc := 15) (rs := []) (avs := [vR (some a7), vI (1 : Int32)]) Z.1 (w_X4_throwing GA (some a7) (1 : Int32)) (Or.inl rfl) q3120 q86 (by decide) (by decide) dX4_tell_15 hl.1 (Nat.le_of_ble_eq_true rfl) hf (ct_V hk ⟨by decide, by decide⟩ X (Or.inl rfl) q3120 q3117 q3119 pv_30 hy_X4_throwing np_X4_throwing rfl dX4_tell_15) (fun q h he hX => a_out (unc_of Z.2.1 rfl) Z.2.2.2.1 he hX) (fun x15 h hf => ?kk15)
    refine AW.eq (g2 := F0 m 18 ls [.int x15]) rfl ?_
    exact a_ireturn X Z.2.2.1 Z.2.2.2.1 dX4_tell_18 hf
  · have hf := ite_f c hf
    refine a_aload_n (pc := 19) X dX4_tell_19 rfl hl 0 rfl ?_
    refine AW.lift (fun _ _ _ _ k => lv_iconst (pc := 20) (v := (0 : Int32)) X.2.2.1 X.2.2.2.1 dX4_tell_20 rfl k) ?_
    refine a_put (pc := 21) (φ := 116) X Z.1.2.1 Z.1.2.2.1 (gw X.1 X.2.1 q3041) (fun _ q => q) (by decide) rfl rfl dX4_tell_21 hf (fun h hf => ?_)
    refine AW.lift (fun _ _ _ _ k => lv_iconst (pc := 24) (v := (0 : Int32)) X.2.2.1 X.2.2.2.1 dX4_tell_24 rfl k) ?_
    refine a_istore_n (pc := 25) X dX4_tell_25 rfl hl (by decide) (lv' := [(2, vI (0 : Int32)), (0, vR (some a7)), (1, vI v1)]) rfl (fun ls hl => ?_)
    exact w_X4_tell_l26 GA Z (some a7) v1  FU (0 : Int32) _ _ (hl.sub [1, 2, 0] rfl) hf
theorem np_J7_checkIndex : npar yJ7_checkIndex.desc 2 := by unfold npar; decide +kernel
theorem hy_J7_checkIndex : yJ7_checkIndex.cls ≠ "java/lang/invoke/MethodHandle" ∧ yJ7_checkIndex.cls ≠ "java/lang/invoke/VarHandle" := by decide +kernel
theorem w_J7_checkIndex (GA : GA l s0 a0 K lam) (v0 : Int32) (v1 : Int32) : AMet l s0 K lam yJ7_checkIndex (Cond.code yJ7_checkIndex cJ7_checkIndex (2 : Nat) (Option.none : Option ClassFile.FieldType)) 1 22 [vI v0, vI v1] oV (f_J7_checkIndex K v0 v1) := by
  refine AMet.of GA.1 (plainFor_of_name (by decide +kernel)) (Nat.le_of_ble_eq_true rfl) ?_
  intro b r hf p e s m args below meth c X hr hlk hnm hnd ht ls hl
  have Z : WZ l s0 a0 K p s m c cJ7_checkIndex yJ7_checkIndex.cls 2 b { frames := 1, cells := K 0 - aX b, slots := K 1 - aW b, locals := 22 } 1 22 meth [] none yJ7_checkIndex := ⟨⟨X, GA.2.1, GA.2.2.1, rfl, rfl, Nat.le_refl _, Nat.le_refl _⟩, tab_nil ht, hr, hlk, hnm, hnd⟩
  unfold f_J7_checkIndex at hf
  clear hr hlk hnm hnd ht
  refine a_iload_n (pc := 0) X dJ7_checkIndex_0 rfl hl 0 rfl ?_
  refine a_iload_n (pc := 1) X dJ7_checkIndex_1 rfl hl 1 rfl ?_
  refine a_getstatic (pc := 2) (v := va_rf (kO (K 7))) X (st_SIOOBE_FORMATTER GA) (gw X.1 X.2.1 q605) (fun _ q => q) dJ7_checkIndex_2 ?_
  refine a_callb (pc := 5) (rs := []) (avs := [vI v0, vI v1, vR (kO (K 7))]) Z.1 (w_J18_checkIndex GA v0 v1 (kO (K 7))) (Or.inl rfl) q511 q100 (by decide) (by decide) dJ7_checkIndex_5 hl.1 (Nat.le_of_ble_eq_true rfl) hf (ct_S X (Or.inl rfl) q511 q100 q2557 q510 hy_J18_checkIndex np_J18_checkIndex rfl dJ7_checkIndex_5) (fun q h he hX => a_out (unc_of Z.2.1 rfl) Z.2.2.2.1 he hX) (fun x5 h hf => ?kk5)
  refine AW.eq (g2 := F0 m 8 ls [.int x5]) rfl ?_
  refine AW.lift (fun _ _ _ _ k => lv_pop (pc := 8) X.2.2.1 X.2.2.2.1 dJ7_checkIndex_8 rfl k) ?_
  exact a_return X Z.2.2.1 Z.2.2.2.1 dJ7_checkIndex_9 hf
theorem np_J5_charAt : npar yJ5_charAt.desc 1 := by unfold npar; decide +kernel
theorem hy_J5_charAt : yJ5_charAt.cls ≠ "java/lang/invoke/MethodHandle" ∧ yJ5_charAt.cls ≠ "java/lang/invoke/VarHandle" := by decide +kernel
theorem w_J5_charAt (GA : GA l s0 a0 K lam) (v0 : Option Nat) (v1 : Int32) : AMet l s0 K lam yJ5_charAt (Cond.code yJ5_charAt cJ5_charAt (5 : Nat) (Option.some ClassFile.FieldType.char)) 2 43 [vR v0, vI v1] oI (f_J5_charAt K v0 v1) := by
  refine AMet.of GA.1 (plainFor_of_name (by decide +kernel)) (Nat.le_of_ble_eq_true rfl) ?_
  intro b r hf p e s m args below meth c X hr hlk hnm hnd ht ls hl
  have Z : WZ l s0 a0 K p s m c cJ5_charAt yJ5_charAt.cls 5 b { frames := 2, cells := K 0 - aX b, slots := K 1 - aW b, locals := 43 } 2 43 meth [] (some (.char)) yJ5_charAt := ⟨⟨X, GA.2.1, GA.2.2.1, rfl, rfl, Nat.le_refl _, Nat.le_refl _⟩, tab_nil ht, hr, hlk, hnm, hnd⟩
  unfold f_J5_charAt at hf
  clear hr hlk hnm hnd ht
  refine a_aload_n (pc := 0) X dJ5_charAt_0 rfl hl 0 rfl ?_
  refine a_get (pc := 1) (φ := 3501) pI_t X Z.1.2.1 (gw X.1 X.2.1 q294) (fun _ q => q) (by decide) dJ5_charAt_1 hf (fun x1 hf => ?_)
  refine a_istore_n (pc := 4) X dJ5_charAt_4 rfl hl (by decide) (lv' := [(2, vI x1), (0, vR v0), (1, vI v1)]) rfl (fun ls hl => ?_)
  refine a_aload_n (pc := 5) X dJ5_charAt_5 rfl hl 1 rfl ?_
  refine a_get (pc := 6) (φ := 3500) pR_t X Z.1.2.1 (gw X.1 X.2.1 q293) (fun _ q => q) (by decide) dJ5_charAt_6 hf (fun x6 hf => ?_)
  refine a_astore_n (pc := 9) X dJ5_charAt_9 rfl hl (by decide) (lv' := [(3, vR x6), (2, vI x1), (0, vR v0), (1, vI v1)]) rfl (fun ls hl => ?_)
  refine a_aload_n (pc := 10) X dJ5_charAt_10 rfl hl 2 rfl ?_
  refine a_get (pc := 11) (φ := 3503) pI_t X Z.1.2.1 (gw X.1 X.2.1 q297) (fun _ q => q) (by decide) dJ5_charAt_11 hf (fun x11 hf => ?_)
  refine a_aload_n (pc := 14) X dJ5_charAt_14 rfl hl 0 rfl ?_
  refine a_arraylength (pc := 15) X dJ5_charAt_15 hf (fun x15 hf => ?_)
  refine a_iload_n (pc := 16) X dJ5_charAt_16 rfl hl 1 rfl ?_
  refine AW.lift (fun _ _ _ _ k => lv_ishr (pc := 17) X.2.2.1 X.2.2.2.1 dJ5_charAt_17 k) ?_
  refine AW.lift_c Z.1 (fun _ _ _ _ hc hs k => va_mmin (pc := 18) X.2.2.1 X.2.2.2.1 (X.2.2.2.2.2.trans hl.1.symm) X.2.2.2.2.1 (gw X.1 X.2.1 q2582) (gw X.1 X.2.1 q583) (gw X.1 X.2.1 q93) (gw X.1 X.2.1 q584) (Nat.le_trans (by decide) Z.1.2.2.2.2.2.1) (cat_le (rs := []) (Nat.le_of_ble_eq_true rfl) Z.1.2.2.2.2.2.2) hc hs dJ5_charAt_18 k) ?_
  refine AW.eq (g2 := F0 m 21 ls [.int (if (x15 >>> (x1 &&& 31)) < x11 then (x15 >>> (x1 &&& 31)) else x11)]) rfl ?_
  refine a_istore (pc := 21) X dJ5_charAt_21 hl (by decide) (lv' := [(4, vI (if (x15 >>> (x1 &&& 31)) < x11 then (x15 >>> (x1 &&& 31)) else x11)), (3, vR x6), (2, vI x1), (0, vR v0), (1, vI v1)]) rfl (fun ls hl => ?_)
  refine a_iload_n (pc := 23) X dJ5_charAt_23 rfl hl 4 rfl ?_
  refine a_iload (pc := 24) X dJ5_charAt_24 hl 0 rfl ?_
  refine a_callb (pc := 26) (rs := []) (avs := [vI v1, vI (if (x15 >>> (x1 &&& 31)) < x11 then (x15 >>> (x1 &&& 31)) else x11)]) Z.1 (w_J7_checkIndex GA v1 (if (x15 >>> (x1 &&& 31)) < x11 then (x15 >>> (x1 &&& 31)) else x11)) (Or.inl rfl) q2556 q84 (by decide) (by decide) dJ5_charAt_26 hl.1 (Nat.le_of_ble_eq_true rfl) hf (ct_S X (Or.inl rfl) q2556 q84 q2583 q2555 hy_J7_checkIndex np_J7_checkIndex rfl dJ5_charAt_26) (fun q h he hX => a_out (unc_of Z.2.1 rfl) Z.2.2.2.1 he hX) (fun _ h hf => ?kk26)
  refine AW.eq (g2 := F0 m 29 ls []) rfl ?_
  refine a_iload_n (pc := 29) X dJ5_charAt_29 rfl hl 2 rfl ?_
  refine AW.lift2 (fun _ _ _ _ k1 k2 => lv_if_ne (pc := 30) (tgt := 42) X.2.2.1 X.2.2.2.1 dJ5_charAt_30 rfl k2 k1) (fun c => ?_) (fun c => ?_)
  · have hf := ite_t c hf
    refine a_aload_n (pc := 33) X dJ5_charAt_33 rfl hl 1 rfl ?_
    refine a_iload_n (pc := 34) X dJ5_charAt_34 rfl hl 4 rfl ?_
    refine a_baload (pc := 35) X dJ5_charAt_35 hf (fun x35 hf => ?_)
    refine AW.lift (fun _ _ _ _ k => lv_sipush (pc := 36) (v := (255 : Int32)) X.2.2.1 X.2.2.2.1 dJ5_charAt_36 rfl k) ?_
    refine AW.lift (fun _ _ _ _ k => lv_iand (pc := 39) X.2.2.1 X.2.2.2.1 dJ5_charAt_39 k) ?_
    refine AW.lift (fun _ _ _ _ k => lv_i2c (pc := 40) X.2.2.1 X.2.2.2.1 dJ5_charAt_40 rfl k) ?_
    obtain ⟨hg, hf⟩ := chk_some hf
    exact a_zreturn X Z.2.2.1 hg Z.2.2.2.1 dJ5_charAt_41 hf
  · have hf := ite_f c hf
    refine a_aload_n (pc := 42) X dJ5_charAt_42 rfl hl 1 rfl ?_
    refine a_iload_n (pc := 43) X dJ5_charAt_43 rfl hl 4 rfl ?_
    exact fl_no hf
theorem np_J6_charAt : npar yJ6_charAt.desc 1 := by unfold npar; decide +kernel
theorem hy_J6_charAt : yJ6_charAt.cls ≠ "java/lang/invoke/MethodHandle" ∧ yJ6_charAt.cls ≠ "java/lang/invoke/VarHandle" := by decide +kernel
theorem w_J6_charAt (GA : GA l s0 a0 K lam) (v0 : Option Nat) (v1 : Int32) : AMet l s0 K lam yJ6_charAt (Cond.code yJ6_charAt cJ6_charAt (2 : Nat) (Option.some ClassFile.FieldType.char)) 3 67 [vR v0, vI v1] oI (f_J6_charAt K v0 v1) := by
  refine AMet.of GA.1 (plainFor_of_name (by decide +kernel)) (Nat.le_of_ble_eq_true rfl) ?_
  intro b r hf p e s m args below meth c X hr hlk hnm hnd ht ls hl
  have Z : WZ l s0 a0 K p s m c cJ6_charAt yJ6_charAt.cls 2 b { frames := 3, cells := K 0 - aX b, slots := K 1 - aW b, locals := 67 } 3 67 meth [] (some (.char)) yJ6_charAt := ⟨⟨X, GA.2.1, GA.2.2.1, rfl, rfl, Nat.le_refl _, Nat.le_refl _⟩, tab_nil ht, hr, hlk, hnm, hnd⟩
  unfold f_J6_charAt at hf
  clear hr hlk hnm hnd ht
  refine a_aload_n (pc := 0) X dJ6_charAt_0 rfl hl 0 rfl ?_
  refine a_iload_n (pc := 1) X dJ6_charAt_1 rfl hl 1 rfl ?_
  obtain ⟨a2, rfl, ⟨hk, hf⟩ | ⟨-, hf⟩⟩ := dv_some hf
  rotate_left
  · exact fl_none hf
  refine a_callb (pc := 2) (rs := []) (avs := [vR (some a2), vI v1]) Z.1 (w_J5_charAt GA (some a2) v1) (Or.inl rfl) q2581 q82 (by decide) (by decide) dJ6_charAt_2 hl.1 (Nat.le_of_ble_eq_true rfl) hf (ct_P hk ⟨by decide, by decide⟩ X (Or.inl rfl) q2581 q2579 q3492 q2580 q306 (by decide) np_J5_charAt rfl dJ6_charAt_2) (fun q h he hX => a_out (unc_of Z.2.1 rfl) Z.2.2.2.1 he hX) (fun x2 h hf => ?kk2)
  refine AW.eq (g2 := F0 m 5 ls [.int x2]) rfl ?_
  obtain ⟨hg, hf⟩ := chk_some hf
  exact a_zreturn X Z.2.2.1 hg Z.2.2.2.1 dJ6_charAt_5 hf
theorem np_X1_character : npar yX1_character.desc 1 := by unfold npar; decide +kernel
theorem hy_X1_character : yX1_character.cls ≠ "java/lang/invoke/MethodHandle" ∧ yX1_character.cls ≠ "java/lang/invoke/VarHandle" := by decide +kernel
theorem w_X1_character (GA : GA l s0 a0 K lam) (v0 : Option Nat) (v1 : Int32) : AMet l s0 K lam yX1_character (Cond.code yX1_character cX1_character (2 : Nat) (Option.some ClassFile.FieldType.char)) 9 420 [vR v0, vI v1] oI (f_X1_character K v0 v1) := by
  refine AMet.of GA.1 (plainFor_of_name (by decide +kernel)) (Nat.le_of_ble_eq_true rfl) ?_
  intro b r hf p e s m args below meth c X hr hlk hnm hnd ht ls hl
  have Z : WZ l s0 a0 K p s m c cX1_character yX1_character.cls 2 b { frames := 9, cells := K 0 - aX b, slots := K 1 - aW b, locals := 420 } 9 420 meth [] (some (.char)) yX1_character := ⟨⟨X, GA.2.1, GA.2.2.1, rfl, rfl, Nat.le_refl _, Nat.le_refl _⟩, tab_nil ht, hr, hlk, hnm, hnd⟩
  unfold f_X1_character at hf
  clear hr hlk hnm hnd ht
  refine a_iload_n (pc := 0) X dX1_character_0 rfl hl 1 rfl ?_
  refine AW.lift (fun _ _ _ _ k => lv_iconst (pc := 1) (v := (0 : Int32)) X.2.2.1 X.2.2.2.1 dX1_character_1 rfl k) ?_
  refine a_aload_n (pc := 2) X dX1_character_2 rfl hl 0 rfl ?_
  refine a_get (pc := 3) (φ := 204) pR_t X Z.1.2.1 (gw X.1 X.2.1 q313) (fun _ q => q) (by decide) dX1_character_3 hf (fun x3 hf => ?_)
  obtain ⟨a6, rfl, ⟨hk, hf⟩ | ⟨-, hf⟩⟩ := dv_some hf
  rotate_left
  · exact fl_none hf
  refine a_callb (pc := 6) (rs := [vI (0 : Int32), vI v1]) (avs := [vR (some a6)]) Z.1 (w_J6_length GA (some a6)) (Or.inl rfl) q720 q83 (by decide) (by decide) dX1_character_6 hl.1 (Nat.le_of_ble_eq_true rfl) hf (ct_V hk ⟨by decide, by decide⟩ X (Or.inl rfl) q720 q2567 q719 q3491 hy_J6_length np_J6_length rfl dX1_character_6) (fun q h he hX => a_out (unc_of Z.2.1 rfl) Z.2.2.2.1 he hX) (fun x6 h hf => ?kk6)
  refine AW.eq (g2 := F0 m 9 ls [.int x6, .int (0 : Int32), .int v1]) rfl ?_
  refine AW.lift (fun _ _ _ _ k => lv_iconst (pc := 9) (v := (1 : Int32)) X.2.2.1 X.2.2.2.1 dX1_character_9 rfl k) ?_
  refine AW.lift (fun _ _ _ _ k => lv_isub (pc := 10) X.2.2.1 X.2.2.2.1 dX1_character_10 k) ?_
  refine a_callb (pc := 11) (rs := []) (avs := [vI v1, vI (0 : Int32), vI (x6 - (1 : Int32))]) Z.1 (w_X1_isIn GA v1 (0 : Int32) (x6 - (1 : Int32))) (Or.inl rfl) q1812 q74 (by decide) (by decide) dX1_character_11 hl.1 (Nat.le_of_ble_eq_true rfl) hf (ct_S X (Or.inl rfl) q1812 q74 q1813 q1811 hy_X1_isIn np_X1_isIn rfl dX1_character_11) (fun q h he hX => a_out (unc_of Z.2.1 rfl) Z.2.2.2.1 he hX) (fun x11 h hf => ?kk11)
  refine AW.eq (g2 := F0 m 14 ls [.int x11]) rfl ?_
  refine a_callb (pc := 14) (rs := []) (avs := [vI x11]) Z.1 (w_X1_checkElement GA x11) (Or.inl rfl) q1968 q74 (by decide) (by decide) dX1_character_14 hl.1 (Nat.le_of_ble_eq_true rfl) hf (ct_S X (Or.inl rfl) q1968 q74 q1966 q1967 hy_X1_checkElement np_X1_checkElement rfl dX1_character_14) (fun q h he hX => a_out (unc_of Z.2.1 rfl) Z.2.2.2.1 he hX) (fun _ h hf => ?kk14)
  refine AW.eq (g2 := F0 m 17 ls []) rfl ?_
  refine a_aload_n (pc := 17) X dX1_character_17 rfl hl 0 rfl ?_
  refine a_get (pc := 18) (φ := 204) pR_t X Z.1.2.1 (gw X.1 X.2.1 q313) (fun _ q => q) (by decide) dX1_character_18 hf (fun x18 hf => ?_)
  refine a_iload_n (pc := 21) X dX1_character_21 rfl hl 1 rfl ?_
  obtain ⟨a22, rfl, ⟨hk, hf⟩ | ⟨-, hf⟩⟩ := dv_some hf
  rotate_left
  · exact fl_none hf
  refine a_callb (pc := 22) (rs := []) (avs := [vR (some a22), vI v1]) Z.1 (w_J6_charAt GA (some a22) v1) (Or.inl rfl) q2578 q83 (by decide) (by decide) dX1_character_22 hl.1 (Nat.le_of_ble_eq_true rfl) hf (ct_V hk ⟨by decide, by decide⟩ X (Or.inl rfl) q2578 q2575 q2576 q2577 hy_J6_charAt np_J6_charAt rfl dX1_character_22) (fun q h he hX => a_out (unc_of Z.2.1 rfl) Z.2.2.2.1 he hX) (fun x22 h hf => ?kk22)
  refine AW.eq (g2 := F0 m 25 ls [.int x22]) rfl ?_
  obtain ⟨hg, hf⟩ := chk_some hf
  exact a_zreturn X Z.2.2.1 hg Z.2.2.2.1 dX1_character_25 hf
theorem np_X0_character : npar yX0_character.desc 3 := by unfold npar; decide +kernel
theorem hy_X0_character : yX0_character.cls ≠ "java/lang/invoke/MethodHandle" ∧ yX0_character.cls ≠ "java/lang/invoke/VarHandle" := by decide +kernel
theorem w_X0_character (GA : GA l s0 a0 K lam) (v0 : Option Nat) (v1 : Int32) (v2 : Option Nat) : AMet l s0 K lam yX0_character (Cond.codeWith yX0_character cX0_character (4 : Nat) (Option.some ClassFile.FieldType.int) [((0 : Nat), (9 : Nat), (12 : Nat), (39 : Nat))]) 10 441 [vR v0, vI v1, vR v2] oI (f_X0_character K v0 v1 v2) := by
  refine AMet.ofW GA.1 (plainFor_of_name (by decide +kernel)) (Nat.le_of_ble_eq_true rfl) ?_
  intro b r hf p e s m args below meth c X hr hlk hnm hnd ht ls hl
  have Z : WZ l s0 a0 K p s m c cX0_character yX0_character.cls 4 b { frames := 10, cells := K 0 - aX b, slots := K 1 - aW b, locals := 441 } 10 441 meth [(0, 9, 12, 39)] (some (.int)) yX0_character := ⟨⟨X, GA.2.1, GA.2.2.1, rfl, rfl, Nat.le_refl _, Nat.le_refl _⟩, ht, hr, hlk, hnm, hnd⟩
  unfold f_X0_character at hf
  clear hr hlk hnm hnd ht
  refine a_aload_n (pc := 0) X dX0_character_0 rfl hl 2 rfl ?_
  refine AW.lift (fun _ _ _ _ k => lv_iconst (pc := 1) (v := (0 : Int32)) X.2.2.1 X.2.2.2.1 dX0_character_1 rfl k) ?_
  refine a_aload_n (pc := 2) X dX0_character_2 rfl hl 0 rfl ?_
  refine a_iload_n (pc := 3) X dX0_character_3 rfl hl 1 rfl ?_
  obtain ⟨a4, rfl, ⟨hk, hf⟩ | ⟨-, hf⟩⟩ := dv_tsome hf
  rotate_left
  · exact fl_tnone hf
  refine a_callt (pc := 4) (rs := [vI (0 : Int32), vR v2]) (avs := [vR (some a4), vI v1]) Z.1 (w_X1_character GA (some a4) v1) (Or.inl rfl) q2574 q74 (by decide) (by decide) dX0_character_4 hl.1 (Nat.le_of_ble_eq_true rfl) hf (ct_V hk ⟨by decide, by decide⟩ X (Or.inl rfl) q2574 q2571 q2572 q2573 hy_X1_character np_X1_character rfl dX0_character_4) (fun q h hf hX => ?hx4) (fun x4 h hf => ?kk4)
  case hx4 =>
    rcases ctc_some hf with ⟨hy, hf⟩ | ⟨hn0, hf⟩
    · refine a_catchH (st := 0) (en := 9) (hp := 12) (ct := 39) (pre := []) (suf := []) X hX Z.2.1 rfl (fun z hz => nomatch hz) (by decide) (Or.inr ⟨by decide, _, gw X.1 X.2.1 q1961, (cs_X20 GA) _ hy⟩) (AW.eq (g2 := F0 m 12 ls [va_rf (some q)]) rfl ?_)
      refine a_astore_n (pc := 12) X dX0_character_12 rfl hl (by decide) (lv' := [(3, vR (some q)), (0, vR (some a4)), (1, vI v1), (2, vR v2)]) rfl (fun ls hl => ?_)
      refine AW.lift (fun _ _ _ _ k => lv_iconst (pc := 13) (v := (1 : Int32)) X.2.2.1 X.2.2.2.1 dX0_character_13 rfl k) ?_
      exact a_ireturn X Z.2.2.1 Z.2.2.2.1 dX0_character_14 hf
    · skip
      exact a_outH X Z.2.1 (by intro z hz; simp only [List.mem_cons, List.not_mem_nil, or_false] at hz; rcases hz with rfl <;> first | exact Or.inl (by decide) | exact Or.inr ⟨by decide, _, gw X.1 X.2.1 q1961, (nc_12_13_14_16_17_18_19_21_java_util_NoSuchElementException GA _ (by simpa using hn0)).2.2⟩) Z.2.2.2.1 (th_eq hf) hX
  refine AW.eq (g2 := F0 m 7 ls [.int x4, .int (0 : Int32), va_rf v2]) rfl ?_
  refine AW.lift (fun _ _ _ _ k => lv_i2l (pc := 7) X.2.2.1 X.2.2.2.1 dX0_character_7 rfl k) ?_
  refine a_lastore (pc := 8) X dX0_character_8 hf (fun h hf => ?_)
  refine AW.lift (fun _ _ _ _ k => lv_goto (pc := 9) (tgt := 15) X.2.2.1 X.2.2.2.1 dX0_character_9 rfl k) ?_
  refine AW.lift (fun _ _ _ _ k => lv_iconst (pc := 15) (v := (0 : Int32)) X.2.2.1 X.2.2.2.1 dX0_character_15 rfl k) ?_
  exact a_ireturn X Z.2.2.1 Z.2.2.2.1 dX0_character_16 hf
theorem np_X4_character : npar yX4_character.desc 1 := by unfold npar; decide +kernel
theorem hy_X4_character : yX4_character.cls ≠ "java/lang/invoke/MethodHandle" ∧ yX4_character.cls ≠ "java/lang/invoke/VarHandle" := by decide +kernel
theorem w_X4_character (GA : GA l s0 a0 K lam) (v0 : Option Nat) (v1 : Int32) : AMet l s0 K lam yX4_character (Cond.code yX4_character cX4_character (2 : Nat) (Option.some ClassFile.FieldType.char)) 1 25 [vR v0, vI v1] oI (f_X4_character K v0 v1) := by
  refine AMet.of GA.1 (plainFor_of_name (by decide +kernel)) (Nat.le_of_ble_eq_true rfl) ?_
  intro b r hf p e s m args below meth c X hr hlk hnm hnd ht ls hl
  have Z : WZ l s0 a0 K p s m c cX4_character yX4_character.cls 2 b { frames := 1, cells := K 0 - aX b, slots := K 1 - aW b, locals := 25 } 1 25 meth [] (some (.char)) yX4_character := ⟨⟨X, GA.2.1, GA.2.2.1, rfl, rfl, Nat.le_refl _, Nat.le_refl _⟩, tab_nil ht, hr, hlk, hnm, hnd⟩
  unfold f_X4_character at hf
  clear hr hlk hnm hnd ht
  refine a_aload_n (pc := 0) X dX4_character_0 rfl hl 0 rfl ?_
  refine AW.lift (fun _ _ _ _ k => lv_iconst (pc := 1) (v := (0 : Int32)) X.2.2.1 X.2.2.2.1 dX4_character_1 rfl k) ?_
  refine a_put (pc := 2) (φ := 107) X Z.1.2.1 Z.1.2.2.1 (gw X.1 X.2.1 q3032) (fun _ q => q) (by decide) rfl rfl dX4_character_2 hf (fun h hf => ?_)
  refine a_iload_n (pc := 5) X dX4_character_5 rfl hl 1 rfl ?_
  refine AW.lift (fun _ _ _ _ k => lv_i2l (pc := 6) X.2.2.1 X.2.2.2.1 dX4_character_6 rfl k) ?_
  refine AW.lift (fun _ _ _ _ k => lv_lconst (pc := 7) (v := (0 : Int64)) X.2.2.1 X.2.2.2.1 dX4_character_7 rfl k) ?_
  refine a_aload_n (pc := 8) X dX4_character_8 rfl hl 0 rfl ?_
  refine a_get (pc := 9) (φ := 116) pI_t X Z.1.2.1 (gw X.1 X.2.1 q3041) (fun _ q => q) (by decide) dX4_character_9 hf (fun x9 hf => ?_)
  refine AW.lift (fun _ _ _ _ k => lv_iconst (pc := 12) (v := (1 : Int32)) X.2.2.1 X.2.2.2.1 dX4_character_12 rfl k) ?_
  refine AW.lift (fun _ _ _ _ k => lv_isub (pc := 13) X.2.2.1 X.2.2.2.1 dX4_character_13 k) ?_
  refine AW.lift (fun _ _ _ _ k => lv_i2l (pc := 14) X.2.2.1 X.2.2.2.1 dX4_character_14 rfl k) ?_
  refine a_callb (pc := 15) (rs := []) (avs := [vJ (v1.toInt64), vJ (0 : Int64), vJ ((x9 - (1 : Int32)).toInt64)]) Z.1 (w_X4_in GA (v1.toInt64) (0 : Int64) ((x9 - (1 : Int32)).toInt64)) (Or.inl rfl) q3142 q86 (by decide) (by decide) dX4_character_15 hl.1 (Nat.le_of_ble_eq_true rfl) hf (ct_S X (Or.inl rfl) q3142 q86 q3140 q3141 hy_X4_in np_X4_in rfl dX4_character_15) (fun q h he hX => a_out (unc_of Z.2.1 rfl) Z.2.2.2.1 he hX) (fun x15 h hf => ?kk15)
  refine AW.eq (g2 := F0 m 18 ls [.int x15]) rfl ?_
  refine AW.lift2 (fun _ _ _ _ k1 k2 => lv_if_ne (pc := 18) (tgt := 30) X.2.2.1 X.2.2.2.1 dX4_character_18 rfl k2 k1) (fun c => ?_) (fun c => ?_)
  · have hf := ite_t c hf
    refine a_aload_n (pc := 21) X dX4_character_21 rfl hl 0 rfl ?_
    refine AW.lift (fun _ _ _ _ k => lv_iconst (pc := 22) (v := (1 : Int32)) X.2.2.1 X.2.2.2.1 dX4_character_22 rfl k) ?_
    obtain ⟨a23, rfl, ⟨hk, hf⟩ | ⟨-, hf⟩⟩ := dv_some hf
    rotate_left
    · exact fl_none hf
    refine a_callb (pc := 23) (rs := []) (avs := [vR (some a23), vI (1 : Int32)]) Z.1 (w_X4_throwing GA (some a23) (1 : Int32)) (Or.inl rfl) q3120 q86 (by decide) (by decide) dX4_character_23 hl.1 (Nat.le_of_ble_eq_true rfl) hf (ct_V hk ⟨by decide, by decide⟩ X (Or.inl rfl) q3120 q3117 q3119 pv_30 hy_X4_throwing np_X4_throwing rfl dX4_character_23) (fun q h he hX => a_out (unc_of Z.2.1 rfl) Z.2.2.2.1 he hX) (fun x23 h hf => ?kk23)
    refine AW.eq (g2 := F0 m 26 ls [.int x23]) rfl ?_
    refine AW.lift (fun _ _ _ _ k => lv_pop (pc := 26) X.2.2.1 X.2.2.2.1 dX4_character_26 rfl k) ?_
    refine AW.lift (fun _ _ _ _ k => lv_bipush (pc := 27) (v := (32 : Int32)) X.2.2.1 X.2.2.2.1 dX4_character_27 rfl k) ?_
    exact a_zreturn X Z.2.2.1 rfl Z.2.2.2.1 dX4_character_29 hf
  · have hf := ite_f c hf
    refine a_aload_n (pc := 30) X dX4_character_30 rfl hl 0 rfl ?_
    refine a_get (pc := 31) (φ := 115) pR_t X Z.1.2.1 (gw X.1 X.2.1 q3040) (fun _ q => q) (by decide) dX4_character_31 hf (fun x31 hf => ?_)
    refine a_iload_n (pc := 34) X dX4_character_34 rfl hl 1 rfl ?_
    refine a_iaload (pc := 35) X dX4_character_35 hf (fun x35 hf => ?_)
    refine AW.lift (fun _ _ _ _ k => lv_i2c (pc := 36) X.2.2.1 X.2.2.2.1 dX4_character_36 rfl k) ?_
    obtain ⟨hg, hf⟩ := chk_some hf
    exact a_zreturn X Z.2.2.1 hg Z.2.2.2.1 dX4_character_37 hf
theorem np_J40_init_2 : npar yJ40_init_2.desc 0 := by unfold npar; decide +kernel
theorem hy_J40_init_2 : yJ40_init_2.cls ≠ "java/lang/invoke/MethodHandle" ∧ yJ40_init_2.cls ≠ "java/lang/invoke/VarHandle" := by decide +kernel
theorem w_J40_init_2 (GA : GA l s0 a0 K lam) (v0 : Option Nat) : AMet l s0 K lam yJ40_init_2 (Cond.code yJ40_init_2 cJ40_init_2 (1 : Nat) (Option.none : Option ClassFile.FieldType)) 7 380 [vR v0] oV (f_J40_init_2 K v0) := by
  refine AMet.of GA.1 (plainFor_of_name (by decide +kernel)) (Nat.le_of_ble_eq_true rfl) ?_
  intro b r hf p e s m args below meth c X hr hlk hnm hnd ht ls hl
  have Z : WZ l s0 a0 K p s m c cJ40_init_2 yJ40_init_2.cls 1 b { frames := 7, cells := K 0 - aX b, slots := K 1 - aW b, locals := 380 } 7 380 meth [] none yJ40_init_2 := ⟨⟨X, GA.2.1, GA.2.2.1, rfl, rfl, Nat.le_refl _, Nat.le_refl _⟩, tab_nil ht, hr, hlk, hnm, hnd⟩
  unfold f_J40_init_2 at hf
  clear hr hlk hnm hnd ht
  refine a_aload_n (pc := 0) X dJ40_init_2_0 rfl hl 0 rfl ?_
  obtain ⟨a1, rfl, hf⟩ := nz_some hf
  refine a_callb (pc := 1) (rs := []) (avs := [vR (some a1)]) Z.1 (w_J15_init GA (some a1)) (Or.inl rfl) q456 q97 (by decide) (by decide) dJ40_init_2_1 hl.1 (Nat.le_of_ble_eq_true rfl) hf (ct_I X q456 q2616 q455 rfl hy_J15_init np_J15_init rfl dJ40_init_2_1) (fun q h he hX => a_out (unc_of Z.2.1 rfl) Z.2.2.2.1 he hX) (fun _ h hf => ?kk1)
  refine AW.eq (g2 := F0 m 4 ls []) rfl ?_
  exact a_return X Z.2.2.1 Z.2.2.2.1 dJ40_init_2_4 hf
theorem np_X1_checkCount : npar yX1_checkCount.desc 1 := by unfold npar; decide +kernel
theorem hy_X1_checkCount : yX1_checkCount.cls ≠ "java/lang/invoke/MethodHandle" ∧ yX1_checkCount.cls ≠ "java/lang/invoke/VarHandle" := by decide +kernel
theorem w_X1_checkCount (GA : GA l s0 a0 K lam) (v0 : Int32) : AMet l s0 K lam yX1_checkCount (Cond.code yX1_checkCount cX1_checkCount (1 : Nat) (Option.none : Option ClassFile.FieldType)) 8 400 [vI v0] oV (f_X1_checkCount K v0) := by
  refine AMet.of GA.1 (plainFor_of_name (by decide +kernel)) (Nat.le_of_ble_eq_true rfl) ?_
  intro b r hf p e s m args below meth c X hr hlk hnm hnd ht ls hl
  have Z : WZ l s0 a0 K p s m c cX1_checkCount yX1_checkCount.cls 1 b { frames := 8, cells := K 0 - aX b, slots := K 1 - aW b, locals := 400 } 8 400 meth [] none yX1_checkCount := ⟨⟨X, GA.2.1, GA.2.2.1, rfl, rfl, Nat.le_refl _, Nat.le_refl _⟩, tab_nil ht, hr, hlk, hnm, hnd⟩
  unfold f_X1_checkCount at hf
  clear hr hlk hnm hnd ht
  refine a_iload_n (pc := 0) X dX1_checkCount_0 rfl hl 0 rfl ?_
  refine AW.lift2 (fun _ _ _ _ k1 k2 => lv_if_ne (pc := 1) (tgt := 12) X.2.2.1 X.2.2.2.1 dX1_checkCount_1 rfl k2 k1) (fun c => ?_) (fun c => ?_)
  · have hf := ite_t c hf
    refine a_new (pc := 4) (cK := 16) (n := 6) X Z.1.2.1 Z.1.2.2.1 Z.1.2.2.2.1 Z.1.2.2.2.2.1 ⟨by decide, by decide, by decide⟩ (gw X.1 X.2.1 q2612) (gw X.1 X.2.1 q2589) (gw X.1 X.2.1 q128) dX1_checkCount_4 hf (fun x4 h hf => ?_)
    refine AW.lift (fun _ _ _ _ k => lv_dup (pc := 7) X.2.2.1 X.2.2.2.1 dX1_checkCount_7 (cat_rf _) k) ?_
    refine a_callb (pc := 8) (rs := [vR (some x4)]) (avs := [vR (some x4)]) Z.1 (w_J40_init_2 GA (some x4)) (Or.inl rfl) q2615 q128 (by decide) (by decide) dX1_checkCount_8 hl.1 (Nat.le_of_ble_eq_true rfl) hf (ct_I X q2615 q2613 q2614 rfl hy_J40_init_2 np_J40_init_2 rfl dX1_checkCount_8) (fun q h he hX => a_out (unc_of Z.2.1 rfl) Z.2.2.2.1 he hX) (fun _ h hf => ?kk8)
    refine AW.eq (g2 := F0 m 11 ls [va_rf (some x4)]) rfl ?_
    exact a_athrow X dX1_checkCount_11 hf (fun q e he hX => a_out (unc_of Z.2.1 rfl) Z.2.2.2.1 he hX)
  · have hf := ite_f c hf
    exact a_return X Z.2.2.1 Z.2.2.2.1 dX1_checkCount_12 hf
theorem np_X1_meanWeight : npar yX1_meanWeight.desc 0 := by unfold npar; decide +kernel
theorem hy_X1_meanWeight : yX1_meanWeight.cls ≠ "java/lang/invoke/MethodHandle" ∧ yX1_meanWeight.cls ≠ "java/lang/invoke/VarHandle" := by decide +kernel
theorem w_X1_meanWeight (GA : GA l s0 a0 K lam) (v0 : Option Nat) : AMet l s0 K lam yX1_meanWeight (Cond.code yX1_meanWeight cX1_meanWeight (2 : Nat) (Option.some ClassFile.FieldType.float)) 10 3080 [vR v0] oF (f_X1_meanWeight K v0) := by
  refine AMet.of GA.1 (plainFor_of_name (by decide +kernel)) (Nat.le_of_ble_eq_true rfl) ?_
  intro b r hf p e s m args below meth c X hr hlk hnm hnd ht ls hl
  have Z : WZ l s0 a0 K p s m c cX1_meanWeight yX1_meanWeight.cls 2 b { frames := 10, cells := K 0 - aX b, slots := K 1 - aW b, locals := 3080 } 10 3080 meth [] (some (.float)) yX1_meanWeight := ⟨⟨X, GA.2.1, GA.2.2.1, rfl, rfl, Nat.le_refl _, Nat.le_refl _⟩, tab_nil ht, hr, hlk, hnm, hnd⟩
  unfold f_X1_meanWeight at hf
  clear hr hlk hnm hnd ht
  refine a_aload_n (pc := 0) X dX1_meanWeight_0 rfl hl 0 rfl ?_
  refine a_get (pc := 1) (φ := 200) pR_t X Z.1.2.1 (gw X.1 X.2.1 q309) (fun _ q => q) (by decide) dX1_meanWeight_1 hf (fun x1 hf => ?_)
  refine a_ndyC (pc := 4) (rs := [vR x1]) Z.1 Z.2.2.2.2.2 (siG_221 GA) (by decide) hl.1 (Nat.le_of_ble_eq_true rfl) dX1_meanWeight_4 ?_
  refine AW.eq (g2 := F0 m 9 ls [va_rf (some (K 121)), va_rf x1]) rfl ?_
  obtain ⟨a9, rfl, ⟨hk, hf⟩ | ⟨-, hf⟩⟩ := dv_some hf
  rotate_left
  · exact fl_none hf
  refine a_callb (pc := 9) (rs := []) (avs := [vR (some a9), vR (some (K 121))]) Z.1 (w_X2_many GA (some a9) (some (K 121))) (Or.inl rfl) q1901 q75 (by decide) (by decide) dX1_meanWeight_9 hl.1 (Nat.le_of_ble_eq_true rfl) hf (ct_V hk ⟨by decide, by decide⟩ X (Or.inl rfl) q1901 q1898 q1899 q1900 hy_X2_many np_X2_many rfl dX1_meanWeight_9) (fun q h he hX => a_out (unc_of Z.2.1 rfl) Z.2.2.2.1 he hX) (fun x9 h hf => ?kk9)
  refine AW.eq (g2 := F0 m 12 ls [.int x9]) rfl ?_
  refine a_istore_n (pc := 12) X dX1_meanWeight_12 rfl hl (by decide) (lv' := [(1, vI x9), (0, vR v0)]) rfl (fun ls hl => ?_)
  refine a_iload_n (pc := 13) X dX1_meanWeight_13 rfl hl 0 rfl ?_
  refine a_callb (pc := 14) (rs := []) (avs := [vI x9]) Z.1 (w_X1_checkCount GA x9) (Or.inl rfl) q2611 q74 (by decide) (by decide) dX1_meanWeight_14 hl.1 (Nat.le_of_ble_eq_true rfl) hf (ct_S X (Or.inl rfl) q2611 q74 q2609 q2610 hy_X1_checkCount np_X1_checkCount rfl dX1_meanWeight_14) (fun q h he hX => a_out (unc_of Z.2.1 rfl) Z.2.2.2.1 he hX) (fun _ h hf => ?kk14)
  refine AW.eq (g2 := F0 m 17 ls []) rfl ?_
  refine a_aload_n (pc := 17) X dX1_meanWeight_17 rfl hl 1 rfl ?_
  refine a_get (pc := 18) (φ := 200) pR_t X Z.1.2.1 (gw X.1 X.2.1 q309) (fun _ q => q) (by decide) dX1_meanWeight_18 hf (fun x18 hf => ?_)
  refine a_ndyC (pc := 21) (rs := [vR x18]) Z.1 Z.2.2.2.2.2 (siG_222 GA) (by decide) hl.1 (Nat.le_of_ble_eq_true rfl) dX1_meanWeight_21 ?_
  refine AW.eq (g2 := F0 m 26 ls [va_rf (some (K 122)), va_rf x18]) rfl ?_
  obtain ⟨a26, rfl, ⟨hk, hf⟩ | ⟨-, hf⟩⟩ := dv_some hf
  rotate_left
  · exact fl_none hf
  refine a_callb (pc := 26) (rs := []) (avs := [vR (some a26), vR (some (K 122))]) Z.1 (w_X2_weightOf GA (some a26) (some (K 122))) (Or.inl rfl) q1911 q75 (by decide) (by decide) dX1_meanWeight_26 hl.1 (Nat.le_of_ble_eq_true rfl) hf (ct_V hk ⟨by decide, by decide⟩ X (Or.inl rfl) q1911 q2619 q1909 q1910 hy_X2_weightOf np_X2_weightOf rfl dX1_meanWeight_26) (fun q h he hX => a_out (unc_of Z.2.1 rfl) Z.2.2.2.1 he hX) (fun x26 h hf => ?kk26)
  refine AW.eq (g2 := F0 m 29 ls [.int x26]) rfl ?_
  refine AW.lift (fun _ _ _ _ k => lv_i2f (pc := 29) X.2.2.1 X.2.2.2.1 dX1_meanWeight_29 k) ?_
  refine a_iload_n (pc := 30) X dX1_meanWeight_30 rfl hl 0 rfl ?_
  refine AW.lift (fun _ _ _ _ k => lv_i2f (pc := 31) X.2.2.1 X.2.2.2.1 dX1_meanWeight_31 k) ?_
  obtain ⟨hg, hf⟩ := chk_some hf
  refine AW.lift (fun _ _ _ _ k => lv_fdiv (pc := 32) X.2.2.1 X.2.2.2.1 dX1_meanWeight_32 (n32 hg) k) ?_
  exact a_freturn X Z.2.2.1 Z.2.2.2.1 dX1_meanWeight_33 hf
theorem np_X0_meanWeight : npar yX0_meanWeight.desc 2 := by unfold npar; decide +kernel
theorem hy_X0_meanWeight : yX0_meanWeight.cls ≠ "java/lang/invoke/MethodHandle" ∧ yX0_meanWeight.cls ≠ "java/lang/invoke/VarHandle" := by decide +kernel
theorem w_X0_meanWeight (GA : GA l s0 a0 K lam) (v0 : Option Nat) (v1 : Option Nat) : AMet l s0 K lam yX0_meanWeight (Cond.codeWith yX0_meanWeight cX0_meanWeight (3 : Nat) (Option.some ClassFile.FieldType.int) [((0 : Nat), (8 : Nat), (11 : Nat), (112 : Nat))]) 11 3101 [vR v0, vR v1] oI (f_X0_meanWeight K v0 v1) := by
  refine AMet.ofW GA.1 (plainFor_of_name (by decide +kernel)) (Nat.le_of_ble_eq_true rfl) ?_
  intro b r hf p e s m args below meth c X hr hlk hnm hnd ht ls hl
  have Z : WZ l s0 a0 K p s m c cX0_meanWeight yX0_meanWeight.cls 3 b { frames := 11, cells := K 0 - aX b, slots := K 1 - aW b, locals := 3101 } 11 3101 meth [(0, 8, 11, 112)] (some (.int)) yX0_meanWeight := ⟨⟨X, GA.2.1, GA.2.2.1, rfl, rfl, Nat.le_refl _, Nat.le_refl _⟩, ht, hr, hlk, hnm, hnd⟩
  unfold f_X0_meanWeight at hf
  clear hr hlk hnm hnd ht
  refine a_aload_n (pc := 0) X dX0_meanWeight_0 rfl hl 1 rfl ?_
  refine AW.lift (fun _ _ _ _ k => lv_iconst (pc := 1) (v := (0 : Int32)) X.2.2.1 X.2.2.2.1 dX0_meanWeight_1 rfl k) ?_
  refine a_aload_n (pc := 2) X dX0_meanWeight_2 rfl hl 0 rfl ?_
  obtain ⟨a3, rfl, ⟨hk, hf⟩ | ⟨-, hf⟩⟩ := dv_tsome hf
  rotate_left
  · exact fl_tnone hf
  refine a_callt (pc := 3) (rs := [vI (0 : Int32), vR v1]) (avs := [vR (some a3)]) Z.1 (w_X1_meanWeight GA (some a3)) (Or.inl rfl) q2605 q74 (by decide) (by decide) dX0_meanWeight_3 hl.1 (Nat.le_of_ble_eq_true rfl) hf (ct_V hk ⟨by decide, by decide⟩ X (Or.inl rfl) q2605 q2602 q2603 q2604 hy_X1_meanWeight np_X1_meanWeight rfl dX0_meanWeight_3) (fun q h hf hX => ?hx3) (fun x3 h hf => ?kk3)
  case hx3 =>
    rcases ctc_some hf with ⟨hy, hf⟩ | ⟨hn0, hf⟩
    · refine a_catchH (st := 0) (en := 8) (hp := 11) (ct := 112) (pre := []) (suf := []) X hX Z.2.1 rfl (fun z hz => nomatch hz) (by decide) (Or.inr ⟨by decide, _, gw X.1 X.2.1 q2588, (cs_X16 GA) _ hy⟩) (AW.eq (g2 := F0 m 11 ls [va_rf (some q)]) rfl ?_)
      refine a_astore_n (pc := 11) X dX0_meanWeight_11 rfl hl (by decide) (lv' := [(2, vR (some q)), (0, vR (some a3)), (1, vR v1)]) rfl (fun ls hl => ?_)
      refine AW.lift (fun _ _ _ _ k => lv_iconst (pc := 12) (v := (1 : Int32)) X.2.2.1 X.2.2.2.1 dX0_meanWeight_12 rfl k) ?_
      exact a_ireturn X Z.2.2.1 Z.2.2.2.1 dX0_meanWeight_13 hf
    · skip
      exact a_outH X Z.2.1 (by intro z hz; simp only [List.mem_cons, List.not_mem_nil, or_false] at hz; rcases hz with rfl <;> first | exact Or.inl (by decide) | exact Or.inr ⟨by decide, _, gw X.1 X.2.1 q2588, (nc_12_13_14_17_18_19_20_21_java_lang_ArithmeticException GA _ (by simpa using hn0)).2.2⟩) Z.2.2.2.1 (th_eq hf) hX
  refine AW.eq (g2 := F0 m 6 ls [.float x3, .int (0 : Int32), va_rf v1]) rfl ?_
  obtain ⟨hg, hf⟩ := chk_some hf
  refine AW.lift (fun _ _ _ _ k => lv_f2d (pc := 6) X.2.2.1 X.2.2.2.1 dX0_meanWeight_6 (n64 hg) k) ?_
  refine a_dastore (pc := 7) X dX0_meanWeight_7 hf (fun h hf => ?_)
  refine AW.lift (fun _ _ _ _ k => lv_goto (pc := 8) (tgt := 14) X.2.2.1 X.2.2.2.1 dX0_meanWeight_8 rfl k) ?_
  refine AW.lift (fun _ _ _ _ k => lv_iconst (pc := 14) (v := (0 : Int32)) X.2.2.1 X.2.2.2.1 dX0_meanWeight_14 rfl k) ?_
  exact a_ireturn X Z.2.2.1 Z.2.2.2.1 dX0_meanWeight_15 hf
theorem w_X4_meanWeight_j85 {r : Except Nat (UInt32) × AH} (GA : GA l s0 a0 K lam) (Z : WZ l s0 a0 K p s m c cX4_meanWeight yX4_meanWeight.cls 5 b R 1 21 meth [] (some (.float)) yX4_meanWeight) (v0 : Option Nat) (v1 : Int32) (v2 : Int32)   {h : AH} {ls : Array Slot} (hl : LV ls 5 [(0, vR v0), (1, vI v1), (2, vI v2)]) (hf : f_X4_meanWeight_j85 K v0 v1 v2 h = some r) : AW s0 K lam p l e R s m args below meth c (AQ s0 K lam below oF b r s) b h (F0 m 85 ls []) := by
  unfold f_X4_meanWeight_j85 at hf
  have X := Z.1.1
  refine a_iload_n (pc := 85) X dX4_meanWeight_85 rfl hl 2 rfl ?_
  refine AW.lift2 (fun _ _ _ _ k1 k2 => lv_if_ne (pc := 86) (tgt := 97) X.2.2.1 X.2.2.2.1 dX4_meanWeight_86 rfl k2 k1) (fun c => ?_) (fun c => ?_)
  · have hf := ite_t c hf
    refine a_aload_n (pc := 89) X dX4_meanWeight_89 rfl hl 0 rfl ?_
    refine AW.lift (fun _ _ _ _ k => lv_iconst (pc := 90) (v := (1 : Int32)) X.2.2.1 X.2.2.2.1 dX4_meanWeight_90 rfl k) ?_
    obtain ⟨a91, rfl, ⟨hk, hf⟩ | ⟨-, hf⟩⟩ := dv_some hf
    rotate_left
    · exact fl_none hf
    refine a_callb (pc := 91) (rs := []) (avs := [vR (some a91), vI (1 : Int32)]) Z.1 (w_X4_throwing GA (some a91) (1 : Int32)) (Or.inl rfl) q3120 q86 (by decide) (by decide) dX4_meanWeight_91 hl.1 (Nat.le_of_ble_eq_true rfl) hf (ct_V hk ⟨by decide, by decide⟩ X (Or.inl rfl) q3120 q3117 q3119 pv_30 hy_X4_throwing np_X4_throwing rfl dX4_meanWeight_91) (fun q h he hX => a_out (unc_of Z.2.1 rfl) Z.2.2.2.1 he hX) (fun x91 h hf => ?kk91)
    refine AW.eq (g2 := F0 m 94 ls [.int x91]) rfl ?_
    refine AW.lift (fun _ _ _ _ k => lv_pop (pc := 94) X.2.2.1 X.2.2.2.1 dX4_meanWeight_94 rfl k) ?_
    refine AW.lift (fun _ _ _ _ k => lv_fconst0 (pc := 95) X.2.2.1 X.2.2.2.1 dX4_meanWeight_95 k) ?_
    exact a_freturn X Z.2.2.1 Z.2.2.2.1 dX4_meanWeight_96 hf
  · have hf := ite_f c hf
    refine a_iload_n (pc := 97) X dX4_meanWeight_97 rfl hl 1 rfl ?_
    refine AW.lift (fun _ _ _ _ k => lv_i2f (pc := 98) X.2.2.1 X.2.2.2.1 dX4_meanWeight_98 k) ?_
    refine a_iload_n (pc := 99) X dX4_meanWeight_99 rfl hl 2 rfl ?_
    refine AW.lift (fun _ _ _ _ k => lv_i2f (pc := 100) X.2.2.1 X.2.2.2.1 dX4_meanWeight_100 k) ?_
    obtain ⟨hg, hf⟩ := chk_some hf
    refine AW.lift (fun _ _ _ _ k => lv_fdiv (pc := 101) X.2.2.1 X.2.2.2.1 dX4_meanWeight_101 (n32 hg) k) ?_
    exact a_freturn X Z.2.2.1 Z.2.2.2.1 dX4_meanWeight_102 hf
theorem w_X4_meanWeight_j77 {r : Except Nat (UInt32) × AH} (GA : GA l s0 a0 K lam) (Z : WZ l s0 a0 K p s m c cX4_meanWeight yX4_meanWeight.cls 5 b R 1 21 meth [] (some (.float)) yX4_meanWeight) (v0 : Option Nat) (v1 : Int32) (v3 : Int32) (t0 : Int32) (t1 : Int32) (rc11 : Int32 → Int32 → Int32 → AM (UInt32)) (hrc11 : ∀ (v1 : Int32) (v2 : Int32) (v3 : Int32) (h : AH) (ls : Array Slot), LV ls 5 [(0, vR v0), (1, vI v1), (2, vI v2), (3, vI v3)] → rc11 v1 v2 v3 h = some r → AW s0 K lam p l e R s m args below meth c (AQ s0 K lam below oF b r s) b h (F0 m 11 ls [])) {h : AH} {ls : Array Slot} (hl : LV ls 5 [(0, vR v0), (1, vI v1), (3, vI v3)]) (hf : f_X4_meanWeight_j77 K rc11 v0 v1 v3 t0 t1 h = some r) : AW s0 K lam p l e R s m args below meth c (AQ s0 K lam below oF b r s) b h (F0 m 77 ls [.int t0, .int t1]) := by
  unfold f_X4_meanWeight_j77 at hf
  have X := Z.1.1
  refine AW.lift (fun _ _ _ _ k => lv_iadd (pc := 77) X.2.2.1 X.2.2.2.1 dX4_meanWeight_77 k) ?_
  refine a_istore_n (pc := 78) X dX4_meanWeight_78 rfl hl (by decide) (lv' := [(2, vI (t1 + t0)), (0, vR v0), (1, vI v1), (3, vI v3)]) rfl (fun ls hl => ?_)
  refine a_iinc (pc := 79) (v := (v3 + (1 : Int32))) X dX4_meanWeight_79 hl (k := 3) rfl rfl (by decide) (lv' := [(3, vI (v3 + (1 : Int32))), (2, vI (t1 + t0)), (0, vR v0), (1, vI v1)]) rfl (fun ls hl => ?_)
  refine AW.lift (fun _ _ _ _ k => lv_goto (pc := 82) (tgt := 11) X.2.2.1 X.2.2.2.1 dX4_meanWeight_82 rfl k) ?_
  exact hrc11 v1 (t1 + t0) (v3 + (1 : Int32)) _ _ (hl.sub [2, 3, 1, 0] rfl) hf
theorem w_X4_meanWeight_j64 {r : Except Nat (UInt32) × AH} (GA : GA l s0 a0 K lam) (Z : WZ l s0 a0 K p s m c cX4_meanWeight yX4_meanWeight.cls 5 b R 1 21 meth [] (some (.float)) yX4_meanWeight) (v0 : Option Nat) (v2 : Int32) (v3 : Int32) (v4 : Int32) (t0 : Int32) (t1 : Int32) (rc11 : Int32 → Int32 → Int32 → AM (UInt32)) (hrc11 : ∀ (v1 : Int32) (v2 : Int32) (v3 : Int32) (h : AH) (ls : Array Slot), LV ls 5 [(0, vR v0), (1, vI v1), (2, vI v2), (3, vI v3)] → rc11 v1 v2 v3 h = some r → AW s0 K lam p l e R s m args below meth c (AQ s0 K lam below oF b r s) b h (F0 m 11 ls [])) {h : AH} {ls : Array Slot} (hl : LV ls 5 [(0, vR v0), (2, vI v2), (3, vI v3), (4, vI v4)]) (hf : f_X4_meanWeight_j64 K rc11 v0 v2 v3 v4 t0 t1 h = some r) : AW s0 K lam p l e R s m args below meth c (AQ s0 K lam below oF b r s) b h (F0 m 64 ls [.int t0, .int t1]) := by
  unfold f_X4_meanWeight_j64 at hf
  have X := Z.1.1
  refine AW.lift (fun _ _ _ _ k => lv_iadd (pc := 64) X.2.2.1 X.2.2.2.1 dX4_meanWeight_64 k) ?_
  refine a_istore_n (pc := 65) X dX4_meanWeight_65 rfl hl (by decide) (lv' := [(1, vI (t1 + t0)), (0, vR v0), (2, vI v2), (3, vI v3), (4, vI v4)]) rfl (fun ls hl => ?_)
  refine a_iload_n (pc := 66) X dX4_meanWeight_66 rfl hl 2 rfl ?_
  refine a_iload (pc := 67) X dX4_meanWeight_67 hl 4 rfl ?_
  refine AW.lift2 (fun _ _ _ _ k1 k2 => lv_if_eq (pc := 69) (tgt := 76) X.2.2.1 X.2.2.2.1 dX4_meanWeight_69 rfl k1 k2) (fun c => ?_) (fun c => ?_)
  · have hf := ite_t c hf
    refine AW.lift (fun _ _ _ _ k => lv_iconst (pc := 76) (v := (0 : Int32)) X.2.2.1 X.2.2.2.1 dX4_meanWeight_76 rfl k) ?_
    exact w_X4_meanWeight_j77 GA Z v0 (t1 + t0) v3 (0 : Int32) v2 rc11 hrc11 (hl.sub [1, 0, 3] rfl) hf
  · have hf := ite_f c hf
    refine AW.lift (fun _ _ _ _ k => lv_iconst (pc := 72) (v := (1 : Int32)) X.2.2.1 X.2.2.2.1 dX4_meanWeight_72 rfl k) ?_
    refine AW.lift (fun _ _ _ _ k => lv_goto (pc := 73) (tgt := 77) X.2.2.1 X.2.2.2.1 dX4_meanWeight_73 rfl k) ?_
    exact w_X4_meanWeight_j77 GA Z v0 (t1 + t0) v3 (1 : Int32) v2 rc11 hrc11 (hl.sub [1, 0, 3] rfl) hf
theorem w_X4_meanWeight_j41 {r : Except Nat (UInt32) × AH} (GA : GA l s0 a0 K lam) (Z : WZ l s0 a0 K p s m c cX4_meanWeight yX4_meanWeight.cls 5 b R 1 21 meth [] (some (.float)) yX4_meanWeight) (v0 : Option Nat) (v1 : Int32) (v2 : Int32) (v3 : Int32) (t0 : Int32) (rc11 : Int32 → Int32 → Int32 → AM (UInt32)) (hrc11 : ∀ (v1 : Int32) (v2 : Int32) (v3 : Int32) (h : AH) (ls : Array Slot), LV ls 5 [(0, vR v0), (1, vI v1), (2, vI v2), (3, vI v3)] → rc11 v1 v2 v3 h = some r → AW s0 K lam p l e R s m args below meth c (AQ s0 K lam below oF b r s) b h (F0 m 11 ls [])) {h : AH} {ls : Array Slot} (hl : LV ls 5 [(0, vR v0), (1, vI v1), (2, vI v2), (3, vI v3)]) (hf : f_X4_meanWeight_j41 K rc11 v0 v1 v2 v3 t0 h = some r) : AW s0 K lam p l e R s m args below meth c (AQ s0 K lam below oF b r s) b h (F0 m 41 ls [.int t0]) := by
  unfold f_X4_meanWeight_j41 at hf
  have X := Z.1.1
  refine a_istore (pc := 41) X dX4_meanWeight_41 hl (by decide) (lv' := [(4, vI t0), (0, vR v0), (1, vI v1), (2, vI v2), (3, vI v3)]) rfl (fun ls hl => ?_)
  refine a_iload_n (pc := 43) X dX4_meanWeight_43 rfl hl 2 rfl ?_
  refine a_iload (pc := 44) X dX4_meanWeight_44 hl 0 rfl ?_
  refine AW.lift2 (fun _ _ _ _ k1 k2 => lv_if_eq (pc := 46) (tgt := 63) X.2.2.1 X.2.2.2.1 dX4_meanWeight_46 rfl k1 k2) (fun c => ?_) (fun c => ?_)
  · have hf := ite_t c hf
    refine AW.lift (fun _ _ _ _ k => lv_iconst (pc := 63) (v := (0 : Int32)) X.2.2.1 X.2.2.2.1 dX4_meanWeight_63 rfl k) ?_
    exact w_X4_meanWeight_j64 GA Z v0 v2 v3 t0 (0 : Int32) v1 rc11 hrc11 (hl.sub [1, 3, 4, 0] rfl) hf
  · have hf := ite_f c hf
    refine a_aload_n (pc := 49) X dX4_meanWeight_49 rfl hl 1 rfl ?_
    refine a_get (pc := 50) (φ := 100) pR_t X Z.1.2.1 (gw X.1 X.2.1 q3025) (fun _ q => q) (by decide) dX4_meanWeight_50 hf (fun x50 hf => ?_)
    refine a_iload_n (pc := 53) X dX4_meanWeight_53 rfl hl 4 rfl ?_
    refine a_callb (pc := 54) (rs := [vR x50, vI v1]) (avs := [vI v3]) Z.1 (w_X4_at0 GA v3) (Or.inl rfl) q3154 q86 (by decide) (by decide) dX4_meanWeight_54 hl.1 (Nat.le_of_ble_eq_true rfl) hf (ct_S X (Or.inl rfl) q3154 q86 q3152 q3153 hy_X4_at0 np_X4_at0 rfl dX4_meanWeight_54) (fun q h he hX => a_out (unc_of Z.2.1 rfl) Z.2.2.2.1 he hX) (fun x54 h hf => ?kk54)
    refine AW.eq (g2 := F0 m 57 ls [.int x54, va_rf x50, .int v1]) rfl ?_
    refine AW.lift (fun _ _ _ _ k => lv_iconst (pc := 57) (v := (0 : Int32)) X.2.2.1 X.2.2.2.1 dX4_meanWeight_57 rfl k) ?_
    refine AW.lift (fun _ _ _ _ k => lv_iadd (pc := 58) X.2.2.1 X.2.2.2.1 dX4_meanWeight_58 k) ?_
    refine a_iaload (pc := 59) X dX4_meanWeight_59 hf (fun x59 hf => ?_)
    refine AW.lift (fun _ _ _ _ k => lv_goto (pc := 60) (tgt := 64) X.2.2.1 X.2.2.2.1 dX4_meanWeight_60 rfl k) ?_
    exact w_X4_meanWeight_j64 GA Z v0 v2 v3 t0 x59 v1 rc11 hrc11 (hl.sub [1, 3, 4, 0] rfl) hf
theorem w_X4_meanWeight_b11 {r : Except Nat (UInt32) × AH} (GA : GA l s0 a0 K lam) (Z : WZ l s0 a0 K p s m c cX4_meanWeight yX4_meanWeight.cls 5 b R 1 21 meth [] (some (.float)) yX4_meanWeight) (v0 : Option Nat) (v1 : Int32) (v2 : Int32) (v3 : Int32)  (rc11 : Int32 → Int32 → Int32 → AM (UInt32)) (hrc11 : ∀ (v1 : Int32) (v2 : Int32) (v3 : Int32) (h : AH) (ls : Array Slot), LV ls 5 [(0, vR v0), (1, vI v1), (2, vI v2), (3, vI v3)] → rc11 v1 v2 v3 h = some r → AW s0 K lam p l e R s m args below meth c (AQ s0 K lam below oF b r s) b h (F0 m 11 ls [])) {h : AH} {ls : Array Slot} (hl : LV ls 5 [(0, vR v0), (1, vI v1), (2, vI v2), (3, vI v3)]) (hf : f_X4_meanWeight_b11 K rc11 v0 v1 v2 v3 h = some r) : AW s0 K lam p l e R s m args below meth c (AQ s0 K lam below oF b r s) b h (F0 m 11 ls []) := by
  unfold f_X4_meanWeight_b11 at hf
  have X := Z.1.1
  refine a_iload_n (pc := 11) X dX4_meanWeight_11 rfl hl 3 rfl ?_
  refine a_aload_n (pc := 12) X dX4_meanWeight_12 rfl hl 0 rfl ?_
  refine a_get (pc := 13) (φ := 100) pR_t X Z.1.2.1 (gw X.1 X.2.1 q3025) (fun _ q => q) (by decide) dX4_meanWeight_13 hf (fun x13 hf => ?_)
  refine AW.lift (fun _ _ _ _ k => lv_iconst (pc := 16) (v := (2 : Int32)) X.2.2.1 X.2.2.2.1 dX4_meanWeight_16 rfl k) ?_
  refine a_iaload (pc := 17) X dX4_meanWeight_17 hf (fun x17 hf => ?_)
  refine AW.lift2 (fun _ _ _ _ k1 k2 => lv_icmp_ge (pc := 18) (tgt := 85) X.2.2.1 X.2.2.2.1 dX4_meanWeight_18 rfl k1 k2) (fun c => ?_) (fun c => ?_)
  · have hf := ite_t c hf
    exact w_X4_meanWeight_j85 GA Z v0 v1 v2   (hl.sub [0, 1, 2] rfl) hf
  · have hf := ite_f c hf
    refine a_aload_n (pc := 21) X dX4_meanWeight_21 rfl hl 0 rfl ?_
    refine a_get (pc := 22) (φ := 100) pR_t X Z.1.2.1 (gw X.1 X.2.1 q3025) (fun _ q => q) (by decide) dX4_meanWeight_22 hf (fun x22 hf => ?_)
    refine a_iload_n (pc := 25) X dX4_meanWeight_25 rfl hl 3 rfl ?_
    refine a_callb (pc := 26) (rs := [vR x22]) (avs := [vI v3]) Z.1 (w_X4_at0 GA v3) (Or.inl rfl) q3154 q86 (by decide) (by decide) dX4_meanWeight_26 hl.1 (Nat.le_of_ble_eq_true rfl) hf (ct_S X (Or.inl rfl) q3154 q86 q3152 q3153 hy_X4_at0 np_X4_at0 rfl dX4_meanWeight_26) (fun q h he hX => a_out (unc_of Z.2.1 rfl) Z.2.2.2.1 he hX) (fun x26 h hf => ?kk26)
    refine AW.eq (g2 := F0 m 29 ls [.int x26, va_rf x22]) rfl ?_
    refine AW.lift (fun _ _ _ _ k => lv_iconst (pc := 29) (v := (2 : Int32)) X.2.2.1 X.2.2.2.1 dX4_meanWeight_29 rfl k) ?_
    refine AW.lift (fun _ _ _ _ k => lv_iadd (pc := 30) X.2.2.1 X.2.2.2.1 dX4_meanWeight_30 k) ?_
    refine a_iaload (pc := 31) X dX4_meanWeight_31 hf (fun x31 hf => ?_)
    refine AW.lift (fun _ _ _ _ k => lv_iconst (pc := 32) (v := (2 : Int32)) X.2.2.1 X.2.2.2.1 dX4_meanWeight_32 rfl k) ?_
    refine AW.lift2 (fun _ _ _ _ k1 k2 => lv_icmp_eq (pc := 33) (tgt := 40) X.2.2.1 X.2.2.2.1 dX4_meanWeight_33 rfl k1 k2) (fun c => ?_) (fun c => ?_)
    · have hf := ite_t c hf
      refine AW.lift (fun _ _ _ _ k => lv_iconst (pc := 40) (v := (0 : Int32)) X.2.2.1 X.2.2.2.1 dX4_meanWeight_40 rfl k) ?_
      exact w_X4_meanWeight_j41 GA Z v0 v1 v2 v3 (0 : Int32) rc11 hrc11 (hl.sub [0, 1, 2, 3] rfl) hf
    · have hf := ite_f c hf
      refine AW.lift (fun _ _ _ _ k => lv_iconst (pc := 36) (v := (1 : Int32)) X.2.2.1 X.2.2.2.1 dX4_meanWeight_36 rfl k) ?_
      refine AW.lift (fun _ _ _ _ k => lv_goto (pc := 37) (tgt := 41) X.2.2.1 X.2.2.2.1 dX4_meanWeight_37 rfl k) ?_
      exact w_X4_meanWeight_j41 GA Z v0 v1 v2 v3 (1 : Int32) rc11 hrc11 (hl.sub [0, 1, 2, 3] rfl) hf
theorem w_X4_meanWeight_l11 {r : Except Nat (UInt32) × AH} (GA : GA l s0 a0 K lam) (Z : WZ l s0 a0 K p s m c cX4_meanWeight yX4_meanWeight.cls 5 b R 1 21 meth [] (some (.float)) yX4_meanWeight) (v0 : Option Nat)  : ∀ (n : Nat) (v1 : Int32) (v2 : Int32) (v3 : Int32) (h : AH) (ls : Array Slot), LV ls 5 [(0, vR v0), (1, vI v1), (2, vI v2), (3, vI v3)] → f_X4_meanWeight_l11 K v0 n v1 v2 v3 h = some r → AW s0 K lam p l e R s m args below meth c (AQ s0 K lam below oF b r s) b h (F0 m 11 ls []) := by
  intro n
  induction n with
  | zero => intro v1 v2 v3 h ls hl hf; exact fl_no (h := h) hf
  | succ n ih => intro v1 v2 v3 h ls hl hf; exact w_X4_meanWeight_b11 GA Z v0 v1 v2 v3 (f_X4_meanWeight_l11 K v0 n) ih hl hf
theorem np_X4_meanWeight : npar yX4_meanWeight.desc 0 := by unfold npar; decide +kernel
theorem hy_X4_meanWeight : yX4_meanWeight.cls ≠ "java/lang/invoke/MethodHandle" ∧ yX4_meanWeight.cls ≠ "java/lang/invoke/VarHandle" := by decide +kernel
theorem w_X4_meanWeight (GA : GA l s0 a0 K lam) (v0 : Option Nat) : AMet l s0 K lam yX4_meanWeight (Cond.code yX4_meanWeight cX4_meanWeight (5 : Nat) (Option.some ClassFile.FieldType.float)) 1 21 [vR v0] oF (f_X4_meanWeight K v0) := by
  refine AMet.of GA.1 (plainFor_of_name (by decide +kernel)) (Nat.le_of_ble_eq_true rfl) ?_
  intro b r hf p e s m args below meth c X hr hlk hnm hnd ht ls hl
  have Z : WZ l s0 a0 K p s m c cX4_meanWeight yX4_meanWeight.cls 5 b { frames := 1, cells := K 0 - aX b, slots := K 1 - aW b, locals := 21 } 1 21 meth [] (some (.float)) yX4_meanWeight := ⟨⟨X, GA.2.1, GA.2.2.1, rfl, rfl, Nat.le_refl _, Nat.le_refl _⟩, tab_nil ht, hr, hlk, hnm, hnd⟩
  unfold f_X4_meanWeight at hf
  clear hr hlk hnm hnd ht
  refine a_aload_n (pc := 0) X dX4_meanWeight_0 rfl hl 0 rfl ?_
  refine AW.lift (fun _ _ _ _ k => lv_iconst (pc := 1) (v := (0 : Int32)) X.2.2.1 X.2.2.2.1 dX4_meanWeight_1 rfl k) ?_
  refine a_put (pc := 2) (φ := 107) X Z.1.2.1 Z.1.2.2.1 (gw X.1 X.2.1 q3032) (fun _ q => q) (by decide) rfl rfl dX4_meanWeight_2 hf (fun h hf => ?_)
  refine AW.lift (fun _ _ _ _ k => lv_iconst (pc := 5) (v := (0 : Int32)) X.2.2.1 X.2.2.2.1 dX4_meanWeight_5 rfl k) ?_
  refine a_istore_n (pc := 6) X dX4_meanWeight_6 rfl hl (by decide) (lv' := [(1, vI (0 : Int32)), (0, vR v0)]) rfl (fun ls hl => ?_)
  refine AW.lift (fun _ _ _ _ k => lv_iconst (pc := 7) (v := (0 : Int32)) X.2.2.1 X.2.2.2.1 dX4_meanWeight_7 rfl k) ?_
  refine a_istore_n (pc := 8) X dX4_meanWeight_8 rfl hl (by decide) (lv' := [(2, vI (0 : Int32)), (1, vI (0 : Int32)), (0, vR v0)]) rfl (fun ls hl => ?_)
  refine AW.lift (fun _ _ _ _ k => lv_iconst (pc := 9) (v := (0 : Int32)) X.2.2.1 X.2.2.2.1 dX4_meanWeight_9 rfl k) ?_
  refine a_istore_n (pc := 10) X dX4_meanWeight_10 rfl hl (by decide) (lv' := [(3, vI (0 : Int32)), (2, vI (0 : Int32)), (1, vI (0 : Int32)), (0, vR v0)]) rfl (fun ls hl => ?_)
  exact w_X4_meanWeight_l11 GA Z v0  FU (0 : Int32) (0 : Int32) (0 : Int32) _ _ (hl.sub [3, 2, 1, 0] rfl) hf
theorem w_X2_brokenSprings_b10 {r : Except Nat (Int32) × AH} (GA : GA l s0 a0 K lam) (Z : WZ l s0 a0 K p s m c cX2_brokenSprings yX2_brokenSprings.cls 4 b R 9 422 meth [] (some (.int)) yX2_brokenSprings) (v1 : Int32) (v2 : Option Nat)  (rc10 : Int32 → AM (Int32)) (hrc10 : ∀ (v1 : Int32) (h : AH) (ls : Array Slot), LV ls 4 [(1, vI v1), (2, vR v2)] → rc10 v1 h = some r → AW s0 K lam p l e R s m args below meth c (AQ s0 K lam below oI b r s) b h (F0 m 10 ls [])) {h : AH} {ls : Array Slot} (hl : LV ls 4 [(1, vI v1), (2, vR v2)]) (hf : f_X2_brokenSprings_b10 K rc10 v1 v2 h = some r) : AW s0 K lam p l e R s m args below meth c (AQ s0 K lam below oI b r s) b h (F0 m 10 ls []) := by
  unfold f_X2_brokenSprings_b10 at hf
  have X := Z.1.1
  refine a_aload_n (pc := 10) X dX2_brokenSprings_10 rfl hl 1 rfl ?_
  obtain ⟨a11, rfl, ⟨hk, hf⟩ | ⟨-, hf⟩⟩ := dv_some hf
  rotate_left
  · exact fl_none hf
  refine a_callb (pc := 11) (rs := []) (avs := [vR (some a11)]) Z.1 (w_J14_hasNext GA (some a11)) (Or.inl rfl) q376 q96 (by decide) (by decide) dX2_brokenSprings_11 hl.1 (Nat.le_of_ble_eq_true rfl) hf (ct_F (x := ({ cls := "java/util/Iterator", name := "hasNext", desc := "()Z" } : MethodName)) hk ⟨by decide, by decide⟩ X (Or.inl rfl) q376 q368 (gf X.1 X.2.1 q370 rfl) (gf X.1 X.2.1 q369 rfl) (gf X.1 X.2.1 q375 rfl) (gf X.1 X.2.1 q373 rfl) (gf X.1 X.2.1 q371 rfl) q374 q372 ⟨by decide, by decide⟩ np_J14_hasNext rfl dX2_brokenSprings_11) (fun q h he hX => a_out (unc_of Z.2.1 rfl) Z.2.2.2.1 he hX) (fun x11 h hf => ?kk11)
  refine AW.eq (g2 := F0 m 16 ls [.int x11]) rfl ?_
  refine AW.lift2 (fun _ _ _ _ k1 k2 => lv_if_eq (pc := 16) (tgt := 39) X.2.2.1 X.2.2.2.1 dX2_brokenSprings_16 rfl k1 k2) (fun c => ?_) (fun c => ?_)
  · have hf := ite_t c hf
    refine a_iload_n (pc := 39) X dX2_brokenSprings_39 rfl hl 0 rfl ?_
    exact a_ireturn X Z.2.2.1 Z.2.2.2.1 dX2_brokenSprings_40 hf
  · have hf := ite_f c hf
    refine a_aload_n (pc := 19) X dX2_brokenSprings_19 rfl hl 1 rfl ?_
    rcases dv_someS hf with ⟨hk, hf⟩ | ⟨-, hf⟩
    rotate_left
    · exact fl_none hf
    refine a_callb (pc := 20) (rs := []) (avs := [vR (some a11)]) Z.1 (w_J14_next GA (some a11)) (Or.inl rfl) q397 q96 (by decide) (by decide) dX2_brokenSprings_20 hl.1 (Nat.le_of_ble_eq_true rfl) hf (ct_F (x := ({ cls := "java/util/Iterator", name := "next", desc := "()Ljava/lang/Object;" } : MethodName)) hk ⟨by decide, by decide⟩ X (Or.inl rfl) q397 q390 (gf X.1 X.2.1 q392 rfl) (gf X.1 X.2.1 q391 rfl) (gf X.1 X.2.1 q396 rfl) (gf X.1 X.2.1 q394 rfl) (gf X.1 X.2.1 q371 rfl) q395 q393 ⟨by decide, by decide⟩ np_J14_next rfl dX2_brokenSprings_20) (fun q h he hX => a_out (unc_of Z.2.1 rfl) Z.2.2.2.1 he hX) (fun x20 h hf => ?kk20)
    refine AW.eq (g2 := F0 m 25 ls [va_rf x20]) rfl ?_
    refine a_checkcast (pc := 25) X (gw X.1 X.2.1 q802) (cs_JumpHall_Mat GA) dX2_brokenSprings_25 hf (fun hf => ?_)
    refine a_astore_n (pc := 28) X dX2_brokenSprings_28 rfl hl (by decide) (lv' := [(3, vR x20), (1, vI v1), (2, vR (some a11))]) rfl (fun ls hl => ?_)
    refine a_iload_n (pc := 29) X dX2_brokenSprings_29 rfl hl 1 rfl ?_
    refine a_aload_n (pc := 30) X dX2_brokenSprings_30 rfl hl 0 rfl ?_
    obtain ⟨a31, rfl, ⟨hk, hf⟩ | ⟨-, hf⟩⟩ := dv_some hf
    rotate_left
    · exact fl_none hf
    refine a_callb (pc := 31) (rs := [vI v1]) (avs := [vR (some a31)]) Z.1 (w_X7_broken GA (some a31)) (Or.inl rfl) q1890 q91 (by decide) (by decide) dX2_brokenSprings_31 hl.1 (Nat.le_of_ble_eq_true rfl) hf (ct_V hk ⟨by decide, by decide⟩ X (Or.inl rfl) q1890 q2041 q1888 q1889 hy_X7_broken np_X7_broken rfl dX2_brokenSprings_31) (fun q h he hX => a_out (unc_of Z.2.1 rfl) Z.2.2.2.1 he hX) (fun x31 h hf => ?kk31)
    refine AW.eq (g2 := F0 m 34 ls [.int x31, .int v1]) rfl ?_
    refine AW.lift (fun _ _ _ _ k => lv_iadd (pc := 34) X.2.2.1 X.2.2.2.1 dX2_brokenSprings_34 k) ?_
    refine a_istore_n (pc := 35) X dX2_brokenSprings_35 rfl hl (by decide) (lv' := [(1, vI (v1 + x31)), (3, vR (some a31)), (2, vR (some a11))]) rfl (fun ls hl => ?_)
    refine AW.lift (fun _ _ _ _ k => lv_goto (pc := 36) (tgt := 10) X.2.2.1 X.2.2.2.1 dX2_brokenSprings_36 rfl k) ?_
    exact hrc10 (v1 + x31) _ _ (hl.sub [0, 2] rfl) hf
theorem w_X2_brokenSprings_l10 {r : Except Nat (Int32) × AH} (GA : GA l s0 a0 K lam) (Z : WZ l s0 a0 K p s m c cX2_brokenSprings yX2_brokenSprings.cls 4 b R 9 422 meth [] (some (.int)) yX2_brokenSprings) (v2 : Option Nat)  : ∀ (n : Nat) (v1 : Int32) (h : AH) (ls : Array Slot), LV ls 4 [(1, vI v1), (2, vR v2)] → f_X2_brokenSprings_l10 K v2 n v1 h = some r → AW s0 K lam p l e R s m args below meth c (AQ s0 K lam below oI b r s) b h (F0 m 10 ls []) := by
  intro n
  induction n with
  | zero => intro v1 h ls hl hf; exact fl_no (h := h) hf
  | succ n ih => intro v1 h ls hl hf; exact w_X2_brokenSprings_b10 GA Z v1 v2 (f_X2_brokenSprings_l10 K v2 n) ih hl hf
theorem np_X2_brokenSprings : npar yX2_brokenSprings.desc 0 := by unfold npar; decide +kernel
theorem hy_X2_brokenSprings : yX2_brokenSprings.cls ≠ "java/lang/invoke/MethodHandle" ∧ yX2_brokenSprings.cls ≠ "java/lang/invoke/VarHandle" := by decide +kernel
theorem w_X2_brokenSprings (GA : GA l s0 a0 K lam) (v0 : Option Nat) : AMet l s0 K lam yX2_brokenSprings (Cond.code yX2_brokenSprings cX2_brokenSprings (4 : Nat) (Option.some ClassFile.FieldType.int)) 9 422 [vR v0] oI (f_X2_brokenSprings K v0) := by
  refine AMet.of GA.1 (plainFor_of_name (by decide +kernel)) (Nat.le_of_ble_eq_true rfl) ?_
  intro b r hf p e s m args below meth c X hr hlk hnm hnd ht ls hl
  have Z : WZ l s0 a0 K p s m c cX2_brokenSprings yX2_brokenSprings.cls 4 b { frames := 9, cells := K 0 - aX b, slots := K 1 - aW b, locals := 422 } 9 422 meth [] (some (.int)) yX2_brokenSprings := ⟨⟨X, GA.2.1, GA.2.2.1, rfl, rfl, Nat.le_refl _, Nat.le_refl _⟩, tab_nil ht, hr, hlk, hnm, hnd⟩
  unfold f_X2_brokenSprings at hf
  clear hr hlk hnm hnd ht
  refine AW.lift (fun _ _ _ _ k => lv_iconst (pc := 0) (v := (0 : Int32)) X.2.2.1 X.2.2.2.1 dX2_brokenSprings_0 rfl k) ?_
  refine a_istore_n (pc := 1) X dX2_brokenSprings_1 rfl hl (by decide) (lv' := [(1, vI (0 : Int32)), (0, vR v0)]) rfl (fun ls hl => ?_)
  refine a_aload_n (pc := 2) X dX2_brokenSprings_2 rfl hl 1 rfl ?_
  refine a_get (pc := 3) (φ := 300) pR_t X Z.1.2.1 (gw X.1 X.2.1 q228) (fun _ q => q) (by decide) dX2_brokenSprings_3 hf (fun x3 hf => ?_)
  obtain ⟨a6, rfl, ⟨hk, hf⟩ | ⟨-, hf⟩⟩ := dv_some hf
  rotate_left
  · exact fl_none hf
  refine a_callb (pc := 6) (rs := []) (avs := [vR (some a6)]) Z.1 (w_J2_iterator GA (some a6)) (Or.inl rfl) q347 q78 (by decide) (by decide) dX2_brokenSprings_6 hl.1 (Nat.le_of_ble_eq_true rfl) hf (ct_V hk ⟨by decide, by decide⟩ X (Or.inl rfl) q347 q344 q345 q346 hy_J2_iterator np_J2_iterator rfl dX2_brokenSprings_6) (fun q h he hX => a_out (unc_of Z.2.1 rfl) Z.2.2.2.1 he hX) (fun x6 h hf => ?kk6)
  refine AW.eq (g2 := F0 m 9 ls [va_rf x6]) rfl ?_
  refine a_astore_n (pc := 9) X dX2_brokenSprings_9 rfl hl (by decide) (lv' := [(2, vR x6), (1, vI (0 : Int32)), (0, vR v0)]) rfl (fun ls hl => ?_)
  exact w_X2_brokenSprings_l10 GA Z x6  FU (0 : Int32) _ _ (hl.sub [1, 0] rfl) hf
theorem np_X1_brokenShare : npar yX1_brokenShare.desc 0 := by unfold npar; decide +kernel
theorem hy_X1_brokenShare : yX1_brokenShare.cls ≠ "java/lang/invoke/MethodHandle" ∧ yX1_brokenShare.cls ≠ "java/lang/invoke/VarHandle" := by decide +kernel
theorem w_X1_brokenShare (GA : GA l s0 a0 K lam) (v0 : Option Nat) : AMet l s0 K lam yX1_brokenShare (Cond.code yX1_brokenShare cX1_brokenShare (2 : Nat) (Option.some ClassFile.FieldType.double)) 10 445 [vR v0] oD (f_X1_brokenShare K v0) := by
  refine AMet.of GA.1 (plainFor_of_name (by decide +kernel)) (Nat.le_of_ble_eq_true rfl) ?_
  intro b r hf p e s m args below meth c X hr hlk hnm hnd ht ls hl
  have Z : WZ l s0 a0 K p s m c cX1_brokenShare yX1_brokenShare.cls 2 b { frames := 10, cells := K 0 - aX b, slots := K 1 - aW b, locals := 445 } 10 445 meth [] (some (.double)) yX1_brokenShare := ⟨⟨X, GA.2.1, GA.2.2.1, rfl, rfl, Nat.le_refl _, Nat.le_refl _⟩, tab_nil ht, hr, hlk, hnm, hnd⟩
  unfold f_X1_brokenShare at hf
  clear hr hlk hnm hnd ht
  refine AW.lift (fun _ _ _ _ k => lv_bipush (pc := 0) (v := (8 : Int32)) X.2.2.1 X.2.2.2.1 dX1_brokenShare_0 rfl k) ?_
  refine a_aload_n (pc := 2) X dX1_brokenShare_2 rfl hl 0 rfl ?_
  refine a_get (pc := 3) (φ := 200) pR_t X Z.1.2.1 (gw X.1 X.2.1 q309) (fun _ q => q) (by decide) dX1_brokenShare_3 hf (fun x3 hf => ?_)
  refine a_getN (pc := 6) (φ := 300) pR_t X Z.1.2.1 (gnF X.1 X.2.1 q229) (fun _ q => q) (by decide) dX1_brokenShare_6 hf (fun x6 hf => ?_)
  obtain ⟨a9, rfl, ⟨hk, hf⟩ | ⟨-, hf⟩⟩ := dv_some hf
  rotate_left
  · exact fl_none hf
  refine a_callb (pc := 9) (rs := [vI (8 : Int32)]) (avs := [vR (some a9)]) Z.1 (w_J2_size GA (some a9)) (Or.inl rfl) q1012 q78 (by decide) (by decide) dX1_brokenShare_9 hl.1 (Nat.le_of_ble_eq_true rfl) hf (ct_V hk ⟨by decide, by decide⟩ X (Or.inl rfl) q1012 q1705 q1011 q3486 hy_J2_size np_J2_size rfl dX1_brokenShare_9) (fun q h he hX => a_out (unc_of Z.2.1 rfl) Z.2.2.2.1 he hX) (fun x9 h hf => ?kk9)
  refine AW.eq (g2 := F0 m 12 ls [.int x9, .int (8 : Int32)]) rfl ?_
  refine AW.lift (fun _ _ _ _ k => lv_imul (pc := 12) X.2.2.1 X.2.2.2.1 dX1_brokenShare_12 k) ?_
  refine a_istore_n (pc := 13) X dX1_brokenShare_13 rfl hl (by decide) (lv' := [(1, vI ((8 : Int32) * x9)), (0, vR v0)]) rfl (fun ls hl => ?_)
  refine a_iload_n (pc := 14) X dX1_brokenShare_14 rfl hl 0 rfl ?_
  refine a_callb (pc := 15) (rs := []) (avs := [vI ((8 : Int32) * x9)]) Z.1 (w_X1_checkCount GA ((8 : Int32) * x9)) (Or.inl rfl) q2611 q74 (by decide) (by decide) dX1_brokenShare_15 hl.1 (Nat.le_of_ble_eq_true rfl) hf (ct_S X (Or.inl rfl) q2611 q74 q2609 q2610 hy_X1_checkCount np_X1_checkCount rfl dX1_brokenShare_15) (fun q h he hX => a_out (unc_of Z.2.1 rfl) Z.2.2.2.1 he hX) (fun _ h hf => ?kk15)
  refine AW.eq (g2 := F0 m 18 ls []) rfl ?_
  refine a_aload_n (pc := 18) X dX1_brokenShare_18 rfl hl 1 rfl ?_
  refine a_get (pc := 19) (φ := 200) pR_t X Z.1.2.1 (gw X.1 X.2.1 q309) (fun _ q => q) (by decide) dX1_brokenShare_19 hf (fun x19 hf => ?_)
  obtain ⟨a22, rfl, ⟨hk, hf⟩ | ⟨-, hf⟩⟩ := dv_some hf
  rotate_left
  · exact fl_none hf
  refine a_callb (pc := 22) (rs := []) (avs := [vR (some a22)]) Z.1 (w_X2_brokenSprings GA (some a22)) (Or.inl rfl) q2630 q75 (by decide) (by decide) dX1_brokenShare_22 hl.1 (Nat.le_of_ble_eq_true rfl) hf (ct_V hk ⟨by decide, by decide⟩ X (Or.inl rfl) q2630 q2627 q2628 q2629 hy_X2_brokenSprings np_X2_brokenSprings rfl dX1_brokenShare_22) (fun q h he hX => a_out (unc_of Z.2.1 rfl) Z.2.2.2.1 he hX) (fun x22 h hf => ?kk22)
  refine AW.eq (g2 := F0 m 25 ls [.int x22]) rfl ?_
  refine AW.lift (fun _ _ _ _ k => lv_i2d (pc := 25) X.2.2.1 X.2.2.2.1 dX1_brokenShare_25 k) ?_
  refine a_iload_n (pc := 26) X dX1_brokenShare_26 rfl hl 0 rfl ?_
  refine AW.lift (fun _ _ _ _ k => lv_i2d (pc := 27) X.2.2.1 X.2.2.2.1 dX1_brokenShare_27 k) ?_
  obtain ⟨hg, hf⟩ := chk_some hf
  refine AW.lift (fun _ _ _ _ k => lv_ddiv (pc := 28) X.2.2.1 X.2.2.2.1 dX1_brokenShare_28 (n64 hg) k) ?_
  exact a_dreturn X Z.2.2.1 Z.2.2.2.1 dX1_brokenShare_29 hf
theorem np_X0_brokenShare : npar yX0_brokenShare.desc 2 := by unfold npar; decide +kernel
theorem hy_X0_brokenShare : yX0_brokenShare.cls ≠ "java/lang/invoke/MethodHandle" ∧ yX0_brokenShare.cls ≠ "java/lang/invoke/VarHandle" := by decide +kernel
theorem w_X0_brokenShare (GA : GA l s0 a0 K lam) (v0 : Option Nat) (v1 : Option Nat) : AMet l s0 K lam yX0_brokenShare (Cond.codeWith yX0_brokenShare cX0_brokenShare (3 : Nat) (Option.some ClassFile.FieldType.int) [((0 : Nat), (7 : Nat), (10 : Nat), (112 : Nat))]) 11 466 [vR v0, vR v1] oI (f_X0_brokenShare K v0 v1) := by
  refine AMet.ofW GA.1 (plainFor_of_name (by decide +kernel)) (Nat.le_of_ble_eq_true rfl) ?_
  intro b r hf p e s m args below meth c X hr hlk hnm hnd ht ls hl
  have Z : WZ l s0 a0 K p s m c cX0_brokenShare yX0_brokenShare.cls 3 b { frames := 11, cells := K 0 - aX b, slots := K 1 - aW b, locals := 466 } 11 466 meth [(0, 7, 10, 112)] (some (.int)) yX0_brokenShare := ⟨⟨X, GA.2.1, GA.2.2.1, rfl, rfl, Nat.le_refl _, Nat.le_refl _⟩, ht, hr, hlk, hnm, hnd⟩
  unfold f_X0_brokenShare at hf
  clear hr hlk hnm hnd ht
  refine a_aload_n (pc := 0) X dX0_brokenShare_0 rfl hl 1 rfl ?_
  refine AW.lift (fun _ _ _ _ k => lv_iconst (pc := 1) (v := (0 : Int32)) X.2.2.1 X.2.2.2.1 dX0_brokenShare_1 rfl k) ?_
  refine a_aload_n (pc := 2) X dX0_brokenShare_2 rfl hl 0 rfl ?_
  obtain ⟨a3, rfl, ⟨hk, hf⟩ | ⟨-, hf⟩⟩ := dv_tsome hf
  rotate_left
  · exact fl_tnone hf
  refine a_callt (pc := 3) (rs := [vI (0 : Int32), vR v1]) (avs := [vR (some a3)]) Z.1 (w_X1_brokenShare GA (some a3)) (Or.inl rfl) q2626 q74 (by decide) (by decide) dX0_brokenShare_3 hl.1 (Nat.le_of_ble_eq_true rfl) hf (ct_V hk ⟨by decide, by decide⟩ X (Or.inl rfl) q2626 q2623 q2624 q2625 hy_X1_brokenShare np_X1_brokenShare rfl dX0_brokenShare_3) (fun q h hf hX => ?hx3) (fun x3 h hf => ?kk3)
  case hx3 =>
    rcases ctc_some hf with ⟨hy, hf⟩ | ⟨hn0, hf⟩
    · refine a_catchH (st := 0) (en := 7) (hp := 10) (ct := 112) (pre := []) (suf := []) X hX Z.2.1 rfl (fun z hz => nomatch hz) (by decide) (Or.inr ⟨by decide, _, gw X.1 X.2.1 q2588, (cs_X16 GA) _ hy⟩) (AW.eq (g2 := F0 m 10 ls [va_rf (some q)]) rfl ?_)
      refine a_astore_n (pc := 10) X dX0_brokenShare_10 rfl hl (by decide) (lv' := [(2, vR (some q)), (0, vR (some a3)), (1, vR v1)]) rfl (fun ls hl => ?_)
      refine AW.lift (fun _ _ _ _ k => lv_iconst (pc := 11) (v := (1 : Int32)) X.2.2.1 X.2.2.2.1 dX0_brokenShare_11 rfl k) ?_
      exact a_ireturn X Z.2.2.1 Z.2.2.2.1 dX0_brokenShare_12 hf
    · skip
      exact a_outH X Z.2.1 (by intro z hz; simp only [List.mem_cons, List.not_mem_nil, or_false] at hz; rcases hz with rfl <;> first | exact Or.inl (by decide) | exact Or.inr ⟨by decide, _, gw X.1 X.2.1 q2588, (nc_12_13_14_17_18_19_20_21_java_lang_ArithmeticException GA _ (by simpa using hn0)).2.2⟩) Z.2.2.2.1 (th_eq hf) hX
  refine AW.eq (g2 := F0 m 6 ls [.double x3, .int (0 : Int32), va_rf v1]) rfl ?_
  refine a_dastore (pc := 6) X dX0_brokenShare_6 hf (fun h hf => ?_)
  refine AW.lift (fun _ _ _ _ k => lv_goto (pc := 7) (tgt := 13) X.2.2.1 X.2.2.2.1 dX0_brokenShare_7 rfl k) ?_
  refine AW.lift (fun _ _ _ _ k => lv_iconst (pc := 13) (v := (0 : Int32)) X.2.2.1 X.2.2.2.1 dX0_brokenShare_13 rfl k) ?_
  exact a_ireturn X Z.2.2.1 Z.2.2.2.1 dX0_brokenShare_14 hf
theorem w_X4_allBroken_b4 {r : Except Nat (Int32) × AH} (GA : GA l s0 a0 K lam) (Z : WZ l s0 a0 K p s m c cX4_allBroken yX4_allBroken.cls 3 b R 2 43 meth [] (some (.int)) yX4_allBroken) (v0 : Option Nat) (v1 : Int32) (v2 : Int32)  (rc4 : Int32 → Int32 → AM (Int32)) (hrc4 : ∀ (v1 : Int32) (v2 : Int32) (h : AH) (ls : Array Slot), LV ls 3 [(0, vR v0), (1, vI v1), (2, vI v2)] → rc4 v1 v2 h = some r → AW s0 K lam p l e R s m args below meth c (AQ s0 K lam below oI b r s) b h (F0 m 4 ls [])) {h : AH} {ls : Array Slot} (hl : LV ls 3 [(0, vR v0), (1, vI v1), (2, vI v2)]) (hf : f_X4_allBroken_b4 K rc4 v0 v1 v2 h = some r) : AW s0 K lam p l e R s m args below meth c (AQ s0 K lam below oI b r s) b h (F0 m 4 ls []) := by
  unfold f_X4_allBroken_b4 at hf
  have X := Z.1.1
  refine a_iload_n (pc := 4) X dX4_allBroken_4 rfl hl 2 rfl ?_
  refine a_aload_n (pc := 5) X dX4_allBroken_5 rfl hl 0 rfl ?_
  refine a_get (pc := 6) (φ := 100) pR_t X Z.1.2.1 (gw X.1 X.2.1 q3025) (fun _ q => q) (by decide) dX4_allBroken_6 hf (fun x6 hf => ?_)
  refine AW.lift (fun _ _ _ _ k => lv_iconst (pc := 9) (v := (1 : Int32)) X.2.2.1 X.2.2.2.1 dX4_allBroken_9 rfl k) ?_
  refine a_iaload (pc := 10) X dX4_allBroken_10 hf (fun x10 hf => ?_)
  refine AW.lift2 (fun _ _ _ _ k1 k2 => lv_icmp_ge (pc := 11) (tgt := 28) X.2.2.1 X.2.2.2.1 dX4_allBroken_11 rfl k1 k2) (fun c => ?_) (fun c => ?_)
  · have hf := ite_t c hf
    refine a_iload_n (pc := 28) X dX4_allBroken_28 rfl hl 1 rfl ?_
    exact a_ireturn X Z.2.2.1 Z.2.2.2.1 dX4_allBroken_29 hf
  · have hf := ite_f c hf
    refine a_iload_n (pc := 14) X dX4_allBroken_14 rfl hl 1 rfl ?_
    refine a_aload_n (pc := 15) X dX4_allBroken_15 rfl hl 0 rfl ?_
    refine a_iload_n (pc := 16) X dX4_allBroken_16 rfl hl 2 rfl ?_
    obtain ⟨a17, rfl, ⟨hk, hf⟩ | ⟨-, hf⟩⟩ := dv_some hf
    rotate_left
    · exact fl_none hf
    refine a_callb (pc := 17) (rs := [vI v1]) (avs := [vR (some a17), vI v2]) Z.1 (w_X4_broken GA (some a17) v2) (Or.inl rfl) q3162 q86 (by decide) (by decide) dX4_allBroken_17 hl.1 (Nat.le_of_ble_eq_true rfl) hf (ct_V hk ⟨by decide, by decide⟩ X (Or.inl rfl) q3162 q3159 q3161 pv_37 hy_X4_broken np_X4_broken rfl dX4_allBroken_17) (fun q h he hX => a_out (unc_of Z.2.1 rfl) Z.2.2.2.1 he hX) (fun x17 h hf => ?kk17)
    refine AW.eq (g2 := F0 m 20 ls [.int x17, .int v1]) rfl ?_
    refine AW.lift (fun _ _ _ _ k => lv_iadd (pc := 20) X.2.2.1 X.2.2.2.1 dX4_allBroken_20 k) ?_
    refine a_istore_n (pc := 21) X dX4_allBroken_21 rfl hl (by decide) (lv' := [(1, vI (v1 + x17)), (0, vR (some a17)), (2, vI v2)]) rfl (fun ls hl => ?_)
    refine a_iinc (pc := 22) (v := (v2 + (1 : Int32))) X dX4_allBroken_22 hl (k := 2) rfl rfl (by decide) (lv' := [(2, vI (v2 + (1 : Int32))), (1, vI (v1 + x17)), (0, vR (some a17))]) rfl (fun ls hl => ?_)
    refine AW.lift (fun _ _ _ _ k => lv_goto (pc := 25) (tgt := 4) X.2.2.1 X.2.2.2.1 dX4_allBroken_25 rfl k) ?_
    exact hrc4 (v1 + x17) (v2 + (1 : Int32)) _ _ (hl.sub [2, 1, 0] rfl) hf
theorem w_X4_allBroken_l4 {r : Except Nat (Int32) × AH} (GA : GA l s0 a0 K lam) (Z : WZ l s0 a0 K p s m c cX4_allBroken yX4_allBroken.cls 3 b R 2 43 meth [] (some (.int)) yX4_allBroken) (v0 : Option Nat)  : ∀ (n : Nat) (v1 : Int32) (v2 : Int32) (h : AH) (ls : Array Slot), LV ls 3 [(0, vR v0), (1, vI v1), (2, vI v2)] → f_X4_allBroken_l4 K v0 n v1 v2 h = some r → AW s0 K lam p l e R s m args below meth c (AQ s0 K lam below oI b r s) b h (F0 m 4 ls []) := by
  intro n
  induction n with
  | zero => intro v1 v2 h ls hl hf; exact fl_no (h := h) hf
  | succ n ih => intro v1 v2 h ls hl hf; exact w_X4_allBroken_b4 GA Z v0 v1 v2 (f_X4_allBroken_l4 K v0 n) ih hl hf
theorem np_X4_allBroken : npar yX4_allBroken.desc 0 := by unfold npar; decide +kernel
theorem hy_X4_allBroken : yX4_allBroken.cls ≠ "java/lang/invoke/MethodHandle" ∧ yX4_allBroken.cls ≠ "java/lang/invoke/VarHandle" := by decide +kernel
theorem w_X4_allBroken (GA : GA l s0 a0 K lam) (v0 : Option Nat) : AMet l s0 K lam yX4_allBroken (Cond.code yX4_allBroken cX4_allBroken (3 : Nat) (Option.some ClassFile.FieldType.int)) 2 43 [vR v0] oI (f_X4_allBroken K v0) := by
  refine AMet.of GA.1 (plainFor_of_name (by decide +kernel)) (Nat.le_of_ble_eq_true rfl) ?_
  intro b r hf p e s m args below meth c X hr hlk hnm hnd ht ls hl
  have Z : WZ l s0 a0 K p s m c cX4_allBroken yX4_allBroken.cls 3 b { frames := 2, cells := K 0 - aX b, slots := K 1 - aW b, locals := 43 } 2 43 meth [] (some (.int)) yX4_allBroken := ⟨⟨X, GA.2.1, GA.2.2.1, rfl, rfl, Nat.le_refl _, Nat.le_refl _⟩, tab_nil ht, hr, hlk, hnm, hnd⟩
  unfold f_X4_allBroken at hf
  clear hr hlk hnm hnd ht
  refine AW.lift (fun _ _ _ _ k => lv_iconst (pc := 0) (v := (0 : Int32)) X.2.2.1 X.2.2.2.1 dX4_allBroken_0 rfl k) ?_
  refine a_istore_n (pc := 1) X dX4_allBroken_1 rfl hl (by decide) (lv' := [(1, vI (0 : Int32)), (0, vR v0)]) rfl (fun ls hl => ?_)
  refine AW.lift (fun _ _ _ _ k => lv_iconst (pc := 2) (v := (0 : Int32)) X.2.2.1 X.2.2.2.1 dX4_allBroken_2 rfl k) ?_
  refine a_istore_n (pc := 3) X dX4_allBroken_3 rfl hl (by decide) (lv' := [(2, vI (0 : Int32)), (1, vI (0 : Int32)), (0, vR v0)]) rfl (fun ls hl => ?_)
  exact w_X4_allBroken_l4 GA Z v0  FU (0 : Int32) (0 : Int32) _ _ (hl.sub [2, 1, 0] rfl) hf
theorem np_X4_brokenShare : npar yX4_brokenShare.desc 0 := by unfold npar; decide +kernel
theorem hy_X4_brokenShare : yX4_brokenShare.cls ≠ "java/lang/invoke/MethodHandle" ∧ yX4_brokenShare.cls ≠ "java/lang/invoke/VarHandle" := by decide +kernel
theorem w_X4_brokenShare (GA : GA l s0 a0 K lam) (v0 : Option Nat) : AMet l s0 K lam yX4_brokenShare (Cond.code yX4_brokenShare cX4_brokenShare (1 : Nat) (Option.some ClassFile.FieldType.double)) 3 65 [vR v0] oD (f_X4_brokenShare K v0) := by
  refine AMet.of GA.1 (plainFor_of_name (by decide +kernel)) (Nat.le_of_ble_eq_true rfl) ?_
  intro b r hf p e s m args below meth c X hr hlk hnm hnd ht ls hl
  have Z : WZ l s0 a0 K p s m c cX4_brokenShare yX4_brokenShare.cls 1 b { frames := 3, cells := K 0 - aX b, slots := K 1 - aW b, locals := 65 } 3 65 meth [] (some (.double)) yX4_brokenShare := ⟨⟨X, GA.2.1, GA.2.2.1, rfl, rfl, Nat.le_refl _, Nat.le_refl _⟩, tab_nil ht, hr, hlk, hnm, hnd⟩
  unfold f_X4_brokenShare at hf
  clear hr hlk hnm hnd ht
  refine a_aload_n (pc := 0) X dX4_brokenShare_0 rfl hl 0 rfl ?_
  refine AW.lift (fun _ _ _ _ k => lv_iconst (pc := 1) (v := (0 : Int32)) X.2.2.1 X.2.2.2.1 dX4_brokenShare_1 rfl k) ?_
  refine a_put (pc := 2) (φ := 107) X Z.1.2.1 Z.1.2.2.1 (gw X.1 X.2.1 q3032) (fun _ q => q) (by decide) rfl rfl dX4_brokenShare_2 hf (fun h hf => ?_)
  refine a_aload_n (pc := 5) X dX4_brokenShare_5 rfl hl 0 rfl ?_
  refine a_get (pc := 6) (φ := 100) pR_t X Z.1.2.1 (gw X.1 X.2.1 q3025) (fun _ q => q) (by decide) dX4_brokenShare_6 hf (fun x6 hf => ?_)
  refine AW.lift (fun _ _ _ _ k => lv_iconst (pc := 9) (v := (1 : Int32)) X.2.2.1 X.2.2.2.1 dX4_brokenShare_9 rfl k) ?_
  refine a_iaload (pc := 10) X dX4_brokenShare_10 hf (fun x10 hf => ?_)
  refine AW.lift2 (fun _ _ _ _ k1 k2 => lv_if_ne (pc := 11) (tgt := 22) X.2.2.1 X.2.2.2.1 dX4_brokenShare_11 rfl k2 k1) (fun c => ?_) (fun c => ?_)
  · have hf := ite_t c hf
    refine a_aload_n (pc := 14) X dX4_brokenShare_14 rfl hl 0 rfl ?_
    refine AW.lift (fun _ _ _ _ k => lv_iconst (pc := 15) (v := (1 : Int32)) X.2.2.1 X.2.2.2.1 dX4_brokenShare_15 rfl k) ?_
    obtain ⟨a16, rfl, ⟨hk, hf⟩ | ⟨-, hf⟩⟩ := dv_some hf
    rotate_left
    · exact fl_none hf
    refine a_callb (pc := 16) (rs := []) (avs := [vR (some a16), vI (1 : Int32)]) Z.1 (w_X4_throwing GA (some a16) (1 : Int32)) (Or.inl rfl) q3120 q86 (by decide) (by decide) dX4_brokenShare_16 hl.1 (Nat.le_of_ble_eq_true rfl) hf (ct_V hk ⟨by decide, by decide⟩ X (Or.inl rfl) q3120 q3117 q3119 pv_30 hy_X4_throwing np_X4_throwing rfl dX4_brokenShare_16) (fun q h he hX => a_out (unc_of Z.2.1 rfl) Z.2.2.2.1 he hX) (fun x16 h hf => ?kk16)
    refine AW.eq (g2 := F0 m 19 ls [.int x16]) rfl ?_
    refine AW.lift (fun _ _ _ _ k => lv_pop (pc := 19) X.2.2.1 X.2.2.2.1 dX4_brokenShare_19 rfl k) ?_
    refine AW.lift (fun _ _ _ _ k => lv_dconst0 (pc := 20) X.2.2.1 X.2.2.2.1 dX4_brokenShare_20 k) ?_
    exact a_dreturn X Z.2.2.1 Z.2.2.2.1 dX4_brokenShare_21 hf
  · have hf := ite_f c hf
    refine a_aload_n (pc := 22) X dX4_brokenShare_22 rfl hl 0 rfl ?_
    obtain ⟨a23, rfl, ⟨hk, hf⟩ | ⟨-, hf⟩⟩ := dv_some hf
    rotate_left
    · exact fl_none hf
    refine a_callb (pc := 23) (rs := []) (avs := [vR (some a23)]) Z.1 (w_X4_allBroken GA (some a23)) (Or.inl rfl) q3385 q86 (by decide) (by decide) dX4_brokenShare_23 hl.1 (Nat.le_of_ble_eq_true rfl) hf (ct_V hk ⟨by decide, by decide⟩ X (Or.inl rfl) q3385 q3382 q3384 pv_61 hy_X4_allBroken np_X4_allBroken rfl dX4_brokenShare_23) (fun q h he hX => a_out (unc_of Z.2.1 rfl) Z.2.2.2.1 he hX) (fun x23 h hf => ?kk23)
    refine AW.eq (g2 := F0 m 26 ls [.int x23]) rfl ?_
    refine AW.lift (fun _ _ _ _ k => lv_i2d (pc := 26) X.2.2.1 X.2.2.2.1 dX4_brokenShare_26 k) ?_
    refine AW.lift (fun _ _ _ _ k => lv_bipush (pc := 27) (v := (8 : Int32)) X.2.2.1 X.2.2.2.1 dX4_brokenShare_27 rfl k) ?_
    refine a_aload_n (pc := 29) X dX4_brokenShare_29 rfl hl 0 rfl ?_
    refine a_get (pc := 30) (φ := 100) pR_t X Z.1.2.1 (gw X.1 X.2.1 q3025) (fun _ q => q) (by decide) dX4_brokenShare_30 hf (fun x30 hf => ?_)
    refine AW.lift (fun _ _ _ _ k => lv_iconst (pc := 33) (v := (1 : Int32)) X.2.2.1 X.2.2.2.1 dX4_brokenShare_33 rfl k) ?_
    refine a_iaload (pc := 34) X dX4_brokenShare_34 hf (fun x34 hf => ?_)
    refine AW.lift (fun _ _ _ _ k => lv_imul (pc := 35) X.2.2.1 X.2.2.2.1 dX4_brokenShare_35 k) ?_
    refine AW.lift (fun _ _ _ _ k => lv_i2d (pc := 36) X.2.2.1 X.2.2.2.1 dX4_brokenShare_36 k) ?_
    obtain ⟨hg, hf⟩ := chk_some hf
    refine AW.lift (fun _ _ _ _ k => lv_ddiv (pc := 37) X.2.2.1 X.2.2.2.1 dX4_brokenShare_37 (n64 hg) k) ?_
    exact a_dreturn X Z.2.2.1 Z.2.2.2.1 dX4_brokenShare_38 hf
theorem w_X2_openMats_j42 {r : Except Nat (Int32) × AH} (GA : GA l s0 a0 K lam) (Z : WZ l s0 a0 K p s m c cX2_openMats yX2_openMats.cls 4 b R 9 422 meth [] (some (.int)) yX2_openMats) (v2 : Option Nat) (t0 : Int32) (t1 : Int32) (rc10 : Int32 → AM (Int32)) (hrc10 : ∀ (v1 : Int32) (h : AH) (ls : Array Slot), LV ls 4 [(1, vI v1), (2, vR v2)] → rc10 v1 h = some r → AW s0 K lam p l e R s m args below meth c (AQ s0 K lam below oI b r s) b h (F0 m 10 ls [])) {h : AH} {ls : Array Slot} (hl : LV ls 4 [(2, vR v2)]) (hf : f_X2_openMats_j42 K rc10 v2 t0 t1 h = some r) : AW s0 K lam p l e R s m args below meth c (AQ s0 K lam below oI b r s) b h (F0 m 42 ls [.int t0, .int t1]) := by
  unfold f_X2_openMats_j42 at hf
  have X := Z.1.1
  refine AW.lift (fun _ _ _ _ k => lv_iadd (pc := 42) X.2.2.1 X.2.2.2.1 dX2_openMats_42 k) ?_
  refine a_istore_n (pc := 43) X dX2_openMats_43 rfl hl (by decide) (lv' := [(1, vI (t1 + t0)), (2, vR v2)]) rfl (fun ls hl => ?_)
  refine AW.lift (fun _ _ _ _ k => lv_goto (pc := 44) (tgt := 10) X.2.2.1 X.2.2.2.1 dX2_openMats_44 rfl k) ?_
  exact hrc10 (t1 + t0) _ _ (hl.sub [0, 1] rfl) hf
theorem w_X2_openMats_b10 {r : Except Nat (Int32) × AH} (GA : GA l s0 a0 K lam) (Z : WZ l s0 a0 K p s m c cX2_openMats yX2_openMats.cls 4 b R 9 422 meth [] (some (.int)) yX2_openMats) (v1 : Int32) (v2 : Option Nat)  (rc10 : Int32 → AM (Int32)) (hrc10 : ∀ (v1 : Int32) (h : AH) (ls : Array Slot), LV ls 4 [(1, vI v1), (2, vR v2)] → rc10 v1 h = some r → AW s0 K lam p l e R s m args below meth c (AQ s0 K lam below oI b r s) b h (F0 m 10 ls [])) {h : AH} {ls : Array Slot} (hl : LV ls 4 [(1, vI v1), (2, vR v2)]) (hf : f_X2_openMats_b10 K rc10 v1 v2 h = some r) : AW s0 K lam p l e R s m args below meth c (AQ s0 K lam below oI b r s) b h (F0 m 10 ls []) := by
  unfold f_X2_openMats_b10 at hf
  have X := Z.1.1
  refine a_aload_n (pc := 10) X dX2_openMats_10 rfl hl 1 rfl ?_
  obtain ⟨a11, rfl, ⟨hk, hf⟩ | ⟨-, hf⟩⟩ := dv_some hf
  rotate_left
  · exact fl_none hf
  refine a_callb (pc := 11) (rs := []) (avs := [vR (some a11)]) Z.1 (w_J14_hasNext GA (some a11)) (Or.inl rfl) q376 q96 (by decide) (by decide) dX2_openMats_11 hl.1 (Nat.le_of_ble_eq_true rfl) hf (ct_F (x := ({ cls := "java/util/Iterator", name := "hasNext", desc := "()Z" } : MethodName)) hk ⟨by decide, by decide⟩ X (Or.inl rfl) q376 q368 (gf X.1 X.2.1 q370 rfl) (gf X.1 X.2.1 q369 rfl) (gf X.1 X.2.1 q375 rfl) (gf X.1 X.2.1 q373 rfl) (gf X.1 X.2.1 q371 rfl) q374 q372 ⟨by decide, by decide⟩ np_J14_hasNext rfl dX2_openMats_11) (fun q h he hX => a_out (unc_of Z.2.1 rfl) Z.2.2.2.1 he hX) (fun x11 h hf => ?kk11)
  refine AW.eq (g2 := F0 m 16 ls [.int x11]) rfl ?_
  refine AW.lift2 (fun _ _ _ _ k1 k2 => lv_if_eq (pc := 16) (tgt := 47) X.2.2.1 X.2.2.2.1 dX2_openMats_16 rfl k1 k2) (fun c => ?_) (fun c => ?_)
  · have hf := ite_t c hf
    refine a_iload_n (pc := 47) X dX2_openMats_47 rfl hl 0 rfl ?_
    exact a_ireturn X Z.2.2.1 Z.2.2.2.1 dX2_openMats_48 hf
  · have hf := ite_f c hf
    refine a_aload_n (pc := 19) X dX2_openMats_19 rfl hl 1 rfl ?_
    rcases dv_someS hf with ⟨hk, hf⟩ | ⟨-, hf⟩
    rotate_left
    · exact fl_none hf
    refine a_callb (pc := 20) (rs := []) (avs := [vR (some a11)]) Z.1 (w_J14_next GA (some a11)) (Or.inl rfl) q397 q96 (by decide) (by decide) dX2_openMats_20 hl.1 (Nat.le_of_ble_eq_true rfl) hf (ct_F (x := ({ cls := "java/util/Iterator", name := "next", desc := "()Ljava/lang/Object;" } : MethodName)) hk ⟨by decide, by decide⟩ X (Or.inl rfl) q397 q390 (gf X.1 X.2.1 q392 rfl) (gf X.1 X.2.1 q391 rfl) (gf X.1 X.2.1 q396 rfl) (gf X.1 X.2.1 q394 rfl) (gf X.1 X.2.1 q371 rfl) q395 q393 ⟨by decide, by decide⟩ np_J14_next rfl dX2_openMats_20) (fun q h he hX => a_out (unc_of Z.2.1 rfl) Z.2.2.2.1 he hX) (fun x20 h hf => ?kk20)
    refine AW.eq (g2 := F0 m 25 ls [va_rf x20]) rfl ?_
    refine a_checkcast (pc := 25) X (gw X.1 X.2.1 q802) (cs_JumpHall_Mat GA) dX2_openMats_25 hf (fun hf => ?_)
    refine a_astore_n (pc := 28) X dX2_openMats_28 rfl hl (by decide) (lv' := [(3, vR x20), (1, vI v1), (2, vR (some a11))]) rfl (fun ls hl => ?_)
    refine a_iload_n (pc := 29) X dX2_openMats_29 rfl hl 1 rfl ?_
    refine a_aload_n (pc := 30) X dX2_openMats_30 rfl hl 0 rfl ?_
    refine a_getN (pc := 31) (φ := 401) pI_t X Z.1.2.1 (gnF X.1 X.2.1 q817) (fun _ q => q) (by decide) dX2_openMats_31 hf (fun x31 hf => ?_)
    refine AW.lift2 (fun _ _ _ _ k1 k2 => lv_if_eq (pc := 34) (tgt := 41) X.2.2.1 X.2.2.2.1 dX2_openMats_34 rfl k1 k2) (fun c => ?_) (fun c => ?_)
    · have hf := ite_t c hf
      refine AW.lift (fun _ _ _ _ k => lv_iconst (pc := 41) (v := (1 : Int32)) X.2.2.1 X.2.2.2.1 dX2_openMats_41 rfl k) ?_
      exact w_X2_openMats_j42 GA Z (some a11) (1 : Int32) v1 rc10 hrc10 (hl.sub [2] rfl) hf
    · have hf := ite_f c hf
      refine AW.lift (fun _ _ _ _ k => lv_iconst (pc := 37) (v := (0 : Int32)) X.2.2.1 X.2.2.2.1 dX2_openMats_37 rfl k) ?_
      refine AW.lift (fun _ _ _ _ k => lv_goto (pc := 38) (tgt := 42) X.2.2.1 X.2.2.2.1 dX2_openMats_38 rfl k) ?_
      exact w_X2_openMats_j42 GA Z (some a11) (0 : Int32) v1 rc10 hrc10 (hl.sub [2] rfl) hf
theorem w_X2_openMats_l10 {r : Except Nat (Int32) × AH} (GA : GA l s0 a0 K lam) (Z : WZ l s0 a0 K p s m c cX2_openMats yX2_openMats.cls 4 b R 9 422 meth [] (some (.int)) yX2_openMats) (v2 : Option Nat)  : ∀ (n : Nat) (v1 : Int32) (h : AH) (ls : Array Slot), LV ls 4 [(1, vI v1), (2, vR v2)] → f_X2_openMats_l10 K v2 n v1 h = some r → AW s0 K lam p l e R s m args below meth c (AQ s0 K lam below oI b r s) b h (F0 m 10 ls []) := by
  intro n
  induction n with
  | zero => intro v1 h ls hl hf; exact fl_no (h := h) hf
  | succ n ih => intro v1 h ls hl hf; exact w_X2_openMats_b10 GA Z v1 v2 (f_X2_openMats_l10 K v2 n) ih hl hf
theorem np_X2_openMats : npar yX2_openMats.desc 0 := by unfold npar; decide +kernel
theorem hy_X2_openMats : yX2_openMats.cls ≠ "java/lang/invoke/MethodHandle" ∧ yX2_openMats.cls ≠ "java/lang/invoke/VarHandle" := by decide +kernel
theorem w_X2_openMats (GA : GA l s0 a0 K lam) (v0 : Option Nat) : AMet l s0 K lam yX2_openMats (Cond.code yX2_openMats cX2_openMats (4 : Nat) (Option.some ClassFile.FieldType.int)) 9 422 [vR v0] oI (f_X2_openMats K v0) := by
  refine AMet.of GA.1 (plainFor_of_name (by decide +kernel)) (Nat.le_of_ble_eq_true rfl) ?_
  intro b r hf p e s m args below meth c X hr hlk hnm hnd ht ls hl
  have Z : WZ l s0 a0 K p s m c cX2_openMats yX2_openMats.cls 4 b { frames := 9, cells := K 0 - aX b, slots := K 1 - aW b, locals := 422 } 9 422 meth [] (some (.int)) yX2_openMats := ⟨⟨X, GA.2.1, GA.2.2.1, rfl, rfl, Nat.le_refl _, Nat.le_refl _⟩, tab_nil ht, hr, hlk, hnm, hnd⟩
  unfold f_X2_openMats at hf
  clear hr hlk hnm hnd ht
  refine AW.lift (fun _ _ _ _ k => lv_iconst (pc := 0) (v := (0 : Int32)) X.2.2.1 X.2.2.2.1 dX2_openMats_0 rfl k) ?_
  refine a_istore_n (pc := 1) X dX2_openMats_1 rfl hl (by decide) (lv' := [(1, vI (0 : Int32)), (0, vR v0)]) rfl (fun ls hl => ?_)
  refine a_aload_n (pc := 2) X dX2_openMats_2 rfl hl 1 rfl ?_
  refine a_get (pc := 3) (φ := 300) pR_t X Z.1.2.1 (gw X.1 X.2.1 q228) (fun _ q => q) (by decide) dX2_openMats_3 hf (fun x3 hf => ?_)
  obtain ⟨a6, rfl, ⟨hk, hf⟩ | ⟨-, hf⟩⟩ := dv_some hf
  rotate_left
  · exact fl_none hf
  refine a_callb (pc := 6) (rs := []) (avs := [vR (some a6)]) Z.1 (w_J2_iterator GA (some a6)) (Or.inl rfl) q347 q78 (by decide) (by decide) dX2_openMats_6 hl.1 (Nat.le_of_ble_eq_true rfl) hf (ct_V hk ⟨by decide, by decide⟩ X (Or.inl rfl) q347 q344 q345 q346 hy_J2_iterator np_J2_iterator rfl dX2_openMats_6) (fun q h he hX => a_out (unc_of Z.2.1 rfl) Z.2.2.2.1 he hX) (fun x6 h hf => ?kk6)
  refine AW.eq (g2 := F0 m 9 ls [va_rf x6]) rfl ?_
  refine a_astore_n (pc := 9) X dX2_openMats_9 rfl hl (by decide) (lv' := [(2, vR x6), (1, vI (0 : Int32)), (0, vR v0)]) rfl (fun ls hl => ?_)
  exact w_X2_openMats_l10 GA Z x6  FU (0 : Int32) _ _ (hl.sub [1, 0] rfl) hf
end WK
