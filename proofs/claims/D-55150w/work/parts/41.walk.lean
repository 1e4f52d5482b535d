section WK
variable {l : Launch} {s0 : State} {a0 : Array Value} {K : Nat → Nat} {lam : Nat → ClassId}
variable {p : Program} {e : Env} {R : Room} {s : State} {m : MethodId} {args : Array Value} {below : List Frame} {meth : Method} {c : Code} {b : AH}
theorem w_X4_bestMat_j76 {r : Except Nat (Int32) × AH} (GA : GA l s0 a0 K lam) (Z : WZ l s0 a0 K p s m c cX4_bestMat yX4_bestMat.cls 4 b R 3 64 meth [] (some (.int)) yX4_bestMat) (v0 : Option Nat) (v1 : Int32)   {h : AH} {ls : Array Slot} (hl : LV ls 4 [(0, vR v0), (1, vI v1)]) (hf : f_X4_bestMat_j76 K v0 v1 h = some r) : AW s0 K lam p l e R s m args below meth c (AQ s0 K lam below oI b r s) b h (F0 m 76 ls []) := by
  unfold f_X4_bestMat_j76 at hf
  have X := Z.1.1
  refine a_iload_n (pc := 76) X dX4_bestMat_76 rfl hl 1 rfl ?_
  refine AW.lift (fun _ _ _ _ k => lv_iconst (pc := 77) (v := (-1 : Int32)) X.2.2.1 X.2.2.2.1 dX4_bestMat_77 rfl k) ?_
  refine AW.lift2 (fun _ _ _ _ k1 k2 => lv_icmp_ne (pc := 78) (tgt := 89) X.2.2.1 X.2.2.2.1 dX4_bestMat_78 rfl k2 k1) (fun c => ?_) (fun c => ?_)
  · have hf := ite_t c hf
    refine a_aload_n (pc := 81) X dX4_bestMat_81 rfl hl 0 rfl ?_
    refine AW.lift (fun _ _ _ _ k => lv_iconst (pc := 82) (v := (1 : Int32)) X.2.2.1 X.2.2.2.1 dX4_bestMat_82 rfl k) ?_
    obtain ⟨a83, rfl, ⟨hk, hf⟩ | ⟨-, hf⟩⟩ := dv_some hf
    rotate_left
    · exact fl_none hf
    refine a_callb (pc := 83) (rs := []) (avs := [vR (some a83), vI (1 : Int32)]) Z.1 (w_X4_throwing GA (some a83) (1 : Int32)) (Or.inl rfl) q3120 q86 (by decide) (by decide) dX4_bestMat_83 hl.1 (Nat.le_of_ble_eq_true rfl) hf (ct_V hk ⟨by decide, by decide⟩ X (Or.inl rfl) q3120 q3117 q3119 pv_30 hy_X4_throwing np_X4_throwing rfl dX4_bestMat_83) (fun q h he hX => a_out (unc_of Z.2.1 rfl) Z.2.2.2.1 he hX) (fun x83 h hf => ?kk83)
    refine AW.eq (g2 := F0 m 86 ls [.int x83]) rfl ?_
    refine AW.lift (fun _ _ _ _ k => lv_goto (pc := 86) (tgt := 90) X.2.2.1 X.2.2.2.1 dX4_bestMat_86 rfl k) ?_
    exact a_ireturn X Z.2.2.1 Z.2.2.2.1 dX4_bestMat_90 hf
  · have hf := ite_f c hf
    refine a_iload_n (pc := 89) X dX4_bestMat_89 rfl hl 1 rfl ?_
    exact a_ireturn X Z.2.2.1 Z.2.2.2.1 dX4_bestMat_90 hf
theorem w_X4_bestMat_j69 {r : Except Nat (Int32) × AH} (GA : GA l s0 a0 K lam) (Z : WZ l s0 a0 K p s m c cX4_bestMat yX4_bestMat.cls 4 b R 3 64 meth [] (some (.int)) yX4_bestMat) (v0 : Option Nat) (v2 : Int32) (t0 : Int32) (rc9 : Int32 → Int32 → AM (Int32)) (hrc9 : ∀ (v1 : Int32) (v2 : Int32) (h : AH) (ls : Array Slot), LV ls 4 [(0, vR v0), (1, vI v1), (2, vI v2)] → rc9 v1 v2 h = some r → AW s0 K lam p l e R s m args below meth c (AQ s0 K lam below oI b r s) b h (F0 m 9 ls [])) {h : AH} {ls : Array Slot} (hl : LV ls 4 [(0, vR v0), (2, vI v2)]) (hf : f_X4_bestMat_j69 K rc9 v0 v2 t0 h = some r) : AW s0 K lam p l e R s m args below meth c (AQ s0 K lam below oI b r s) b h (F0 m 69 ls [.int t0]) := by
  unfold f_X4_bestMat_j69 at hf
  have X := Z.1.1
  refine a_istore_n (pc := 69) X dX4_bestMat_69 rfl hl (by decide) (lv' := [(1, vI t0), (0, vR v0), (2, vI v2)]) rfl (fun ls hl => ?_)
  refine a_iinc (pc := 70) (v := (v2 + (1 : Int32))) X dX4_bestMat_70 hl (k := 2) rfl rfl (by decide) (lv' := [(2, vI (v2 + (1 : Int32))), (1, vI t0), (0, vR v0)]) rfl (fun ls hl => ?_)
  refine AW.lift (fun _ _ _ _ k => lv_goto (pc := 73) (tgt := 9) X.2.2.1 X.2.2.2.1 dX4_bestMat_73 rfl k) ?_
  exact hrc9 t0 (v2 + (1 : Int32)) _ _ (hl.sub [2, 1, 0] rfl) hf
theorem w_X4_bestMat_j59 {r : Except Nat (Int32) × AH} (GA : GA l s0 a0 K lam) (Z : WZ l s0 a0 K p s m c cX4_bestMat yX4_bestMat.cls 4 b R 3 64 meth [] (some (.int)) yX4_bestMat) (v0 : Option Nat) (v1 : Int32) (v2 : Int32) (t0 : Int32) (rc9 : Int32 → Int32 → AM (Int32)) (hrc9 : ∀ (v1 : Int32) (v2 : Int32) (h : AH) (ls : Array Slot), LV ls 4 [(0, vR v0), (1, vI v1), (2, vI v2)] → rc9 v1 v2 h = some r → AW s0 K lam p l e R s m args below meth c (AQ s0 K lam below oI b r s) b h (F0 m 9 ls [])) {h : AH} {ls : Array Slot} (hl : LV ls 4 [(0, vR v0), (1, vI v1), (2, vI v2)]) (hf : f_X4_bestMat_j59 K rc9 v0 v1 v2 t0 h = some r) : AW s0 K lam p l e R s m args below meth c (AQ s0 K lam below oI b r s) b h (F0 m 59 ls [.int t0]) := by
  unfold f_X4_bestMat_j59 at hf
  have X := Z.1.1
  refine a_istore_n (pc := 59) X dX4_bestMat_59 rfl hl (by decide) (lv' := [(3, vI t0), (0, vR v0), (1, vI v1), (2, vI v2)]) rfl (fun ls hl => ?_)
  refine a_iload_n (pc := 60) X dX4_bestMat_60 rfl hl 0 rfl ?_
  refine AW.lift2 (fun _ _ _ _ k1 k2 => lv_if_le (pc := 61) (tgt := 68) X.2.2.1 X.2.2.2.1 dX4_bestMat_61 rfl k1 k2) (fun c => ?_) (fun c => ?_)
  · have hf := ite_t c hf
    refine a_iload_n (pc := 68) X dX4_bestMat_68 rfl hl 2 rfl ?_
    exact w_X4_bestMat_j69 GA Z v0 v2 v1 rc9 hrc9 (hl.sub [1, 3] rfl) hf
  · have hf := ite_f c hf
    refine a_iload_n (pc := 64) X dX4_bestMat_64 rfl hl 3 rfl ?_
    refine AW.lift (fun _ _ _ _ k => lv_goto (pc := 65) (tgt := 69) X.2.2.1 X.2.2.2.1 dX4_bestMat_65 rfl k) ?_
    exact w_X4_bestMat_j69 GA Z v0 v2 v2 rc9 hrc9 (hl.sub [1, 3] rfl) hf
theorem w_X4_bestMat_j39 {r : Except Nat (Int32) × AH} (GA : GA l s0 a0 K lam) (Z : WZ l s0 a0 K p s m c cX4_bestMat yX4_bestMat.cls 4 b R 3 64 meth [] (some (.int)) yX4_bestMat) (v0 : Option Nat) (v1 : Int32) (v2 : Int32) (t0 : Int32) (rc9 : Int32 → Int32 → AM (Int32)) (hrc9 : ∀ (v1 : Int32) (v2 : Int32) (h : AH) (ls : Array Slot), LV ls 4 [(0, vR v0), (1, vI v1), (2, vI v2)] → rc9 v1 v2 h = some r → AW s0 K lam p l e R s m args below meth c (AQ s0 K lam below oI b r s) b h (F0 m 9 ls [])) {h : AH} {ls : Array Slot} (hl : LV ls 4 [(0, vR v0), (1, vI v1), (2, vI v2)]) (hf : f_X4_bestMat_j39 K rc9 v0 v1 v2 t0 h = some r) : AW s0 K lam p l e R s m args below meth c (AQ s0 K lam below oI b r s) b h (F0 m 39 ls [.int t0]) := by
  unfold f_X4_bestMat_j39 at hf
  have X := Z.1.1
  refine a_istore_n (pc := 39) X dX4_bestMat_39 rfl hl (by decide) (lv' := [(3, vI t0), (0, vR v0), (1, vI v1), (2, vI v2)]) rfl (fun ls hl => ?_)
  refine a_iload_n (pc := 40) X dX4_bestMat_40 rfl hl 0 rfl ?_
  refine AW.lift2 (fun _ _ _ _ k1 k2 => lv_if_ne (pc := 41) (tgt := 58) X.2.2.1 X.2.2.2.1 dX4_bestMat_41 rfl k2 k1) (fun c => ?_) (fun c => ?_)
  · have hf := ite_t c hf
    refine a_aload_n (pc := 44) X dX4_bestMat_44 rfl hl 1 rfl ?_
    refine a_iload_n (pc := 45) X dX4_bestMat_45 rfl hl 2 rfl ?_
    obtain ⟨a46, rfl, ⟨hk, hf⟩ | ⟨-, hf⟩⟩ := dv_some hf
    rotate_left
    · exact fl_none hf
    refine a_callb (pc := 46) (rs := []) (avs := [vR (some a46), vI v1]) Z.1 (w_X4_wears GA (some a46) v1) (Or.inl rfl) q3178 q86 (by decide) (by decide) dX4_bestMat_46 hl.1 (Nat.le_of_ble_eq_true rfl) hf (ct_V hk ⟨by decide, by decide⟩ X (Or.inl rfl) q3178 q3175 q3177 pv_39 hy_X4_wears np_X4_wears rfl dX4_bestMat_46) (fun q h he hX => a_out (unc_of Z.2.1 rfl) Z.2.2.2.1 he hX) (fun x46 h hf => ?kk46)
    refine AW.eq (g2 := F0 m 49 ls [.int x46]) rfl ?_
    refine a_aload_n (pc := 49) X dX4_bestMat_49 rfl hl 1 rfl ?_
    refine a_iload_n (pc := 50) X dX4_bestMat_50 rfl hl 3 rfl ?_
    rcases dv_someS hf with ⟨hk, hf⟩ | ⟨-, hf⟩
    rotate_left
    · exact fl_none hf
    refine a_callb (pc := 51) (rs := [vI x46]) (avs := [vR (some a46), vI v2]) Z.1 (w_X4_wears GA (some a46) v2) (Or.inl rfl) q3178 q86 (by decide) (by decide) dX4_bestMat_51 hl.1 (Nat.le_of_ble_eq_true rfl) hf (ct_V hk ⟨by decide, by decide⟩ X (Or.inl rfl) q3178 q3175 q3177 pv_39 hy_X4_wears np_X4_wears rfl dX4_bestMat_51) (fun q h he hX => a_out (unc_of Z.2.1 rfl) Z.2.2.2.1 he hX) (fun x51 h hf => ?kk51)
    refine AW.eq (g2 := F0 m 54 ls [.int x51, .int x46]) rfl ?_
    refine AW.lift (fun _ _ _ _ k => lv_isub (pc := 54) X.2.2.1 X.2.2.2.1 dX4_bestMat_54 k) ?_
    refine AW.lift (fun _ _ _ _ k => lv_goto (pc := 55) (tgt := 59) X.2.2.1 X.2.2.2.1 dX4_bestMat_55 rfl k) ?_
    exact w_X4_bestMat_j59 GA Z (some a46) v1 v2 (x46 - x51) rc9 hrc9 (hl.sub [1, 2, 3] rfl) hf
  · have hf := ite_f c hf
    refine a_iload_n (pc := 58) X dX4_bestMat_58 rfl hl 0 rfl ?_
    exact w_X4_bestMat_j59 GA Z v0 v1 v2 t0 rc9 hrc9 (hl.sub [1, 2, 3] rfl) hf
theorem w_X4_bestMat_b9 {r : Except Nat (Int32) × AH} (GA : GA l s0 a0 K lam) (Z : WZ l s0 a0 K p s m c cX4_bestMat yX4_bestMat.cls 4 b R 3 64 meth [] (some (.int)) yX4_bestMat) (v0 : Option Nat) (v1 : Int32) (v2 : Int32)  (rc9 : Int32 → Int32 → AM (Int32)) (hrc9 : ∀ (v1 : Int32) (v2 : Int32) (h : AH) (ls : Array Slot), LV ls 4 [(0, vR v0), (1, vI v1), (2, vI v2)] → rc9 v1 v2 h = some r → AW s0 K lam p l e R s m args below meth c (AQ s0 K lam below oI b r s) b h (F0 m 9 ls [])) {h : AH} {ls : Array Slot} (hl : LV ls 4 [(0, vR v0), (1, vI v1), (2, vI v2)]) (hf : f_X4_bestMat_b9 K rc9 v0 v1 v2 h = some r) : AW s0 K lam p l e R s m args below meth c (AQ s0 K lam below oI b r s) b h (F0 m 9 ls []) := by
  unfold f_X4_bestMat_b9 at hf
  have X := Z.1.1
  refine a_iload_n (pc := 9) X dX4_bestMat_9 rfl hl 2 rfl ?_
  refine a_aload_n (pc := 10) X dX4_bestMat_10 rfl hl 0 rfl ?_
  refine a_get (pc := 11) (φ := 100) pR_t X Z.1.2.1 (gw X.1 X.2.1 q3025) (fun _ q => q) (by decide) dX4_bestMat_11 hf (fun x11 hf => ?_)
  refine AW.lift (fun _ _ _ _ k => lv_iconst (pc := 14) (v := (1 : Int32)) X.2.2.1 X.2.2.2.1 dX4_bestMat_14 rfl k) ?_
  refine a_iaload (pc := 15) X dX4_bestMat_15 hf (fun x15 hf => ?_)
  refine AW.lift2 (fun _ _ _ _ k1 k2 => lv_icmp_ge (pc := 16) (tgt := 76) X.2.2.1 X.2.2.2.1 dX4_bestMat_16 rfl k1 k2) (fun c => ?_) (fun c => ?_)
  · have hf := ite_t c hf
    exact w_X4_bestMat_j76 GA Z v0 v1   (hl.sub [0, 1] rfl) hf
  · have hf := ite_f c hf
    refine a_iload_n (pc := 19) X dX4_bestMat_19 rfl hl 1 rfl ?_
    refine AW.lift (fun _ _ _ _ k => lv_iconst (pc := 20) (v := (-1 : Int32)) X.2.2.1 X.2.2.2.1 dX4_bestMat_20 rfl k) ?_
    refine AW.lift2 (fun _ _ _ _ k1 k2 => lv_icmp_ne (pc := 21) (tgt := 28) X.2.2.1 X.2.2.2.1 dX4_bestMat_21 rfl k2 k1) (fun c => ?_) (fun c => ?_)
    · have hf := ite_t c hf
      refine AW.lift (fun _ _ _ _ k => lv_iconst (pc := 24) (v := (1 : Int32)) X.2.2.1 X.2.2.2.1 dX4_bestMat_24 rfl k) ?_
      refine AW.lift (fun _ _ _ _ k => lv_goto (pc := 25) (tgt := 39) X.2.2.1 X.2.2.2.1 dX4_bestMat_25 rfl k) ?_
      exact w_X4_bestMat_j39 GA Z v0 v1 v2 (1 : Int32) rc9 hrc9 (hl.sub [0, 1, 2] rfl) hf
    · have hf := ite_f c hf
      refine a_aload_n (pc := 28) X dX4_bestMat_28 rfl hl 0 rfl ?_
      refine a_iload_n (pc := 29) X dX4_bestMat_29 rfl hl 2 rfl ?_
      obtain ⟨a30, rfl, ⟨hk, hf⟩ | ⟨-, hf⟩⟩ := dv_some hf
      rotate_left
      · exact fl_none hf
      refine a_callb (pc := 30) (rs := []) (avs := [vR (some a30), vI v2]) Z.1 (w_X4_bears GA (some a30) v2) (Or.inl rfl) q3158 q86 (by decide) (by decide) dX4_bestMat_30 hl.1 (Nat.le_of_ble_eq_true rfl) hf (ct_V hk ⟨by decide, by decide⟩ X (Or.inl rfl) q3158 q3155 q3157 pv_36 hy_X4_bears np_X4_bears rfl dX4_bestMat_30) (fun q h he hX => a_out (unc_of Z.2.1 rfl) Z.2.2.2.1 he hX) (fun x30 h hf => ?kk30)
      refine AW.eq (g2 := F0 m 33 ls [.int x30]) rfl ?_
      refine a_aload_n (pc := 33) X dX4_bestMat_33 rfl hl 0 rfl ?_
      refine a_iload_n (pc := 34) X dX4_bestMat_34 rfl hl 1 rfl ?_
      rcases dv_someS hf with ⟨hk, hf⟩ | ⟨-, hf⟩
      rotate_left
      · exact fl_none hf
      refine a_callb (pc := 35) (rs := [vI x30]) (avs := [vR (some a30), vI v1]) Z.1 (w_X4_bears GA (some a30) v1) (Or.inl rfl) q3158 q86 (by decide) (by decide) dX4_bestMat_35 hl.1 (Nat.le_of_ble_eq_true rfl) hf (ct_V hk ⟨by decide, by decide⟩ X (Or.inl rfl) q3158 q3155 q3157 pv_36 hy_X4_bears np_X4_bears rfl dX4_bestMat_35) (fun q h he hX => a_out (unc_of Z.2.1 rfl) Z.2.2.2.1 he hX) (fun x35 h hf => ?kk35)
      refine AW.eq (g2 := F0 m 38 ls [.int x35, .int x30]) rfl ?_
      refine AW.lift (fun _ _ _ _ k => lv_isub (pc := 38) X.2.2.1 X.2.2.2.1 dX4_bestMat_38 k) ?_
      exact w_X4_bestMat_j39 GA Z (some a30) v1 v2 (x30 - x35) rc9 hrc9 (hl.sub [0, 1, 2] rfl) hf
theorem w_X4_bestMat_l9 {r : Except Nat (Int32) × AH} (GA : GA l s0 a0 K lam) (Z : WZ l s0 a0 K p s m c cX4_bestMat yX4_bestMat.cls 4 b R 3 64 meth [] (some (.int)) yX4_bestMat) (v0 : Option Nat)  : ∀ (n : Nat) (v1 : Int32) (v2 : Int32) (h : AH) (ls : Array Slot), LV ls 4 [(0, vR v0), (1, vI v1), (2, vI v2)] → f_X4_bestMat_l9 K v0 n v1 v2 h = some r → AW s0 K lam p l e R s m args below meth c (AQ s0 K lam below oI b r s) b h (F0 m 9 ls []) := by
  intro n
  induction n with
  | zero => intro v1 v2 h ls hl hf; exact fl_no (h := h) hf
  | succ n ih => intro v1 v2 h ls hl hf; exact w_X4_bestMat_b9 GA Z v0 v1 v2 (f_X4_bestMat_l9 K v0 n) ih hl hf
theorem np_X4_bestMat : npar yX4_bestMat.desc 0 := by unfold npar; decide +kernel
theorem hy_X4_bestMat : yX4_bestMat.cls ≠ "java/lang/invoke/MethodHandle" ∧ yX4_bestMat.cls ≠ "java/lang/invoke/VarHandle" := by decide +kernel
theorem w_X4_bestMat (GA : GA l s0 a0 K lam) (v0 : Option Nat) : AMet l s0 K lam yX4_bestMat (Cond.code yX4_bestMat cX4_bestMat (4 : Nat) (Option.some ClassFile.FieldType.int)) 3 64 [vR v0] oI (f_X4_bestMat K v0) := by
  refine AMet.of GA.1 (plainFor_of_name (by decide +kernel)) (Nat.le_of_ble_eq_true rfl) ?_
  intro b r hf p e s m args below meth c X hr hlk hnm hnd ht ls hl
  have Z : WZ l s0 a0 K p s m c cX4_bestMat yX4_bestMat.cls 4 b { frames := 3, cells := K 0 - aX b, slots := K 1 - aW b, locals := 64 } 3 64 meth [] (some (.int)) yX4_bestMat := ⟨⟨X, GA.2.1, GA.2.2.1, rfl, rfl, Nat.le_refl _, Nat.le_refl _⟩, tab_nil ht, hr, hlk, hnm, hnd⟩
  unfold f_X4_bestMat at hf
  clear hr hlk hnm hnd ht
  refine a_aload_n (pc := 0) X dX4_bestMat_0 rfl hl 0 rfl ?_
  refine AW.lift (fun _ _ _ _ k => lv_iconst (pc := 1) (v := (0 : Int32)) X.2.2.1 X.2.2.2.1 dX4_bestMat_1 rfl k) ?_
  refine a_put (pc := 2) (φ := 107) X Z.1.2.1 Z.1.2.2.1 (gw X.1 X.2.1 q3032) (fun _ q => q) (by decide) rfl rfl dX4_bestMat_2 hf (fun h hf => ?_)
  refine AW.lift (fun _ _ _ _ k => lv_iconst (pc := 5) (v := (-1 : Int32)) X.2.2.1 X.2.2.2.1 dX4_bestMat_5 rfl k) ?_
  refine a_istore_n (pc := 6) X dX4_bestMat_6 rfl hl (by decide) (lv' := [(1, vI (-1 : Int32)), (0, vR v0)]) rfl (fun ls hl => ?_)
  refine AW.lift (fun _ _ _ _ k => lv_iconst (pc := 7) (v := (0 : Int32)) X.2.2.1 X.2.2.2.1 dX4_bestMat_7 rfl k) ?_
  refine a_istore_n (pc := 8) X dX4_bestMat_8 rfl hl (by decide) (lv' := [(2, vI (0 : Int32)), (1, vI (-1 : Int32)), (0, vR v0)]) rfl (fun ls hl => ?_)
  exact w_X4_bestMat_l9 GA Z v0  FU (-1 : Int32) (0 : Int32) _ _ (hl.sub [2, 1, 0] rfl) hf
theorem w_X1_jumper_j25 {r : Except Nat (Int32) × AH} (GA : GA l s0 a0 K lam) (Z : WZ l s0 a0 K p s m c cX1_jumper yX1_jumper.cls 3 b R 21 3348 meth [] (some (.int)) yX1_jumper) (v0 : Option Nat) (v1 : Int32) (v2 : Int32) (t0 : Int32)  {h : AH} {ls : Array Slot} (hl : LV ls 3 [(0, vR v0), (1, vI v1), (2, vI v2)]) (hf : f_X1_jumper_j25 K v0 v1 v2 t0 h = some r) : AW s0 K lam p l e R s m args below meth c (AQ s0 K lam below oI b r s) b h (F0 m 25 ls [.int t0]) := by
  unfold f_X1_jumper_j25 at hf
  have X := Z.1.1
  refine a_callb (pc := 25) (rs := []) (avs := [vI t0]) Z.1 (w_X1_checkArgument GA t0) (Or.inl rfl) q1880 q74 (by decide) (by decide) dX1_jumper_25 hl.1 (Nat.le_of_ble_eq_true rfl) hf (ct_S X (Or.inl rfl) q1880 q74 q1878 q1879 hy_X1_checkArgument np_X1_checkArgument rfl dX1_jumper_25) (fun q h he hX => a_out (unc_of Z.2.1 rfl) Z.2.2.2.1 he hX) (fun _ h hf => ?kk25)
  refine AW.eq (g2 := F0 m 28 ls []) rfl ?_
  refine a_aload_n (pc := 28) X dX1_jumper_28 rfl hl 0 rfl ?_
  refine a_iload_n (pc := 29) X dX1_jumper_29 rfl hl 1 rfl ?_
  refine a_iload_n (pc := 30) X dX1_jumper_30 rfl hl 2 rfl ?_
  refine a_ndy (pc := 31) (rs := [vR v0]) (avs := [vI v1, vI v2]) Z.1 Z.2.2.2.2.2 (siG_207 GA) hfb_7 (lw_all_tbl q3550) ⟨by decide, by decide⟩ rfl rfl rfl (by decide) hl.1 (Nat.le_of_ble_eq_true rfl) (Nat.le_of_ble_eq_true rfl) rfl dX1_jumper_31 hf (fun x31 h hf => ?_)
  refine AW.eq (g2 := F0 m 36 ls [va_rf (some x31), va_rf v0]) rfl ?_
  obtain ⟨a36, rfl, ⟨hk, hf⟩ | ⟨-, hf⟩⟩ := dv_some hf
  rotate_left
  · exact fl_none hf
  refine a_callb (pc := 36) (rs := []) (avs := [vR (some a36), vR (some x31)]) Z.1 (w_X1_does GA (some a36) (some x31)) (Or.inr (Or.inl ⟨_, rfl⟩)) q1754 q74 (by decide) (by decide) dX1_jumper_36 hl.1 (Nat.le_of_ble_eq_true rfl) hf (ct_V hk ⟨by decide, by decide⟩ X (Or.inr (Or.inl ⟨_, rfl⟩)) q1754 q1751 q1753 pv_4 hy_X1_does np_X1_does rfl dX1_jumper_36) (fun q h he hX => a_out (unc_of Z.2.1 rfl) Z.2.2.2.1 he hX) (fun x36 h hf => ?kk36)
  refine AW.eq (g2 := F0 m 39 ls [.int x36]) rfl ?_
  exact a_ireturn X Z.2.2.1 Z.2.2.2.1 dX1_jumper_39 hf
theorem w_X1_jumper_j24 {r : Except Nat (Int32) × AH} (GA : GA l s0 a0 K lam) (Z : WZ l s0 a0 K p s m c cX1_jumper yX1_jumper.cls 3 b R 21 3348 meth [] (some (.int)) yX1_jumper) (v0 : Option Nat) (v1 : Int32) (v2 : Int32)   {h : AH} {ls : Array Slot} (hl : LV ls 3 [(0, vR v0), (1, vI v1), (2, vI v2)]) (hf : f_X1_jumper_j24 K v0 v1 v2 h = some r) : AW s0 K lam p l e R s m args below meth c (AQ s0 K lam below oI b r s) b h (F0 m 24 ls []) := by
  unfold f_X1_jumper_j24 at hf
  have X := Z.1.1
  refine AW.lift (fun _ _ _ _ k => lv_iconst (pc := 24) (v := (0 : Int32)) X.2.2.1 X.2.2.2.1 dX1_jumper_24 rfl k) ?_
  exact w_X1_jumper_j25 GA Z v0 v1 v2 (0 : Int32)  (hl.sub [0, 1, 2] rfl) hf
theorem np_X1_jumper : npar yX1_jumper.desc 2 := by unfold npar; decide +kernel
theorem hy_X1_jumper : yX1_jumper.cls ≠ "java/lang/invoke/MethodHandle" ∧ yX1_jumper.cls ≠ "java/lang/invoke/VarHandle" := by decide +kernel
theorem w_X1_jumper (GA : GA l s0 a0 K lam) (v0 : Option Nat) (v1 : Int32) (v2 : Int32) : AMet l s0 K lam yX1_jumper (Cond.code yX1_jumper cX1_jumper (3 : Nat) (Option.some ClassFile.FieldType.int)) 21 3348 [vR v0, vI v1, vI v2] oI (f_X1_jumper K v0 v1 v2) := by
  refine AMet.of GA.1 (plainFor_of_name (by decide +kernel)) (Nat.le_of_ble_eq_true rfl) ?_
  intro b r hf p e s m args below meth c X hr hlk hnm hnd ht ls hl
  have Z : WZ l s0 a0 K p s m c cX1_jumper yX1_jumper.cls 3 b { frames := 21, cells := K 0 - aX b, slots := K 1 - aW b, locals := 3348 } 21 3348 meth [] (some (.int)) yX1_jumper := ⟨⟨X, GA.2.1, GA.2.2.1, rfl, rfl, Nat.le_refl _, Nat.le_refl _⟩, tab_nil ht, hr, hlk, hnm, hnd⟩
  unfold f_X1_jumper at hf
  clear hr hlk hnm hnd ht
  refine a_iload_n (pc := 0) X dX1_jumper_0 rfl hl 1 rfl ?_
  refine AW.lift (fun _ _ _ _ k => lv_bipush (pc := 1) (v := (10 : Int32)) X.2.2.1 X.2.2.2.1 dX1_jumper_1 rfl k) ?_
  refine AW.lift (fun _ _ _ _ k => lv_bipush (pc := 3) (v := (99 : Int32)) X.2.2.1 X.2.2.2.1 dX1_jumper_3 rfl k) ?_
  refine a_callb (pc := 5) (rs := []) (avs := [vI v1, vI (10 : Int32), vI (99 : Int32)]) Z.1 (w_X1_isIn GA v1 (10 : Int32) (99 : Int32)) (Or.inl rfl) q1812 q74 (by decide) (by decide) dX1_jumper_5 hl.1 (Nat.le_of_ble_eq_true rfl) hf (ct_S X (Or.inl rfl) q1812 q74 q1813 q1811 hy_X1_isIn np_X1_isIn rfl dX1_jumper_5) (fun q h he hX => a_out (unc_of Z.2.1 rfl) Z.2.2.2.1 he hX) (fun x5 h hf => ?kk5)
  refine AW.eq (g2 := F0 m 8 ls [.int x5]) rfl ?_
  refine AW.lift2 (fun _ _ _ _ k1 k2 => lv_if_eq (pc := 8) (tgt := 24) X.2.2.1 X.2.2.2.1 dX1_jumper_8 rfl k1 k2) (fun c => ?_) (fun c => ?_)
  · have hf := ite_t c hf
    exact w_X1_jumper_j24 GA Z v0 v1 v2   (hl.sub [0, 1, 2] rfl) hf
  · have hf := ite_f c hf
    refine a_iload_n (pc := 11) X dX1_jumper_11 rfl hl 2 rfl ?_
    refine AW.lift (fun _ _ _ _ k => lv_iconst (pc := 12) (v := (0 : Int32)) X.2.2.1 X.2.2.2.1 dX1_jumper_12 rfl k) ?_
    refine AW.lift (fun _ _ _ _ k => lv_iconst (pc := 13) (v := (4 : Int32)) X.2.2.1 X.2.2.2.1 dX1_jumper_13 rfl k) ?_
    refine a_callb (pc := 14) (rs := []) (avs := [vI v2, vI (0 : Int32), vI (4 : Int32)]) Z.1 (w_X1_isIn GA v2 (0 : Int32) (4 : Int32)) (Or.inl rfl) q1812 q74 (by decide) (by decide) dX1_jumper_14 hl.1 (Nat.le_of_ble_eq_true rfl) hf (ct_S X (Or.inl rfl) q1812 q74 q1813 q1811 hy_X1_isIn np_X1_isIn rfl dX1_jumper_14) (fun q h he hX => a_out (unc_of Z.2.1 rfl) Z.2.2.2.1 he hX) (fun x14 h hf => ?kk14)
    refine AW.eq (g2 := F0 m 17 ls [.int x14]) rfl ?_
    refine AW.lift2 (fun _ _ _ _ k1 k2 => lv_if_eq (pc := 17) (tgt := 24) X.2.2.1 X.2.2.2.1 dX1_jumper_17 rfl k1 k2) (fun c => ?_) (fun c => ?_)
    · have hf := ite_t c hf
      exact w_X1_jumper_j24 GA Z v0 v1 v2   (hl.sub [0, 1, 2] rfl) hf
    · have hf := ite_f c hf
      refine AW.lift (fun _ _ _ _ k => lv_iconst (pc := 20) (v := (1 : Int32)) X.2.2.1 X.2.2.2.1 dX1_jumper_20 rfl k) ?_
      refine AW.lift (fun _ _ _ _ k => lv_goto (pc := 21) (tgt := 25) X.2.2.1 X.2.2.2.1 dX1_jumper_21 rfl k) ?_
      exact w_X1_jumper_j25 GA Z v0 v1 v2 (1 : Int32)  (hl.sub [0, 1, 2] rfl) hf
theorem np_X0_jumper : npar yX0_jumper.desc 4 := by unfold npar; decide +kernel
theorem hy_X0_jumper : yX0_jumper.cls ≠ "java/lang/invoke/MethodHandle" ∧ yX0_jumper.cls ≠ "java/lang/invoke/VarHandle" := by decide +kernel
theorem w_X0_jumper (GA : GA l s0 a0 K lam) (v0 : Option Nat) (v1 : Int32) (v2 : Int32) (v3 : Option Nat) : AMet l s0 K lam yX0_jumper (Cond.codeWith yX0_jumper cX0_jumper (5 : Nat) (Option.some ClassFile.FieldType.int) [((0 : Nat), (10 : Nat), (13 : Nat), (28 : Nat)), ((0 : Nat), (10 : Nat), (17 : Nat), (13 : Nat))]) 22 3370 [vR v0, vI v1, vI v2, vR v3] oI (f_X0_jumper K v0 v1 v2 v3) := by
  refine AMet.ofW GA.1 (plainFor_of_name (by decide +kernel)) (Nat.le_of_ble_eq_true rfl) ?_
  intro b r hf p e s m args below meth c X hr hlk hnm hnd ht ls hl
  have Z : WZ l s0 a0 K p s m c cX0_jumper yX0_jumper.cls 5 b { frames := 22, cells := K 0 - aX b, slots := K 1 - aW b, locals := 3370 } 22 3370 meth [(0, 10, 13, 28), (0, 10, 17, 13)] (some (.int)) yX0_jumper := ⟨⟨X, GA.2.1, GA.2.2.1, rfl, rfl, Nat.le_refl _, Nat.le_refl _⟩, ht, hr, hlk, hnm, hnd⟩
  unfold f_X0_jumper at hf
  clear hr hlk hnm hnd ht
  refine a_aload_n (pc := 0) X dX0_jumper_0 rfl hl 3 rfl ?_
  refine AW.lift (fun _ _ _ _ k => lv_iconst (pc := 1) (v := (0 : Int32)) X.2.2.1 X.2.2.2.1 dX0_jumper_1 rfl k) ?_
  refine a_aload_n (pc := 2) X dX0_jumper_2 rfl hl 0 rfl ?_
  refine a_iload_n (pc := 3) X dX0_jumper_3 rfl hl 1 rfl ?_
  refine a_iload_n (pc := 4) X dX0_jumper_4 rfl hl 2 rfl ?_
  obtain ⟨a5, rfl, ⟨hk, hf⟩ | ⟨-, hf⟩⟩ := dv_tsome hf
  rotate_left
  · exact fl_tnone hf
  refine a_callt (pc := 5) (rs := [vI (0 : Int32), vR v3]) (avs := [vR (some a5), vI v1, vI v2]) Z.1 (w_X1_jumper GA (some a5) v1 v2) (Or.inl rfl) q1999 q74 (by decide) (by decide) dX0_jumper_5 hl.1 (Nat.le_of_ble_eq_true rfl) hf (ct_V hk ⟨by decide, by decide⟩ X (Or.inl rfl) q1999 q1996 q1997 q1998 hy_X1_jumper np_X1_jumper rfl dX0_jumper_5) (fun q h hf hX => ?hx5) (fun x5 h hf => ?kk5)
  case hx5 =>
    rcases ctc_some hf with ⟨hy, hf⟩ | ⟨hn0, hf⟩
    · refine a_catchH (st := 0) (en := 10) (hp := 13) (ct := 28) (pre := []) (suf := [(0, 10, 17, 13)]) X hX Z.2.1 rfl (fun z hz => nomatch hz) (by decide) (Or.inr ⟨by decide, _, gw X.1 X.2.1 q1873, (cs_X17 GA) _ hy⟩) (AW.eq (g2 := F0 m 13 ls [va_rf (some q)]) rfl ?_)
      refine a_astore (pc := 13) X dX0_jumper_13 hl (by decide) (lv' := [(4, vR (some q)), (0, vR (some a5)), (1, vI v1), (2, vI v2), (3, vR v3)]) rfl (fun ls hl => ?_)
      refine AW.lift (fun _ _ _ _ k => lv_iconst (pc := 15) (v := (1 : Int32)) X.2.2.1 X.2.2.2.1 dX0_jumper_15 rfl k) ?_
      exact a_ireturn X Z.2.2.1 Z.2.2.2.1 dX0_jumper_16 hf
    · skip
      rcases ctc_some hf with ⟨hy, hf⟩ | ⟨hn1, hf⟩
      · refine a_catchH (st := 0) (en := 10) (hp := 17) (ct := 13) (pre := [(0, 10, 13, 28)]) (suf := []) X hX Z.2.1 rfl (by intro z hz; simp only [List.mem_cons, List.not_mem_nil, or_false] at hz; rcases hz with rfl <;> first | exact Or.inl (by decide) | exact Or.inr ⟨by decide, _, gw X.1 X.2.1 q1873, (nc_12_13_14_16_18_19_20_21_java_lang_IllegalArgumentException GA _ (by simpa using hn0)).2.2⟩) (by decide) (Or.inr ⟨by decide, _, gw X.1 X.2.1 q1709, (cs_X21 GA) _ hy⟩) (AW.eq (g2 := F0 m 17 ls [va_rf (some q)]) rfl ?_)
        refine a_astore (pc := 17) X dX0_jumper_17 hl (by decide) (lv' := [(4, vR (some q)), (0, vR (some a5)), (1, vI v1), (2, vI v2), (3, vR v3)]) rfl (fun ls hl => ?_)
        refine AW.lift (fun _ _ _ _ k => lv_iconst (pc := 19) (v := (2 : Int32)) X.2.2.1 X.2.2.2.1 dX0_jumper_19 rfl k) ?_
        exact a_ireturn X Z.2.2.1 Z.2.2.2.1 dX0_jumper_20 hf
      · skip
        exact a_outH X Z.2.1 (by intro z hz; simp only [List.mem_cons, List.not_mem_nil, or_false] at hz; rcases hz with rfl | rfl <;> first | exact Or.inl (by decide) | exact Or.inr ⟨by decide, _, gw X.1 X.2.1 q1873, (nc_12_13_14_16_18_19_20_21_java_lang_IllegalArgumentException GA _ (by simpa using hn0)).2.2⟩ | exact Or.inr ⟨by decide, _, gw X.1 X.2.1 q1709, (nc_12_13_14_16_17_18_19_20_java_lang_UnsupportedOperationException GA _ (by simpa using hn1)).2.2⟩) Z.2.2.2.1 (th_eq hf) hX
  refine AW.eq (g2 := F0 m 8 ls [.int x5, .int (0 : Int32), va_rf v3]) rfl ?_
  refine AW.lift (fun _ _ _ _ k => lv_i2l (pc := 8) X.2.2.1 X.2.2.2.1 dX0_jumper_8 rfl k) ?_
  refine a_lastore (pc := 9) X dX0_jumper_9 hf (fun h hf => ?_)
  refine AW.lift (fun _ _ _ _ k => lv_goto (pc := 10) (tgt := 21) X.2.2.1 X.2.2.2.1 dX0_jumper_10 rfl k) ?_
  refine AW.lift (fun _ _ _ _ k => lv_iconst (pc := 21) (v := (0 : Int32)) X.2.2.1 X.2.2.2.1 dX0_jumper_21 rfl k) ?_
  exact a_ireturn X Z.2.2.1 Z.2.2.2.1 dX0_jumper_22 hf
theorem w_X4_jumper_j30 {r : Except Nat (Int32) × AH} (GA : GA l s0 a0 K lam) (Z : WZ l s0 a0 K p s m c cX4_jumper yX4_jumper.cls 3 b R 2 44 meth [] (some (.int)) yX4_jumper) (v0 : Option Nat)   {h : AH} {ls : Array Slot} (hl : LV ls 3 [(0, vR v0)]) (hf : f_X4_jumper_j30 K v0 h = some r) : AW s0 K lam p l e R s m args below meth c (AQ s0 K lam below oI b r s) b h (F0 m 30 ls []) := by
  unfold f_X4_jumper_j30 at hf
  have X := Z.1.1
  refine a_aload_n (pc := 30) X dX4_jumper_30 rfl hl 0 rfl ?_
  refine AW.lift (fun _ _ _ _ k => lv_iconst (pc := 31) (v := (1 : Int32)) X.2.2.1 X.2.2.2.1 dX4_jumper_31 rfl k) ?_
  obtain ⟨a32, rfl, ⟨hk, hf⟩ | ⟨-, hf⟩⟩ := dv_some hf
  rotate_left
  · exact fl_none hf
  refine a_callb (pc := 32) (rs := []) (avs := [vR (some a32), vI (1 : Int32)]) Z.1 (w_X4_throwing GA (some a32) (1 : Int32)) (Or.inl rfl) q3120 q86 (by decide) (by decide) dX4_jumper_32 hl.1 (Nat.le_of_ble_eq_true rfl) hf (ct_V hk ⟨by decide, by decide⟩ X (Or.inl rfl) q3120 q3117 q3119 pv_30 hy_X4_throwing np_X4_throwing rfl dX4_jumper_32) (fun q h he hX => a_out (unc_of Z.2.1 rfl) Z.2.2.2.1 he hX) (fun x32 h hf => ?kk32)
  refine AW.eq (g2 := F0 m 35 ls [.int x32]) rfl ?_
  exact a_ireturn X Z.2.2.1 Z.2.2.2.1 dX4_jumper_35 hf
theorem np_X4_jumper : npar yX4_jumper.desc 2 := by unfold npar; decide +kernel
theorem hy_X4_jumper : yX4_jumper.cls ≠ "java/lang/invoke/MethodHandle" ∧ yX4_jumper.cls ≠ "java/lang/invoke/VarHandle" := by decide +kernel
theorem w_X4_jumper (GA : GA l s0 a0 K lam) (v0 : Option Nat) (v1 : Int32) (v2 : Int32) : AMet l s0 K lam yX4_jumper (Cond.code yX4_jumper cX4_jumper (3 : Nat) (Option.some ClassFile.FieldType.int)) 2 44 [vR v0, vI v1, vI v2] oI (f_X4_jumper K v0 v1 v2) := by
  refine AMet.of GA.1 (plainFor_of_name (by decide +kernel)) (Nat.le_of_ble_eq_true rfl) ?_
  intro b r hf p e s m args below meth c X hr hlk hnm hnd ht ls hl
  have Z : WZ l s0 a0 K p s m c cX4_jumper yX4_jumper.cls 3 b { frames := 2, cells := K 0 - aX b, slots := K 1 - aW b, locals := 44 } 2 44 meth [] (some (.int)) yX4_jumper := ⟨⟨X, GA.2.1, GA.2.2.1, rfl, rfl, Nat.le_refl _, Nat.le_refl _⟩, tab_nil ht, hr, hlk, hnm, hnd⟩
  unfold f_X4_jumper at hf
  clear hr hlk hnm hnd ht
  refine a_aload_n (pc := 0) X dX4_jumper_0 rfl hl 0 rfl ?_
  obtain ⟨a1, rfl, ⟨hk, hf⟩ | ⟨-, hf⟩⟩ := dv_some hf
  rotate_left
  · exact fl_none hf
  refine a_callb (pc := 1) (rs := []) (avs := [vR (some a1)]) Z.1 (w_X4_layAside GA (some a1)) (Or.inl rfl) q3112 q86 (by decide) (by decide) dX4_jumper_1 hl.1 (Nat.le_of_ble_eq_true rfl) hf (ct_V hk ⟨by decide, by decide⟩ X (Or.inl rfl) q3112 q3109 q3111 pv_28 hy_X4_layAside np_X4_layAside rfl dX4_jumper_1) (fun q h he hX => a_out (unc_of Z.2.1 rfl) Z.2.2.2.1 he hX) (fun _ h hf => ?kk1)
  refine AW.eq (g2 := F0 m 4 ls []) rfl ?_
  refine a_iload_n (pc := 4) X dX4_jumper_4 rfl hl 1 rfl ?_
  refine AW.lift (fun _ _ _ _ k => lv_i2l (pc := 5) X.2.2.1 X.2.2.2.1 dX4_jumper_5 rfl k) ?_
  refine AW.lift (fun _ _ _ _ k => lv_ldc2 (pc := 6) X.2.2.1 X.2.2.2.1 X.2.2.2.2.1 (gw X.1 X.2.1 q3203) dX4_jumper_6 k) ?_
  refine AW.lift (fun _ _ _ _ k => lv_ldc2 (pc := 9) X.2.2.1 X.2.2.2.1 X.2.2.2.2.1 (gw X.1 X.2.1 q3204) dX4_jumper_9 k) ?_
  refine a_callb (pc := 12) (rs := []) (avs := [vJ (v1.toInt64), vJ (10 : Int64), vJ (99 : Int64)]) Z.1 (w_X4_in GA (v1.toInt64) (10 : Int64) (99 : Int64)) (Or.inl rfl) q3142 q86 (by decide) (by decide) dX4_jumper_12 hl.1 (Nat.le_of_ble_eq_true rfl) hf (ct_S X (Or.inl rfl) q3142 q86 q3140 q3141 hy_X4_in np_X4_in rfl dX4_jumper_12) (fun q h he hX => a_out (unc_of Z.2.1 rfl) Z.2.2.2.1 he hX) (fun x12 h hf => ?kk12)
  refine AW.eq (g2 := F0 m 15 ls [.int x12]) rfl ?_
  refine AW.lift2 (fun _ _ _ _ k1 k2 => lv_if_eq (pc := 15) (tgt := 30) X.2.2.1 X.2.2.2.1 dX4_jumper_15 rfl k1 k2) (fun c => ?_) (fun c => ?_)
  · have hf := ite_t c hf
    exact w_X4_jumper_j30 GA Z (some a1)   (hl.sub [0] rfl) hf
  · have hf := ite_f c hf
    refine a_iload_n (pc := 18) X dX4_jumper_18 rfl hl 2 rfl ?_
    refine AW.lift (fun _ _ _ _ k => lv_i2l (pc := 19) X.2.2.1 X.2.2.2.1 dX4_jumper_19 rfl k) ?_
    refine AW.lift (fun _ _ _ _ k => lv_lconst (pc := 20) (v := (0 : Int64)) X.2.2.1 X.2.2.2.1 dX4_jumper_20 rfl k) ?_
    refine AW.lift (fun _ _ _ _ k => lv_ldc2 (pc := 21) X.2.2.1 X.2.2.2.1 X.2.2.2.2.1 (gw X.1 X.2.1 q3205) dX4_jumper_21 k) ?_
    refine a_callb (pc := 24) (rs := []) (avs := [vJ (v2.toInt64), vJ (0 : Int64), vJ (4 : Int64)]) Z.1 (w_X4_in GA (v2.toInt64) (0 : Int64) (4 : Int64)) (Or.inl rfl) q3142 q86 (by decide) (by decide) dX4_jumper_24 hl.1 (Nat.le_of_ble_eq_true rfl) hf (ct_S X (Or.inl rfl) q3142 q86 q3140 q3141 hy_X4_in np_X4_in rfl dX4_jumper_24) (fun q h he hX => a_out (unc_of Z.2.1 rfl) Z.2.2.2.1 he hX) (fun x24 h hf => ?kk24)
    refine AW.eq (g2 := F0 m 27 ls [.int x24]) rfl ?_
    refine AW.lift2 (fun _ _ _ _ k1 k2 => lv_if_ne (pc := 27) (tgt := 36) X.2.2.1 X.2.2.2.1 dX4_jumper_27 rfl k2 k1) (fun c => ?_) (fun c => ?_)
    · have hf := ite_t c hf
      exact w_X4_jumper_j30 GA Z (some a1)   (hl.sub [0] rfl) hf
    · have hf := ite_f c hf
      refine a_aload_n (pc := 36) X dX4_jumper_36 rfl hl 0 rfl ?_
      refine a_get (pc := 37) (φ := 100) pR_t X Z.1.2.1 (gw X.1 X.2.1 q3025) (fun _ q => q) (by decide) dX4_jumper_37 hf (fun x37 hf => ?_)
      refine AW.lift (fun _ _ _ _ k => lv_iconst (pc := 40) (v := (2 : Int32)) X.2.2.1 X.2.2.2.1 dX4_jumper_40 rfl k) ?_
      refine a_iaload (pc := 41) X dX4_jumper_41 hf (fun x41 hf => ?_)
      refine AW.lift (fun _ _ _ _ k => lv_bipush (pc := 42) (v := (12 : Int32)) X.2.2.1 X.2.2.2.1 dX4_jumper_42 rfl k) ?_
      refine AW.lift2 (fun _ _ _ _ k1 k2 => lv_icmp_ne (pc := 44) (tgt := 56) X.2.2.1 X.2.2.2.1 dX4_jumper_44 rfl k2 k1) (fun c => ?_) (fun c => ?_)
      · have hf := ite_t c hf
        refine a_aload_n (pc := 47) X dX4_jumper_47 rfl hl 0 rfl ?_
        refine AW.lift (fun _ _ _ _ k => lv_iconst (pc := 48) (v := (2 : Int32)) X.2.2.1 X.2.2.2.1 dX4_jumper_48 rfl k) ?_
        refine AW.lift (fun _ _ _ _ k => lv_iconst (pc := 49) (v := (1 : Int32)) X.2.2.1 X.2.2.2.1 dX4_jumper_49 rfl k) ?_
        refine AW.lift (fun _ _ _ _ k => lv_bipush (pc := 50) (v := (12 : Int32)) X.2.2.1 X.2.2.2.1 dX4_jumper_50 rfl k) ?_
        rcases dv_someS hf with ⟨hk, hf⟩ | ⟨-, hf⟩
        rotate_left
        · exact fl_none hf
        refine a_callb (pc := 52) (rs := []) (avs := [vR (some a1), vI (2 : Int32), vI (1 : Int32), vI (12 : Int32)]) Z.1 (w_X4_refuse GA (some a1) (2 : Int32) (1 : Int32) (12 : Int32)) (Or.inl rfl) q3116 q86 (by decide) (by decide) dX4_jumper_52 hl.1 (Nat.le_of_ble_eq_true rfl) hf (ct_V hk ⟨by decide, by decide⟩ X (Or.inl rfl) q3116 q3113 q3115 pv_29 hy_X4_refuse np_X4_refuse rfl dX4_jumper_52) (fun q h he hX => a_out (unc_of Z.2.1 rfl) Z.2.2.2.1 he hX) (fun x52 h hf => ?kk52)
        refine AW.eq (g2 := F0 m 55 ls [.int x52]) rfl ?_
        exact a_ireturn X Z.2.2.1 Z.2.2.2.1 dX4_jumper_55 hf
      · have hf := ite_f c hf
        refine a_aload_n (pc := 56) X dX4_jumper_56 rfl hl 0 rfl ?_
        refine a_aload_n (pc := 57) X dX4_jumper_57 rfl hl 0 rfl ?_
        refine a_iload_n (pc := 58) X dX4_jumper_58 rfl hl 1 rfl ?_
        refine a_iload_n (pc := 59) X dX4_jumper_59 rfl hl 2 rfl ?_
        refine AW.lift (fun _ _ _ _ k => lv_iconst (pc := 60) (v := (-1 : Int32)) X.2.2.1 X.2.2.2.1 dX4_jumper_60 rfl k) ?_
        rcases dv_someS hf with ⟨hk, hf⟩ | ⟨-, hf⟩
        rotate_left
        · exact fl_none hf
        refine a_callb (pc := 61) (rs := [vR (some a1)]) (avs := [vR (some a1), vI v1, vI v2, vI (-1 : Int32)]) Z.1 (w_X4_jumperComes GA (some a1) v1 v2 (-1 : Int32)) (Or.inl rfl) q3209 q86 (by decide) (by decide) dX4_jumper_61 hl.1 (Nat.le_of_ble_eq_true rfl) hf (ct_V hk ⟨by decide, by decide⟩ X (Or.inl rfl) q3209 q3206 q3208 pv_42 hy_X4_jumperComes np_X4_jumperComes rfl dX4_jumper_61) (fun q h he hX => a_out (unc_of Z.2.1 rfl) Z.2.2.2.1 he hX) (fun x61 h hf => ?kk61)
        refine AW.eq (g2 := F0 m 64 ls [.int x61, va_rf (some a1)]) rfl ?_
        rcases dv_someS hf with ⟨hk, hf⟩ | ⟨-, hf⟩
        rotate_left
        · exact fl_none hf
        refine a_callb (pc := 64) (rs := []) (avs := [vR (some a1), vI x61]) Z.1 (w_X4_changed GA (some a1) x61) (Or.inl rfl) q3127 q86 (by decide) (by decide) dX4_jumper_64 hl.1 (Nat.le_of_ble_eq_true rfl) hf (ct_V hk ⟨by decide, by decide⟩ X (Or.inl rfl) q3127 q3124 q3126 pv_31 hy_X4_changed np_X4_changed rfl dX4_jumper_64) (fun q h he hX => a_out (unc_of Z.2.1 rfl) Z.2.2.2.1 he hX) (fun x64 h hf => ?kk64)
        refine AW.eq (g2 := F0 m 67 ls [.int x64]) rfl ?_
        exact a_ireturn X Z.2.2.1 Z.2.2.2.1 dX4_jumper_67 hf
theorem w_X1_up_j27 {r : Except Nat (Int32) × AH} (GA : GA l s0 a0 K lam) (Z : WZ l s0 a0 K p s m c cX1_up yX1_up.cls 3 b R 21 3348 meth [] (some (.int)) yX1_up) (v0 : Option Nat) (v1 : Int32) (v2 : Int32) (t0 : Int32)  {h : AH} {ls : Array Slot} (hl : LV ls 3 [(0, vR v0), (1, vI v1), (2, vI v2)]) (hf : f_X1_up_j27 K v0 v1 v2 t0 h = some r) : AW s0 K lam p l e R s m args below meth c (AQ s0 K lam below oI b r s) b h (F0 m 27 ls [.int t0]) := by
  unfold f_X1_up_j27 at hf
  have X := Z.1.1
  refine a_callb (pc := 27) (rs := []) (avs := [vI t0]) Z.1 (w_X1_checkIndex GA t0) (Or.inl rfl) q1816 q74 (by decide) (by decide) dX1_up_27 hl.1 (Nat.le_of_ble_eq_true rfl) hf (ct_S X (Or.inl rfl) q1816 q74 q1814 q1815 hy_X1_checkIndex np_X1_checkIndex rfl dX1_up_27) (fun q h he hX => a_out (unc_of Z.2.1 rfl) Z.2.2.2.1 he hX) (fun _ h hf => ?kk27)
  refine AW.eq (g2 := F0 m 30 ls []) rfl ?_
  refine a_aload_n (pc := 30) X dX1_up_30 rfl hl 0 rfl ?_
  refine a_iload_n (pc := 31) X dX1_up_31 rfl hl 1 rfl ?_
  refine a_iload_n (pc := 32) X dX1_up_32 rfl hl 2 rfl ?_
  refine a_ndy (pc := 33) (rs := [vR v0]) (avs := [vI v1, vI v2]) Z.1 Z.2.2.2.2.2 (siG_208 GA) hfb_8 (lw_all_tbl q3550) ⟨by decide, by decide⟩ rfl rfl rfl (by decide) hl.1 (Nat.le_of_ble_eq_true rfl) (Nat.le_of_ble_eq_true rfl) rfl dX1_up_33 hf (fun x33 h hf => ?_)
  refine AW.eq (g2 := F0 m 38 ls [va_rf (some x33), va_rf v0]) rfl ?_
  obtain ⟨a38, rfl, ⟨hk, hf⟩ | ⟨-, hf⟩⟩ := dv_some hf
  rotate_left
  · exact fl_none hf
  refine a_callb (pc := 38) (rs := []) (avs := [vR (some a38), vR (some x33)]) Z.1 (w_X1_does GA (some a38) (some x33)) (Or.inr (Or.inl ⟨_, rfl⟩)) q1754 q74 (by decide) (by decide) dX1_up_38 hl.1 (Nat.le_of_ble_eq_true rfl) hf (ct_V hk ⟨by decide, by decide⟩ X (Or.inr (Or.inl ⟨_, rfl⟩)) q1754 q1751 q1753 pv_4 hy_X1_does np_X1_does rfl dX1_up_38) (fun q h he hX => a_out (unc_of Z.2.1 rfl) Z.2.2.2.1 he hX) (fun x38 h hf => ?kk38)
  refine AW.eq (g2 := F0 m 41 ls [.int x38]) rfl ?_
  exact a_ireturn X Z.2.2.1 Z.2.2.2.1 dX1_up_41 hf
theorem w_X1_up_j26 {r : Except Nat (Int32) × AH} (GA : GA l s0 a0 K lam) (Z : WZ l s0 a0 K p s m c cX1_up yX1_up.cls 3 b R 21 3348 meth [] (some (.int)) yX1_up) (v0 : Option Nat) (v1 : Int32) (v2 : Int32)   {h : AH} {ls : Array Slot} (hl : LV ls 3 [(0, vR v0), (1, vI v1), (2, vI v2)]) (hf : f_X1_up_j26 K v0 v1 v2 h = some r) : AW s0 K lam p l e R s m args below meth c (AQ s0 K lam below oI b r s) b h (F0 m 26 ls []) := by
  unfold f_X1_up_j26 at hf
  have X := Z.1.1
  refine AW.lift (fun _ _ _ _ k => lv_iconst (pc := 26) (v := (0 : Int32)) X.2.2.1 X.2.2.2.1 dX1_up_26 rfl k) ?_
  exact w_X1_up_j27 GA Z v0 v1 v2 (0 : Int32)  (hl.sub [0, 1, 2] rfl) hf
theorem np_X1_up : npar yX1_up.desc 2 := by unfold npar; decide +kernel
theorem hy_X1_up : yX1_up.cls ≠ "java/lang/invoke/MethodHandle" ∧ yX1_up.cls ≠ "java/lang/invoke/VarHandle" := by decide +kernel
theorem w_X1_up (GA : GA l s0 a0 K lam) (v0 : Option Nat) (v1 : Int32) (v2 : Int32) : AMet l s0 K lam yX1_up (Cond.code yX1_up cX1_up (3 : Nat) (Option.some ClassFile.FieldType.int)) 21 3348 [vR v0, vI v1, vI v2] oI (f_X1_up K v0 v1 v2) := by
  refine AMet.of GA.1 (plainFor_of_name (by decide +kernel)) (Nat.le_of_ble_eq_true rfl) ?_
  intro b r hf p e s m args below meth c X hr hlk hnm hnd ht ls hl
  have Z : WZ l s0 a0 K p s m c cX1_up yX1_up.cls 3 b { frames := 21, cells := K 0 - aX b, slots := K 1 - aW b, locals := 3348 } 21 3348 meth [] (some (.int)) yX1_up := ⟨⟨X, GA.2.1, GA.2.2.1, rfl, rfl, Nat.le_refl _, Nat.le_refl _⟩, tab_nil ht, hr, hlk, hnm, hnd⟩
  unfold f_X1_up at hf
  clear hr hlk hnm hnd ht
  refine a_aload_n (pc := 0) X dX1_up_0 rfl hl 0 rfl ?_
  refine a_get (pc := 1) (φ := 200) pR_t X Z.1.2.1 (gw X.1 X.2.1 q309) (fun _ q => q) (by decide) dX1_up_1 hf (fun x1 hf => ?_)
  refine a_iload_n (pc := 4) X dX1_up_4 rfl hl 1 rfl ?_
  obtain ⟨a5, rfl, ⟨hk, hf⟩ | ⟨-, hf⟩⟩ := dv_some hf
  rotate_left
  · exact fl_none hf
  refine a_callb (pc := 5) (rs := []) (avs := [vR (some a5), vI v1]) Z.1 (w_X2_isJumper GA (some a5) v1) (Or.inl rfl) q2017 q75 (by decide) (by decide) dX1_up_5 hl.1 (Nat.le_of_ble_eq_true rfl) hf (ct_V hk ⟨by decide, by decide⟩ X (Or.inl rfl) q2017 q2014 q2015 q2016 hy_X2_isJumper np_X2_isJumper rfl dX1_up_5) (fun q h he hX => a_out (unc_of Z.2.1 rfl) Z.2.2.2.1 he hX) (fun x5 h hf => ?kk5)
  refine AW.eq (g2 := F0 m 8 ls [.int x5]) rfl ?_
  refine AW.lift2 (fun _ _ _ _ k1 k2 => lv_if_eq (pc := 8) (tgt := 26) X.2.2.1 X.2.2.2.1 dX1_up_8 rfl k1 k2) (fun c => ?_) (fun c => ?_)
  · have hf := ite_t c hf
    exact w_X1_up_j26 GA Z v0 v1 v2   (hl.sub [0, 1, 2] rfl) hf
  · have hf := ite_f c hf
    refine a_aload_n (pc := 11) X dX1_up_11 rfl hl 0 rfl ?_
    refine a_get (pc := 12) (φ := 200) pR_t X Z.1.2.1 (gw X.1 X.2.1 q309) (fun _ q => q) (by decide) dX1_up_12 hf (fun x12 hf => ?_)
    refine a_iload_n (pc := 15) X dX1_up_15 rfl hl 2 rfl ?_
    obtain ⟨a16, rfl, ⟨hk, hf⟩ | ⟨-, hf⟩⟩ := dv_some hf
    rotate_left
    · exact fl_none hf
    refine a_callb (pc := 16) (rs := []) (avs := [vR (some a16), vI v2]) Z.1 (w_X2_isMat GA (some a16) v2) (Or.inl rfl) q1809 q75 (by decide) (by decide) dX1_up_16 hl.1 (Nat.le_of_ble_eq_true rfl) hf (ct_V hk ⟨by decide, by decide⟩ X (Or.inl rfl) q1809 q1806 q1807 q1808 hy_X2_isMat np_X2_isMat rfl dX1_up_16) (fun q h he hX => a_out (unc_of Z.2.1 rfl) Z.2.2.2.1 he hX) (fun x16 h hf => ?kk16)
    refine AW.eq (g2 := F0 m 19 ls [.int x16]) rfl ?_
    refine AW.lift2 (fun _ _ _ _ k1 k2 => lv_if_eq (pc := 19) (tgt := 26) X.2.2.1 X.2.2.2.1 dX1_up_19 rfl k1 k2) (fun c => ?_) (fun c => ?_)
    · have hf := ite_t c hf
      exact w_X1_up_j26 GA Z v0 v1 v2   (hl.sub [0, 1, 2] rfl) hf
    · have hf := ite_f c hf
      refine AW.lift (fun _ _ _ _ k => lv_iconst (pc := 22) (v := (1 : Int32)) X.2.2.1 X.2.2.2.1 dX1_up_22 rfl k) ?_
      refine AW.lift (fun _ _ _ _ k => lv_goto (pc := 23) (tgt := 27) X.2.2.1 X.2.2.2.1 dX1_up_23 rfl k) ?_
      exact w_X1_up_j27 GA Z v0 v1 v2 (1 : Int32)  (hl.sub [0, 1, 2] rfl) hf
theorem np_X0_up : npar yX0_up.desc 4 := by unfold npar; decide +kernel
theorem hy_X0_up : yX0_up.cls ≠ "java/lang/invoke/MethodHandle" ∧ yX0_up.cls ≠ "java/lang/invoke/VarHandle" := by decide +kernel
theorem w_X0_up (GA : GA l s0 a0 K lam) (v0 : Option Nat) (v1 : Int32) (v2 : Int32) (v3 : Option Nat) : AMet l s0 K lam yX0_up (Cond.codeWith yX0_up cX0_up (5 : Nat) (Option.some ClassFile.FieldType.int) [((0 : Nat), (10 : Nat), (13 : Nat), (19 : Nat)), ((0 : Nat), (10 : Nat), (17 : Nat), (13 : Nat))]) 22 3370 [vR v0, vI v1, vI v2, vR v3] oI (f_X0_up K v0 v1 v2 v3) := by
  refine AMet.ofW GA.1 (plainFor_of_name (by decide +kernel)) (Nat.le_of_ble_eq_true rfl) ?_
  intro b r hf p e s m args below meth c X hr hlk hnm hnd ht ls hl
  have Z : WZ l s0 a0 K p s m c cX0_up yX0_up.cls 5 b { frames := 22, cells := K 0 - aX b, slots := K 1 - aW b, locals := 3370 } 22 3370 meth [(0, 10, 13, 19), (0, 10, 17, 13)] (some (.int)) yX0_up := ⟨⟨X, GA.2.1, GA.2.2.1, rfl, rfl, Nat.le_refl _, Nat.le_refl _⟩, ht, hr, hlk, hnm, hnd⟩
  unfold f_X0_up at hf
  clear hr hlk hnm hnd ht
  refine a_aload_n (pc := 0) X dX0_up_0 rfl hl 3 rfl ?_
  refine AW.lift (fun _ _ _ _ k => lv_iconst (pc := 1) (v := (0 : Int32)) X.2.2.1 X.2.2.2.1 dX0_up_1 rfl k) ?_
  refine a_aload_n (pc := 2) X dX0_up_2 rfl hl 0 rfl ?_
  refine a_iload_n (pc := 3) X dX0_up_3 rfl hl 1 rfl ?_
  refine a_iload_n (pc := 4) X dX0_up_4 rfl hl 2 rfl ?_
  obtain ⟨a5, rfl, ⟨hk, hf⟩ | ⟨-, hf⟩⟩ := dv_tsome hf
  rotate_left
  · exact fl_tnone hf
  refine a_callt (pc := 5) (rs := [vI (0 : Int32), vR v3]) (avs := [vR (some a5), vI v1, vI v2]) Z.1 (w_X1_up GA (some a5) v1 v2) (Or.inl rfl) q2013 q74 (by decide) (by decide) dX0_up_5 hl.1 (Nat.le_of_ble_eq_true rfl) hf (ct_V hk ⟨by decide, by decide⟩ X (Or.inl rfl) q2013 q2010 q2011 q2012 hy_X1_up np_X1_up rfl dX0_up_5) (fun q h hf hX => ?hx5) (fun x5 h hf => ?kk5)
  case hx5 =>
    rcases ctc_some hf with ⟨hy, hf⟩ | ⟨hn0, hf⟩
    · refine a_catchH (st := 0) (en := 10) (hp := 13) (ct := 19) (pre := []) (suf := [(0, 10, 17, 13)]) X hX Z.2.1 rfl (fun z hz => nomatch hz) (by decide) (Or.inr ⟨by decide, _, gw X.1 X.2.1 q1786, (cs_X19 GA) _ hy⟩) (AW.eq (g2 := F0 m 13 ls [va_rf (some q)]) rfl ?_)
      refine a_astore (pc := 13) X dX0_up_13 hl (by decide) (lv' := [(4, vR (some q)), (0, vR (some a5)), (1, vI v1), (2, vI v2), (3, vR v3)]) rfl (fun ls hl => ?_)
      refine AW.lift (fun _ _ _ _ k => lv_iconst (pc := 15) (v := (1 : Int32)) X.2.2.1 X.2.2.2.1 dX0_up_15 rfl k) ?_
      exact a_ireturn X Z.2.2.1 Z.2.2.2.1 dX0_up_16 hf
    · skip
      rcases ctc_some hf with ⟨hy, hf⟩ | ⟨hn1, hf⟩
      · refine a_catchH (st := 0) (en := 10) (hp := 17) (ct := 13) (pre := [(0, 10, 13, 19)]) (suf := []) X hX Z.2.1 rfl (by intro z hz; simp only [List.mem_cons, List.not_mem_nil, or_false] at hz; rcases hz with rfl <;> first | exact Or.inl (by decide) | exact Or.inr ⟨by decide, _, gw X.1 X.2.1 q1786, (nc_12_13_14_16_17_18_20_21_java_lang_IndexOutOfBoundsException GA _ (by simpa using hn0)).2.2⟩) (by decide) (Or.inr ⟨by decide, _, gw X.1 X.2.1 q1709, (cs_X21 GA) _ hy⟩) (AW.eq (g2 := F0 m 17 ls [va_rf (some q)]) rfl ?_)
        refine a_astore (pc := 17) X dX0_up_17 hl (by decide) (lv' := [(4, vR (some q)), (0, vR (some a5)), (1, vI v1), (2, vI v2), (3, vR v3)]) rfl (fun ls hl => ?_)
        refine AW.lift (fun _ _ _ _ k => lv_iconst (pc := 19) (v := (2 : Int32)) X.2.2.1 X.2.2.2.1 dX0_up_19 rfl k) ?_
        exact a_ireturn X Z.2.2.1 Z.2.2.2.1 dX0_up_20 hf
      · skip
        exact a_outH X Z.2.1 (by intro z hz; simp only [List.mem_cons, List.not_mem_nil, or_false] at hz; rcases hz with rfl | rfl <;> first | exact Or.inl (by decide) | exact Or.inr ⟨by decide, _, gw X.1 X.2.1 q1786, (nc_12_13_14_16_17_18_20_21_java_lang_IndexOutOfBoundsException GA _ (by simpa using hn0)).2.2⟩ | exact Or.inr ⟨by decide, _, gw X.1 X.2.1 q1709, (nc_12_13_14_16_17_18_19_20_java_lang_UnsupportedOperationException GA _ (by simpa using hn1)).2.2⟩) Z.2.2.2.1 (th_eq hf) hX
  refine AW.eq (g2 := F0 m 8 ls [.int x5, .int (0 : Int32), va_rf v3]) rfl ?_
  refine AW.lift (fun _ _ _ _ k => lv_i2l (pc := 8) X.2.2.1 X.2.2.2.1 dX0_up_8 rfl k) ?_
  refine a_lastore (pc := 9) X dX0_up_9 hf (fun h hf => ?_)
  refine AW.lift (fun _ _ _ _ k => lv_goto (pc := 10) (tgt := 21) X.2.2.1 X.2.2.2.1 dX0_up_10 rfl k) ?_
  refine AW.lift (fun _ _ _ _ k => lv_iconst (pc := 21) (v := (0 : Int32)) X.2.2.1 X.2.2.2.1 dX0_up_21 rfl k) ?_
  exact a_ireturn X Z.2.2.1 Z.2.2.2.1 dX0_up_22 hf
theorem np_X4_isJumper : npar yX4_isJumper.desc 1 := by unfold npar; decide +kernel
theorem hy_X4_isJumper : yX4_isJumper.cls ≠ "java/lang/invoke/MethodHandle" ∧ yX4_isJumper.cls ≠ "java/lang/invoke/VarHandle" := by decide +kernel
theorem w_X4_isJumper (GA : GA l s0 a0 K lam) (v0 : Option Nat) (v1 : Int32) : AMet l s0 K lam yX4_isJumper (Cond.code yX4_isJumper cX4_isJumper (2 : Nat) (Option.some ClassFile.FieldType.boolean)) 1 25 [vR v0, vI v1] oI (f_X4_isJumper K v0 v1) := by
  refine AMet.of GA.1 (plainFor_of_name (by decide +kernel)) (Nat.le_of_ble_eq_true rfl) ?_
  intro b r hf p e s m args below meth c X hr hlk hnm hnd ht ls hl
  have Z : WZ l s0 a0 K p s m c cX4_isJumper yX4_isJumper.cls 2 b { frames := 1, cells := K 0 - aX b, slots := K 1 - aW b, locals := 25 } 1 25 meth [] (some (.boolean)) yX4_isJumper := ⟨⟨X, GA.2.1, GA.2.2.1, rfl, rfl, Nat.le_refl _, Nat.le_refl _⟩, tab_nil ht, hr, hlk, hnm, hnd⟩
  unfold f_X4_isJumper at hf
  clear hr hlk hnm hnd ht
  refine a_iload_n (pc := 0) X dX4_isJumper_0 rfl hl 1 rfl ?_
  refine AW.lift (fun _ _ _ _ k => lv_i2l (pc := 1) X.2.2.1 X.2.2.2.1 dX4_isJumper_1 rfl k) ?_
  refine AW.lift (fun _ _ _ _ k => lv_lconst (pc := 2) (v := (0 : Int64)) X.2.2.1 X.2.2.2.1 dX4_isJumper_2 rfl k) ?_
  refine a_aload_n (pc := 3) X dX4_isJumper_3 rfl hl 0 rfl ?_
  refine a_get (pc := 4) (φ := 100) pR_t X Z.1.2.1 (gw X.1 X.2.1 q3025) (fun _ q => q) (by decide) dX4_isJumper_4 hf (fun x4 hf => ?_)
  refine AW.lift (fun _ _ _ _ k => lv_iconst (pc := 7) (v := (2 : Int32)) X.2.2.1 X.2.2.2.1 dX4_isJumper_7 rfl k) ?_
  refine a_iaload (pc := 8) X dX4_isJumper_8 hf (fun x8 hf => ?_)
  refine AW.lift (fun _ _ _ _ k => lv_iconst (pc := 9) (v := (1 : Int32)) X.2.2.1 X.2.2.2.1 dX4_isJumper_9 rfl k) ?_
  refine AW.lift (fun _ _ _ _ k => lv_isub (pc := 10) X.2.2.1 X.2.2.2.1 dX4_isJumper_10 k) ?_
  refine AW.lift (fun _ _ _ _ k => lv_i2l (pc := 11) X.2.2.1 X.2.2.2.1 dX4_isJumper_11 rfl k) ?_
  refine a_callb (pc := 12) (rs := []) (avs := [vJ (v1.toInt64), vJ (0 : Int64), vJ ((x8 - (1 : Int32)).toInt64)]) Z.1 (w_X4_in GA (v1.toInt64) (0 : Int64) ((x8 - (1 : Int32)).toInt64)) (Or.inl rfl) q3142 q86 (by decide) (by decide) dX4_isJumper_12 hl.1 (Nat.le_of_ble_eq_true rfl) hf (ct_S X (Or.inl rfl) q3142 q86 q3140 q3141 hy_X4_in np_X4_in rfl dX4_isJumper_12) (fun q h he hX => a_out (unc_of Z.2.1 rfl) Z.2.2.2.1 he hX) (fun x12 h hf => ?kk12)
  refine AW.eq (g2 := F0 m 15 ls [.int x12]) rfl ?_
  obtain ⟨hg, hf⟩ := chk_some hf
  exact a_zreturn X Z.2.2.1 hg Z.2.2.2.1 dX4_isJumper_15 hf
theorem w_X4_upReason_j205 {r : Except Nat (Int32) × AH} (GA : GA l s0 a0 K lam) (Z : WZ l s0 a0 K p s m c cX4_upReason yX4_upReason.cls 6 b R 3 66 meth [] (some (.int)) yX4_upReason)  (t0 : Int32) (t1 : Option Nat)  {h : AH} {ls : Array Slot} (hl : LV ls 6 []) (hf : f_X4_upReason_j205 K t0 t1 h = some r) : AW s0 K lam p l e R s m args below meth c (AQ s0 K lam below oI b r s) b h (F0 m 205 ls [.int t0, va_rf t1]) := by
  unfold f_X4_upReason_j205 at hf
  have X := Z.1.1
  refine a_put (pc := 205) (φ := 114) X Z.1.2.1 Z.1.2.2.1 (gw X.1 X.2.1 q3039) (fun _ q => q) (by decide) rfl rfl dX4_upReason_205 hf (fun h hf => ?_)
  refine AW.lift (fun _ _ _ _ k => lv_bipush (pc := 208) (v := (7 : Int32)) X.2.2.1 X.2.2.2.1 dX4_upReason_208 rfl k) ?_
  exact a_ireturn X Z.2.2.1 Z.2.2.2.1 dX4_upReason_210 hf
theorem w_X4_upReason_j185 {r : Except Nat (Int32) × AH} (GA : GA l s0 a0 K lam) (Z : WZ l s0 a0 K p s m c cX4_upReason yX4_upReason.cls 6 b R 3 66 meth [] (some (.int)) yX4_upReason) (v0 : Option Nat) (v1 : Int32) (v3 : Int32) (v4 : Int32)   {h : AH} {ls : Array Slot} (hl : LV ls 6 [(0, vR v0), (1, vI v1), (3, vI v3), (4, vI v4)]) (hf : f_X4_upReason_j185 K v0 v1 v3 v4 h = some r) : AW s0 K lam p l e R s m args below meth c (AQ s0 K lam below oI b r s) b h (F0 m 185 ls []) := by
  unfold f_X4_upReason_j185 at hf
  have X := Z.1.1
  refine a_aload_n (pc := 185) X dX4_upReason_185 rfl hl 0 rfl ?_
  refine a_aload_n (pc := 186) X dX4_upReason_186 rfl hl 0 rfl ?_
  refine a_get (pc := 187) (φ := 100) pR_t X Z.1.2.1 (gw X.1 X.2.1 q3025) (fun _ q => q) (by decide) dX4_upReason_187 hf (fun x187 hf => ?_)
  refine a_iload_n (pc := 190) X dX4_upReason_190 rfl hl 2 rfl ?_
  refine AW.lift (fun _ _ _ _ k => lv_iconst (pc := 191) (v := (0 : Int32)) X.2.2.1 X.2.2.2.1 dX4_upReason_191 rfl k) ?_
  refine AW.lift (fun _ _ _ _ k => lv_iadd (pc := 192) X.2.2.1 X.2.2.2.1 dX4_upReason_192 k) ?_
  refine a_iaload (pc := 193) X dX4_upReason_193 hf (fun x193 hf => ?_)
  refine AW.lift (fun _ _ _ _ k => lv_bipush (pc := 194) (v := (25 : Int32)) X.2.2.1 X.2.2.2.1 dX4_upReason_194 rfl k) ?_
  refine AW.lift2 (fun _ _ _ _ k1 k2 => lv_icmp_ge (pc := 196) (tgt := 203) X.2.2.1 X.2.2.2.1 dX4_upReason_196 rfl k1 k2) (fun c => ?_) (fun c => ?_)
  · have hf := ite_t c hf
    refine a_iload (pc := 203) X dX4_upReason_203 hl 3 rfl ?_
    exact w_X4_upReason_j205 GA Z  v4 v0  (hl.sub [] rfl) hf
  · have hf := ite_f c hf
    refine a_iload_n (pc := 199) X dX4_upReason_199 rfl hl 1 rfl ?_
    refine AW.lift (fun _ _ _ _ k => lv_goto (pc := 200) (tgt := 205) X.2.2.1 X.2.2.2.1 dX4_upReason_200 rfl k) ?_
    exact w_X4_upReason_j205 GA Z  v1 v0  (hl.sub [] rfl) hf
theorem np_X4_upReason : npar yX4_upReason.desc 2 := by unfold npar; decide +kernel
theorem hy_X4_upReason : yX4_upReason.cls ≠ "java/lang/invoke/MethodHandle" ∧ yX4_upReason.cls ≠ "java/lang/invoke/VarHandle" := by decide +kernel
theorem w_X4_upReason (GA : GA l s0 a0 K lam) (v0 : Option Nat) (v1 : Int32) (v2 : Int32) : AMet l s0 K lam yX4_upReason (Cond.code yX4_upReason cX4_upReason (6 : Nat) (Option.some ClassFile.FieldType.int)) 3 66 [vR v0, vI v1, vI v2] oI (f_X4_upReason K v0 v1 v2) := by
  refine AMet.of GA.1 (plainFor_of_name (by decide +kernel)) (Nat.le_of_ble_eq_true rfl) ?_
  intro b r hf p e s m args below meth c X hr hlk hnm hnd ht ls hl
  have Z : WZ l s0 a0 K p s m c cX4_upReason yX4_upReason.cls 6 b { frames := 3, cells := K 0 - aX b, slots := K 1 - aW b, locals := 66 } 3 66 meth [] (some (.int)) yX4_upReason := ⟨⟨X, GA.2.1, GA.2.2.1, rfl, rfl, Nat.le_refl _, Nat.le_refl _⟩, tab_nil ht, hr, hlk, hnm, hnd⟩
  unfold f_X4_upReason at hf
  clear hr hlk hnm hnd ht
  refine a_iload_n (pc := 0) X dX4_upReason_0 rfl hl 1 rfl ?_
  refine a_callb (pc := 1) (rs := []) (avs := [vI v1]) Z.1 (w_X4_at0 GA v1) (Or.inl rfl) q3154 q86 (by decide) (by decide) dX4_upReason_1 hl.1 (Nat.le_of_ble_eq_true rfl) hf (ct_S X (Or.inl rfl) q3154 q86 q3152 q3153 hy_X4_at0 np_X4_at0 rfl dX4_upReason_1) (fun q h he hX => a_out (unc_of Z.2.1 rfl) Z.2.2.2.1 he hX) (fun x1 h hf => ?kk1)
  refine AW.eq (g2 := F0 m 4 ls [.int x1]) rfl ?_
  refine a_istore_n (pc := 4) X dX4_upReason_4 rfl hl (by decide) (lv' := [(3, vI x1), (0, vR v0), (1, vI v1), (2, vI v2)]) rfl (fun ls hl => ?_)
  refine a_aload_n (pc := 5) X dX4_upReason_5 rfl hl 1 rfl ?_
  refine a_iload_n (pc := 6) X dX4_upReason_6 rfl hl 3 rfl ?_
  obtain ⟨a7, rfl, ⟨hk, hf⟩ | ⟨-, hf⟩⟩ := dv_some hf
  rotate_left
  · exact fl_none hf
  refine a_callb (pc := 7) (rs := []) (avs := [vR (some a7), vI v2]) Z.1 (w_X4_lowestOn GA (some a7) v2) (Or.inl rfl) q3147 q86 (by decide) (by decide) dX4_upReason_7 hl.1 (Nat.le_of_ble_eq_true rfl) hf (ct_V hk ⟨by decide, by decide⟩ X (Or.inl rfl) q3147 q3144 q3146 pv_34 hy_X4_lowestOn np_X4_lowestOn rfl dX4_upReason_7) (fun q h he hX => a_out (unc_of Z.2.1 rfl) Z.2.2.2.1 he hX) (fun x7 h hf => ?kk7)
  refine AW.eq (g2 := F0 m 10 ls [.int x7]) rfl ?_
  refine a_istore (pc := 10) X dX4_upReason_10 hl (by decide) (lv' := [(4, vI x7), (3, vI x1), (0, vR (some a7)), (1, vI v1), (2, vI v2)]) rfl (fun ls hl => ?_)
  refine a_aload_n (pc := 12) X dX4_upReason_12 rfl hl 2 rfl ?_
  refine a_iload_n (pc := 13) X dX4_upReason_13 rfl hl 4 rfl ?_
  refine AW.lift (fun _ _ _ _ k => lv_iconst (pc := 14) (v := (1 : Int32)) X.2.2.1 X.2.2.2.1 dX4_upReason_14 rfl k) ?_
  rcases dv_someS hf with ⟨hk, hf⟩ | ⟨-, hf⟩
  rotate_left
  · exact fl_none hf
  refine a_callb (pc := 15) (rs := []) (avs := [vR (some a7), vI v2, vI (1 : Int32)]) Z.1 (w_X4_on GA (some a7) v2 (1 : Int32)) (Or.inl rfl) q3182 q86 (by decide) (by decide) dX4_upReason_15 hl.1 (Nat.le_of_ble_eq_true rfl) hf (ct_V hk ⟨by decide, by decide⟩ X (Or.inl rfl) q3182 q3179 q3181 pv_40 hy_X4_on np_X4_on rfl dX4_upReason_15) (fun q h he hX => a_out (unc_of Z.2.1 rfl) Z.2.2.2.1 he hX) (fun x15 h hf => ?kk15)
  refine AW.eq (g2 := F0 m 18 ls [.int x15]) rfl ?_
  refine a_aload_n (pc := 18) X dX4_upReason_18 rfl hl 2 rfl ?_
  refine a_get (pc := 19) (φ := 100) pR_t X Z.1.2.1 (gw X.1 X.2.1 q3025) (fun _ q => q) (by decide) dX4_upReason_19 hf (fun x19 hf => ?_)
  refine a_iload_n (pc := 22) X dX4_upReason_22 rfl hl 1 rfl ?_
  refine AW.lift (fun _ _ _ _ k => lv_iconst (pc := 23) (v := (0 : Int32)) X.2.2.1 X.2.2.2.1 dX4_upReason_23 rfl k) ?_
  refine AW.lift (fun _ _ _ _ k => lv_iadd (pc := 24) X.2.2.1 X.2.2.2.1 dX4_upReason_24 k) ?_
  refine a_iaload (pc := 25) X dX4_upReason_25 hf (fun x25 hf => ?_)
  refine AW.lift (fun _ _ _ _ k => lv_iadd (pc := 26) X.2.2.1 X.2.2.2.1 dX4_upReason_26 k) ?_
  refine a_aload_n (pc := 27) X dX4_upReason_27 rfl hl 2 rfl ?_
  refine a_iload_n (pc := 28) X dX4_upReason_28 rfl hl 4 rfl ?_
  rcases dv_someS hf with ⟨hk, hf⟩ | ⟨-, hf⟩
  rotate_left
  · exact fl_none hf
  refine a_callb (pc := 29) (rs := [vI (x15 + x25)]) (avs := [vR (some a7), vI v2]) Z.1 (w_X4_bears GA (some a7) v2) (Or.inl rfl) q3158 q86 (by decide) (by decide) dX4_upReason_29 hl.1 (Nat.le_of_ble_eq_true rfl) hf (ct_V hk ⟨by decide, by decide⟩ X (Or.inl rfl) q3158 q3155 q3157 pv_36 hy_X4_bears np_X4_bears rfl dX4_upReason_29) (fun q h he hX => a_out (unc_of Z.2.1 rfl) Z.2.2.2.1 he hX) (fun x29 h hf => ?kk29)
  refine AW.eq (g2 := F0 m 32 ls [.int x29, .int (x15 + x25)]) rfl ?_
  refine AW.lift (fun _ _ _ _ k => lv_isub (pc := 32) X.2.2.1 X.2.2.2.1 dX4_upReason_32 k) ?_
  refine a_istore (pc := 33) X dX4_upReason_33 hl (by decide) (lv' := [(5, vI ((x15 + x25) - x29)), (4, vI x7), (3, vI x1), (0, vR (some a7)), (1, vI v1), (2, vI v2)]) rfl (fun ls hl => ?_)
  refine a_aload_n (pc := 35) X dX4_upReason_35 rfl hl 3 rfl ?_
  refine a_get (pc := 36) (φ := 100) pR_t X Z.1.2.1 (gw X.1 X.2.1 q3025) (fun _ q => q) (by decide) dX4_upReason_36 hf (fun x36 hf => ?_)
  refine a_iload_n (pc := 39) X dX4_upReason_39 rfl hl 2 rfl ?_
  refine AW.lift (fun _ _ _ _ k => lv_iconst (pc := 40) (v := (2 : Int32)) X.2.2.1 X.2.2.2.1 dX4_upReason_40 rfl k) ?_
  refine AW.lift (fun _ _ _ _ k => lv_iadd (pc := 41) X.2.2.1 X.2.2.2.1 dX4_upReason_41 k) ?_
  refine a_iaload (pc := 42) X dX4_upReason_42 hf (fun x42 hf => ?_)
  refine AW.lift2 (fun _ _ _ _ k1 k2 => lv_if_eq (pc := 43) (tgt := 60) X.2.2.1 X.2.2.2.1 dX4_upReason_43 rfl k1 k2) (fun c => ?_) (fun c => ?_)
  · have hf := ite_t c hf
    refine a_aload_n (pc := 60) X dX4_upReason_60 rfl hl 3 rfl ?_
    refine a_get (pc := 61) (φ := 100) pR_t X Z.1.2.1 (gw X.1 X.2.1 q3025) (fun _ q => q) (by decide) dX4_upReason_61 hf (fun x61 hf => ?_)
    refine a_iload_n (pc := 64) X dX4_upReason_64 rfl hl 2 rfl ?_
    refine AW.lift (fun _ _ _ _ k => lv_iconst (pc := 65) (v := (4 : Int32)) X.2.2.1 X.2.2.2.1 dX4_upReason_65 rfl k) ?_
    refine AW.lift (fun _ _ _ _ k => lv_iadd (pc := 66) X.2.2.1 X.2.2.2.1 dX4_upReason_66 k) ?_
    refine a_iaload (pc := 67) X dX4_upReason_67 hf (fun x67 hf => ?_)
    refine AW.lift (fun _ _ _ _ k => lv_iconst (pc := 68) (v := (-1 : Int32)) X.2.2.1 X.2.2.2.1 dX4_upReason_68 rfl k) ?_
    refine AW.lift2 (fun _ _ _ _ k1 k2 => lv_icmp_ne (pc := 69) (tgt := 86) X.2.2.1 X.2.2.2.1 dX4_upReason_69 rfl k2 k1) (fun c => ?_) (fun c => ?_)
    · have hf := ite_t c hf
      refine a_aload_n (pc := 72) X dX4_upReason_72 rfl hl 3 rfl ?_
      refine a_aload_n (pc := 73) X dX4_upReason_73 rfl hl 3 rfl ?_
      refine a_get (pc := 74) (φ := 100) pR_t X Z.1.2.1 (gw X.1 X.2.1 q3025) (fun _ q => q) (by decide) dX4_upReason_74 hf (fun x74 hf => ?_)
      refine a_iload_n (pc := 77) X dX4_upReason_77 rfl hl 2 rfl ?_
      refine AW.lift (fun _ _ _ _ k => lv_iconst (pc := 78) (v := (1 : Int32)) X.2.2.1 X.2.2.2.1 dX4_upReason_78 rfl k) ?_
      refine AW.lift (fun _ _ _ _ k => lv_iadd (pc := 79) X.2.2.1 X.2.2.2.1 dX4_upReason_79 k) ?_
      refine a_iaload (pc := 80) X dX4_upReason_80 hf (fun x80 hf => ?_)
      refine a_put (pc := 81) (φ := 114) X Z.1.2.1 Z.1.2.2.1 (gw X.1 X.2.1 q3039) (fun _ q => q) (by decide) rfl rfl dX4_upReason_81 hf (fun h hf => ?_)
      refine AW.lift (fun _ _ _ _ k => lv_iconst (pc := 84) (v := (3 : Int32)) X.2.2.1 X.2.2.2.1 dX4_upReason_84 rfl k) ?_
      exact a_ireturn X Z.2.2.1 Z.2.2.2.1 dX4_upReason_85 hf
    · have hf := ite_f c hf
      refine a_aload_n (pc := 86) X dX4_upReason_86 rfl hl 3 rfl ?_
      refine a_get (pc := 87) (φ := 100) pR_t X Z.1.2.1 (gw X.1 X.2.1 q3025) (fun _ q => q) (by decide) dX4_upReason_87 hf (fun x87 hf => ?_)
      refine a_iload_n (pc := 90) X dX4_upReason_90 rfl hl 5 rfl ?_
      refine a_callb (pc := 91) (rs := [vR x87]) (avs := [vI v2]) Z.1 (w_X4_of GA v2) (Or.inl rfl) q3123 q86 (by decide) (by decide) dX4_upReason_91 hl.1 (Nat.le_of_ble_eq_true rfl) hf (ct_S X (Or.inl rfl) q3123 q86 q3121 q3122 hy_X4_of np_X4_of rfl dX4_upReason_91) (fun q h he hX => a_out (unc_of Z.2.1 rfl) Z.2.2.2.1 he hX) (fun x91 h hf => ?kk91)
      refine AW.eq (g2 := F0 m 94 ls [.int x91, va_rf x87]) rfl ?_
      refine AW.lift (fun _ _ _ _ k => lv_bipush (pc := 94) (v := (8 : Int32)) X.2.2.1 X.2.2.2.1 dX4_upReason_94 rfl k) ?_
      refine AW.lift (fun _ _ _ _ k => lv_iadd (pc := 96) X.2.2.1 X.2.2.2.1 dX4_upReason_96 k) ?_
      refine a_iaload (pc := 97) X dX4_upReason_97 hf (fun x97 hf => ?_)
      refine AW.lift2 (fun _ _ _ _ k1 k2 => lv_if_ne (pc := 98) (tgt := 108) X.2.2.1 X.2.2.2.1 dX4_upReason_98 rfl k2 k1) (fun c => ?_) (fun c => ?_)
      · have hf := ite_t c hf
        refine a_aload_n (pc := 101) X dX4_upReason_101 rfl hl 3 rfl ?_
        refine a_iload_n (pc := 102) X dX4_upReason_102 rfl hl 5 rfl ?_
        refine a_put (pc := 103) (φ := 114) X Z.1.2.1 Z.1.2.2.1 (gw X.1 X.2.1 q3039) (fun _ q => q) (by decide) rfl rfl dX4_upReason_103 hf (fun h hf => ?_)
        refine AW.lift (fun _ _ _ _ k => lv_iconst (pc := 106) (v := (4 : Int32)) X.2.2.1 X.2.2.2.1 dX4_upReason_106 rfl k) ?_
        exact a_ireturn X Z.2.2.1 Z.2.2.2.1 dX4_upReason_107 hf
      · have hf := ite_f c hf
        refine a_aload_n (pc := 108) X dX4_upReason_108 rfl hl 3 rfl ?_
        refine a_iload_n (pc := 109) X dX4_upReason_109 rfl hl 5 rfl ?_
        refine AW.lift (fun _ _ _ _ k => lv_iconst (pc := 110) (v := (0 : Int32)) X.2.2.1 X.2.2.2.1 dX4_upReason_110 rfl k) ?_
        rcases dv_someS hf with ⟨hk, hf⟩ | ⟨-, hf⟩
        rotate_left
        · exact fl_none hf
        refine a_callb (pc := 111) (rs := []) (avs := [vR (some a7), vI v2, vI (0 : Int32)]) Z.1 (w_X4_on GA (some a7) v2 (0 : Int32)) (Or.inl rfl) q3182 q86 (by decide) (by decide) dX4_upReason_111 hl.1 (Nat.le_of_ble_eq_true rfl) hf (ct_V hk ⟨by decide, by decide⟩ X (Or.inl rfl) q3182 q3179 q3181 pv_40 hy_X4_on np_X4_on rfl dX4_upReason_111) (fun q h he hX => a_out (unc_of Z.2.1 rfl) Z.2.2.2.1 he hX) (fun x111 h hf => ?kk111)
        refine AW.eq (g2 := F0 m 114 ls [.int x111]) rfl ?_
        refine AW.lift (fun _ _ _ _ k => lv_iconst (pc := 114) (v := (2 : Int32)) X.2.2.1 X.2.2.2.1 dX4_upReason_114 rfl k) ?_
        refine AW.lift2 (fun _ _ _ _ k1 k2 => lv_icmp_ne (pc := 115) (tgt := 126) X.2.2.1 X.2.2.2.1 dX4_upReason_115 rfl k2 k1) (fun c => ?_) (fun c => ?_)
        · have hf := ite_t c hf
          refine a_aload_n (pc := 118) X dX4_upReason_118 rfl hl 3 rfl ?_
          refine a_iload (pc := 119) X dX4_upReason_119 hl 1 rfl ?_
          refine a_put (pc := 121) (φ := 114) X Z.1.2.1 Z.1.2.2.1 (gw X.1 X.2.1 q3039) (fun _ q => q) (by decide) rfl rfl dX4_upReason_121 hf (fun h hf => ?_)
          refine AW.lift (fun _ _ _ _ k => lv_iconst (pc := 124) (v := (5 : Int32)) X.2.2.1 X.2.2.2.1 dX4_upReason_124 rfl k) ?_
          exact a_ireturn X Z.2.2.1 Z.2.2.2.1 dX4_upReason_125 hf
        · have hf := ite_f c hf
          refine a_iload (pc := 126) X dX4_upReason_126 hl 0 rfl ?_
          refine AW.lift2 (fun _ _ _ _ k1 k2 => lv_if_le (pc := 128) (tgt := 140) X.2.2.1 X.2.2.2.1 dX4_upReason_128 rfl k1 k2) (fun c => ?_) (fun c => ?_)
          · have hf := ite_t c hf
            refine a_iload (pc := 140) X dX4_upReason_140 hl 1 rfl ?_
            refine AW.lift (fun _ _ _ _ k => lv_iconst (pc := 142) (v := (-1 : Int32)) X.2.2.1 X.2.2.2.1 dX4_upReason_142 rfl k) ?_
            refine AW.lift2 (fun _ _ _ _ k1 k2 => lv_icmp_eq (pc := 143) (tgt := 211) X.2.2.1 X.2.2.2.1 dX4_upReason_143 rfl k1 k2) (fun c => ?_) (fun c => ?_)
            · have hf := ite_t c hf
              refine AW.lift (fun _ _ _ _ k => lv_iconst (pc := 211) (v := (0 : Int32)) X.2.2.1 X.2.2.2.1 dX4_upReason_211 rfl k) ?_
              exact a_ireturn X Z.2.2.1 Z.2.2.2.1 dX4_upReason_212 hf
            · have hf := ite_f c hf
              refine a_aload_n (pc := 146) X dX4_upReason_146 rfl hl 3 rfl ?_
              refine a_iload_n (pc := 147) X dX4_upReason_147 rfl hl 5 rfl ?_
              rcases dv_someS hf with ⟨hk, hf⟩ | ⟨-, hf⟩
              rotate_left
              · exact fl_none hf
              refine a_callb (pc := 148) (rs := []) (avs := [vR (some a7), vI v2]) Z.1 (w_X4_guardAt GA (some a7) v2) (Or.inl rfl) q3186 q86 (by decide) (by decide) dX4_upReason_148 hl.1 (Nat.le_of_ble_eq_true rfl) hf (ct_V hk ⟨by decide, by decide⟩ X (Or.inl rfl) q3186 q3183 q3185 pv_41 hy_X4_guardAt np_X4_guardAt rfl dX4_upReason_148) (fun q h he hX => a_out (unc_of Z.2.1 rfl) Z.2.2.2.1 he hX) (fun x148 h hf => ?kk148)
              refine AW.eq (g2 := F0 m 151 ls [.int x148]) rfl ?_
              refine AW.lift (fun _ _ _ _ k => lv_iconst (pc := 151) (v := (-1 : Int32)) X.2.2.1 X.2.2.2.1 dX4_upReason_151 rfl k) ?_
              refine AW.lift2 (fun _ _ _ _ k1 k2 => lv_icmp_ne (pc := 152) (tgt := 211) X.2.2.1 X.2.2.2.1 dX4_upReason_152 rfl k2 k1) (fun c => ?_) (fun c => ?_)
              · have hf := ite_t c hf
                refine a_aload_n (pc := 155) X dX4_upReason_155 rfl hl 3 rfl ?_
                refine a_get (pc := 156) (φ := 100) pR_t X Z.1.2.1 (gw X.1 X.2.1 q3025) (fun _ q => q) (by decide) dX4_upReason_156 hf (fun x156 hf => ?_)
                refine a_iload_n (pc := 159) X dX4_upReason_159 rfl hl 2 rfl ?_
                refine AW.lift (fun _ _ _ _ k => lv_iconst (pc := 160) (v := (0 : Int32)) X.2.2.1 X.2.2.2.1 dX4_upReason_160 rfl k) ?_
                refine AW.lift (fun _ _ _ _ k => lv_iadd (pc := 161) X.2.2.1 X.2.2.2.1 dX4_upReason_161 k) ?_
                refine a_iaload (pc := 162) X dX4_upReason_162 hf (fun x162 hf => ?_)
                refine AW.lift (fun _ _ _ _ k => lv_bipush (pc := 163) (v := (25 : Int32)) X.2.2.1 X.2.2.2.1 dX4_upReason_163 rfl k) ?_
                refine AW.lift2 (fun _ _ _ _ k1 k2 => lv_icmp_lt (pc := 165) (tgt := 185) X.2.2.1 X.2.2.2.1 dX4_upReason_165 rfl k1 k2) (fun c => ?_) (fun c => ?_)
                · have hf := ite_t c hf
                  exact w_X4_upReason_j185 GA Z (some a7) v1 x1 x7   (hl.sub [3, 4, 2, 1] rfl) hf
                · have hf := ite_f c hf
                  refine a_aload_n (pc := 168) X dX4_upReason_168 rfl hl 3 rfl ?_
                  refine a_get (pc := 169) (φ := 100) pR_t X Z.1.2.1 (gw X.1 X.2.1 q3025) (fun _ q => q) (by decide) dX4_upReason_169 hf (fun x169 hf => ?_)
                  refine a_iload (pc := 172) X dX4_upReason_172 hl 1 rfl ?_
                  refine a_callb (pc := 174) (rs := [vR x169]) (avs := [vI x7]) Z.1 (w_X4_at0 GA x7) (Or.inl rfl) q3154 q86 (by decide) (by decide) dX4_upReason_174 hl.1 (Nat.le_of_ble_eq_true rfl) hf (ct_S X (Or.inl rfl) q3154 q86 q3152 q3153 hy_X4_at0 np_X4_at0 rfl dX4_upReason_174) (fun q h he hX => a_out (unc_of Z.2.1 rfl) Z.2.2.2.1 he hX) (fun x174 h hf => ?kk174)
                  refine AW.eq (g2 := F0 m 177 ls [.int x174, va_rf x169]) rfl ?_
                  refine AW.lift (fun _ _ _ _ k => lv_iconst (pc := 177) (v := (0 : Int32)) X.2.2.1 X.2.2.2.1 dX4_upReason_177 rfl k) ?_
                  refine AW.lift (fun _ _ _ _ k => lv_iadd (pc := 178) X.2.2.1 X.2.2.2.1 dX4_upReason_178 k) ?_
                  refine a_iaload (pc := 179) X dX4_upReason_179 hf (fun x179 hf => ?_)
                  refine AW.lift (fun _ _ _ _ k => lv_bipush (pc := 180) (v := (25 : Int32)) X.2.2.1 X.2.2.2.1 dX4_upReason_180 rfl k) ?_
                  refine AW.lift2 (fun _ _ _ _ k1 k2 => lv_icmp_ge (pc := 182) (tgt := 211) X.2.2.1 X.2.2.2.1 dX4_upReason_182 rfl k1 k2) (fun c => ?_) (fun c => ?_)
                  · have hf := ite_t c hf
                    refine AW.lift (fun _ _ _ _ k => lv_iconst (pc := 211) (v := (0 : Int32)) X.2.2.1 X.2.2.2.1 dX4_upReason_211 rfl k) ?_
                    exact a_ireturn X Z.2.2.1 Z.2.2.2.1 dX4_upReason_212 hf
                  · have hf := ite_f c hf
                    exact w_X4_upReason_j185 GA Z (some a7) v1 x1 x7   (hl.sub [3, 4, 2, 1] rfl) hf
              · have hf := ite_f c hf
                refine AW.lift (fun _ _ _ _ k => lv_iconst (pc := 211) (v := (0 : Int32)) X.2.2.1 X.2.2.2.1 dX4_upReason_211 rfl k) ?_
                exact a_ireturn X Z.2.2.1 Z.2.2.2.1 dX4_upReason_212 hf
          · have hf := ite_f c hf
            refine a_aload_n (pc := 131) X dX4_upReason_131 rfl hl 3 rfl ?_
            refine a_iload (pc := 132) X dX4_upReason_132 hl 0 rfl ?_
            refine a_put (pc := 134) (φ := 114) X Z.1.2.1 Z.1.2.2.1 (gw X.1 X.2.1 q3039) (fun _ q => q) (by decide) rfl rfl dX4_upReason_134 hf (fun h hf => ?_)
            refine AW.lift (fun _ _ _ _ k => lv_bipush (pc := 137) (v := (6 : Int32)) X.2.2.1 X.2.2.2.1 dX4_upReason_137 rfl k) ?_
            exact a_ireturn X Z.2.2.1 Z.2.2.2.1 dX4_upReason_139 hf
  · have hf := ite_f c hf
    refine a_aload_n (pc := 46) X dX4_upReason_46 rfl hl 3 rfl ?_
    refine a_aload_n (pc := 47) X dX4_upReason_47 rfl hl 3 rfl ?_
    refine a_get (pc := 48) (φ := 100) pR_t X Z.1.2.1 (gw X.1 X.2.1 q3025) (fun _ q => q) (by decide) dX4_upReason_48 hf (fun x48 hf => ?_)
    refine a_iload_n (pc := 51) X dX4_upReason_51 rfl hl 2 rfl ?_
    refine AW.lift (fun _ _ _ _ k => lv_iconst (pc := 52) (v := (2 : Int32)) X.2.2.1 X.2.2.2.1 dX4_upReason_52 rfl k) ?_
    refine AW.lift (fun _ _ _ _ k => lv_iadd (pc := 53) X.2.2.1 X.2.2.2.1 dX4_upReason_53 k) ?_
    refine a_iaload (pc := 54) X dX4_upReason_54 hf (fun x54 hf => ?_)
    refine a_put (pc := 55) (φ := 114) X Z.1.2.1 Z.1.2.2.1 (gw X.1 X.2.1 q3039) (fun _ q => q) (by decide) rfl rfl dX4_upReason_55 hf (fun h hf => ?_)
    refine AW.lift (fun _ _ _ _ k => lv_iconst (pc := 58) (v := (2 : Int32)) X.2.2.1 X.2.2.2.1 dX4_upReason_58 rfl k) ?_
    exact a_ireturn X Z.2.2.1 Z.2.2.2.1 dX4_upReason_59 hf
theorem np_X4_refuseBy : npar yX4_refuseBy.desc 5 := by unfold npar; decide +kernel
theorem hy_X4_refuseBy : yX4_refuseBy.cls ≠ "java/lang/invoke/MethodHandle" ∧ yX4_refuseBy.cls ≠ "java/lang/invoke/VarHandle" := by decide +kernel
theorem w_X4_refuseBy (GA : GA l s0 a0 K lam) (v0 : Option Nat) (v1 : Int32) (v2 : Int32) (v3 : Int32) (v4 : Int32) (v5 : Int32) : AMet l s0 K lam yX4_refuseBy (Cond.code yX4_refuseBy cX4_refuseBy (6 : Nat) (Option.some ClassFile.FieldType.int)) 2 44 [vR v0, vI v1, vI v2, vI v3, vI v4, vI v5] oI (f_X4_refuseBy K v0 v1 v2 v3 v4 v5) := by
  refine AMet.of GA.1 (plainFor_of_name (by decide +kernel)) (Nat.le_of_ble_eq_true rfl) ?_
  intro b r hf p e s m args below meth c X hr hlk hnm hnd ht ls hl
  have Z : WZ l s0 a0 K p s m c cX4_refuseBy yX4_refuseBy.cls 6 b { frames := 2, cells := K 0 - aX b, slots := K 1 - aW b, locals := 44 } 2 44 meth [] (some (.int)) yX4_refuseBy := ⟨⟨X, GA.2.1, GA.2.2.1, rfl, rfl, Nat.le_refl _, Nat.le_refl _⟩, tab_nil ht, hr, hlk, hnm, hnd⟩
  unfold f_X4_refuseBy at hf
  clear hr hlk hnm hnd ht
  refine a_aload_n (pc := 0) X dX4_refuseBy_0 rfl hl 0 rfl ?_
  refine a_iload_n (pc := 1) X dX4_refuseBy_1 rfl hl 1 rfl ?_
  refine a_iload_n (pc := 2) X dX4_refuseBy_2 rfl hl 2 rfl ?_
  refine a_iload_n (pc := 3) X dX4_refuseBy_3 rfl hl 3 rfl ?_
  obtain ⟨a4, rfl, ⟨hk, hf⟩ | ⟨-, hf⟩⟩ := dv_some hf
  rotate_left
  · exact fl_none hf
  refine a_callb (pc := 4) (rs := []) (avs := [vR (some a4), vI v1, vI v2, vI v3]) Z.1 (w_X4_refuse GA (some a4) v1 v2 v3) (Or.inl rfl) q3116 q86 (by decide) (by decide) dX4_refuseBy_4 hl.1 (Nat.le_of_ble_eq_true rfl) hf (ct_V hk ⟨by decide, by decide⟩ X (Or.inl rfl) q3116 q3113 q3115 pv_29 hy_X4_refuse np_X4_refuse rfl dX4_refuseBy_4) (fun q h he hX => a_out (unc_of Z.2.1 rfl) Z.2.2.2.1 he hX) (fun x4 h hf => ?kk4)
  refine AW.eq (g2 := F0 m 7 ls [.int x4]) rfl ?_
  refine AW.lift (fun _ _ _ _ k => lv_pop (pc := 7) X.2.2.1 X.2.2.2.1 dX4_refuseBy_7 rfl k) ?_
  refine a_aload_n (pc := 8) X dX4_refuseBy_8 rfl hl 0 rfl ?_
  refine a_get (pc := 9) (φ := 108) pR_t X Z.1.2.1 (gw X.1 X.2.1 q3033) (fun _ q => q) (by decide) dX4_refuseBy_9 hf (fun x9 hf => ?_)
  refine AW.lift (fun _ _ _ _ k => lv_iconst (pc := 12) (v := (1 : Int32)) X.2.2.1 X.2.2.2.1 dX4_refuseBy_12 rfl k) ?_
  refine a_iload (pc := 13) X dX4_refuseBy_13 hl 4 rfl ?_
  refine a_iastore (pc := 15) X dX4_refuseBy_15 hf (fun h hf => ?_)
  refine a_aload_n (pc := 16) X dX4_refuseBy_16 rfl hl 0 rfl ?_
  refine a_get (pc := 17) (φ := 109) pR_t X Z.1.2.1 (gw X.1 X.2.1 q3034) (fun _ q => q) (by decide) dX4_refuseBy_17 hf (fun x17 hf => ?_)
  refine AW.lift (fun _ _ _ _ k => lv_iconst (pc := 20) (v := (1 : Int32)) X.2.2.1 X.2.2.2.1 dX4_refuseBy_20 rfl k) ?_
  refine a_iload (pc := 21) X dX4_refuseBy_21 hl 5 rfl ?_
  refine a_iastore (pc := 23) X dX4_refuseBy_23 hf (fun h hf => ?_)
  refine a_aload_n (pc := 24) X dX4_refuseBy_24 rfl hl 0 rfl ?_
  refine AW.lift (fun _ _ _ _ k => lv_iconst (pc := 25) (v := (2 : Int32)) X.2.2.1 X.2.2.2.1 dX4_refuseBy_25 rfl k) ?_
  refine a_put (pc := 26) (φ := 110) X Z.1.2.1 Z.1.2.2.1 (gw X.1 X.2.1 q3035) (fun _ q => q) (by decide) rfl rfl dX4_refuseBy_26 hf (fun h hf => ?_)
  refine AW.lift (fun _ _ _ _ k => lv_iconst (pc := 29) (v := (0 : Int32)) X.2.2.1 X.2.2.2.1 dX4_refuseBy_29 rfl k) ?_
  exact a_ireturn X Z.2.2.1 Z.2.2.2.1 dX4_refuseBy_30 hf
theorem w_X4_upIt_j16 {r : Except Nat (Int32) × AH} (GA : GA l s0 a0 K lam) (Z : WZ l s0 a0 K p s m c cX4_upIt yX4_upIt.cls 4 b R 4 91 meth [] (some (.int)) yX4_upIt) (v0 : Option Nat)   {h : AH} {ls : Array Slot} (hl : LV ls 4 [(0, vR v0)]) (hf : f_X4_upIt_j16 K v0 h = some r) : AW s0 K lam p l e R s m args below meth c (AQ s0 K lam below oI b r s) b h (F0 m 16 ls []) := by
  unfold f_X4_upIt_j16 at hf
  have X := Z.1.1
  refine a_aload_n (pc := 16) X dX4_upIt_16 rfl hl 0 rfl ?_
  refine AW.lift (fun _ _ _ _ k => lv_iconst (pc := 17) (v := (1 : Int32)) X.2.2.1 X.2.2.2.1 dX4_upIt_17 rfl k) ?_
  obtain ⟨a18, rfl, ⟨hk, hf⟩ | ⟨-, hf⟩⟩ := dv_some hf
  rotate_left
  · exact fl_none hf
  refine a_callb (pc := 18) (rs := []) (avs := [vR (some a18), vI (1 : Int32)]) Z.1 (w_X4_throwing GA (some a18) (1 : Int32)) (Or.inl rfl) q3120 q86 (by decide) (by decide) dX4_upIt_18 hl.1 (Nat.le_of_ble_eq_true rfl) hf (ct_V hk ⟨by decide, by decide⟩ X (Or.inl rfl) q3120 q3117 q3119 pv_30 hy_X4_throwing np_X4_throwing rfl dX4_upIt_18) (fun q h he hX => a_out (unc_of Z.2.1 rfl) Z.2.2.2.1 he hX) (fun x18 h hf => ?kk18)
  refine AW.eq (g2 := F0 m 21 ls [.int x18]) rfl ?_
  exact a_ireturn X Z.2.2.1 Z.2.2.2.1 dX4_upIt_21 hf
theorem w_X4_upIt_j68 {r : Except Nat (Int32) × AH} (GA : GA l s0 a0 K lam) (Z : WZ l s0 a0 K p s m c cX4_upIt yX4_upIt.cls 4 b R 4 91 meth [] (some (.int)) yX4_upIt) (v0 : Option Nat) (v3 : Int32)   {h : AH} {ls : Array Slot} (hl : LV ls 4 [(0, vR v0), (3, vI v3)]) (hf : f_X4_upIt_j68 K v0 v3 h = some r) : AW s0 K lam p l e R s m args below meth c (AQ s0 K lam below oI b r s) b h (F0 m 68 ls []) := by
  unfold f_X4_upIt_j68 at hf
  have X := Z.1.1
  refine a_aload_n (pc := 68) X dX4_upIt_68 rfl hl 0 rfl ?_
  refine AW.lift (fun _ _ _ _ k => lv_iconst (pc := 69) (v := (2 : Int32)) X.2.2.1 X.2.2.2.1 dX4_upIt_69 rfl k) ?_
  refine a_iload_n (pc := 70) X dX4_upIt_70 rfl hl 1 rfl ?_
  refine a_aload_n (pc := 71) X dX4_upIt_71 rfl hl 0 rfl ?_
  refine a_get (pc := 72) (φ := 114) pI_t X Z.1.2.1 (gw X.1 X.2.1 q3039) (fun _ q => q) (by decide) dX4_upIt_72 hf (fun x72 hf => ?_)
  obtain ⟨a75, rfl, ⟨hk, hf⟩ | ⟨-, hf⟩⟩ := dv_some hf
  rotate_left
  · exact fl_none hf
  refine a_callb (pc := 75) (rs := []) (avs := [vR (some a75), vI (2 : Int32), vI v3, vI x72]) Z.1 (w_X4_refuse GA (some a75) (2 : Int32) v3 x72) (Or.inl rfl) q3116 q86 (by decide) (by decide) dX4_upIt_75 hl.1 (Nat.le_of_ble_eq_true rfl) hf (ct_V hk ⟨by decide, by decide⟩ X (Or.inl rfl) q3116 q3113 q3115 pv_29 hy_X4_refuse np_X4_refuse rfl dX4_upIt_75) (fun q h he hX => a_out (unc_of Z.2.1 rfl) Z.2.2.2.1 he hX) (fun x75 h hf => ?kk75)
  refine AW.eq (g2 := F0 m 78 ls [.int x75]) rfl ?_
  exact a_ireturn X Z.2.2.1 Z.2.2.2.1 dX4_upIt_78 hf
theorem np_X4_upIt : npar yX4_upIt.desc 2 := by unfold npar; decide +kernel
theorem hy_X4_upIt : yX4_upIt.cls ≠ "java/lang/invoke/MethodHandle" ∧ yX4_upIt.cls ≠ "java/lang/invoke/VarHandle" := by decide +kernel
theorem w_X4_upIt (GA : GA l s0 a0 K lam) (v0 : Option Nat) (v1 : Int32) (v2 : Int32) : AMet l s0 K lam yX4_upIt (Cond.code yX4_upIt cX4_upIt (4 : Nat) (Option.some ClassFile.FieldType.int)) 4 91 [vR v0, vI v1, vI v2] oI (f_X4_upIt K v0 v1 v2) := by
  refine AMet.of GA.1 (plainFor_of_name (by decide +kernel)) (Nat.le_of_ble_eq_true rfl) ?_
  intro b r hf p e s m args below meth c X hr hlk hnm hnd ht ls hl
  have Z : WZ l s0 a0 K p s m c cX4_upIt yX4_upIt.cls 4 b { frames := 4, cells := K 0 - aX b, slots := K 1 - aW b, locals := 91 } 4 91 meth [] (some (.int)) yX4_upIt := ⟨⟨X, GA.2.1, GA.2.2.1, rfl, rfl, Nat.le_refl _, Nat.le_refl _⟩, tab_nil ht, hr, hlk, hnm, hnd⟩
  unfold f_X4_upIt at hf
  clear hr hlk hnm hnd ht
  refine a_aload_n (pc := 0) X dX4_upIt_0 rfl hl 0 rfl ?_
  refine a_iload_n (pc := 1) X dX4_upIt_1 rfl hl 1 rfl ?_
  obtain ⟨a2, rfl, ⟨hk, hf⟩ | ⟨-, hf⟩⟩ := dv_some hf
  rotate_left
  · exact fl_none hf
  refine a_callb (pc := 2) (rs := []) (avs := [vR (some a2), vI v1]) Z.1 (w_X4_isJumper GA (some a2) v1) (Or.inl rfl) q3221 q86 (by decide) (by decide) dX4_upIt_2 hl.1 (Nat.le_of_ble_eq_true rfl) hf (ct_V hk ⟨by decide, by decide⟩ X (Or.inl rfl) q3221 q3218 q3220 pv_44 hy_X4_isJumper np_X4_isJumper rfl dX4_upIt_2) (fun q h he hX => a_out (unc_of Z.2.1 rfl) Z.2.2.2.1 he hX) (fun x2 h hf => ?kk2)
  refine AW.eq (g2 := F0 m 5 ls [.int x2]) rfl ?_
  refine AW.lift2 (fun _ _ _ _ k1 k2 => lv_if_eq (pc := 5) (tgt := 16) X.2.2.1 X.2.2.2.1 dX4_upIt_5 rfl k1 k2) (fun c => ?_) (fun c => ?_)
  · have hf := ite_t c hf
    exact w_X4_upIt_j16 GA Z (some a2)   (hl.sub [0] rfl) hf
  · have hf := ite_f c hf
    refine a_aload_n (pc := 8) X dX4_upIt_8 rfl hl 0 rfl ?_
    refine a_iload_n (pc := 9) X dX4_upIt_9 rfl hl 2 rfl ?_
    rcases dv_someS hf with ⟨hk, hf⟩ | ⟨-, hf⟩
    rotate_left
    · exact fl_none hf
    refine a_callb (pc := 10) (rs := []) (avs := [vR (some a2), vI v2]) Z.1 (w_X4_isMat GA (some a2) v2) (Or.inl rfl) q3139 q86 (by decide) (by decide) dX4_upIt_10 hl.1 (Nat.le_of_ble_eq_true rfl) hf (ct_V hk ⟨by decide, by decide⟩ X (Or.inl rfl) q3139 q3136 q3138 pv_33 hy_X4_isMat np_X4_isMat rfl dX4_upIt_10) (fun q h he hX => a_out (unc_of Z.2.1 rfl) Z.2.2.2.1 he hX) (fun x10 h hf => ?kk10)
    refine AW.eq (g2 := F0 m 13 ls [.int x10]) rfl ?_
    refine AW.lift2 (fun _ _ _ _ k1 k2 => lv_if_ne (pc := 13) (tgt := 22) X.2.2.1 X.2.2.2.1 dX4_upIt_13 rfl k2 k1) (fun c => ?_) (fun c => ?_)
    · have hf := ite_t c hf
      exact w_X4_upIt_j16 GA Z (some a2)   (hl.sub [0] rfl) hf
    · have hf := ite_f c hf
      refine a_aload_n (pc := 22) X dX4_upIt_22 rfl hl 0 rfl ?_
      refine a_iload_n (pc := 23) X dX4_upIt_23 rfl hl 1 rfl ?_
      refine a_iload_n (pc := 24) X dX4_upIt_24 rfl hl 2 rfl ?_
      rcases dv_someS hf with ⟨hk, hf⟩ | ⟨-, hf⟩
      rotate_left
      · exact fl_none hf
      refine a_callb (pc := 25) (rs := []) (avs := [vR (some a2), vI v1, vI v2]) Z.1 (w_X4_upReason GA (some a2) v1 v2) (Or.inl rfl) q3225 q86 (by decide) (by decide) dX4_upIt_25 hl.1 (Nat.le_of_ble_eq_true rfl) hf (ct_V hk ⟨by decide, by decide⟩ X (Or.inl rfl) q3225 q3222 q3224 pv_45 hy_X4_upReason np_X4_upReason rfl dX4_upIt_25) (fun q h he hX => a_out (unc_of Z.2.1 rfl) Z.2.2.2.1 he hX) (fun x25 h hf => ?kk25)
      refine AW.eq (g2 := F0 m 28 ls [.int x25]) rfl ?_
      refine a_istore_n (pc := 28) X dX4_upIt_28 rfl hl (by decide) (lv' := [(3, vI x25), (0, vR (some a2)), (1, vI v1), (2, vI v2)]) rfl (fun ls hl => ?_)
      refine a_iload_n (pc := 29) X dX4_upIt_29 rfl hl 0 rfl ?_
      refine AW.lift2 (fun _ _ _ _ k1 k2 => lv_if_le (pc := 30) (tgt := 79) X.2.2.1 X.2.2.2.1 dX4_upIt_30 rfl k1 k2) (fun c => ?_) (fun c => ?_)
      · have hf := ite_t c hf
        refine a_aload_n (pc := 79) X dX4_upIt_79 rfl hl 1 rfl ?_
        refine a_get (pc := 80) (φ := 100) pR_t X Z.1.2.1 (gw X.1 X.2.1 q3025) (fun _ q => q) (by decide) dX4_upIt_80 hf (fun x80 hf => ?_)
        refine a_iload_n (pc := 83) X dX4_upIt_83 rfl hl 2 rfl ?_
        refine a_callb (pc := 84) (rs := [vR x80]) (avs := [vI v1]) Z.1 (w_X4_at0 GA v1) (Or.inl rfl) q3154 q86 (by decide) (by decide) dX4_upIt_84 hl.1 (Nat.le_of_ble_eq_true rfl) hf (ct_S X (Or.inl rfl) q3154 q86 q3152 q3153 hy_X4_at0 np_X4_at0 rfl dX4_upIt_84) (fun q h he hX => a_out (unc_of Z.2.1 rfl) Z.2.2.2.1 he hX) (fun x84 h hf => ?kk84)
        refine AW.eq (g2 := F0 m 87 ls [.int x84, va_rf x80]) rfl ?_
        refine AW.lift (fun _ _ _ _ k => lv_iconst (pc := 87) (v := (2 : Int32)) X.2.2.1 X.2.2.2.1 dX4_upIt_87 rfl k) ?_
        refine AW.lift (fun _ _ _ _ k => lv_iadd (pc := 88) X.2.2.1 X.2.2.2.1 dX4_upIt_88 k) ?_
        refine AW.lift (fun _ _ _ _ k => lv_iconst (pc := 89) (v := (1 : Int32)) X.2.2.1 X.2.2.2.1 dX4_upIt_89 rfl k) ?_
        refine a_iastore (pc := 90) X dX4_upIt_90 hf (fun h hf => ?_)
        refine a_aload_n (pc := 91) X dX4_upIt_91 rfl hl 1 rfl ?_
        refine a_get (pc := 92) (φ := 100) pR_t X Z.1.2.1 (gw X.1 X.2.1 q3025) (fun _ q => q) (by decide) dX4_upIt_92 hf (fun x92 hf => ?_)
        refine a_iload_n (pc := 95) X dX4_upIt_95 rfl hl 2 rfl ?_
        refine a_callb (pc := 96) (rs := [vR x92]) (avs := [vI v1]) Z.1 (w_X4_at0 GA v1) (Or.inl rfl) q3154 q86 (by decide) (by decide) dX4_upIt_96 hl.1 (Nat.le_of_ble_eq_true rfl) hf (ct_S X (Or.inl rfl) q3154 q86 q3152 q3153 hy_X4_at0 np_X4_at0 rfl dX4_upIt_96) (fun q h he hX => a_out (unc_of Z.2.1 rfl) Z.2.2.2.1 he hX) (fun x96 h hf => ?kk96)
        refine AW.eq (g2 := F0 m 99 ls [.int x96, va_rf x92]) rfl ?_
        refine AW.lift (fun _ _ _ _ k => lv_iconst (pc := 99) (v := (3 : Int32)) X.2.2.1 X.2.2.2.1 dX4_upIt_99 rfl k) ?_
        refine AW.lift (fun _ _ _ _ k => lv_iadd (pc := 100) X.2.2.1 X.2.2.2.1 dX4_upIt_100 k) ?_
        refine a_iload_n (pc := 101) X dX4_upIt_101 rfl hl 3 rfl ?_
        refine a_iastore (pc := 102) X dX4_upIt_102 hf (fun h hf => ?_)
        refine a_aload_n (pc := 103) X dX4_upIt_103 rfl hl 1 rfl ?_
        refine a_get (pc := 104) (φ := 100) pR_t X Z.1.2.1 (gw X.1 X.2.1 q3025) (fun _ q => q) (by decide) dX4_upIt_104 hf (fun x104 hf => ?_)
        refine a_iload_n (pc := 107) X dX4_upIt_107 rfl hl 3 rfl ?_
        refine a_callb (pc := 108) (rs := [vR x104]) (avs := [vI v2]) Z.1 (w_X4_of GA v2) (Or.inl rfl) q3123 q86 (by decide) (by decide) dX4_upIt_108 hl.1 (Nat.le_of_ble_eq_true rfl) hf (ct_S X (Or.inl rfl) q3123 q86 q3121 q3122 hy_X4_of np_X4_of rfl dX4_upIt_108) (fun q h he hX => a_out (unc_of Z.2.1 rfl) Z.2.2.2.1 he hX) (fun x108 h hf => ?kk108)
        refine AW.eq (g2 := F0 m 111 ls [.int x108, va_rf x104]) rfl ?_
        refine AW.lift (fun _ _ _ _ k => lv_bipush (pc := 111) (v := (9 : Int32)) X.2.2.1 X.2.2.2.1 dX4_upIt_111 rfl k) ?_
        refine AW.lift (fun _ _ _ _ k => lv_iadd (pc := 113) X.2.2.1 X.2.2.2.1 dX4_upIt_113 k) ?_
        refine AW.lift (fun _ _ _ _ k => lv_dup2_11 (pc := 114) X.2.2.1 X.2.2.2.1 dX4_upIt_114 rfl (cat_rf _) k) ?_
        refine a_iaload (pc := 115) X dX4_upIt_115 hf (fun x115 hf => ?_)
        refine AW.lift (fun _ _ _ _ k => lv_iconst (pc := 116) (v := (1 : Int32)) X.2.2.1 X.2.2.2.1 dX4_upIt_116 rfl k) ?_
        refine AW.lift (fun _ _ _ _ k => lv_iadd (pc := 117) X.2.2.1 X.2.2.2.1 dX4_upIt_117 k) ?_
        refine a_iastore (pc := 118) X dX4_upIt_118 hf (fun h hf => ?_)
        refine a_aload_n (pc := 119) X dX4_upIt_119 rfl hl 1 rfl ?_
        refine a_iload_n (pc := 120) X dX4_upIt_120 rfl hl 3 rfl ?_
        rcases dv_someS hf with ⟨hk, hf⟩ | ⟨-, hf⟩
        rotate_left
        · exact fl_none hf
        refine a_callb (pc := 121) (rs := []) (avs := [vR (some a2), vI v2]) Z.1 (w_X4_bears GA (some a2) v2) (Or.inl rfl) q3158 q86 (by decide) (by decide) dX4_upIt_121 hl.1 (Nat.le_of_ble_eq_true rfl) hf (ct_V hk ⟨by decide, by decide⟩ X (Or.inl rfl) q3158 q3155 q3157 pv_36 hy_X4_bears np_X4_bears rfl dX4_upIt_121) (fun q h he hX => a_out (unc_of Z.2.1 rfl) Z.2.2.2.1 he hX) (fun x121 h hf => ?kk121)
        refine AW.eq (g2 := F0 m 124 ls [.int x121]) rfl ?_
        refine a_aload_n (pc := 124) X dX4_upIt_124 rfl hl 1 rfl ?_
        refine a_iload_n (pc := 125) X dX4_upIt_125 rfl hl 3 rfl ?_
        refine AW.lift (fun _ _ _ _ k => lv_iconst (pc := 126) (v := (1 : Int32)) X.2.2.1 X.2.2.2.1 dX4_upIt_126 rfl k) ?_
        rcases dv_someS hf with ⟨hk, hf⟩ | ⟨-, hf⟩
        rotate_left
        · exact fl_none hf
        refine a_callb (pc := 127) (rs := [vI x121]) (avs := [vR (some a2), vI v2, vI (1 : Int32)]) Z.1 (w_X4_on GA (some a2) v2 (1 : Int32)) (Or.inl rfl) q3182 q86 (by decide) (by decide) dX4_upIt_127 hl.1 (Nat.le_of_ble_eq_true rfl) hf (ct_V hk ⟨by decide, by decide⟩ X (Or.inl rfl) q3182 q3179 q3181 pv_40 hy_X4_on np_X4_on rfl dX4_upIt_127) (fun q h he hX => a_out (unc_of Z.2.1 rfl) Z.2.2.2.1 he hX) (fun x127 h hf => ?kk127)
        refine AW.eq (g2 := F0 m 130 ls [.int x127, .int x121]) rfl ?_
        refine AW.lift (fun _ _ _ _ k => lv_isub (pc := 130) X.2.2.1 X.2.2.2.1 dX4_upIt_130 k) ?_
        exact a_ireturn X Z.2.2.1 Z.2.2.2.1 dX4_upIt_131 hf
      · have hf := ite_f c hf
        refine a_iload_n (pc := 33) X dX4_upIt_33 rfl hl 0 rfl ?_
        refine AW.lift (fun _ _ _ _ k => lv_bipush (pc := 34) (v := (6 : Int32)) X.2.2.1 X.2.2.2.1 dX4_upIt_34 rfl k) ?_
        refine AW.lift2 (fun _ _ _ _ k1 k2 => lv_icmp_ne (pc := 36) (tgt := 68) X.2.2.1 X.2.2.2.1 dX4_upIt_36 rfl k2 k1) (fun c => ?_) (fun c => ?_)
        · have hf := ite_t c hf
          refine a_aload_n (pc := 39) X dX4_upIt_39 rfl hl 1 rfl ?_
          refine a_iload_n (pc := 40) X dX4_upIt_40 rfl hl 3 rfl ?_
          rcases dv_someS hf with ⟨hk, hf⟩ | ⟨-, hf⟩
          rotate_left
          · exact fl_none hf
          refine a_callb (pc := 41) (rs := []) (avs := [vR (some a2), vI v2]) Z.1 (w_X4_broken GA (some a2) v2) (Or.inl rfl) q3162 q86 (by decide) (by decide) dX4_upIt_41 hl.1 (Nat.le_of_ble_eq_true rfl) hf (ct_V hk ⟨by decide, by decide⟩ X (Or.inl rfl) q3162 q3159 q3161 pv_37 hy_X4_broken np_X4_broken rfl dX4_upIt_41) (fun q h he hX => a_out (unc_of Z.2.1 rfl) Z.2.2.2.1 he hX) (fun x41 h hf => ?kk41)
          refine AW.eq (g2 := F0 m 44 ls [.int x41]) rfl ?_
          refine AW.lift2 (fun _ _ _ _ k1 k2 => lv_if_le (pc := 44) (tgt := 68) X.2.2.1 X.2.2.2.1 dX4_upIt_44 rfl k1 k2) (fun c => ?_) (fun c => ?_)
          · have hf := ite_t c hf
            exact w_X4_upIt_j68 GA Z (some a2) x25   (hl.sub [1, 0] rfl) hf
          · have hf := ite_f c hf
            refine a_aload_n (pc := 47) X dX4_upIt_47 rfl hl 1 rfl ?_
            refine AW.lift (fun _ _ _ _ k => lv_iconst (pc := 48) (v := (2 : Int32)) X.2.2.1 X.2.2.2.1 dX4_upIt_48 rfl k) ?_
            refine AW.lift (fun _ _ _ _ k => lv_bipush (pc := 49) (v := (6 : Int32)) X.2.2.1 X.2.2.2.1 dX4_upIt_49 rfl k) ?_
            refine a_aload_n (pc := 51) X dX4_upIt_51 rfl hl 1 rfl ?_
            refine a_get (pc := 52) (φ := 114) pI_t X Z.1.2.1 (gw X.1 X.2.1 q3039) (fun _ q => q) (by decide) dX4_upIt_52 hf (fun x52 hf => ?_)
            refine AW.lift (fun _ _ _ _ k => lv_bipush (pc := 55) (v := (16 : Int32)) X.2.2.1 X.2.2.2.1 dX4_upIt_55 rfl k) ?_
            refine a_aload_n (pc := 57) X dX4_upIt_57 rfl hl 1 rfl ?_
            refine a_iload_n (pc := 58) X dX4_upIt_58 rfl hl 3 rfl ?_
            rcases dv_someS hf with ⟨hk, hf⟩ | ⟨-, hf⟩
            rotate_left
            · exact fl_none hf
            refine a_callb (pc := 59) (rs := [vI (16 : Int32), vI x52, vI (6 : Int32), vI (2 : Int32), vR (some a2)]) (avs := [vR (some a2), vI v2]) Z.1 (w_X4_broken GA (some a2) v2) (Or.inl rfl) q3162 q86 (by decide) (by decide) dX4_upIt_59 hl.1 (Nat.le_of_ble_eq_true rfl) hf (ct_V hk ⟨by decide, by decide⟩ X (Or.inl rfl) q3162 q3159 q3161 pv_37 hy_X4_broken np_X4_broken rfl dX4_upIt_59) (fun q h he hX => a_out (unc_of Z.2.1 rfl) Z.2.2.2.1 he hX) (fun x59 h hf => ?kk59)
            refine AW.eq (g2 := F0 m 62 ls [.int x59, .int (16 : Int32), .int x52, .int (6 : Int32), .int (2 : Int32), va_rf (some a2)]) rfl ?_
            rcases dv_someS hf with ⟨hk, hf⟩ | ⟨-, hf⟩
            rotate_left
            · exact fl_none hf
            refine a_callb (pc := 62) (rs := []) (avs := [vR (some a2), vI (2 : Int32), vI (6 : Int32), vI x52, vI (16 : Int32), vI x59]) Z.1 (w_X4_refuseBy GA (some a2) (2 : Int32) (6 : Int32) x52 (16 : Int32) x59) (Or.inl rfl) q3229 q86 (by decide) (by decide) dX4_upIt_62 hl.1 (Nat.le_of_ble_eq_true rfl) hf (ct_V hk ⟨by decide, by decide⟩ X (Or.inl rfl) q3229 q3226 q3228 pv_46 hy_X4_refuseBy np_X4_refuseBy rfl dX4_upIt_62) (fun q h he hX => a_out (unc_of Z.2.1 rfl) Z.2.2.2.1 he hX) (fun x62 h hf => ?kk62)
            refine AW.eq (g2 := F0 m 65 ls [.int x62]) rfl ?_
            refine AW.lift (fun _ _ _ _ k => lv_goto (pc := 65) (tgt := 78) X.2.2.1 X.2.2.2.1 dX4_upIt_65 rfl k) ?_
            exact a_ireturn X Z.2.2.1 Z.2.2.2.1 dX4_upIt_78 hf
        · have hf := ite_f c hf
          exact w_X4_upIt_j68 GA Z (some a2) x25   (hl.sub [1, 0] rfl) hf
theorem np_X4_up : npar yX4_up.desc 2 := by unfold npar; decide +kernel
theorem hy_X4_up : yX4_up.cls ≠ "java/lang/invoke/MethodHandle" ∧ yX4_up.cls ≠ "java/lang/invoke/VarHandle" := by decide +kernel
theorem w_X4_up (GA : GA l s0 a0 K lam) (v0 : Option Nat) (v1 : Int32) (v2 : Int32) : AMet l s0 K lam yX4_up (Cond.code yX4_up cX4_up (3 : Nat) (Option.some ClassFile.FieldType.int)) 5 114 [vR v0, vI v1, vI v2] oI (f_X4_up K v0 v1 v2) := by
  refine AMet.of GA.1 (plainFor_of_name (by decide +kernel)) (Nat.le_of_ble_eq_true rfl) ?_
  intro b r hf p e s m args below meth c X hr hlk hnm hnd ht ls hl
  have Z : WZ l s0 a0 K p s m c cX4_up yX4_up.cls 3 b { frames := 5, cells := K 0 - aX b, slots := K 1 - aW b, locals := 114 } 5 114 meth [] (some (.int)) yX4_up := ⟨⟨X, GA.2.1, GA.2.2.1, rfl, rfl, Nat.le_refl _, Nat.le_refl _⟩, tab_nil ht, hr, hlk, hnm, hnd⟩
  unfold f_X4_up at hf
  clear hr hlk hnm hnd ht
  refine a_aload_n (pc := 0) X dX4_up_0 rfl hl 0 rfl ?_
  obtain ⟨a1, rfl, ⟨hk, hf⟩ | ⟨-, hf⟩⟩ := dv_some hf
  rotate_left
  · exact fl_none hf
  refine a_callb (pc := 1) (rs := []) (avs := [vR (some a1)]) Z.1 (w_X4_layAside GA (some a1)) (Or.inl rfl) q3112 q86 (by decide) (by decide) dX4_up_1 hl.1 (Nat.le_of_ble_eq_true rfl) hf (ct_V hk ⟨by decide, by decide⟩ X (Or.inl rfl) q3112 q3109 q3111 pv_28 hy_X4_layAside np_X4_layAside rfl dX4_up_1) (fun q h he hX => a_out (unc_of Z.2.1 rfl) Z.2.2.2.1 he hX) (fun _ h hf => ?kk1)
  refine AW.eq (g2 := F0 m 4 ls []) rfl ?_
  refine a_aload_n (pc := 4) X dX4_up_4 rfl hl 0 rfl ?_
  refine a_aload_n (pc := 5) X dX4_up_5 rfl hl 0 rfl ?_
  refine a_iload_n (pc := 6) X dX4_up_6 rfl hl 1 rfl ?_
  refine a_iload_n (pc := 7) X dX4_up_7 rfl hl 2 rfl ?_
  rcases dv_someS hf with ⟨hk, hf⟩ | ⟨-, hf⟩
  rotate_left
  · exact fl_none hf
  refine a_callb (pc := 8) (rs := [vR (some a1)]) (avs := [vR (some a1), vI v1, vI v2]) Z.1 (w_X4_upIt GA (some a1) v1 v2) (Or.inl rfl) q3217 q86 (by decide) (by decide) dX4_up_8 hl.1 (Nat.le_of_ble_eq_true rfl) hf (ct_V hk ⟨by decide, by decide⟩ X (Or.inl rfl) q3217 q3214 q3216 pv_43 hy_X4_upIt np_X4_upIt rfl dX4_up_8) (fun q h he hX => a_out (unc_of Z.2.1 rfl) Z.2.2.2.1 he hX) (fun x8 h hf => ?kk8)
  refine AW.eq (g2 := F0 m 11 ls [.int x8, va_rf (some a1)]) rfl ?_
  rcases dv_someS hf with ⟨hk, hf⟩ | ⟨-, hf⟩
  rotate_left
  · exact fl_none hf
  refine a_callb (pc := 11) (rs := []) (avs := [vR (some a1), vI x8]) Z.1 (w_X4_changed GA (some a1) x8) (Or.inl rfl) q3127 q86 (by decide) (by decide) dX4_up_11 hl.1 (Nat.le_of_ble_eq_true rfl) hf (ct_V hk ⟨by decide, by decide⟩ X (Or.inl rfl) q3127 q3124 q3126 pv_31 hy_X4_changed np_X4_changed rfl dX4_up_11) (fun q h he hX => a_out (unc_of Z.2.1 rfl) Z.2.2.2.1 he hX) (fun x11 h hf => ?kk11)
  refine AW.eq (g2 := F0 m 14 ls [.int x11]) rfl ?_
  exact a_ireturn X Z.2.2.1 Z.2.2.2.1 dX4_up_14 hf
theorem np_X1_jumperAt : npar yX1_jumperAt.desc 1 := by unfold npar; decide +kernel
theorem hy_X1_jumperAt : yX1_jumperAt.cls ≠ "java/lang/invoke/MethodHandle" ∧ yX1_jumperAt.cls ≠ "java/lang/invoke/VarHandle" := by decide +kernel
theorem w_X1_jumperAt (GA : GA l s0 a0 K lam) (v0 : Option Nat) (v1 : Int32) : AMet l s0 K lam yX1_jumperAt (Cond.code yX1_jumperAt cX1_jumperAt (2 : Nat) (Option.some (ClassFile.FieldType.object "JumpHall$Jumper"))) 9 420 [vR v0, vI v1] oR (f_X1_jumperAt K v0 v1) := by
  refine AMet.of GA.1 (plainFor_of_name (by decide +kernel)) (Nat.le_of_ble_eq_true rfl) ?_
  intro b r hf p e s m args below meth c X hr hlk hnm hnd ht ls hl
  have Z : WZ l s0 a0 K p s m c cX1_jumperAt yX1_jumperAt.cls 2 b { frames := 9, cells := K 0 - aX b, slots := K 1 - aW b, locals := 420 } 9 420 meth [] (some (.object "JumpHall$Jumper")) yX1_jumperAt := ⟨⟨X, GA.2.1, GA.2.2.1, rfl, rfl, Nat.le_refl _, Nat.le_refl _⟩, tab_nil ht, hr, hlk, hnm, hnd⟩
  unfold f_X1_jumperAt at hf
  clear hr hlk hnm hnd ht
  refine a_aload_n (pc := 0) X dX1_jumperAt_0 rfl hl 0 rfl ?_
  refine a_get (pc := 1) (φ := 200) pR_t X Z.1.2.1 (gw X.1 X.2.1 q309) (fun _ q => q) (by decide) dX1_jumperAt_1 hf (fun x1 hf => ?_)
  refine a_iload_n (pc := 4) X dX1_jumperAt_4 rfl hl 1 rfl ?_
  obtain ⟨a5, rfl, ⟨hk, hf⟩ | ⟨-, hf⟩⟩ := dv_some hf
  rotate_left
  · exact fl_none hf
  refine a_callb (pc := 5) (rs := []) (avs := [vR (some a5), vI v1]) Z.1 (w_X2_isJumper GA (some a5) v1) (Or.inl rfl) q2017 q75 (by decide) (by decide) dX1_jumperAt_5 hl.1 (Nat.le_of_ble_eq_true rfl) hf (ct_V hk ⟨by decide, by decide⟩ X (Or.inl rfl) q2017 q2014 q2015 q2016 hy_X2_isJumper np_X2_isJumper rfl dX1_jumperAt_5) (fun q h he hX => a_out (unc_of Z.2.1 rfl) Z.2.2.2.1 he hX) (fun x5 h hf => ?kk5)
  refine AW.eq (g2 := F0 m 8 ls [.int x5]) rfl ?_
  refine a_callb (pc := 8) (rs := []) (avs := [vI x5]) Z.1 (w_X1_checkIndex GA x5) (Or.inl rfl) q1816 q74 (by decide) (by decide) dX1_jumperAt_8 hl.1 (Nat.le_of_ble_eq_true rfl) hf (ct_S X (Or.inl rfl) q1816 q74 q1814 q1815 hy_X1_checkIndex np_X1_checkIndex rfl dX1_jumperAt_8) (fun q h he hX => a_out (unc_of Z.2.1 rfl) Z.2.2.2.1 he hX) (fun _ h hf => ?kk8)
  refine AW.eq (g2 := F0 m 11 ls []) rfl ?_
  refine a_aload_n (pc := 11) X dX1_jumperAt_11 rfl hl 0 rfl ?_
  refine a_get (pc := 12) (φ := 200) pR_t X Z.1.2.1 (gw X.1 X.2.1 q309) (fun _ q => q) (by decide) dX1_jumperAt_12 hf (fun x12 hf => ?_)
  refine a_getN (pc := 15) (φ := 301) pR_t X Z.1.2.1 (gnF X.1 X.2.1 q231) (fun _ q => q) (by decide) dX1_jumperAt_15 hf (fun x15 hf => ?_)
  refine a_iload_n (pc := 18) X dX1_jumperAt_18 rfl hl 1 rfl ?_
  obtain ⟨a19, rfl, ⟨hk, hf⟩ | ⟨-, hf⟩⟩ := dv_some hf
  rotate_left
  · exact fl_none hf
  refine a_callb (pc := 19) (rs := []) (avs := [vR (some a19), vI v1]) Z.1 (w_J2_get GA (some a19) v1) (Or.inl rfl) q505 q78 (by decide) (by decide) dX1_jumperAt_19 hl.1 (Nat.le_of_ble_eq_true rfl) hf (ct_V hk ⟨by decide, by decide⟩ X (Or.inl rfl) q505 q1862 q503 q3487 hy_J2_get np_J2_get rfl dX1_jumperAt_19) (fun q h he hX => a_out (unc_of Z.2.1 rfl) Z.2.2.2.1 he hX) (fun x19 h hf => ?kk19)
  refine AW.eq (g2 := F0 m 22 ls [va_rf x19]) rfl ?_
  refine a_checkcast (pc := 22) X (gw X.1 X.2.1 q2186) (cs_JumpHall_Jumper GA) dX1_jumperAt_22 hf (fun hf => ?_)
  exact a_areturn X Z.2.2.1 (Or.inl ⟨_, rfl⟩) Z.2.2.2.1 dX1_jumperAt_25 hf
theorem np_X1_down : npar yX1_down.desc 1 := by unfold npar; decide +kernel
theorem hy_X1_down : yX1_down.cls ≠ "java/lang/invoke/MethodHandle" ∧ yX1_down.cls ≠ "java/lang/invoke/VarHandle" := by decide +kernel
theorem w_X1_down (GA : GA l s0 a0 K lam) (v0 : Option Nat) (v1 : Int32) : AMet l s0 K lam yX1_down (Cond.code yX1_down cX1_down (3 : Nat) (Option.some ClassFile.FieldType.int)) 21 3348 [vR v0, vI v1] oI (f_X1_down K v0 v1) := by
  refine AMet.of GA.1 (plainFor_of_name (by decide +kernel)) (Nat.le_of_ble_eq_true rfl) ?_
  intro b r hf p e s m args below meth c X hr hlk hnm hnd ht ls hl
  have Z : WZ l s0 a0 K p s m c cX1_down yX1_down.cls 3 b { frames := 21, cells := K 0 - aX b, slots := K 1 - aW b, locals := 3348 } 21 3348 meth [] (some (.int)) yX1_down := ⟨⟨X, GA.2.1, GA.2.2.1, rfl, rfl, Nat.le_refl _, Nat.le_refl _⟩, tab_nil ht, hr, hlk, hnm, hnd⟩
  unfold f_X1_down at hf
  clear hr hlk hnm hnd ht
  refine a_aload_n (pc := 0) X dX1_down_0 rfl hl 0 rfl ?_
  refine a_iload_n (pc := 1) X dX1_down_1 rfl hl 1 rfl ?_
  obtain ⟨a2, rfl, ⟨hk, hf⟩ | ⟨-, hf⟩⟩ := dv_some hf
  rotate_left
  · exact fl_none hf
  refine a_callb (pc := 2) (rs := []) (avs := [vR (some a2), vI v1]) Z.1 (w_X1_jumperAt GA (some a2) v1) (Or.inl rfl) q2185 q74 (by decide) (by decide) dX1_down_2 hl.1 (Nat.le_of_ble_eq_true rfl) hf (ct_V hk ⟨by decide, by decide⟩ X (Or.inl rfl) q2185 q2182 q2184 pv_9 hy_X1_jumperAt np_X1_jumperAt rfl dX1_down_2) (fun q h he hX => a_out (unc_of Z.2.1 rfl) Z.2.2.2.1 he hX) (fun x2 h hf => ?kk2)
  refine AW.eq (g2 := F0 m 5 ls [va_rf x2]) rfl ?_
  refine a_astore_n (pc := 5) X dX1_down_5 rfl hl (by decide) (lv' := [(2, vR x2), (0, vR (some a2)), (1, vI v1)]) rfl (fun ls hl => ?_)
  refine a_aload_n (pc := 6) X dX1_down_6 rfl hl 1 rfl ?_
  refine a_iload_n (pc := 7) X dX1_down_7 rfl hl 2 rfl ?_
  refine a_ndy (pc := 8) (rs := [vR (some a2)]) (avs := [vI v1]) Z.1 Z.2.2.2.2.2 (siG_211 GA) hfb_11 (lw_all_tbl q3550) ⟨by decide, by decide⟩ rfl rfl rfl (by decide) hl.1 (Nat.le_of_ble_eq_true rfl) (Nat.le_of_ble_eq_true rfl) rfl dX1_down_8 hf (fun x8 h hf => ?_)
  refine AW.eq (g2 := F0 m 13 ls [va_rf (some x8), va_rf (some a2)]) rfl ?_
  rcases dv_someS hf with ⟨hk, hf⟩ | ⟨-, hf⟩
  rotate_left
  · exact fl_none hf
  refine a_callb (pc := 13) (rs := []) (avs := [vR (some a2), vR (some x8)]) Z.1 (w_X1_does GA (some a2) (some x8)) (Or.inr (Or.inl ⟨_, rfl⟩)) q1754 q74 (by decide) (by decide) dX1_down_13 hl.1 (Nat.le_of_ble_eq_true rfl) hf (ct_V hk ⟨by decide, by decide⟩ X (Or.inr (Or.inl ⟨_, rfl⟩)) q1754 q1751 q1753 pv_4 hy_X1_does np_X1_does rfl dX1_down_13) (fun q h he hX => a_out (unc_of Z.2.1 rfl) Z.2.2.2.1 he hX) (fun x13 h hf => ?kk13)
  refine AW.eq (g2 := F0 m 16 ls [.int x13]) rfl ?_
  exact a_ireturn X Z.2.2.1 Z.2.2.2.1 dX1_down_16 hf
theorem np_X0_down : npar yX0_down.desc 3 := by unfold npar; decide +kernel
theorem hy_X0_down : yX0_down.cls ≠ "java/lang/invoke/MethodHandle" ∧ yX0_down.cls ≠ "java/lang/invoke/VarHandle" := by decide +kernel
theorem w_X0_down (GA : GA l s0 a0 K lam) (v0 : Option Nat) (v1 : Int32) (v2 : Option Nat) : AMet l s0 K lam yX0_down (Cond.codeWith yX0_down cX0_down (4 : Nat) (Option.some ClassFile.FieldType.int) [((0 : Nat), (9 : Nat), (12 : Nat), (19 : Nat)), ((0 : Nat), (9 : Nat), (15 : Nat), (13 : Nat))]) 22 3370 [vR v0, vI v1, vR v2] oI (f_X0_down K v0 v1 v2) := by
  refine AMet.ofW GA.1 (plainFor_of_name (by decide +kernel)) (Nat.le_of_ble_eq_true rfl) ?_
  intro b r hf p e s m args below meth c X hr hlk hnm hnd ht ls hl
  have Z : WZ l s0 a0 K p s m c cX0_down yX0_down.cls 4 b { frames := 22, cells := K 0 - aX b, slots := K 1 - aW b, locals := 3370 } 22 3370 meth [(0, 9, 12, 19), (0, 9, 15, 13)] (some (.int)) yX0_down := ⟨⟨X, GA.2.1, GA.2.2.1, rfl, rfl, Nat.le_refl _, Nat.le_refl _⟩, ht, hr, hlk, hnm, hnd⟩
  unfold f_X0_down at hf
  clear hr hlk hnm hnd ht
  refine a_aload_n (pc := 0) X dX0_down_0 rfl hl 2 rfl ?_
  refine AW.lift (fun _ _ _ _ k => lv_iconst (pc := 1) (v := (0 : Int32)) X.2.2.1 X.2.2.2.1 dX0_down_1 rfl k) ?_
  refine a_aload_n (pc := 2) X dX0_down_2 rfl hl 0 rfl ?_
  refine a_iload_n (pc := 3) X dX0_down_3 rfl hl 1 rfl ?_
  obtain ⟨a4, rfl, ⟨hk, hf⟩ | ⟨-, hf⟩⟩ := dv_tsome hf
  rotate_left
  · exact fl_tnone hf
  refine a_callt (pc := 4) (rs := [vI (0 : Int32), vR v2]) (avs := [vR (some a4), vI v1]) Z.1 (w_X1_down GA (some a4) v1) (Or.inl rfl) q2181 q74 (by decide) (by decide) dX0_down_4 hl.1 (Nat.le_of_ble_eq_true rfl) hf (ct_V hk ⟨by decide, by decide⟩ X (Or.inl rfl) q2181 q2178 q2179 q2180 hy_X1_down np_X1_down rfl dX0_down_4) (fun q h hf hX => ?hx4) (fun x4 h hf => ?kk4)
  case hx4 =>
    rcases ctc_some hf with ⟨hy, hf⟩ | ⟨hn0, hf⟩
    · refine a_catchH (st := 0) (en := 9) (hp := 12) (ct := 19) (pre := []) (suf := [(0, 9, 15, 13)]) X hX Z.2.1 rfl (fun z hz => nomatch hz) (by decide) (Or.inr ⟨by decide, _, gw X.1 X.2.1 q1786, (cs_X19 GA) _ hy⟩) (AW.eq (g2 := F0 m 12 ls [va_rf (some q)]) rfl ?_)
      refine a_astore_n (pc := 12) X dX0_down_12 rfl hl (by decide) (lv' := [(3, vR (some q)), (0, vR (some a4)), (1, vI v1), (2, vR v2)]) rfl (fun ls hl => ?_)
      refine AW.lift (fun _ _ _ _ k => lv_iconst (pc := 13) (v := (1 : Int32)) X.2.2.1 X.2.2.2.1 dX0_down_13 rfl k) ?_
      exact a_ireturn X Z.2.2.1 Z.2.2.2.1 dX0_down_14 hf
    · skip
      rcases ctc_some hf with ⟨hy, hf⟩ | ⟨hn1, hf⟩
      · refine a_catchH (st := 0) (en := 9) (hp := 15) (ct := 13) (pre := [(0, 9, 12, 19)]) (suf := []) X hX Z.2.1 rfl (by intro z hz; simp only [List.mem_cons, List.not_mem_nil, or_false] at hz; rcases hz with rfl <;> first | exact Or.inl (by decide) | exact Or.inr ⟨by decide, _, gw X.1 X.2.1 q1786, (nc_12_13_14_16_17_18_20_21_java_lang_IndexOutOfBoundsException GA _ (by simpa using hn0)).2.2⟩) (by decide) (Or.inr ⟨by decide, _, gw X.1 X.2.1 q1709, (cs_X21 GA) _ hy⟩) (AW.eq (g2 := F0 m 15 ls [va_rf (some q)]) rfl ?_)
        refine a_astore_n (pc := 15) X dX0_down_15 rfl hl (by decide) (lv' := [(3, vR (some q)), (0, vR (some a4)), (1, vI v1), (2, vR v2)]) rfl (fun ls hl => ?_)
        refine AW.lift (fun _ _ _ _ k => lv_iconst (pc := 16) (v := (2 : Int32)) X.2.2.1 X.2.2.2.1 dX0_down_16 rfl k) ?_
        exact a_ireturn X Z.2.2.1 Z.2.2.2.1 dX0_down_17 hf
      · skip
        exact a_outH X Z.2.1 (by intro z hz; simp only [List.mem_cons, List.not_mem_nil, or_false] at hz; rcases hz with rfl | rfl <;> first | exact Or.inl (by decide) | exact Or.inr ⟨by decide, _, gw X.1 X.2.1 q1786, (nc_12_13_14_16_17_18_20_21_java_lang_IndexOutOfBoundsException GA _ (by simpa using hn0)).2.2⟩ | exact Or.inr ⟨by decide, _, gw X.1 X.2.1 q1709, (nc_12_13_14_16_17_18_19_20_java_lang_UnsupportedOperationException GA _ (by simpa using hn1)).2.2⟩) Z.2.2.2.1 (th_eq hf) hX
  refine AW.eq (g2 := F0 m 7 ls [.int x4, .int (0 : Int32), va_rf v2]) rfl ?_
  refine AW.lift (fun _ _ _ _ k => lv_i2l (pc := 7) X.2.2.1 X.2.2.2.1 dX0_down_7 rfl k) ?_
  refine a_lastore (pc := 8) X dX0_down_8 hf (fun h hf => ?_)
  refine AW.lift (fun _ _ _ _ k => lv_goto (pc := 9) (tgt := 18) X.2.2.1 X.2.2.2.1 dX0_down_9 rfl k) ?_
  refine AW.lift (fun _ _ _ _ k => lv_iconst (pc := 18) (v := (0 : Int32)) X.2.2.1 X.2.2.2.1 dX0_down_18 rfl k) ?_
  exact a_ireturn X Z.2.2.1 Z.2.2.2.1 dX0_down_19 hf
theorem np_X4_downIt : npar yX4_downIt.desc 1 := by unfold npar; decide +kernel
theorem hy_X4_downIt : yX4_downIt.cls ≠ "java/lang/invoke/MethodHandle" ∧ yX4_downIt.cls ≠ "java/lang/invoke/VarHandle" := by decide +kernel
theorem w_X4_downIt (GA : GA l s0 a0 K lam) (v0 : Option Nat) (v1 : Int32) : AMet l s0 K lam yX4_downIt (Cond.code yX4_downIt cX4_downIt (4 : Nat) (Option.some ClassFile.FieldType.int)) 2 46 [vR v0, vI v1] oI (f_X4_downIt K v0 v1) := by
  refine AMet.of GA.1 (plainFor_of_name (by decide +kernel)) (Nat.le_of_ble_eq_true rfl) ?_
  intro b r hf p e s m args below meth c X hr hlk hnm hnd ht ls hl
  have Z : WZ l s0 a0 K p s m c cX4_downIt yX4_downIt.cls 4 b { frames := 2, cells := K 0 - aX b, slots := K 1 - aW b, locals := 46 } 2 46 meth [] (some (.int)) yX4_downIt := ⟨⟨X, GA.2.1, GA.2.2.1, rfl, rfl, Nat.le_refl _, Nat.le_refl _⟩, tab_nil ht, hr, hlk, hnm, hnd⟩
  unfold f_X4_downIt at hf
  clear hr hlk hnm hnd ht
  refine a_aload_n (pc := 0) X dX4_downIt_0 rfl hl 0 rfl ?_
  refine a_iload_n (pc := 1) X dX4_downIt_1 rfl hl 1 rfl ?_
  obtain ⟨a2, rfl, ⟨hk, hf⟩ | ⟨-, hf⟩⟩ := dv_some hf
  rotate_left
  · exact fl_none hf
  refine a_callb (pc := 2) (rs := []) (avs := [vR (some a2), vI v1]) Z.1 (w_X4_isJumper GA (some a2) v1) (Or.inl rfl) q3221 q86 (by decide) (by decide) dX4_downIt_2 hl.1 (Nat.le_of_ble_eq_true rfl) hf (ct_V hk ⟨by decide, by decide⟩ X (Or.inl rfl) q3221 q3218 q3220 pv_44 hy_X4_isJumper np_X4_isJumper rfl dX4_downIt_2) (fun q h he hX => a_out (unc_of Z.2.1 rfl) Z.2.2.2.1 he hX) (fun x2 h hf => ?kk2)
  refine AW.eq (g2 := F0 m 5 ls [.int x2]) rfl ?_
  refine AW.lift2 (fun _ _ _ _ k1 k2 => lv_if_ne (pc := 5) (tgt := 14) X.2.2.1 X.2.2.2.1 dX4_downIt_5 rfl k2 k1) (fun c => ?_) (fun c => ?_)
  · have hf := ite_t c hf
    refine a_aload_n (pc := 8) X dX4_downIt_8 rfl hl 0 rfl ?_
    refine AW.lift (fun _ _ _ _ k => lv_iconst (pc := 9) (v := (1 : Int32)) X.2.2.1 X.2.2.2.1 dX4_downIt_9 rfl k) ?_
    rcases dv_someS hf with ⟨hk, hf⟩ | ⟨-, hf⟩
    rotate_left
    · exact fl_none hf
    refine a_callb (pc := 10) (rs := []) (avs := [vR (some a2), vI (1 : Int32)]) Z.1 (w_X4_throwing GA (some a2) (1 : Int32)) (Or.inl rfl) q3120 q86 (by decide) (by decide) dX4_downIt_10 hl.1 (Nat.le_of_ble_eq_true rfl) hf (ct_V hk ⟨by decide, by decide⟩ X (Or.inl rfl) q3120 q3117 q3119 pv_30 hy_X4_throwing np_X4_throwing rfl dX4_downIt_10) (fun q h he hX => a_out (unc_of Z.2.1 rfl) Z.2.2.2.1 he hX) (fun x10 h hf => ?kk10)
    refine AW.eq (g2 := F0 m 13 ls [.int x10]) rfl ?_
    exact a_ireturn X Z.2.2.1 Z.2.2.2.1 dX4_downIt_13 hf
  · have hf := ite_f c hf
    refine a_iload_n (pc := 14) X dX4_downIt_14 rfl hl 1 rfl ?_
    refine a_callb (pc := 15) (rs := []) (avs := [vI v1]) Z.1 (w_X4_at0 GA v1) (Or.inl rfl) q3154 q86 (by decide) (by decide) dX4_downIt_15 hl.1 (Nat.le_of_ble_eq_true rfl) hf (ct_S X (Or.inl rfl) q3154 q86 q3152 q3153 hy_X4_at0 np_X4_at0 rfl dX4_downIt_15) (fun q h he hX => a_out (unc_of Z.2.1 rfl) Z.2.2.2.1 he hX) (fun x15 h hf => ?kk15)
    refine AW.eq (g2 := F0 m 18 ls [.int x15]) rfl ?_
    refine a_istore_n (pc := 18) X dX4_downIt_18 rfl hl (by decide) (lv' := [(2, vI x15), (0, vR (some a2)), (1, vI v1)]) rfl (fun ls hl => ?_)
    refine a_aload_n (pc := 19) X dX4_downIt_19 rfl hl 1 rfl ?_
    refine a_get (pc := 20) (φ := 100) pR_t X Z.1.2.1 (gw X.1 X.2.1 q3025) (fun _ q => q) (by decide) dX4_downIt_20 hf (fun x20 hf => ?_)
    refine a_iload_n (pc := 23) X dX4_downIt_23 rfl hl 0 rfl ?_
    refine AW.lift (fun _ _ _ _ k => lv_iconst (pc := 24) (v := (2 : Int32)) X.2.2.1 X.2.2.2.1 dX4_downIt_24 rfl k) ?_
    refine AW.lift (fun _ _ _ _ k => lv_iadd (pc := 25) X.2.2.1 X.2.2.2.1 dX4_downIt_25 k) ?_
    refine a_iaload (pc := 26) X dX4_downIt_26 hf (fun x26 hf => ?_)
    refine AW.lift (fun _ _ _ _ k => lv_iconst (pc := 27) (v := (1 : Int32)) X.2.2.1 X.2.2.2.1 dX4_downIt_27 rfl k) ?_
    refine AW.lift2 (fun _ _ _ _ k1 k2 => lv_icmp_eq (pc := 28) (tgt := 46) X.2.2.1 X.2.2.2.1 dX4_downIt_28 rfl k1 k2) (fun c => ?_) (fun c => ?_)
    · have hf := ite_t c hf
      refine a_aload_n (pc := 46) X dX4_downIt_46 rfl hl 1 rfl ?_
      refine a_get (pc := 47) (φ := 100) pR_t X Z.1.2.1 (gw X.1 X.2.1 q3025) (fun _ q => q) (by decide) dX4_downIt_47 hf (fun x47 hf => ?_)
      refine a_iload_n (pc := 50) X dX4_downIt_50 rfl hl 0 rfl ?_
      refine AW.lift (fun _ _ _ _ k => lv_iconst (pc := 51) (v := (3 : Int32)) X.2.2.1 X.2.2.2.1 dX4_downIt_51 rfl k) ?_
      refine AW.lift (fun _ _ _ _ k => lv_iadd (pc := 52) X.2.2.1 X.2.2.2.1 dX4_downIt_52 k) ?_
      refine a_iaload (pc := 53) X dX4_downIt_53 hf (fun x53 hf => ?_)
      refine a_istore_n (pc := 54) X dX4_downIt_54 rfl hl (by decide) (lv' := [(3, vI x53), (2, vI x15), (0, vR (some a2)), (1, vI v1)]) rfl (fun ls hl => ?_)
      refine a_aload_n (pc := 55) X dX4_downIt_55 rfl hl 2 rfl ?_
      refine a_get (pc := 56) (φ := 100) pR_t X Z.1.2.1 (gw X.1 X.2.1 q3025) (fun _ q => q) (by decide) dX4_downIt_56 hf (fun x56 hf => ?_)
      refine a_iload_n (pc := 59) X dX4_downIt_59 rfl hl 1 rfl ?_
      refine AW.lift (fun _ _ _ _ k => lv_iconst (pc := 60) (v := (2 : Int32)) X.2.2.1 X.2.2.2.1 dX4_downIt_60 rfl k) ?_
      refine AW.lift (fun _ _ _ _ k => lv_iadd (pc := 61) X.2.2.1 X.2.2.2.1 dX4_downIt_61 k) ?_
      refine AW.lift (fun _ _ _ _ k => lv_iconst (pc := 62) (v := (0 : Int32)) X.2.2.1 X.2.2.2.1 dX4_downIt_62 rfl k) ?_
      refine a_iastore (pc := 63) X dX4_downIt_63 hf (fun h hf => ?_)
      refine a_aload_n (pc := 64) X dX4_downIt_64 rfl hl 2 rfl ?_
      refine a_get (pc := 65) (φ := 100) pR_t X Z.1.2.1 (gw X.1 X.2.1 q3025) (fun _ q => q) (by decide) dX4_downIt_65 hf (fun x65 hf => ?_)
      refine a_iload_n (pc := 68) X dX4_downIt_68 rfl hl 1 rfl ?_
      refine AW.lift (fun _ _ _ _ k => lv_iconst (pc := 69) (v := (3 : Int32)) X.2.2.1 X.2.2.2.1 dX4_downIt_69 rfl k) ?_
      refine AW.lift (fun _ _ _ _ k => lv_iadd (pc := 70) X.2.2.1 X.2.2.2.1 dX4_downIt_70 k) ?_
      refine AW.lift (fun _ _ _ _ k => lv_iconst (pc := 71) (v := (-1 : Int32)) X.2.2.1 X.2.2.2.1 dX4_downIt_71 rfl k) ?_
      refine a_iastore (pc := 72) X dX4_downIt_72 hf (fun h hf => ?_)
      refine a_iload_n (pc := 73) X dX4_downIt_73 rfl hl 0 rfl ?_
      exact a_ireturn X Z.2.2.1 Z.2.2.2.1 dX4_downIt_74 hf
    · have hf := ite_f c hf
      refine a_aload_n (pc := 31) X dX4_downIt_31 rfl hl 1 rfl ?_
      refine AW.lift (fun _ _ _ _ k => lv_iconst (pc := 32) (v := (2 : Int32)) X.2.2.1 X.2.2.2.1 dX4_downIt_32 rfl k) ?_
      refine AW.lift (fun _ _ _ _ k => lv_iconst (pc := 33) (v := (2 : Int32)) X.2.2.1 X.2.2.2.1 dX4_downIt_33 rfl k) ?_
      refine a_aload_n (pc := 34) X dX4_downIt_34 rfl hl 1 rfl ?_
      refine a_get (pc := 35) (φ := 100) pR_t X Z.1.2.1 (gw X.1 X.2.1 q3025) (fun _ q => q) (by decide) dX4_downIt_35 hf (fun x35 hf => ?_)
      refine a_iload_n (pc := 38) X dX4_downIt_38 rfl hl 0 rfl ?_
      refine AW.lift (fun _ _ _ _ k => lv_iconst (pc := 39) (v := (2 : Int32)) X.2.2.1 X.2.2.2.1 dX4_downIt_39 rfl k) ?_
      refine AW.lift (fun _ _ _ _ k => lv_iadd (pc := 40) X.2.2.1 X.2.2.2.1 dX4_downIt_40 k) ?_
      refine a_iaload (pc := 41) X dX4_downIt_41 hf (fun x41 hf => ?_)
      rcases dv_someS hf with ⟨hk, hf⟩ | ⟨-, hf⟩
      rotate_left
      · exact fl_none hf
      refine a_callb (pc := 42) (rs := []) (avs := [vR (some a2), vI (2 : Int32), vI (2 : Int32), vI x41]) Z.1 (w_X4_refuse GA (some a2) (2 : Int32) (2 : Int32) x41) (Or.inl rfl) q3116 q86 (by decide) (by decide) dX4_downIt_42 hl.1 (Nat.le_of_ble_eq_true rfl) hf (ct_V hk ⟨by decide, by decide⟩ X (Or.inl rfl) q3116 q3113 q3115 pv_29 hy_X4_refuse np_X4_refuse rfl dX4_downIt_42) (fun q h he hX => a_out (unc_of Z.2.1 rfl) Z.2.2.2.1 he hX) (fun x42 h hf => ?kk42)
      refine AW.eq (g2 := F0 m 45 ls [.int x42]) rfl ?_
      exact a_ireturn X Z.2.2.1 Z.2.2.2.1 dX4_downIt_45 hf
theorem np_X4_down : npar yX4_down.desc 1 := by unfold npar; decide +kernel
theorem hy_X4_down : yX4_down.cls ≠ "java/lang/invoke/MethodHandle" ∧ yX4_down.cls ≠ "java/lang/invoke/VarHandle" := by decide +kernel
theorem w_X4_down (GA : GA l s0 a0 K lam) (v0 : Option Nat) (v1 : Int32) : AMet l s0 K lam yX4_down (Cond.code yX4_down cX4_down (2 : Nat) (Option.some ClassFile.FieldType.int)) 3 69 [vR v0, vI v1] oI (f_X4_down K v0 v1) := by
  refine AMet.of GA.1 (plainFor_of_name (by decide +kernel)) (Nat.le_of_ble_eq_true rfl) ?_
  intro b r hf p e s m args below meth c X hr hlk hnm hnd ht ls hl
  have Z : WZ l s0 a0 K p s m c cX4_down yX4_down.cls 2 b { frames := 3, cells := K 0 - aX b, slots := K 1 - aW b, locals := 69 } 3 69 meth [] (some (.int)) yX4_down := ⟨⟨X, GA.2.1, GA.2.2.1, rfl, rfl, Nat.le_refl _, Nat.le_refl _⟩, tab_nil ht, hr, hlk, hnm, hnd⟩
  unfold f_X4_down at hf
  clear hr hlk hnm hnd ht
  refine a_aload_n (pc := 0) X dX4_down_0 rfl hl 0 rfl ?_
  obtain ⟨a1, rfl, ⟨hk, hf⟩ | ⟨-, hf⟩⟩ := dv_some hf
  rotate_left
  · exact fl_none hf
  refine a_callb (pc := 1) (rs := []) (avs := [vR (some a1)]) Z.1 (w_X4_layAside GA (some a1)) (Or.inl rfl) q3112 q86 (by decide) (by decide) dX4_down_1 hl.1 (Nat.le_of_ble_eq_true rfl) hf (ct_V hk ⟨by decide, by decide⟩ X (Or.inl rfl) q3112 q3109 q3111 pv_28 hy_X4_layAside np_X4_layAside rfl dX4_down_1) (fun q h he hX => a_out (unc_of Z.2.1 rfl) Z.2.2.2.1 he hX) (fun _ h hf => ?kk1)
  refine AW.eq (g2 := F0 m 4 ls []) rfl ?_
  refine a_aload_n (pc := 4) X dX4_down_4 rfl hl 0 rfl ?_
  refine a_aload_n (pc := 5) X dX4_down_5 rfl hl 0 rfl ?_
  refine a_iload_n (pc := 6) X dX4_down_6 rfl hl 1 rfl ?_
  rcases dv_someS hf with ⟨hk, hf⟩ | ⟨-, hf⟩
  rotate_left
  · exact fl_none hf
  refine a_callb (pc := 7) (rs := [vR (some a1)]) (avs := [vR (some a1), vI v1]) Z.1 (w_X4_downIt GA (some a1) v1) (Or.inl rfl) q3237 q86 (by decide) (by decide) dX4_down_7 hl.1 (Nat.le_of_ble_eq_true rfl) hf (ct_V hk ⟨by decide, by decide⟩ X (Or.inl rfl) q3237 q3234 q3236 pv_47 hy_X4_downIt np_X4_downIt rfl dX4_down_7) (fun q h he hX => a_out (unc_of Z.2.1 rfl) Z.2.2.2.1 he hX) (fun x7 h hf => ?kk7)
  refine AW.eq (g2 := F0 m 10 ls [.int x7, va_rf (some a1)]) rfl ?_
  rcases dv_someS hf with ⟨hk, hf⟩ | ⟨-, hf⟩
  rotate_left
  · exact fl_none hf
  refine a_callb (pc := 10) (rs := []) (avs := [vR (some a1), vI x7]) Z.1 (w_X4_changed GA (some a1) x7) (Or.inl rfl) q3127 q86 (by decide) (by decide) dX4_down_10 hl.1 (Nat.le_of_ble_eq_true rfl) hf (ct_V hk ⟨by decide, by decide⟩ X (Or.inl rfl) q3127 q3124 q3126 pv_31 hy_X4_changed np_X4_changed rfl dX4_down_10) (fun q h he hX => a_out (unc_of Z.2.1 rfl) Z.2.2.2.1 he hX) (fun x10 h hf => ?kk10)
  refine AW.eq (g2 := F0 m 13 ls [.int x10]) rfl ?_
  exact a_ireturn X Z.2.2.1 Z.2.2.2.1 dX4_down_13 hf
theorem np_X1_leave : npar yX1_leave.desc 1 := by unfold npar; decide +kernel
theorem hy_X1_leave : yX1_leave.cls ≠ "java/lang/invoke/MethodHandle" ∧ yX1_leave.cls ≠ "java/lang/invoke/VarHandle" := by decide +kernel
theorem w_X1_leave (GA : GA l s0 a0 K lam) (v0 : Option Nat) (v1 : Int32) : AMet l s0 K lam yX1_leave (Cond.code yX1_leave cX1_leave (3 : Nat) (Option.some ClassFile.FieldType.int)) 21 3348 [vR v0, vI v1] oI (f_X1_leave K v0 v1) := by
  refine AMet.of GA.1 (plainFor_of_name (by decide +kernel)) (Nat.le_of_ble_eq_true rfl) ?_
  intro b r hf p e s m args below meth c X hr hlk hnm hnd ht ls hl
  have Z : WZ l s0 a0 K p s m c cX1_leave yX1_leave.cls 3 b { frames := 21, cells := K 0 - aX b, slots := K 1 - aW b, locals := 3348 } 21 3348 meth [] (some (.int)) yX1_leave := ⟨⟨X, GA.2.1, GA.2.2.1, rfl, rfl, Nat.le_refl _, Nat.le_refl _⟩, tab_nil ht, hr, hlk, hnm, hnd⟩
  unfold f_X1_leave at hf
  clear hr hlk hnm hnd ht
  refine a_aload_n (pc := 0) X dX1_leave_0 rfl hl 0 rfl ?_
  refine a_iload_n (pc := 1) X dX1_leave_1 rfl hl 1 rfl ?_
  obtain ⟨a2, rfl, ⟨hk, hf⟩ | ⟨-, hf⟩⟩ := dv_some hf
  rotate_left
  · exact fl_none hf
  refine a_callb (pc := 2) (rs := []) (avs := [vR (some a2), vI v1]) Z.1 (w_X1_jumperAt GA (some a2) v1) (Or.inl rfl) q2185 q74 (by decide) (by decide) dX1_leave_2 hl.1 (Nat.le_of_ble_eq_true rfl) hf (ct_V hk ⟨by decide, by decide⟩ X (Or.inl rfl) q2185 q2182 q2184 pv_9 hy_X1_jumperAt np_X1_jumperAt rfl dX1_leave_2) (fun q h he hX => a_out (unc_of Z.2.1 rfl) Z.2.2.2.1 he hX) (fun x2 h hf => ?kk2)
  refine AW.eq (g2 := F0 m 5 ls [va_rf x2]) rfl ?_
  refine a_astore_n (pc := 5) X dX1_leave_5 rfl hl (by decide) (lv' := [(2, vR x2), (0, vR (some a2)), (1, vI v1)]) rfl (fun ls hl => ?_)
  refine a_aload_n (pc := 6) X dX1_leave_6 rfl hl 1 rfl ?_
  refine a_iload_n (pc := 7) X dX1_leave_7 rfl hl 2 rfl ?_
  refine a_ndy (pc := 8) (rs := [vR (some a2)]) (avs := [vI v1]) Z.1 Z.2.2.2.2.2 (siG_212 GA) hfb_12 (lw_all_tbl q3550) ⟨by decide, by decide⟩ rfl rfl rfl (by decide) hl.1 (Nat.le_of_ble_eq_true rfl) (Nat.le_of_ble_eq_true rfl) rfl dX1_leave_8 hf (fun x8 h hf => ?_)
  refine AW.eq (g2 := F0 m 13 ls [va_rf (some x8), va_rf (some a2)]) rfl ?_
  rcases dv_someS hf with ⟨hk, hf⟩ | ⟨-, hf⟩
  rotate_left
  · exact fl_none hf
  refine a_callb (pc := 13) (rs := []) (avs := [vR (some a2), vR (some x8)]) Z.1 (w_X1_does GA (some a2) (some x8)) (Or.inr (Or.inl ⟨_, rfl⟩)) q1754 q74 (by decide) (by decide) dX1_leave_13 hl.1 (Nat.le_of_ble_eq_true rfl) hf (ct_V hk ⟨by decide, by decide⟩ X (Or.inr (Or.inl ⟨_, rfl⟩)) q1754 q1751 q1753 pv_4 hy_X1_does np_X1_does rfl dX1_leave_13) (fun q h he hX => a_out (unc_of Z.2.1 rfl) Z.2.2.2.1 he hX) (fun x13 h hf => ?kk13)
  refine AW.eq (g2 := F0 m 16 ls [.int x13]) rfl ?_
  exact a_ireturn X Z.2.2.1 Z.2.2.2.1 dX1_leave_16 hf
theorem np_X0_leave : npar yX0_leave.desc 3 := by unfold npar; decide +kernel
theorem hy_X0_leave : yX0_leave.cls ≠ "java/lang/invoke/MethodHandle" ∧ yX0_leave.cls ≠ "java/lang/invoke/VarHandle" := by decide +kernel
theorem w_X0_leave (GA : GA l s0 a0 K lam) (v0 : Option Nat) (v1 : Int32) (v2 : Option Nat) : AMet l s0 K lam yX0_leave (Cond.codeWith yX0_leave cX0_leave (4 : Nat) (Option.some ClassFile.FieldType.int) [((0 : Nat), (9 : Nat), (12 : Nat), (19 : Nat)), ((0 : Nat), (9 : Nat), (15 : Nat), (13 : Nat))]) 22 3370 [vR v0, vI v1, vR v2] oI (f_X0_leave K v0 v1 v2) := by
  refine AMet.ofW GA.1 (plainFor_of_name (by decide +kernel)) (Nat.le_of_ble_eq_true rfl) ?_
  intro b r hf p e s m args below meth c X hr hlk hnm hnd ht ls hl
  have Z : WZ l s0 a0 K p s m c cX0_leave yX0_leave.cls 4 b { frames := 22, cells := K 0 - aX b, slots := K 1 - aW b, locals := 3370 } 22 3370 meth [(0, 9, 12, 19), (0, 9, 15, 13)] (some (.int)) yX0_leave := ⟨⟨X, GA.2.1, GA.2.2.1, rfl, rfl, Nat.le_refl _, Nat.le_refl _⟩, ht, hr, hlk, hnm, hnd⟩
  unfold f_X0_leave at hf
  clear hr hlk hnm hnd ht
  refine a_aload_n (pc := 0) X dX0_leave_0 rfl hl 2 rfl ?_
  refine AW.lift (fun _ _ _ _ k => lv_iconst (pc := 1) (v := (0 : Int32)) X.2.2.1 X.2.2.2.1 dX0_leave_1 rfl k) ?_
  refine a_aload_n (pc := 2) X dX0_leave_2 rfl hl 0 rfl ?_
  refine a_iload_n (pc := 3) X dX0_leave_3 rfl hl 1 rfl ?_
  obtain ⟨a4, rfl, ⟨hk, hf⟩ | ⟨-, hf⟩⟩ := dv_tsome hf
  rotate_left
  · exact fl_tnone hf
  refine a_callt (pc := 4) (rs := [vI (0 : Int32), vR v2]) (avs := [vR (some a4), vI v1]) Z.1 (w_X1_leave GA (some a4) v1) (Or.inl rfl) q2203 q74 (by decide) (by decide) dX0_leave_4 hl.1 (Nat.le_of_ble_eq_true rfl) hf (ct_V hk ⟨by decide, by decide⟩ X (Or.inl rfl) q2203 q2200 q2201 q2202 hy_X1_leave np_X1_leave rfl dX0_leave_4) (fun q h hf hX => ?hx4) (fun x4 h hf => ?kk4)
  case hx4 =>
    rcases ctc_some hf with ⟨hy, hf⟩ | ⟨hn0, hf⟩
    · refine a_catchH (st := 0) (en := 9) (hp := 12) (ct := 19) (pre := []) (suf := [(0, 9, 15, 13)]) X hX Z.2.1 rfl (fun z hz => nomatch hz) (by decide) (Or.inr ⟨by decide, _, gw X.1 X.2.1 q1786, (cs_X19 GA) _ hy⟩) (AW.eq (g2 := F0 m 12 ls [va_rf (some q)]) rfl ?_)
      refine a_astore_n (pc := 12) X dX0_leave_12 rfl hl (by decide) (lv' := [(3, vR (some q)), (0, vR (some a4)), (1, vI v1), (2, vR v2)]) rfl (fun ls hl => ?_)
      refine AW.lift (fun _ _ _ _ k => lv_iconst (pc := 13) (v := (1 : Int32)) X.2.2.1 X.2.2.2.1 dX0_leave_13 rfl k) ?_
      exact a_ireturn X Z.2.2.1 Z.2.2.2.1 dX0_leave_14 hf
    · skip
      rcases ctc_some hf with ⟨hy, hf⟩ | ⟨hn1, hf⟩
      · refine a_catchH (st := 0) (en := 9) (hp := 15) (ct := 13) (pre := [(0, 9, 12, 19)]) (suf := []) X hX Z.2.1 rfl (by intro z hz; simp only [List.mem_cons, List.not_mem_nil, or_false] at hz; rcases hz with rfl <;> first | exact Or.inl (by decide) | exact Or.inr ⟨by decide, _, gw X.1 X.2.1 q1786, (nc_12_13_14_16_17_18_20_21_java_lang_IndexOutOfBoundsException GA _ (by simpa using hn0)).2.2⟩) (by decide) (Or.inr ⟨by decide, _, gw X.1 X.2.1 q1709, (cs_X21 GA) _ hy⟩) (AW.eq (g2 := F0 m 15 ls [va_rf (some q)]) rfl ?_)
        refine a_astore_n (pc := 15) X dX0_leave_15 rfl hl (by decide) (lv' := [(3, vR (some q)), (0, vR (some a4)), (1, vI v1), (2, vR v2)]) rfl (fun ls hl => ?_)
        refine AW.lift (fun _ _ _ _ k => lv_iconst (pc := 16) (v := (2 : Int32)) X.2.2.1 X.2.2.2.1 dX0_leave_16 rfl k) ?_
        exact a_ireturn X Z.2.2.1 Z.2.2.2.1 dX0_leave_17 hf
      · skip
        exact a_outH X Z.2.1 (by intro z hz; simp only [List.mem_cons, List.not_mem_nil, or_false] at hz; rcases hz with rfl | rfl <;> first | exact Or.inl (by decide) | exact Or.inr ⟨by decide, _, gw X.1 X.2.1 q1786, (nc_12_13_14_16_17_18_20_21_java_lang_IndexOutOfBoundsException GA _ (by simpa using hn0)).2.2⟩ | exact Or.inr ⟨by decide, _, gw X.1 X.2.1 q1709, (nc_12_13_14_16_17_18_19_20_java_lang_UnsupportedOperationException GA _ (by simpa using hn1)).2.2⟩) Z.2.2.2.1 (th_eq hf) hX
  refine AW.eq (g2 := F0 m 7 ls [.int x4, .int (0 : Int32), va_rf v2]) rfl ?_
  refine AW.lift (fun _ _ _ _ k => lv_i2l (pc := 7) X.2.2.1 X.2.2.2.1 dX0_leave_7 rfl k) ?_
  refine a_lastore (pc := 8) X dX0_leave_8 hf (fun h hf => ?_)
  refine AW.lift (fun _ _ _ _ k => lv_goto (pc := 9) (tgt := 18) X.2.2.1 X.2.2.2.1 dX0_leave_9 rfl k) ?_
  refine AW.lift (fun _ _ _ _ k => lv_iconst (pc := 18) (v := (0 : Int32)) X.2.2.1 X.2.2.2.1 dX0_leave_18 rfl k) ?_
  exact a_ireturn X Z.2.2.1 Z.2.2.2.1 dX0_leave_19 hf
end WK
