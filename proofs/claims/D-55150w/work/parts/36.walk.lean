section WK
variable {l : Launch} {s0 : State} {a0 : Array Value} {K : Nat → Nat} {lam : Nat → ClassId}
variable {p : Program} {e : Env} {R : Room} {s : State} {m : MethodId} {args : Array Value} {below : List Frame} {meth : Method} {c : Code} {b : AH}
theorem w_X2_cancel_j24 {r : Except Nat (Int32) × AH} (GA : GA l s0 a0 K lam) (Z : WZ l s0 a0 K p s m c cX2_cancel yX2_cancel.cls 3 b R 10 446 meth [] (some (.int)) yX2_cancel) (v0 : Option Nat) (v2 : Option Nat) (t0 : Int32)  {h : AH} {ls : Array Slot} (hl : LV ls 3 [(0, vR v0), (2, vR v2)]) (hf : f_X2_cancel_j24 K v0 v2 t0 h = some r) : AW s0 K lam p l e R s m args below meth c (AQ s0 K lam below oI b r s) b h (F0 m 24 ls [.int t0]) := by
  unfold f_X2_cancel_j24 at hf
  have X := Z.1.1
  refine AW.lift (fun _ _ _ _ k => lv_bipush (pc := 24) (v := (11 : Int32)) X.2.2.1 X.2.2.2.1 dX2_cancel_24 rfl k) ?_
  refine a_aload_n (pc := 26) X dX2_cancel_26 rfl hl 1 rfl ?_
  refine a_getN (pc := 27) (φ := 604) pI_t X Z.1.2.1 (gnF X.1 X.2.1 q972) (fun _ q => q) (by decide) dX2_cancel_27 hf (fun x27 hf => ?_)
  refine a_callb (pc := 30) (rs := []) (avs := [vI t0, vI (11 : Int32), vI x27]) Z.1 (w_X1_refuse GA t0 (11 : Int32) x27) (Or.inl rfl) q1723 q74 (by decide) (by decide) dX2_cancel_30 hl.1 (Nat.le_of_ble_eq_true rfl) hf (ct_SN X (Or.inl rfl) q1723 q74 q1721 q1722 hy_X1_refuse np_X1_refuse rfl dX2_cancel_30) (fun q h he hX => a_out (unc_of Z.2.1 rfl) Z.2.2.2.1 he hX) (fun _ h hf => ?kk30)
  refine AW.eq (g2 := F0 m 33 ls []) rfl ?_
  refine a_aload_n (pc := 33) X dX2_cancel_33 rfl hl 1 rfl ?_
  refine AW.lift (fun _ _ _ _ k => lv_iconst (pc := 34) (v := (2 : Int32)) X.2.2.1 X.2.2.2.1 dX2_cancel_34 rfl k) ?_
  refine a_putN (pc := 35) (φ := 604) X Z.1.2.1 Z.1.2.2.1 (gnF X.1 X.2.1 q972) (fun _ q => q) (by decide) rfl rfl dX2_cancel_35 hf (fun h hf => ?_)
  refine a_aload_n (pc := 38) X dX2_cancel_38 rfl hl 0 rfl ?_
  refine AW.lift (fun _ _ _ _ k => lv_iconst (pc := 39) (v := (0 : Int32)) X.2.2.1 X.2.2.2.1 dX2_cancel_39 rfl k) ?_
  obtain ⟨a40, rfl, ⟨hk, hf⟩ | ⟨-, hf⟩⟩ := dv_some hf
  rotate_left
  · exact fl_none hf
  refine a_callb (pc := 40) (rs := []) (avs := [vR (some a40), vI (0 : Int32)]) Z.1 (w_X2_partiesIn GA (some a40) (0 : Int32)) (Or.inl rfl) q2406 q75 (by decide) (by decide) dX2_cancel_40 hl.1 (Nat.le_of_ble_eq_true rfl) hf (ct_V hk ⟨by decide, by decide⟩ X (Or.inl rfl) q2406 q2403 q2404 q2405 hy_X2_partiesIn np_X2_partiesIn rfl dX2_cancel_40) (fun q h he hX => a_out (unc_of Z.2.1 rfl) Z.2.2.2.1 he hX) (fun x40 h hf => ?kk40)
  refine AW.eq (g2 := F0 m 43 ls [.int x40]) rfl ?_
  exact a_ireturn X Z.2.2.1 Z.2.2.2.1 dX2_cancel_43 hf
theorem np_X2_cancel : npar yX2_cancel.desc 1 := by unfold npar; decide +kernel
theorem hy_X2_cancel : yX2_cancel.cls ≠ "java/lang/invoke/MethodHandle" ∧ yX2_cancel.cls ≠ "java/lang/invoke/VarHandle" := by decide +kernel
theorem w_X2_cancel (GA : GA l s0 a0 K lam) (v0 : Option Nat) (v1 : Int32) : AMet l s0 K lam yX2_cancel (Cond.code yX2_cancel cX2_cancel (3 : Nat) (Option.some ClassFile.FieldType.int)) 10 446 [vR v0, vI v1] oI (f_X2_cancel K v0 v1) := by
  refine AMet.of GA.1 (plainFor_of_name (by decide +kernel)) (Nat.le_of_ble_eq_true rfl) ?_
  intro b r hf p e s m args below meth c X hr hlk hnm hnd ht ls hl
  have Z : WZ l s0 a0 K p s m c cX2_cancel yX2_cancel.cls 3 b { frames := 10, cells := K 0 - aX b, slots := K 1 - aW b, locals := 446 } 10 446 meth [] (some (.int)) yX2_cancel := ⟨⟨X, GA.2.1, GA.2.2.1, rfl, rfl, Nat.le_refl _, Nat.le_refl _⟩, tab_nil ht, hr, hlk, hnm, hnd⟩
  unfold f_X2_cancel at hf
  clear hr hlk hnm hnd ht
  refine a_aload_n (pc := 0) X dX2_cancel_0 rfl hl 0 rfl ?_
  refine a_get (pc := 1) (φ := 302) pR_t X Z.1.2.1 (gw X.1 X.2.1 q232) (fun _ q => q) (by decide) dX2_cancel_1 hf (fun x1 hf => ?_)
  refine a_iload_n (pc := 4) X dX2_cancel_4 rfl hl 1 rfl ?_
  obtain ⟨a5, rfl, ⟨hk, hf⟩ | ⟨-, hf⟩⟩ := dv_some hf
  rotate_left
  · exact fl_none hf
  refine a_callb (pc := 5) (rs := []) (avs := [vR (some a5), vI v1]) Z.1 (w_J2_get GA (some a5) v1) (Or.inl rfl) q505 q78 (by decide) (by decide) dX2_cancel_5 hl.1 (Nat.le_of_ble_eq_true rfl) hf (ct_V hk ⟨by decide, by decide⟩ X (Or.inl rfl) q505 q1828 q503 q3487 hy_J2_get np_J2_get rfl dX2_cancel_5) (fun q h he hX => a_out (unc_of Z.2.1 rfl) Z.2.2.2.1 he hX) (fun x5 h hf => ?kk5)
  refine AW.eq (g2 := F0 m 8 ls [va_rf x5]) rfl ?_
  refine a_checkcast (pc := 8) X (gw X.1 X.2.1 q950) (cs_JumpHall_Party GA) dX2_cancel_8 hf (fun hf => ?_)
  refine a_astore_n (pc := 11) X dX2_cancel_11 rfl hl (by decide) (lv' := [(2, vR x5), (0, vR v0), (1, vI v1)]) rfl (fun ls hl => ?_)
  refine a_aload_n (pc := 12) X dX2_cancel_12 rfl hl 0 rfl ?_
  obtain ⟨a13, rfl, ⟨hk, hf⟩ | ⟨-, hf⟩⟩ := dv_some hf
  rotate_left
  · exact fl_none hf
  refine a_callb (pc := 13) (rs := []) (avs := [vR (some a13)]) Z.1 (w_X9_isBooked GA (some a13)) (Or.inl rfl) q2429 q108 (by decide) (by decide) dX2_cancel_13 hl.1 (Nat.le_of_ble_eq_true rfl) hf (ct_V hk ⟨by decide, by decide⟩ X (Or.inl rfl) q2429 q2426 q2427 q2428 hy_X9_isBooked np_X9_isBooked rfl dX2_cancel_13) (fun q h he hX => a_out (unc_of Z.2.1 rfl) Z.2.2.2.1 he hX) (fun x13 h hf => ?kk13)
  refine AW.eq (g2 := F0 m 16 ls [.int x13]) rfl ?_
  refine AW.lift2 (fun _ _ _ _ k1 k2 => lv_if_ne (pc := 16) (tgt := 23) X.2.2.1 X.2.2.2.1 dX2_cancel_16 rfl k2 k1) (fun c => ?_) (fun c => ?_)
  · have hf := ite_t c hf
    refine AW.lift (fun _ _ _ _ k => lv_iconst (pc := 19) (v := (1 : Int32)) X.2.2.1 X.2.2.2.1 dX2_cancel_19 rfl k) ?_
    refine AW.lift (fun _ _ _ _ k => lv_goto (pc := 20) (tgt := 24) X.2.2.1 X.2.2.2.1 dX2_cancel_20 rfl k) ?_
    exact w_X2_cancel_j24 GA Z v0 (some a13) (1 : Int32)  (hl.sub [1, 0] rfl) hf
  · have hf := ite_f c hf
    refine AW.lift (fun _ _ _ _ k => lv_iconst (pc := 23) (v := (0 : Int32)) X.2.2.1 X.2.2.2.1 dX2_cancel_23 rfl k) ?_
    exact w_X2_cancel_j24 GA Z v0 (some a13) (0 : Int32)  (hl.sub [1, 0] rfl) hf
theorem np_X1_lambda_cancel_13 : npar yX1_lambda_cancel_13.desc 2 := by unfold npar; decide +kernel
theorem hy_X1_lambda_cancel_13 : yX1_lambda_cancel_13.cls ≠ "java/lang/invoke/MethodHandle" ∧ yX1_lambda_cancel_13.cls ≠ "java/lang/invoke/VarHandle" := by decide +kernel
theorem w_X1_lambda_cancel_13 (GA : GA l s0 a0 K lam) (v0 : Int32) (v1 : Option Nat) : AMet l s0 K lam yX1_lambda_cancel_13 (Cond.code yX1_lambda_cancel_13 cX1_lambda_cancel_13 (2 : Nat) (Option.some ClassFile.FieldType.int)) 11 468 [vI v0, vR v1] oI (f_X1_lambda_cancel_13 K v0 v1) := by
  refine AMet.of GA.1 (plainFor_of_name (by decide +kernel)) (Nat.le_of_ble_eq_true rfl) ?_
  intro b r hf p e s m args below meth c X hr hlk hnm hnd ht ls hl
  have Z : WZ l s0 a0 K p s m c cX1_lambda_cancel_13 yX1_lambda_cancel_13.cls 2 b { frames := 11, cells := K 0 - aX b, slots := K 1 - aW b, locals := 468 } 11 468 meth [] (some (.int)) yX1_lambda_cancel_13 := ⟨⟨X, GA.2.1, GA.2.2.1, rfl, rfl, Nat.le_refl _, Nat.le_refl _⟩, tab_nil ht, hr, hlk, hnm, hnd⟩
  unfold f_X1_lambda_cancel_13 at hf
  clear hr hlk hnm hnd ht
  refine a_aload_n (pc := 0) X dX1_lambda_cancel_13_0 rfl hl 1 rfl ?_
  refine a_iload_n (pc := 1) X dX1_lambda_cancel_13_1 rfl hl 0 rfl ?_
  obtain ⟨a2, rfl, ⟨hk, hf⟩ | ⟨-, hf⟩⟩ := dv_some hf
  rotate_left
  · exact fl_none hf
  refine a_callb (pc := 2) (rs := []) (avs := [vR (some a2), vI v0]) Z.1 (w_X2_cancel GA (some a2) v0) (Or.inl rfl) q2425 q75 (by decide) (by decide) dX1_lambda_cancel_13_2 hl.1 (Nat.le_of_ble_eq_true rfl) hf (ct_V hk ⟨by decide, by decide⟩ X (Or.inl rfl) q2425 q2422 q2423 q2424 hy_X2_cancel np_X2_cancel rfl dX1_lambda_cancel_13_2) (fun q h he hX => a_out (unc_of Z.2.1 rfl) Z.2.2.2.1 he hX) (fun x2 h hf => ?kk2)
  refine AW.eq (g2 := F0 m 5 ls [.int x2]) rfl ?_
  exact a_ireturn X Z.2.2.1 Z.2.2.2.1 dX1_lambda_cancel_13_5 hf
theorem cl_219 {Q : State → Prop} {h : AH} {cc : ByteArray} {own : String} {nL pc : Nat} {ls : Array Slot} {st : List Value} {F Lo idx cnt a : Nat} {v : Option Nat} {rs : List TV} (X : WX l s0 a0 K p s m c cc own nL b R F Lo) (GA : GA l s0 a0 K lam) (hk : aK h a = 219) (hlink : Cond.methodLink own idx ({ cls := "JumpHall$Deed", name := "in", desc := "(LJumpHall$Hall;)I" } : MethodName) ∈ lw_all) (hF : 13 ≤ F) (hLo : 518 ≤ Lo) (hsz : ls.size = nL) (hW8 : (rs.map tcat).sum ≤ 8) (hst : st = va_rf v :: .ref a :: rs.map tvv) (hdg : decode cc pc = .ok (.invokeinterface idx cnt, 5)) : LC s0 K lam p l e R s m args below meth c Q b h pc ls (rs.map tvv) st (c_lam219 K (some a) v) := by
  intro r1 hf kk kx
  unfold c_lam219 at hf
  obtain ⟨a0, c0, e0, -, hp0, hf⟩ := gL_some hf
  cases e0
  refine lam_core (caps := [vI c0]) (arg := vR v) (f := f_X1_lambda_cancel_13 K c0 v) (x := ⟨"JumpHall", "cancel", "(I)I"⟩) (fs := [15]) (ig := .invokestatic 23) X (siG_219 GA) hfb_19 (lw_all_tbl q3550) ⟨by decide, by decide⟩ rfl hk (y := yX1_lambda_cancel_13) (by decide +kernel) hy_X1_lambda_cancel_13 (by decide +kernel) ⟨by decide, by decide⟩ hlink (gf X.1.1 X.1.2.1 q1758 rfl) (gf X.1.1 X.1.2.1 q1757 rfl) (by decide +kernel) (by unfold npar; decide +kernel) (w_X1_lambda_cancel_13 GA c0 v) (Or.inl rfl) q2421 q74 (fun _ _ => rfl) rfl (fun j v hj => by
    rcases j with _ | j
    · exact (Option.some.inj hj : vI c0 = v) ▸ pI_t hp0
    · exact absurd hj (by simp)) ⟨(fun j i hj => by
    rcases j with _ | j
    · obtain rfl : 15 = i := Option.some.inj hj
      exact ⟨by decide +kernel, by decide +kernel⟩
    · exact absurd hj (by simp)), by decide +kernel, by decide +kernel, by decide +kernel⟩ ⟨rfl, by cases v <;> rfl⟩ hF hLo hsz hW8 hst hdg (lam_stat GA.1 q2420 q74 hy_X1_lambda_cancel_13 np_X1_lambda_cancel_13 (Or.inl rfl) q2421 (by decide +kernel)) r1 hf kk kx
theorem w_X7_wears_j50 {r : Except Nat (Unit) × AH} (GA : GA l s0 a0 K lam) (Z : WZ l s0 a0 K p s m c cX7_wears yX7_wears.cls 4 b R 1 29 meth [] none yX7_wears) (v0 : Option Nat) (v1 : Int32) (v2 : Int32)   {h : AH} {ls : Array Slot} (hl : LV ls 4 [(0, vR v0), (1, vI v1), (2, vI v2)]) (hf : f_X7_wears_j50 K v0 v1 v2 h = some r) : AW s0 K lam p l e R s m args below meth c (AQ s0 K lam below oV b r s) b h (F0 m 50 ls []) := by
  unfold f_X7_wears_j50 at hf
  have X := Z.1.1
  refine a_iload_n (pc := 50) X dX7_wears_50 rfl hl 2 rfl ?_
  refine AW.lift (fun _ _ _ _ k => lv_iconst (pc := 51) (v := (-1 : Int32)) X.2.2.1 X.2.2.2.1 dX7_wears_51 rfl k) ?_
  refine AW.lift2 (fun _ _ _ _ k1 k2 => lv_icmp_eq (pc := 52) (tgt := 79) X.2.2.1 X.2.2.2.1 dX7_wears_52 rfl k1 k2) (fun c => ?_) (fun c => ?_)
  · have hf := ite_t c hf
    exact a_return X Z.2.2.1 Z.2.2.2.1 dX7_wears_79 hf
  · have hf := ite_f c hf
    refine a_aload_n (pc := 55) X dX7_wears_55 rfl hl 0 rfl ?_
    refine a_get (pc := 56) (φ := 400) pR_t X Z.1.2.1 (gw X.1 X.2.1 q813) (fun _ q => q) (by decide) dX7_wears_56 hf (fun x56 hf => ?_)
    refine a_iload_n (pc := 59) X dX7_wears_59 rfl hl 2 rfl ?_
    refine AW.lift (fun _ _ _ _ k => lv_bipush (pc := 60) (v := (9 : Int32)) X.2.2.1 X.2.2.2.1 dX7_wears_60 rfl k) ?_
    refine a_aload_n (pc := 62) X dX7_wears_62 rfl hl 0 rfl ?_
    refine a_get (pc := 63) (φ := 400) pR_t X Z.1.2.1 (gw X.1 X.2.1 q813) (fun _ q => q) (by decide) dX7_wears_63 hf (fun x63 hf => ?_)
    refine a_iload_n (pc := 66) X dX7_wears_66 rfl hl 2 rfl ?_
    refine a_iaload (pc := 67) X dX7_wears_67 hf (fun x67 hf => ?_)
    refine AW.lift (fun _ _ _ _ k => lv_iconst (pc := 68) (v := (1 : Int32)) X.2.2.1 X.2.2.2.1 dX7_wears_68 rfl k) ?_
    refine AW.lift (fun _ _ _ _ k => lv_iadd (pc := 69) X.2.2.1 X.2.2.2.1 dX7_wears_69 k) ?_
    refine a_iload_n (pc := 70) X dX7_wears_70 rfl hl 1 rfl ?_
    refine AW.lift (fun _ _ _ _ k => lv_bipush (pc := 71) (v := (40 : Int32)) X.2.2.1 X.2.2.2.1 dX7_wears_71 rfl k) ?_
    refine AW.lift (fun _ _ _ _ k => lv_idiv (pc := 73) X.2.2.1 X.2.2.2.1 dX7_wears_73 (by decide) k) ?_
    refine AW.lift (fun _ _ _ _ k => lv_iadd (pc := 74) X.2.2.1 X.2.2.2.1 dX7_wears_74 k) ?_
    refine AW.lift_c Z.1 (fun _ _ _ _ hc hs k => va_mmin (pc := 75) X.2.2.1 X.2.2.2.1 (X.2.2.2.2.2.trans hl.1.symm) X.2.2.2.2.1 (gw X.1 X.2.1 q1980) (gw X.1 X.2.1 q583) (gw X.1 X.2.1 q93) (gw X.1 X.2.1 q584) (Nat.le_trans (by decide) Z.1.2.2.2.2.2.1) (cat_le (rs := [vI v2, vR x56]) (Nat.le_of_ble_eq_true rfl) Z.1.2.2.2.2.2.2) hc hs dX7_wears_75 k) ?_
    refine AW.eq (g2 := F0 m 78 ls [.int (if ((x67 + (1 : Int32)) + (v1 / (40 : Int32))) < (9 : Int32) then ((x67 + (1 : Int32)) + (v1 / (40 : Int32))) else (9 : Int32)), .int v2, va_rf x56]) rfl ?_
    refine a_iastore (pc := 78) X dX7_wears_78 hf (fun h hf => ?_)
    exact a_return X Z.2.2.1 Z.2.2.2.1 dX7_wears_79 hf
theorem w_X7_wears_j43 {r : Except Nat (Unit) × AH} (GA : GA l s0 a0 K lam) (Z : WZ l s0 a0 K p s m c cX7_wears yX7_wears.cls 4 b R 1 29 meth [] none yX7_wears) (v0 : Option Nat) (v1 : Int32) (v3 : Int32) (t0 : Int32) (rc4 : Int32 → Int32 → AM (Unit)) (hrc4 : ∀ (v2 : Int32) (v3 : Int32) (h : AH) (ls : Array Slot), LV ls 4 [(0, vR v0), (1, vI v1), (2, vI v2), (3, vI v3)] → rc4 v2 v3 h = some r → AW s0 K lam p l e R s m args below meth c (AQ s0 K lam below oV b r s) b h (F0 m 4 ls [])) {h : AH} {ls : Array Slot} (hl : LV ls 4 [(0, vR v0), (1, vI v1), (3, vI v3)]) (hf : f_X7_wears_j43 K rc4 v0 v1 v3 t0 h = some r) : AW s0 K lam p l e R s m args below meth c (AQ s0 K lam below oV b r s) b h (F0 m 43 ls [.int t0]) := by
  unfold f_X7_wears_j43 at hf
  have X := Z.1.1
  refine a_istore_n (pc := 43) X dX7_wears_43 rfl hl (by decide) (lv' := [(2, vI t0), (0, vR v0), (1, vI v1), (3, vI v3)]) rfl (fun ls hl => ?_)
  refine a_iinc (pc := 44) (v := (v3 + (1 : Int32))) X dX7_wears_44 hl (k := 3) rfl rfl (by decide) (lv' := [(3, vI (v3 + (1 : Int32))), (2, vI t0), (0, vR v0), (1, vI v1)]) rfl (fun ls hl => ?_)
  refine AW.lift (fun _ _ _ _ k => lv_goto (pc := 47) (tgt := 4) X.2.2.1 X.2.2.2.1 dX7_wears_47 rfl k) ?_
  exact hrc4 t0 (v3 + (1 : Int32)) _ _ (hl.sub [2, 3, 1, 0] rfl) hf
theorem w_X7_wears_j38 {r : Except Nat (Unit) × AH} (GA : GA l s0 a0 K lam) (Z : WZ l s0 a0 K p s m c cX7_wears yX7_wears.cls 4 b R 1 29 meth [] none yX7_wears) (v0 : Option Nat) (v1 : Int32) (v3 : Int32)  (rc4 : Int32 → Int32 → AM (Unit)) (hrc4 : ∀ (v2 : Int32) (v3 : Int32) (h : AH) (ls : Array Slot), LV ls 4 [(0, vR v0), (1, vI v1), (2, vI v2), (3, vI v3)] → rc4 v2 v3 h = some r → AW s0 K lam p l e R s m args below meth c (AQ s0 K lam below oV b r s) b h (F0 m 4 ls [])) {h : AH} {ls : Array Slot} (hl : LV ls 4 [(0, vR v0), (1, vI v1), (3, vI v3)]) (hf : f_X7_wears_j38 K rc4 v0 v1 v3 h = some r) : AW s0 K lam p l e R s m args below meth c (AQ s0 K lam below oV b r s) b h (F0 m 38 ls []) := by
  unfold f_X7_wears_j38 at hf
  have X := Z.1.1
  refine a_iload_n (pc := 38) X dX7_wears_38 rfl hl 2 rfl ?_
  refine AW.lift (fun _ _ _ _ k => lv_goto (pc := 39) (tgt := 43) X.2.2.1 X.2.2.2.1 dX7_wears_39 rfl k) ?_
  exact w_X7_wears_j43 GA Z v0 v1 v3 v3 rc4 hrc4 (hl.sub [0, 1, 2] rfl) hf
theorem w_X7_wears_j42 {r : Except Nat (Unit) × AH} (GA : GA l s0 a0 K lam) (Z : WZ l s0 a0 K p s m c cX7_wears yX7_wears.cls 4 b R 1 29 meth [] none yX7_wears) (v0 : Option Nat) (v1 : Int32) (v2 : Int32) (v3 : Int32)  (rc4 : Int32 → Int32 → AM (Unit)) (hrc4 : ∀ (v2 : Int32) (v3 : Int32) (h : AH) (ls : Array Slot), LV ls 4 [(0, vR v0), (1, vI v1), (2, vI v2), (3, vI v3)] → rc4 v2 v3 h = some r → AW s0 K lam p l e R s m args below meth c (AQ s0 K lam below oV b r s) b h (F0 m 4 ls [])) {h : AH} {ls : Array Slot} (hl : LV ls 4 [(0, vR v0), (1, vI v1), (2, vI v2), (3, vI v3)]) (hf : f_X7_wears_j42 K rc4 v0 v1 v2 v3 h = some r) : AW s0 K lam p l e R s m args below meth c (AQ s0 K lam below oV b r s) b h (F0 m 42 ls []) := by
  unfold f_X7_wears_j42 at hf
  have X := Z.1.1
  refine a_iload_n (pc := 42) X dX7_wears_42 rfl hl 2 rfl ?_
  exact w_X7_wears_j43 GA Z v0 v1 v3 v2 rc4 hrc4 (hl.sub [0, 1, 3] rfl) hf
theorem w_X7_wears_b4 {r : Except Nat (Unit) × AH} (GA : GA l s0 a0 K lam) (Z : WZ l s0 a0 K p s m c cX7_wears yX7_wears.cls 4 b R 1 29 meth [] none yX7_wears) (v0 : Option Nat) (v1 : Int32) (v2 : Int32) (v3 : Int32)  (rc4 : Int32 → Int32 → AM (Unit)) (hrc4 : ∀ (v2 : Int32) (v3 : Int32) (h : AH) (ls : Array Slot), LV ls 4 [(0, vR v0), (1, vI v1), (2, vI v2), (3, vI v3)] → rc4 v2 v3 h = some r → AW s0 K lam p l e R s m args below meth c (AQ s0 K lam below oV b r s) b h (F0 m 4 ls [])) {h : AH} {ls : Array Slot} (hl : LV ls 4 [(0, vR v0), (1, vI v1), (2, vI v2), (3, vI v3)]) (hf : f_X7_wears_b4 K rc4 v0 v1 v2 v3 h = some r) : AW s0 K lam p l e R s m args below meth c (AQ s0 K lam below oV b r s) b h (F0 m 4 ls []) := by
  unfold f_X7_wears_b4 at hf
  have X := Z.1.1
  refine a_iload_n (pc := 4) X dX7_wears_4 rfl hl 3 rfl ?_
  refine AW.lift (fun _ _ _ _ k => lv_bipush (pc := 5) (v := (8 : Int32)) X.2.2.1 X.2.2.2.1 dX7_wears_5 rfl k) ?_
  refine AW.lift2 (fun _ _ _ _ k1 k2 => lv_icmp_ge (pc := 7) (tgt := 50) X.2.2.1 X.2.2.2.1 dX7_wears_7 rfl k1 k2) (fun c => ?_) (fun c => ?_)
  · have hf := ite_t c hf
    exact w_X7_wears_j50 GA Z v0 v1 v2   (hl.sub [0, 1, 2] rfl) hf
  · have hf := ite_f c hf
    refine a_aload_n (pc := 10) X dX7_wears_10 rfl hl 0 rfl ?_
    refine a_iload_n (pc := 11) X dX7_wears_11 rfl hl 3 rfl ?_
    obtain ⟨a12, rfl, ⟨hk, hf⟩ | ⟨-, hf⟩⟩ := dv_some hf
    rotate_left
    · exact fl_none hf
    refine a_callb (pc := 12) (rs := []) (avs := [vR (some a12), vI v3]) Z.1 (w_X7_isBroken GA (some a12) v3) (Or.inl rfl) q1850 q91 (by decide) (by decide) dX7_wears_12 hl.1 (Nat.le_of_ble_eq_true rfl) hf (ct_V hk ⟨by decide, by decide⟩ X (Or.inl rfl) q1850 q1847 q1848 q1849 hy_X7_isBroken np_X7_isBroken rfl dX7_wears_12) (fun q h he hX => a_out (unc_of Z.2.1 rfl) Z.2.2.2.1 he hX) (fun x12 h hf => ?kk12)
    refine AW.eq (g2 := F0 m 15 ls [.int x12]) rfl ?_
    refine AW.lift2 (fun _ _ _ _ k1 k2 => lv_if_ne (pc := 15) (tgt := 42) X.2.2.1 X.2.2.2.1 dX7_wears_15 rfl k2 k1) (fun c => ?_) (fun c => ?_)
    · have hf := ite_t c hf
      refine a_iload_n (pc := 18) X dX7_wears_18 rfl hl 2 rfl ?_
      refine AW.lift (fun _ _ _ _ k => lv_iconst (pc := 19) (v := (-1 : Int32)) X.2.2.1 X.2.2.2.1 dX7_wears_19 rfl k) ?_
      refine AW.lift2 (fun _ _ _ _ k1 k2 => lv_icmp_eq (pc := 20) (tgt := 38) X.2.2.1 X.2.2.2.1 dX7_wears_20 rfl k1 k2) (fun c => ?_) (fun c => ?_)
      · have hf := ite_t c hf
        exact w_X7_wears_j38 GA Z (some a12) v1 v3  rc4 hrc4 (hl.sub [0, 1, 3] rfl) hf
      · have hf := ite_f c hf
        refine a_aload_n (pc := 23) X dX7_wears_23 rfl hl 0 rfl ?_
        refine a_get (pc := 24) (φ := 400) pR_t X Z.1.2.1 (gw X.1 X.2.1 q813) (fun _ q => q) (by decide) dX7_wears_24 hf (fun x24 hf => ?_)
        refine a_iload_n (pc := 27) X dX7_wears_27 rfl hl 3 rfl ?_
        refine a_iaload (pc := 28) X dX7_wears_28 hf (fun x28 hf => ?_)
        refine a_aload_n (pc := 29) X dX7_wears_29 rfl hl 0 rfl ?_
        refine a_get (pc := 30) (φ := 400) pR_t X Z.1.2.1 (gw X.1 X.2.1 q813) (fun _ q => q) (by decide) dX7_wears_30 hf (fun x30 hf => ?_)
        refine a_iload_n (pc := 33) X dX7_wears_33 rfl hl 2 rfl ?_
        refine a_iaload (pc := 34) X dX7_wears_34 hf (fun x34 hf => ?_)
        refine AW.lift2 (fun _ _ _ _ k1 k2 => lv_icmp_ge (pc := 35) (tgt := 42) X.2.2.1 X.2.2.2.1 dX7_wears_35 rfl k1 k2) (fun c => ?_) (fun c => ?_)
        · have hf := ite_t c hf
          exact w_X7_wears_j42 GA Z (some a12) v1 v2 v3  rc4 hrc4 (hl.sub [0, 1, 2, 3] rfl) hf
        · have hf := ite_f c hf
          exact w_X7_wears_j38 GA Z (some a12) v1 v3  rc4 hrc4 (hl.sub [0, 1, 3] rfl) hf
    · have hf := ite_f c hf
      exact w_X7_wears_j42 GA Z (some a12) v1 v2 v3  rc4 hrc4 (hl.sub [0, 1, 2, 3] rfl) hf
theorem w_X7_wears_l4 {r : Except Nat (Unit) × AH} (GA : GA l s0 a0 K lam) (Z : WZ l s0 a0 K p s m c cX7_wears yX7_wears.cls 4 b R 1 29 meth [] none yX7_wears) (v0 : Option Nat) (v1 : Int32)  : ∀ (n : Nat) (v2 : Int32) (v3 : Int32) (h : AH) (ls : Array Slot), LV ls 4 [(0, vR v0), (1, vI v1), (2, vI v2), (3, vI v3)] → f_X7_wears_l4 K v0 v1 n v2 v3 h = some r → AW s0 K lam p l e R s m args below meth c (AQ s0 K lam below oV b r s) b h (F0 m 4 ls []) := by
  intro n
  induction n with
  | zero => intro v2 v3 h ls hl hf; exact fl_no (h := h) hf
  | succ n ih => intro v2 v3 h ls hl hf; exact w_X7_wears_b4 GA Z v0 v1 v2 v3 (f_X7_wears_l4 K v0 v1 n) ih hl hf
theorem np_X7_wears : npar yX7_wears.desc 1 := by unfold npar; decide +kernel
theorem hy_X7_wears : yX7_wears.cls ≠ "java/lang/invoke/MethodHandle" ∧ yX7_wears.cls ≠ "java/lang/invoke/VarHandle" := by decide +kernel
theorem w_X7_wears (GA : GA l s0 a0 K lam) (v0 : Option Nat) (v1 : Int32) : AMet l s0 K lam yX7_wears (Cond.code yX7_wears cX7_wears (4 : Nat) (Option.none : Option ClassFile.FieldType)) 1 29 [vR v0, vI v1] oV (f_X7_wears K v0 v1) := by
  refine AMet.of GA.1 (plainFor_of_name (by decide +kernel)) (Nat.le_of_ble_eq_true rfl) ?_
  intro b r hf p e s m args below meth c X hr hlk hnm hnd ht ls hl
  have Z : WZ l s0 a0 K p s m c cX7_wears yX7_wears.cls 4 b { frames := 1, cells := K 0 - aX b, slots := K 1 - aW b, locals := 29 } 1 29 meth [] none yX7_wears := ⟨⟨X, GA.2.1, GA.2.2.1, rfl, rfl, Nat.le_refl _, Nat.le_refl _⟩, tab_nil ht, hr, hlk, hnm, hnd⟩
  unfold f_X7_wears at hf
  clear hr hlk hnm hnd ht
  refine AW.lift (fun _ _ _ _ k => lv_iconst (pc := 0) (v := (-1 : Int32)) X.2.2.1 X.2.2.2.1 dX7_wears_0 rfl k) ?_
  refine a_istore_n (pc := 1) X dX7_wears_1 rfl hl (by decide) (lv' := [(2, vI (-1 : Int32)), (0, vR v0), (1, vI v1)]) rfl (fun ls hl => ?_)
  refine AW.lift (fun _ _ _ _ k => lv_iconst (pc := 2) (v := (0 : Int32)) X.2.2.1 X.2.2.2.1 dX7_wears_2 rfl k) ?_
  refine a_istore_n (pc := 3) X dX7_wears_3 rfl hl (by decide) (lv' := [(3, vI (0 : Int32)), (2, vI (-1 : Int32)), (0, vR v0), (1, vI v1)]) rfl (fun ls hl => ?_)
  exact w_X7_wears_l4 GA Z v0 v1  FU (-1 : Int32) (0 : Int32) _ _ (hl.sub [2, 3, 1, 0] rfl) hf
theorem w_X2_wearMats_j79 {r : Except Nat (Unit) × AH} (GA : GA l s0 a0 K lam) (Z : WZ l s0 a0 K p s m c cX2_wearMats yX2_wearMats.cls 4 b R 9 422 meth [] none yX2_wearMats) (v0 : Option Nat) (v1 : Int32)  (rc2 : Int32 → AM (Unit)) (hrc2 : ∀ (v1 : Int32) (h : AH) (ls : Array Slot), LV ls 4 [(0, vR v0), (1, vI v1)] → rc2 v1 h = some r → AW s0 K lam p l e R s m args below meth c (AQ s0 K lam below oV b r s) b h (F0 m 2 ls [])) {h : AH} {ls : Array Slot} (hl : LV ls 4 [(0, vR v0), (1, vI v1)]) (hf : f_X2_wearMats_j79 K rc2 v0 v1 h = some r) : AW s0 K lam p l e R s m args below meth c (AQ s0 K lam below oV b r s) b h (F0 m 79 ls []) := by
  unfold f_X2_wearMats_j79 at hf
  have X := Z.1.1
  refine a_iinc (pc := 79) (v := (v1 + (1 : Int32))) X dX2_wearMats_79 hl (k := 1) rfl rfl (by decide) (lv' := [(1, vI (v1 + (1 : Int32))), (0, vR v0)]) rfl (fun ls hl => ?_)
  refine AW.lift (fun _ _ _ _ k => lv_goto (pc := 82) (tgt := 2) X.2.2.1 X.2.2.2.1 dX2_wearMats_82 rfl k) ?_
  exact hrc2 (v1 + (1 : Int32)) _ _ (hl.sub [1, 0] rfl) hf
theorem w_X2_wearMats_j76 {r : Except Nat (Unit) × AH} (GA : GA l s0 a0 K lam) (Z : WZ l s0 a0 K p s m c cX2_wearMats yX2_wearMats.cls 4 b R 9 422 meth [] none yX2_wearMats) (v0 : Option Nat) (v1 : Int32) (v2 : Option Nat)  (rc2 : Int32 → AM (Unit)) (hrc2 : ∀ (v1 : Int32) (h : AH) (ls : Array Slot), LV ls 4 [(0, vR v0), (1, vI v1)] → rc2 v1 h = some r → AW s0 K lam p l e R s m args below meth c (AQ s0 K lam below oV b r s) b h (F0 m 2 ls [])) (rc21 : AM (Unit)) (hrc21 : ∀  (h : AH) (ls : Array Slot), LV ls 4 [(0, vR v0), (1, vI v1), (2, vR v2)] → rc21 h = some r → AW s0 K lam p l e R s m args below meth c (AQ s0 K lam below oV b r s) b h (F0 m 21 ls [])) {h : AH} {ls : Array Slot} (hl : LV ls 4 [(0, vR v0), (1, vI v1), (2, vR v2)]) (hf : f_X2_wearMats_j76 K rc2 rc21 v0 v1 v2 h = some r) : AW s0 K lam p l e R s m args below meth c (AQ s0 K lam below oV b r s) b h (F0 m 76 ls []) := by
  unfold f_X2_wearMats_j76 at hf
  have X := Z.1.1
  refine AW.lift (fun _ _ _ _ k => lv_goto (pc := 76) (tgt := 21) X.2.2.1 X.2.2.2.1 dX2_wearMats_76 rfl k) ?_
  exact hrc21  _ _ (hl.sub [0, 1, 2] rfl) hf
theorem w_X2_wearMats_b21 {r : Except Nat (Unit) × AH} (GA : GA l s0 a0 K lam) (Z : WZ l s0 a0 K p s m c cX2_wearMats yX2_wearMats.cls 4 b R 9 422 meth [] none yX2_wearMats) (v0 : Option Nat) (v1 : Int32) (v2 : Option Nat)  (rc2 : Int32 → AM (Unit)) (hrc2 : ∀ (v1 : Int32) (h : AH) (ls : Array Slot), LV ls 4 [(0, vR v0), (1, vI v1)] → rc2 v1 h = some r → AW s0 K lam p l e R s m args below meth c (AQ s0 K lam below oV b r s) b h (F0 m 2 ls [])) (rc21 : AM (Unit)) (hrc21 : ∀  (h : AH) (ls : Array Slot), LV ls 4 [(0, vR v0), (1, vI v1), (2, vR v2)] → rc21 h = some r → AW s0 K lam p l e R s m args below meth c (AQ s0 K lam below oV b r s) b h (F0 m 21 ls [])) {h : AH} {ls : Array Slot} (hl : LV ls 4 [(0, vR v0), (1, vI v1), (2, vR v2)]) (hf : f_X2_wearMats_b21 K rc2 rc21 v0 v1 v2 h = some r) : AW s0 K lam p l e R s m args below meth c (AQ s0 K lam below oV b r s) b h (F0 m 21 ls []) := by
  unfold f_X2_wearMats_b21 at hf
  have X := Z.1.1
  refine a_aload_n (pc := 21) X dX2_wearMats_21 rfl hl 2 rfl ?_
  obtain ⟨a22, rfl, ⟨hk, hf⟩ | ⟨-, hf⟩⟩ := dv_some hf
  rotate_left
  · exact fl_none hf
  refine a_callb (pc := 22) (rs := []) (avs := [vR (some a22)]) Z.1 (w_J14_hasNext GA (some a22)) (Or.inl rfl) q376 q96 (by decide) (by decide) dX2_wearMats_22 hl.1 (Nat.le_of_ble_eq_true rfl) hf (ct_F (x := ({ cls := "java/util/Iterator", name := "hasNext", desc := "()Z" } : MethodName)) hk ⟨by decide, by decide⟩ X (Or.inl rfl) q376 q368 (gf X.1 X.2.1 q370 rfl) (gf X.1 X.2.1 q369 rfl) (gf X.1 X.2.1 q375 rfl) (gf X.1 X.2.1 q373 rfl) (gf X.1 X.2.1 q371 rfl) q374 q372 ⟨by decide, by decide⟩ np_J14_hasNext rfl dX2_wearMats_22) (fun q h he hX => a_out (unc_of Z.2.1 rfl) Z.2.2.2.1 he hX) (fun x22 h hf => ?kk22)
  refine AW.eq (g2 := F0 m 27 ls [.int x22]) rfl ?_
  refine AW.lift2 (fun _ _ _ _ k1 k2 => lv_if_eq (pc := 27) (tgt := 79) X.2.2.1 X.2.2.2.1 dX2_wearMats_27 rfl k1 k2) (fun c => ?_) (fun c => ?_)
  · have hf := ite_t c hf
    exact w_X2_wearMats_j79 GA Z v0 v1  rc2 hrc2 (hl.sub [0, 1] rfl) hf
  · have hf := ite_f c hf
    refine a_aload_n (pc := 30) X dX2_wearMats_30 rfl hl 2 rfl ?_
    rcases dv_someS hf with ⟨hk, hf⟩ | ⟨-, hf⟩
    rotate_left
    · exact fl_none hf
    refine a_callb (pc := 31) (rs := []) (avs := [vR (some a22)]) Z.1 (w_J14_next GA (some a22)) (Or.inl rfl) q397 q96 (by decide) (by decide) dX2_wearMats_31 hl.1 (Nat.le_of_ble_eq_true rfl) hf (ct_F (x := ({ cls := "java/util/Iterator", name := "next", desc := "()Ljava/lang/Object;" } : MethodName)) hk ⟨by decide, by decide⟩ X (Or.inl rfl) q397 q390 (gf X.1 X.2.1 q392 rfl) (gf X.1 X.2.1 q391 rfl) (gf X.1 X.2.1 q396 rfl) (gf X.1 X.2.1 q394 rfl) (gf X.1 X.2.1 q371 rfl) q395 q393 ⟨by decide, by decide⟩ np_J14_next rfl dX2_wearMats_31) (fun q h he hX => a_out (unc_of Z.2.1 rfl) Z.2.2.2.1 he hX) (fun x31 h hf => ?kk31)
    refine AW.eq (g2 := F0 m 36 ls [va_rf x31]) rfl ?_
    refine a_checkcast (pc := 36) X (gw X.1 X.2.1 q899) (cs_JumpHall_Jumper GA) dX2_wearMats_36 hf (fun hf => ?_)
    refine a_astore_n (pc := 39) X dX2_wearMats_39 rfl hl (by decide) (lv' := [(3, vR x31), (0, vR v0), (1, vI v1), (2, vR (some a22))]) rfl (fun ls hl => ?_)
    refine a_aload_n (pc := 40) X dX2_wearMats_40 rfl hl 0 rfl ?_
    refine a_iload_n (pc := 41) X dX2_wearMats_41 rfl hl 2 rfl ?_
    obtain ⟨a42, rfl, ⟨hk, hf⟩ | ⟨-, hf⟩⟩ := dv_some hf
    rotate_left
    · exact fl_none hf
    refine a_callb (pc := 42) (rs := []) (avs := [vR (some a42), vI v1]) Z.1 (w_X8_isOn GA (some a42) v1) (Or.inl rfl) q1834 q107 (by decide) (by decide) dX2_wearMats_42 hl.1 (Nat.le_of_ble_eq_true rfl) hf (ct_V hk ⟨by decide, by decide⟩ X (Or.inl rfl) q1834 q1831 q1832 q1833 hy_X8_isOn np_X8_isOn rfl dX2_wearMats_42) (fun q h he hX => a_out (unc_of Z.2.1 rfl) Z.2.2.2.1 he hX) (fun x42 h hf => ?kk42)
    refine AW.eq (g2 := F0 m 45 ls [.int x42]) rfl ?_
    refine AW.lift2 (fun _ _ _ _ k1 k2 => lv_if_eq (pc := 45) (tgt := 76) X.2.2.1 X.2.2.2.1 dX2_wearMats_45 rfl k1 k2) (fun c => ?_) (fun c => ?_)
    · have hf := ite_t c hf
      exact w_X2_wearMats_j76 GA Z v0 v1 (some a22)  rc2 hrc2 rc21 hrc21 (hl.sub [1, 2, 3] rfl) hf
    · have hf := ite_f c hf
      refine a_aload_n (pc := 48) X dX2_wearMats_48 rfl hl 1 rfl ?_
      refine a_get (pc := 49) (φ := 300) pR_t X Z.1.2.1 (gw X.1 X.2.1 q228) (fun _ q => q) (by decide) dX2_wearMats_49 hf (fun x49 hf => ?_)
      refine a_iload_n (pc := 52) X dX2_wearMats_52 rfl hl 2 rfl ?_
      obtain ⟨a53, rfl, ⟨hk, hf⟩ | ⟨-, hf⟩⟩ := dv_some hf
      rotate_left
      · exact fl_none hf
      refine a_callb (pc := 53) (rs := []) (avs := [vR (some a53), vI v1]) Z.1 (w_J2_get GA (some a53) v1) (Or.inl rfl) q505 q78 (by decide) (by decide) dX2_wearMats_53 hl.1 (Nat.le_of_ble_eq_true rfl) hf (ct_V hk ⟨by decide, by decide⟩ X (Or.inl rfl) q505 q1828 q503 q3487 hy_J2_get np_J2_get rfl dX2_wearMats_53) (fun q h he hX => a_out (unc_of Z.2.1 rfl) Z.2.2.2.1 he hX) (fun x53 h hf => ?kk53)
      refine AW.eq (g2 := F0 m 56 ls [va_rf x53]) rfl ?_
      refine a_checkcast (pc := 56) X (gw X.1 X.2.1 q802) (cs_JumpHall_Mat GA) dX2_wearMats_56 hf (fun hf => ?_)
      refine a_aload_n (pc := 59) X dX2_wearMats_59 rfl hl 0 rfl ?_
      refine a_getN (pc := 60) (φ := 501) pI_t X Z.1.2.1 (gnF X.1 X.2.1 q914) (fun _ q => q) (by decide) dX2_wearMats_60 hf (fun x60 hf => ?_)
      obtain ⟨a63, rfl, ⟨hk, hf⟩ | ⟨-, hf⟩⟩ := dv_some hf
      rotate_left
      · exact fl_none hf
      refine a_callb (pc := 63) (rs := []) (avs := [vR (some a63), vI x60]) Z.1 (w_X7_wears GA (some a63) x60) (Or.inl rfl) q1979 q91 (by decide) (by decide) dX2_wearMats_63 hl.1 (Nat.le_of_ble_eq_true rfl) hf (ct_V hk ⟨by decide, by decide⟩ X (Or.inl rfl) q1979 q1976 q1977 q1978 hy_X7_wears np_X7_wears rfl dX2_wearMats_63) (fun q h he hX => a_out (unc_of Z.2.1 rfl) Z.2.2.2.1 he hX) (fun _ h hf => ?kk63)
      refine AW.eq (g2 := F0 m 66 ls []) rfl ?_
      refine a_aload_n (pc := 66) X dX2_wearMats_66 rfl hl 0 rfl ?_
      refine AW.lift (fun _ _ _ _ k => lv_dup (pc := 67) X.2.2.1 X.2.2.2.1 dX2_wearMats_67 (cat_rf _) k) ?_
      refine a_getN (pc := 68) (φ := 507) pI_t X Z.1.2.1 (gnF X.1 X.2.1 q932) (fun _ q => q) (by decide) dX2_wearMats_68 hf (fun x68 hf => ?_)
      refine AW.lift (fun _ _ _ _ k => lv_iconst (pc := 71) (v := (1 : Int32)) X.2.2.1 X.2.2.2.1 dX2_wearMats_71 rfl k) ?_
      refine AW.lift (fun _ _ _ _ k => lv_iadd (pc := 72) X.2.2.1 X.2.2.2.1 dX2_wearMats_72 k) ?_
      refine a_putN (pc := 73) (φ := 507) X Z.1.2.1 Z.1.2.2.1 (gnF X.1 X.2.1 q932) (fun _ q => q) (by decide) rfl rfl dX2_wearMats_73 hf (fun h hf => ?_)
      exact w_X2_wearMats_j76 GA Z v0 v1 (some a22)  rc2 hrc2 rc21 hrc21 (hl.sub [1, 2, 3] rfl) hf
theorem w_X2_wearMats_l21 {r : Except Nat (Unit) × AH} (GA : GA l s0 a0 K lam) (Z : WZ l s0 a0 K p s m c cX2_wearMats yX2_wearMats.cls 4 b R 9 422 meth [] none yX2_wearMats) (v0 : Option Nat) (v1 : Int32) (v2 : Option Nat) (rc2 : Int32 → AM (Unit)) (hrc2 : ∀ (v1 : Int32) (h : AH) (ls : Array Slot), LV ls 4 [(0, vR v0), (1, vI v1)] → rc2 v1 h = some r → AW s0 K lam p l e R s m args below meth c (AQ s0 K lam below oV b r s) b h (F0 m 2 ls [])) : ∀ (n : Nat)  (h : AH) (ls : Array Slot), LV ls 4 [(0, vR v0), (1, vI v1), (2, vR v2)] → f_X2_wearMats_l21 K rc2 v0 v1 v2 n  h = some r → AW s0 K lam p l e R s m args below meth c (AQ s0 K lam below oV b r s) b h (F0 m 21 ls []) := by
  intro n
  induction n with
  | zero => intro  h ls hl hf; exact fl_no (h := h) hf
  | succ n ih => intro  h ls hl hf; exact w_X2_wearMats_b21 GA Z v0 v1 v2 rc2 hrc2 (f_X2_wearMats_l21 K rc2 v0 v1 v2 n) ih hl hf
theorem w_X2_wearMats_b2 {r : Except Nat (Unit) × AH} (GA : GA l s0 a0 K lam) (Z : WZ l s0 a0 K p s m c cX2_wearMats yX2_wearMats.cls 4 b R 9 422 meth [] none yX2_wearMats) (v0 : Option Nat) (v1 : Int32)  (rc2 : Int32 → AM (Unit)) (hrc2 : ∀ (v1 : Int32) (h : AH) (ls : Array Slot), LV ls 4 [(0, vR v0), (1, vI v1)] → rc2 v1 h = some r → AW s0 K lam p l e R s m args below meth c (AQ s0 K lam below oV b r s) b h (F0 m 2 ls [])) {h : AH} {ls : Array Slot} (hl : LV ls 4 [(0, vR v0), (1, vI v1)]) (hf : f_X2_wearMats_b2 K rc2 v0 v1 h = some r) : AW s0 K lam p l e R s m args below meth c (AQ s0 K lam below oV b r s) b h (F0 m 2 ls []) := by
  unfold f_X2_wearMats_b2 at hf
  have X := Z.1.1
  refine a_iload_n (pc := 2) X dX2_wearMats_2 rfl hl 1 rfl ?_
  refine a_aload_n (pc := 3) X dX2_wearMats_3 rfl hl 0 rfl ?_
  refine a_get (pc := 4) (φ := 300) pR_t X Z.1.2.1 (gw X.1 X.2.1 q228) (fun _ q => q) (by decide) dX2_wearMats_4 hf (fun x4 hf => ?_)
  obtain ⟨a7, rfl, ⟨hk, hf⟩ | ⟨-, hf⟩⟩ := dv_some hf
  rotate_left
  · exact fl_none hf
  refine a_callb (pc := 7) (rs := [vI v1]) (avs := [vR (some a7)]) Z.1 (w_J2_size GA (some a7)) (Or.inl rfl) q1012 q78 (by decide) (by decide) dX2_wearMats_7 hl.1 (Nat.le_of_ble_eq_true rfl) hf (ct_V hk ⟨by decide, by decide⟩ X (Or.inl rfl) q1012 q1720 q1011 q3486 hy_J2_size np_J2_size rfl dX2_wearMats_7) (fun q h he hX => a_out (unc_of Z.2.1 rfl) Z.2.2.2.1 he hX) (fun x7 h hf => ?kk7)
  refine AW.eq (g2 := F0 m 10 ls [.int x7, .int v1]) rfl ?_
  refine AW.lift2 (fun _ _ _ _ k1 k2 => lv_icmp_ge (pc := 10) (tgt := 85) X.2.2.1 X.2.2.2.1 dX2_wearMats_10 rfl k1 k2) (fun c => ?_) (fun c => ?_)
  · have hf := ite_t c hf
    exact a_return X Z.2.2.1 Z.2.2.2.1 dX2_wearMats_85 hf
  · have hf := ite_f c hf
    refine a_aload_n (pc := 13) X dX2_wearMats_13 rfl hl 0 rfl ?_
    refine a_get (pc := 14) (φ := 301) pR_t X Z.1.2.1 (gw X.1 X.2.1 q230) (fun _ q => q) (by decide) dX2_wearMats_14 hf (fun x14 hf => ?_)
    obtain ⟨a17, rfl, ⟨hk, hf⟩ | ⟨-, hf⟩⟩ := dv_some hf
    rotate_left
    · exact fl_none hf
    refine a_callb (pc := 17) (rs := []) (avs := [vR (some a17)]) Z.1 (w_J2_iterator GA (some a17)) (Or.inl rfl) q347 q78 (by decide) (by decide) dX2_wearMats_17 hl.1 (Nat.le_of_ble_eq_true rfl) hf (ct_V hk ⟨by decide, by decide⟩ X (Or.inl rfl) q347 q344 q345 q346 hy_J2_iterator np_J2_iterator rfl dX2_wearMats_17) (fun q h he hX => a_out (unc_of Z.2.1 rfl) Z.2.2.2.1 he hX) (fun x17 h hf => ?kk17)
    refine AW.eq (g2 := F0 m 20 ls [va_rf x17]) rfl ?_
    refine a_astore_n (pc := 20) X dX2_wearMats_20 rfl hl (by decide) (lv' := [(2, vR x17), (0, vR v0), (1, vI v1)]) rfl (fun ls hl => ?_)
    exact w_X2_wearMats_l21 GA Z v0 v1 x17 rc2 hrc2 FU  _ _ (hl.sub [1, 2, 0] rfl) hf
theorem w_X2_wearMats_l2 {r : Except Nat (Unit) × AH} (GA : GA l s0 a0 K lam) (Z : WZ l s0 a0 K p s m c cX2_wearMats yX2_wearMats.cls 4 b R 9 422 meth [] none yX2_wearMats) (v0 : Option Nat)  : ∀ (n : Nat) (v1 : Int32) (h : AH) (ls : Array Slot), LV ls 4 [(0, vR v0), (1, vI v1)] → f_X2_wearMats_l2 K v0 n v1 h = some r → AW s0 K lam p l e R s m args below meth c (AQ s0 K lam below oV b r s) b h (F0 m 2 ls []) := by
  intro n
  induction n with
  | zero => intro v1 h ls hl hf; exact fl_no (h := h) hf
  | succ n ih => intro v1 h ls hl hf; exact w_X2_wearMats_b2 GA Z v0 v1 (f_X2_wearMats_l2 K v0 n) ih hl hf
theorem np_X2_wearMats : npar yX2_wearMats.desc 0 := by unfold npar; decide +kernel
theorem hy_X2_wearMats : yX2_wearMats.cls ≠ "java/lang/invoke/MethodHandle" ∧ yX2_wearMats.cls ≠ "java/lang/invoke/VarHandle" := by decide +kernel
theorem w_X2_wearMats (GA : GA l s0 a0 K lam) (v0 : Option Nat) : AMet l s0 K lam yX2_wearMats (Cond.code yX2_wearMats cX2_wearMats (4 : Nat) (Option.none : Option ClassFile.FieldType)) 9 422 [vR v0] oV (f_X2_wearMats K v0) := by
  refine AMet.of GA.1 (plainFor_of_name (by decide +kernel)) (Nat.le_of_ble_eq_true rfl) ?_
  intro b r hf p e s m args below meth c X hr hlk hnm hnd ht ls hl
  have Z : WZ l s0 a0 K p s m c cX2_wearMats yX2_wearMats.cls 4 b { frames := 9, cells := K 0 - aX b, slots := K 1 - aW b, locals := 422 } 9 422 meth [] none yX2_wearMats := ⟨⟨X, GA.2.1, GA.2.2.1, rfl, rfl, Nat.le_refl _, Nat.le_refl _⟩, tab_nil ht, hr, hlk, hnm, hnd⟩
  unfold f_X2_wearMats at hf
  clear hr hlk hnm hnd ht
  refine AW.lift (fun _ _ _ _ k => lv_iconst (pc := 0) (v := (0 : Int32)) X.2.2.1 X.2.2.2.1 dX2_wearMats_0 rfl k) ?_
  refine a_istore_n (pc := 1) X dX2_wearMats_1 rfl hl (by decide) (lv' := [(1, vI (0 : Int32)), (0, vR v0)]) rfl (fun ls hl => ?_)
  exact w_X2_wearMats_l2 GA Z v0  FU (0 : Int32) _ _ (hl.sub [1, 0] rfl) hf
theorem w_X2_clears_j50 {r : Except Nat (Int32) × AH} (GA : GA l s0 a0 K lam) (Z : WZ l s0 a0 K p s m c cX2_clears yX2_clears.cls 5 b R 9 422 meth [] (some (.int)) yX2_clears) (v0 : Option Nat) (v1 : Int32) (v2 : Int32)   {h : AH} {ls : Array Slot} (hl : LV ls 5 [(0, vR v0), (1, vI v1), (2, vI v2)]) (hf : f_X2_clears_j50 K v0 v1 v2 h = some r) : AW s0 K lam p l e R s m args below meth c (AQ s0 K lam below oI b r s) b h (F0 m 50 ls []) := by
  unfold f_X2_clears_j50 at hf
  have X := Z.1.1
  refine a_aload_n (pc := 50) X dX2_clears_50 rfl hl 0 rfl ?_
  refine a_get (pc := 51) (φ := 300) pR_t X Z.1.2.1 (gw X.1 X.2.1 q228) (fun _ q => q) (by decide) dX2_clears_51 hf (fun x51 hf => ?_)
  refine a_iload_n (pc := 54) X dX2_clears_54 rfl hl 1 rfl ?_
  obtain ⟨a55, rfl, ⟨hk, hf⟩ | ⟨-, hf⟩⟩ := dv_some hf
  rotate_left
  · exact fl_none hf
  refine a_callb (pc := 55) (rs := []) (avs := [vR (some a55), vI v1]) Z.1 (w_J2_get GA (some a55) v1) (Or.inl rfl) q505 q78 (by decide) (by decide) dX2_clears_55 hl.1 (Nat.le_of_ble_eq_true rfl) hf (ct_V hk ⟨by decide, by decide⟩ X (Or.inl rfl) q505 q1828 q503 q3487 hy_J2_get np_J2_get rfl dX2_clears_55) (fun q h he hX => a_out (unc_of Z.2.1 rfl) Z.2.2.2.1 he hX) (fun x55 h hf => ?kk55)
  refine AW.eq (g2 := F0 m 58 ls [va_rf x55]) rfl ?_
  refine a_checkcast (pc := 58) X (gw X.1 X.2.1 q802) (cs_JumpHall_Mat GA) dX2_clears_58 hf (fun hf => ?_)
  refine AW.lift (fun _ _ _ _ k => lv_iconst (pc := 61) (v := (1 : Int32)) X.2.2.1 X.2.2.2.1 dX2_clears_61 rfl k) ?_
  refine a_putN (pc := 62) (φ := 401) X Z.1.2.1 Z.1.2.2.1 (gnF X.1 X.2.1 q817) (fun _ q => q) (by decide) rfl rfl dX2_clears_62 hf (fun h hf => ?_)
  refine a_aload_n (pc := 65) X dX2_clears_65 rfl hl 0 rfl ?_
  refine AW.lift (fun _ _ _ _ k => lv_dup (pc := 66) X.2.2.1 X.2.2.2.1 dX2_clears_66 (cat_rf _) k) ?_
  refine a_get (pc := 67) (φ := 308) pI_t X Z.1.2.1 (gw X.1 X.2.1 q244) (fun _ q => q) (by decide) dX2_clears_67 hf (fun x67 hf => ?_)
  refine a_iload_n (pc := 70) X dX2_clears_70 rfl hl 2 rfl ?_
  refine AW.lift (fun _ _ _ _ k => lv_iadd (pc := 71) X.2.2.1 X.2.2.2.1 dX2_clears_71 k) ?_
  refine a_put (pc := 72) (φ := 308) X Z.1.2.1 Z.1.2.2.1 (gw X.1 X.2.1 q244) (fun _ q => q) (by decide) rfl rfl dX2_clears_72 hf (fun h hf => ?_)
  refine a_iload_n (pc := 75) X dX2_clears_75 rfl hl 2 rfl ?_
  exact a_ireturn X Z.2.2.1 Z.2.2.2.1 dX2_clears_76 hf
theorem w_X2_clears_j47 {r : Except Nat (Int32) × AH} (GA : GA l s0 a0 K lam) (Z : WZ l s0 a0 K p s m c cX2_clears yX2_clears.cls 5 b R 9 422 meth [] (some (.int)) yX2_clears) (v0 : Option Nat) (v1 : Int32) (v2 : Int32) (v3 : Option Nat)  (rc10 : Int32 → AM (Int32)) (hrc10 : ∀ (v2 : Int32) (h : AH) (ls : Array Slot), LV ls 5 [(0, vR v0), (1, vI v1), (2, vI v2), (3, vR v3)] → rc10 v2 h = some r → AW s0 K lam p l e R s m args below meth c (AQ s0 K lam below oI b r s) b h (F0 m 10 ls [])) {h : AH} {ls : Array Slot} (hl : LV ls 5 [(0, vR v0), (1, vI v1), (2, vI v2), (3, vR v3)]) (hf : f_X2_clears_j47 K rc10 v0 v1 v2 v3 h = some r) : AW s0 K lam p l e R s m args below meth c (AQ s0 K lam below oI b r s) b h (F0 m 47 ls []) := by
  unfold f_X2_clears_j47 at hf
  have X := Z.1.1
  refine AW.lift (fun _ _ _ _ k => lv_goto (pc := 47) (tgt := 10) X.2.2.1 X.2.2.2.1 dX2_clears_47 rfl k) ?_
  exact hrc10 v2 _ _ (hl.sub [0, 1, 2, 3] rfl) hf
theorem w_X2_clears_b10 {r : Except Nat (Int32) × AH} (GA : GA l s0 a0 K lam) (Z : WZ l s0 a0 K p s m c cX2_clears yX2_clears.cls 5 b R 9 422 meth [] (some (.int)) yX2_clears) (v0 : Option Nat) (v1 : Int32) (v2 : Int32) (v3 : Option Nat)  (rc10 : Int32 → AM (Int32)) (hrc10 : ∀ (v2 : Int32) (h : AH) (ls : Array Slot), LV ls 5 [(0, vR v0), (1, vI v1), (2, vI v2), (3, vR v3)] → rc10 v2 h = some r → AW s0 K lam p l e R s m args below meth c (AQ s0 K lam below oI b r s) b h (F0 m 10 ls [])) {h : AH} {ls : Array Slot} (hl : LV ls 5 [(0, vR v0), (1, vI v1), (2, vI v2), (3, vR v3)]) (hf : f_X2_clears_b10 K rc10 v0 v1 v2 v3 h = some r) : AW s0 K lam p l e R s m args below meth c (AQ s0 K lam below oI b r s) b h (F0 m 10 ls []) := by
  unfold f_X2_clears_b10 at hf
  have X := Z.1.1
  refine a_aload_n (pc := 10) X dX2_clears_10 rfl hl 3 rfl ?_
  obtain ⟨a11, rfl, ⟨hk, hf⟩ | ⟨-, hf⟩⟩ := dv_some hf
  rotate_left
  · exact fl_none hf
  refine a_callb (pc := 11) (rs := []) (avs := [vR (some a11)]) Z.1 (w_J14_hasNext GA (some a11)) (Or.inl rfl) q376 q96 (by decide) (by decide) dX2_clears_11 hl.1 (Nat.le_of_ble_eq_true rfl) hf (ct_F (x := ({ cls := "java/util/Iterator", name := "hasNext", desc := "()Z" } : MethodName)) hk ⟨by decide, by decide⟩ X (Or.inl rfl) q376 q368 (gf X.1 X.2.1 q370 rfl) (gf X.1 X.2.1 q369 rfl) (gf X.1 X.2.1 q375 rfl) (gf X.1 X.2.1 q373 rfl) (gf X.1 X.2.1 q371 rfl) q374 q372 ⟨by decide, by decide⟩ np_J14_hasNext rfl dX2_clears_11) (fun q h he hX => a_out (unc_of Z.2.1 rfl) Z.2.2.2.1 he hX) (fun x11 h hf => ?kk11)
  refine AW.eq (g2 := F0 m 16 ls [.int x11]) rfl ?_
  refine AW.lift2 (fun _ _ _ _ k1 k2 => lv_if_eq (pc := 16) (tgt := 50) X.2.2.1 X.2.2.2.1 dX2_clears_16 rfl k1 k2) (fun c => ?_) (fun c => ?_)
  · have hf := ite_t c hf
    exact w_X2_clears_j50 GA Z v0 v1 v2   (hl.sub [0, 1, 2] rfl) hf
  · have hf := ite_f c hf
    refine a_aload_n (pc := 19) X dX2_clears_19 rfl hl 3 rfl ?_
    rcases dv_someS hf with ⟨hk, hf⟩ | ⟨-, hf⟩
    rotate_left
    · exact fl_none hf
    refine a_callb (pc := 20) (rs := []) (avs := [vR (some a11)]) Z.1 (w_J14_next GA (some a11)) (Or.inl rfl) q397 q96 (by decide) (by decide) dX2_clears_20 hl.1 (Nat.le_of_ble_eq_true rfl) hf (ct_F (x := ({ cls := "java/util/Iterator", name := "next", desc := "()Ljava/lang/Object;" } : MethodName)) hk ⟨by decide, by decide⟩ X (Or.inl rfl) q397 q390 (gf X.1 X.2.1 q392 rfl) (gf X.1 X.2.1 q391 rfl) (gf X.1 X.2.1 q396 rfl) (gf X.1 X.2.1 q394 rfl) (gf X.1 X.2.1 q371 rfl) q395 q393 ⟨by decide, by decide⟩ np_J14_next rfl dX2_clears_20) (fun q h he hX => a_out (unc_of Z.2.1 rfl) Z.2.2.2.1 he hX) (fun x20 h hf => ?kk20)
    refine AW.eq (g2 := F0 m 25 ls [va_rf x20]) rfl ?_
    refine a_checkcast (pc := 25) X (gw X.1 X.2.1 q899) (cs_JumpHall_Jumper GA) dX2_clears_25 hf (fun hf => ?_)
    refine a_astore (pc := 28) X dX2_clears_28 hl (by decide) (lv' := [(4, vR x20), (0, vR v0), (1, vI v1), (2, vI v2), (3, vR (some a11))]) rfl (fun ls hl => ?_)
    refine a_aload (pc := 30) X dX2_clears_30 hl 0 rfl ?_
    refine a_iload_n (pc := 32) X dX2_clears_32 rfl hl 2 rfl ?_
    obtain ⟨a33, rfl, ⟨hk, hf⟩ | ⟨-, hf⟩⟩ := dv_some hf
    rotate_left
    · exact fl_none hf
    refine a_callb (pc := 33) (rs := []) (avs := [vR (some a33), vI v1]) Z.1 (w_X8_isOn GA (some a33) v1) (Or.inl rfl) q1834 q107 (by decide) (by decide) dX2_clears_33 hl.1 (Nat.le_of_ble_eq_true rfl) hf (ct_V hk ⟨by decide, by decide⟩ X (Or.inl rfl) q1834 q1831 q1832 q1833 hy_X8_isOn np_X8_isOn rfl dX2_clears_33) (fun q h he hX => a_out (unc_of Z.2.1 rfl) Z.2.2.2.1 he hX) (fun x33 h hf => ?kk33)
    refine AW.eq (g2 := F0 m 36 ls [.int x33]) rfl ?_
    refine AW.lift2 (fun _ _ _ _ k1 k2 => lv_if_eq (pc := 36) (tgt := 47) X.2.2.1 X.2.2.2.1 dX2_clears_36 rfl k1 k2) (fun c => ?_) (fun c => ?_)
    · have hf := ite_t c hf
      exact w_X2_clears_j47 GA Z v0 v1 v2 (some a11)  rc10 hrc10 (hl.sub [1, 2, 3, 4] rfl) hf
    · have hf := ite_f c hf
      refine a_aload (pc := 39) X dX2_clears_39 hl 0 rfl ?_
      rcases dv_someS hf with ⟨hk, hf⟩ | ⟨-, hf⟩
      rotate_left
      · exact fl_none hf
      refine a_callb (pc := 41) (rs := []) (avs := [vR (some a33)]) Z.1 (w_X8_waits GA (some a33)) (Or.inl rfl) q2196 q107 (by decide) (by decide) dX2_clears_41 hl.1 (Nat.le_of_ble_eq_true rfl) hf (ct_V hk ⟨by decide, by decide⟩ X (Or.inl rfl) q2196 q2193 q2194 q2195 hy_X8_waits np_X8_waits rfl dX2_clears_41) (fun q h he hX => a_out (unc_of Z.2.1 rfl) Z.2.2.2.1 he hX) (fun _ h hf => ?kk41)
      refine AW.eq (g2 := F0 m 44 ls []) rfl ?_
      refine a_iinc (pc := 44) (v := (v2 + (1 : Int32))) X dX2_clears_44 hl (k := 3) rfl rfl (by decide) (lv' := [(2, vI (v2 + (1 : Int32))), (4, vR (some a33)), (0, vR v0), (1, vI v1), (3, vR (some a11))]) rfl (fun ls hl => ?_)
      exact w_X2_clears_j47 GA Z v0 v1 (v2 + (1 : Int32)) (some a11)  rc10 hrc10 (hl.sub [2, 3, 0, 4] rfl) hf
theorem w_X2_clears_l10 {r : Except Nat (Int32) × AH} (GA : GA l s0 a0 K lam) (Z : WZ l s0 a0 K p s m c cX2_clears yX2_clears.cls 5 b R 9 422 meth [] (some (.int)) yX2_clears) (v0 : Option Nat) (v1 : Int32) (v3 : Option Nat)  : ∀ (n : Nat) (v2 : Int32) (h : AH) (ls : Array Slot), LV ls 5 [(0, vR v0), (1, vI v1), (2, vI v2), (3, vR v3)] → f_X2_clears_l10 K v0 v1 v3 n v2 h = some r → AW s0 K lam p l e R s m args below meth c (AQ s0 K lam below oI b r s) b h (F0 m 10 ls []) := by
  intro n
  induction n with
  | zero => intro v2 h ls hl hf; exact fl_no (h := h) hf
  | succ n ih => intro v2 h ls hl hf; exact w_X2_clears_b10 GA Z v0 v1 v2 v3 (f_X2_clears_l10 K v0 v1 v3 n) ih hl hf
theorem np_X2_clears : npar yX2_clears.desc 1 := by unfold npar; decide +kernel
theorem hy_X2_clears : yX2_clears.cls ≠ "java/lang/invoke/MethodHandle" ∧ yX2_clears.cls ≠ "java/lang/invoke/VarHandle" := by decide +kernel
theorem w_X2_clears (GA : GA l s0 a0 K lam) (v0 : Option Nat) (v1 : Int32) : AMet l s0 K lam yX2_clears (Cond.code yX2_clears cX2_clears (5 : Nat) (Option.some ClassFile.FieldType.int)) 9 422 [vR v0, vI v1] oI (f_X2_clears K v0 v1) := by
  refine AMet.of GA.1 (plainFor_of_name (by decide +kernel)) (Nat.le_of_ble_eq_true rfl) ?_
  intro b r hf p e s m args below meth c X hr hlk hnm hnd ht ls hl
  have Z : WZ l s0 a0 K p s m c cX2_clears yX2_clears.cls 5 b { frames := 9, cells := K 0 - aX b, slots := K 1 - aW b, locals := 422 } 9 422 meth [] (some (.int)) yX2_clears := ⟨⟨X, GA.2.1, GA.2.2.1, rfl, rfl, Nat.le_refl _, Nat.le_refl _⟩, tab_nil ht, hr, hlk, hnm, hnd⟩
  unfold f_X2_clears at hf
  clear hr hlk hnm hnd ht
  refine AW.lift (fun _ _ _ _ k => lv_iconst (pc := 0) (v := (0 : Int32)) X.2.2.1 X.2.2.2.1 dX2_clears_0 rfl k) ?_
  refine a_istore_n (pc := 1) X dX2_clears_1 rfl hl (by decide) (lv' := [(2, vI (0 : Int32)), (0, vR v0), (1, vI v1)]) rfl (fun ls hl => ?_)
  refine a_aload_n (pc := 2) X dX2_clears_2 rfl hl 1 rfl ?_
  refine a_get (pc := 3) (φ := 301) pR_t X Z.1.2.1 (gw X.1 X.2.1 q230) (fun _ q => q) (by decide) dX2_clears_3 hf (fun x3 hf => ?_)
  obtain ⟨a6, rfl, ⟨hk, hf⟩ | ⟨-, hf⟩⟩ := dv_some hf
  rotate_left
  · exact fl_none hf
  refine a_callb (pc := 6) (rs := []) (avs := [vR (some a6)]) Z.1 (w_J2_iterator GA (some a6)) (Or.inl rfl) q347 q78 (by decide) (by decide) dX2_clears_6 hl.1 (Nat.le_of_ble_eq_true rfl) hf (ct_V hk ⟨by decide, by decide⟩ X (Or.inl rfl) q347 q344 q345 q346 hy_J2_iterator np_J2_iterator rfl dX2_clears_6) (fun q h he hX => a_out (unc_of Z.2.1 rfl) Z.2.2.2.1 he hX) (fun x6 h hf => ?kk6)
  refine AW.eq (g2 := F0 m 9 ls [va_rf x6]) rfl ?_
  refine a_astore_n (pc := 9) X dX2_clears_9 rfl hl (by decide) (lv' := [(3, vR x6), (2, vI (0 : Int32)), (0, vR v0), (1, vI v1)]) rfl (fun ls hl => ?_)
  exact w_X2_clears_l10 GA Z v0 v1 x6  FU (0 : Int32) _ _ (hl.sub [2, 3, 1, 0] rfl) hf
theorem w_X2_comes_b19 {r : Except Nat (Unit) × AH} (GA : GA l s0 a0 K lam) (Z : WZ l s0 a0 K p s m c cX2_comes yX2_comes.cls 5 b R 10 449 meth [(27, 52, 55, 181)] none yX2_comes) (v0 : Option Nat) (v1 : Int32) (v2 : Option Nat) (v3 : Int32)  (rc19 : Int32 → AM (Unit)) (hrc19 : ∀ (v3 : Int32) (h : AH) (ls : Array Slot), LV ls 5 [(0, vR v0), (1, vI v1), (2, vR v2), (3, vI v3)] → rc19 v3 h = some r → AW s0 K lam p l e R s m args below meth c (AQ s0 K lam below oV b r s) b h (F0 m 19 ls [])) {h : AH} {ls : Array Slot} (hl : LV ls 5 [(0, vR v0), (1, vI v1), (2, vR v2), (3, vI v3)]) (hf : f_X2_comes_b19 K rc19 v0 v1 v2 v3 h = some r) : AW s0 K lam p l e R s m args below meth c (AQ s0 K lam below oV b r s) b h (F0 m 19 ls []) := by
  unfold f_X2_comes_b19 at hf
  have X := Z.1.1
  refine a_iload_n (pc := 19) X dX2_comes_19 rfl hl 3 rfl ?_
  refine a_aload_n (pc := 20) X dX2_comes_20 rfl hl 2 rfl ?_
  refine a_getN (pc := 21) (φ := 601) pI_t X Z.1.2.1 (gnF X.1 X.2.1 q965) (fun _ q => q) (by decide) dX2_comes_21 hf (fun x21 hf => ?_)
  refine AW.lift2 (fun _ _ _ _ k1 k2 => lv_icmp_ge (pc := 24) (tgt := 64) X.2.2.1 X.2.2.2.1 dX2_comes_24 rfl k1 k2) (fun c => ?_) (fun c => ?_)
  · have hf := ite_t c hf
    exact a_return X Z.2.2.1 Z.2.2.2.1 dX2_comes_64 hf
  · have hf := ite_f c hf
    refine a_aload_n (pc := 27) X dX2_comes_27 rfl hl 0 rfl ?_
    refine a_aload_n (pc := 28) X dX2_comes_28 rfl hl 2 rfl ?_
    refine a_getN (pc := 29) (φ := 602) pI_t X Z.1.2.1 (gnF X.1 X.2.1 q968) (fun _ q => q) (by decide) dX2_comes_29 hf (fun x29 hf => ?_)
    refine a_aload_n (pc := 32) X dX2_comes_32 rfl hl 2 rfl ?_
    refine a_getN (pc := 33) (φ := 603) pI_t X Z.1.2.1 (gnF X.1 X.2.1 q970) (fun _ q => q) (by decide) dX2_comes_33 hf (fun x33 hf => ?_)
    refine a_iload_n (pc := 36) X dX2_comes_36 rfl hl 1 rfl ?_
    obtain ⟨a37, rfl, ⟨hk, hf⟩ | ⟨-, hf⟩⟩ := dv_tsome hf
    rotate_left
    · exact fl_tnone hf
    refine a_callt (pc := 37) (rs := []) (avs := [vR (some a37), vI x29, vI x33, vI v1]) Z.1 (w_X2_addJumper GA (some a37) x29 x33 v1) (Or.inl rfl) q2005 q75 (by decide) (by decide) dX2_comes_37 hl.1 (Nat.le_of_ble_eq_true rfl) hf (ct_V hk ⟨by decide, by decide⟩ X (Or.inl rfl) q2005 q2477 q2003 q2004 hy_X2_addJumper np_X2_addJumper rfl dX2_comes_37) (fun q h hf hX => ?hx37) (fun x37 h hf => ?kk37)
    case hx37 =>
      rcases ctc_some hf with ⟨hy, hf⟩ | ⟨hn0, hf⟩
      · refine a_catchH (st := 27) (en := 52) (hp := 55) (ct := 181) (pre := []) (suf := []) X hX Z.2.1 rfl (fun z hz => nomatch hz) (by decide) (Or.inr ⟨by decide, _, gw X.1 X.2.1 q2042, (cs_X12 GA) _ hy⟩) (AW.eq (g2 := F0 m 55 ls [va_rf (some q)]) rfl ?_)
        refine a_astore (pc := 55) X dX2_comes_55 hl (by decide) (lv' := [(4, vR (some q)), (0, vR (some a37)), (1, vI v1), (2, vR v2), (3, vI v3)]) rfl (fun ls hl => ?_)
        exact a_return X Z.2.2.1 Z.2.2.2.1 dX2_comes_57 hf
      · skip
        exact a_outH X Z.2.1 (by intro z hz; simp only [List.mem_cons, List.not_mem_nil, or_false] at hz; rcases hz with rfl <;> first | exact Or.inl (by decide) | exact Or.inr ⟨by decide, _, gw X.1 X.2.1 q2042, (nc_13_14_16_17_18_19_20_21_JumpHall_Refusal GA _ (by simpa using hn0)).2.2⟩) Z.2.2.2.1 (th_eq hf) hX
    refine AW.eq (g2 := F0 m 40 ls [.int x37]) rfl ?_
    refine a_istore (pc := 40) X dX2_comes_40 hl (by decide) (lv' := [(4, vI x37), (0, vR (some a37)), (1, vI v1), (2, vR v2), (3, vI v3)]) rfl (fun ls hl => ?_)
    refine a_aload_n (pc := 42) X dX2_comes_42 rfl hl 3 rfl ?_
    refine AW.lift (fun _ _ _ _ k => lv_dup (pc := 43) X.2.2.1 X.2.2.2.1 dX2_comes_43 (cat_rf _) k) ?_
    refine a_getN (pc := 44) (φ := 605) pI_t X Z.1.2.1 (gnF X.1 X.2.1 q975) (fun _ q => q) (by decide) dX2_comes_44 hf (fun x44 hf => ?_)
    refine AW.lift (fun _ _ _ _ k => lv_iconst (pc := 47) (v := (1 : Int32)) X.2.2.1 X.2.2.2.1 dX2_comes_47 rfl k) ?_
    refine AW.lift (fun _ _ _ _ k => lv_iadd (pc := 48) X.2.2.1 X.2.2.2.1 dX2_comes_48 k) ?_
    refine a_putN (pc := 49) (φ := 605) X Z.1.2.1 Z.1.2.2.1 (gnF X.1 X.2.1 q975) (fun _ q => q) (by decide) rfl rfl dX2_comes_49 hf (fun h hf => ?_)
    refine AW.lift (fun _ _ _ _ k => lv_goto (pc := 52) (tgt := 58) X.2.2.1 X.2.2.2.1 dX2_comes_52 rfl k) ?_
    refine a_iinc (pc := 58) (v := (v3 + (1 : Int32))) X dX2_comes_58 hl (k := 4) rfl rfl (by decide) (lv' := [(3, vI (v3 + (1 : Int32))), (4, vI x37), (0, vR (some a37)), (1, vI v1), (2, vR v2)]) rfl (fun ls hl => ?_)
    refine AW.lift (fun _ _ _ _ k => lv_goto (pc := 61) (tgt := 19) X.2.2.1 X.2.2.2.1 dX2_comes_61 rfl k) ?_
    exact hrc19 (v3 + (1 : Int32)) _ _ (hl.sub [2, 3, 4, 0] rfl) hf
theorem w_X2_comes_l19 {r : Except Nat (Unit) × AH} (GA : GA l s0 a0 K lam) (Z : WZ l s0 a0 K p s m c cX2_comes yX2_comes.cls 5 b R 10 449 meth [(27, 52, 55, 181)] none yX2_comes) (v0 : Option Nat) (v1 : Int32) (v2 : Option Nat)  : ∀ (n : Nat) (v3 : Int32) (h : AH) (ls : Array Slot), LV ls 5 [(0, vR v0), (1, vI v1), (2, vR v2), (3, vI v3)] → f_X2_comes_l19 K v0 v1 v2 n v3 h = some r → AW s0 K lam p l e R s m args below meth c (AQ s0 K lam below oV b r s) b h (F0 m 19 ls []) := by
  intro n
  induction n with
  | zero => intro v3 h ls hl hf; exact fl_no (h := h) hf
  | succ n ih => intro v3 h ls hl hf; exact w_X2_comes_b19 GA Z v0 v1 v2 v3 (f_X2_comes_l19 K v0 v1 v2 n) ih hl hf
theorem np_X2_comes : npar yX2_comes.desc 1 := by unfold npar; decide +kernel
theorem hy_X2_comes : yX2_comes.cls ≠ "java/lang/invoke/MethodHandle" ∧ yX2_comes.cls ≠ "java/lang/invoke/VarHandle" := by decide +kernel
theorem w_X2_comes (GA : GA l s0 a0 K lam) (v0 : Option Nat) (v1 : Int32) : AMet l s0 K lam yX2_comes (Cond.codeWith yX2_comes cX2_comes (5 : Nat) (Option.none : Option ClassFile.FieldType) [((27 : Nat), (52 : Nat), (55 : Nat), (181 : Nat))]) 10 449 [vR v0, vI v1] oV (f_X2_comes K v0 v1) := by
  refine AMet.ofW GA.1 (plainFor_of_name (by decide +kernel)) (Nat.le_of_ble_eq_true rfl) ?_
  intro b r hf p e s m args below meth c X hr hlk hnm hnd ht ls hl
  have Z : WZ l s0 a0 K p s m c cX2_comes yX2_comes.cls 5 b { frames := 10, cells := K 0 - aX b, slots := K 1 - aW b, locals := 449 } 10 449 meth [(27, 52, 55, 181)] none yX2_comes := ⟨⟨X, GA.2.1, GA.2.2.1, rfl, rfl, Nat.le_refl _, Nat.le_refl _⟩, ht, hr, hlk, hnm, hnd⟩
  unfold f_X2_comes at hf
  clear hr hlk hnm hnd ht
  refine a_aload_n (pc := 0) X dX2_comes_0 rfl hl 0 rfl ?_
  refine a_get (pc := 1) (φ := 302) pR_t X Z.1.2.1 (gw X.1 X.2.1 q232) (fun _ q => q) (by decide) dX2_comes_1 hf (fun x1 hf => ?_)
  refine a_iload_n (pc := 4) X dX2_comes_4 rfl hl 1 rfl ?_
  obtain ⟨a5, rfl, ⟨hk, hf⟩ | ⟨-, hf⟩⟩ := dv_some hf
  rotate_left
  · exact fl_none hf
  refine a_callb (pc := 5) (rs := []) (avs := [vR (some a5), vI v1]) Z.1 (w_J2_get GA (some a5) v1) (Or.inl rfl) q505 q78 (by decide) (by decide) dX2_comes_5 hl.1 (Nat.le_of_ble_eq_true rfl) hf (ct_V hk ⟨by decide, by decide⟩ X (Or.inl rfl) q505 q1828 q503 q3487 hy_J2_get np_J2_get rfl dX2_comes_5) (fun q h he hX => a_out (unc_of Z.2.1 rfl) Z.2.2.2.1 he hX) (fun x5 h hf => ?kk5)
  refine AW.eq (g2 := F0 m 8 ls [va_rf x5]) rfl ?_
  refine a_checkcast (pc := 8) X (gw X.1 X.2.1 q950) (cs_JumpHall_Party GA) dX2_comes_8 hf (fun hf => ?_)
  refine a_astore_n (pc := 11) X dX2_comes_11 rfl hl (by decide) (lv' := [(2, vR x5), (0, vR v0), (1, vI v1)]) rfl (fun ls hl => ?_)
  refine a_aload_n (pc := 12) X dX2_comes_12 rfl hl 0 rfl ?_
  refine AW.lift (fun _ _ _ _ k => lv_iconst (pc := 13) (v := (1 : Int32)) X.2.2.1 X.2.2.2.1 dX2_comes_13 rfl k) ?_
  refine a_putN (pc := 14) (φ := 604) X Z.1.2.1 Z.1.2.2.1 (gnF X.1 X.2.1 q972) (fun _ q => q) (by decide) rfl rfl dX2_comes_14 hf (fun h hf => ?_)
  refine AW.lift (fun _ _ _ _ k => lv_iconst (pc := 17) (v := (0 : Int32)) X.2.2.1 X.2.2.2.1 dX2_comes_17 rfl k) ?_
  refine a_istore_n (pc := 18) X dX2_comes_18 rfl hl (by decide) (lv' := [(3, vI (0 : Int32)), (2, vR x5), (0, vR v0), (1, vI v1)]) rfl (fun ls hl => ?_)
  exact w_X2_comes_l19 GA Z v0 v1 x5  FU (0 : Int32) _ _ (hl.sub [2, 3, 1, 0] rfl) hf
theorem w_X2_minuteGoesBy_j125 {r : Except Nat (Int32) × AH} (GA : GA l s0 a0 K lam) (Z : WZ l s0 a0 K p s m c cX2_minuteGoesBy yX2_minuteGoesBy.cls 3 b R 11 3109 meth [] (some (.int)) yX2_minuteGoesBy) (v0 : Option Nat) (v1 : Int32) (v2 : Int32)  (rc71 : Int32 → AM (Int32)) (hrc71 : ∀ (v2 : Int32) (h : AH) (ls : Array Slot), LV ls 3 [(0, vR v0), (1, vI v1), (2, vI v2)] → rc71 v2 h = some r → AW s0 K lam p l e R s m args below meth c (AQ s0 K lam below oI b r s) b h (F0 m 71 ls [])) {h : AH} {ls : Array Slot} (hl : LV ls 3 [(0, vR v0), (1, vI v1), (2, vI v2)]) (hf : f_X2_minuteGoesBy_j125 K rc71 v0 v1 v2 h = some r) : AW s0 K lam p l e R s m args below meth c (AQ s0 K lam below oI b r s) b h (F0 m 125 ls []) := by
  unfold f_X2_minuteGoesBy_j125 at hf
  have X := Z.1.1
  refine a_iinc (pc := 125) (v := (v2 + (1 : Int32))) X dX2_minuteGoesBy_125 hl (k := 2) rfl rfl (by decide) (lv' := [(2, vI (v2 + (1 : Int32))), (0, vR v0), (1, vI v1)]) rfl (fun ls hl => ?_)
  refine AW.lift (fun _ _ _ _ k => lv_goto (pc := 128) (tgt := 71) X.2.2.1 X.2.2.2.1 dX2_minuteGoesBy_128 rfl k) ?_
  exact hrc71 (v2 + (1 : Int32)) _ _ (hl.sub [1, 2, 0] rfl) hf
theorem w_X2_minuteGoesBy_b71 {r : Except Nat (Int32) × AH} (GA : GA l s0 a0 K lam) (Z : WZ l s0 a0 K p s m c cX2_minuteGoesBy yX2_minuteGoesBy.cls 3 b R 11 3109 meth [] (some (.int)) yX2_minuteGoesBy) (v0 : Option Nat) (v1 : Int32) (v2 : Int32)  (rc71 : Int32 → AM (Int32)) (hrc71 : ∀ (v2 : Int32) (h : AH) (ls : Array Slot), LV ls 3 [(0, vR v0), (1, vI v1), (2, vI v2)] → rc71 v2 h = some r → AW s0 K lam p l e R s m args below meth c (AQ s0 K lam below oI b r s) b h (F0 m 71 ls [])) {h : AH} {ls : Array Slot} (hl : LV ls 3 [(0, vR v0), (1, vI v1), (2, vI v2)]) (hf : f_X2_minuteGoesBy_b71 K rc71 v0 v1 v2 h = some r) : AW s0 K lam p l e R s m args below meth c (AQ s0 K lam below oI b r s) b h (F0 m 71 ls []) := by
  unfold f_X2_minuteGoesBy_b71 at hf
  have X := Z.1.1
  refine a_iload_n (pc := 71) X dX2_minuteGoesBy_71 rfl hl 2 rfl ?_
  refine a_aload_n (pc := 72) X dX2_minuteGoesBy_72 rfl hl 0 rfl ?_
  refine a_get (pc := 73) (φ := 302) pR_t X Z.1.2.1 (gw X.1 X.2.1 q232) (fun _ q => q) (by decide) dX2_minuteGoesBy_73 hf (fun x73 hf => ?_)
  obtain ⟨a76, rfl, ⟨hk, hf⟩ | ⟨-, hf⟩⟩ := dv_some hf
  rotate_left
  · exact fl_none hf
  refine a_callb (pc := 76) (rs := [vI v2]) (avs := [vR (some a76)]) Z.1 (w_J2_size GA (some a76)) (Or.inl rfl) q1012 q78 (by decide) (by decide) dX2_minuteGoesBy_76 hl.1 (Nat.le_of_ble_eq_true rfl) hf (ct_V hk ⟨by decide, by decide⟩ X (Or.inl rfl) q1012 q1720 q1011 q3486 hy_J2_size np_J2_size rfl dX2_minuteGoesBy_76) (fun q h he hX => a_out (unc_of Z.2.1 rfl) Z.2.2.2.1 he hX) (fun x76 h hf => ?kk76)
  refine AW.eq (g2 := F0 m 79 ls [.int x76, .int v2]) rfl ?_
  refine AW.lift2 (fun _ _ _ _ k1 k2 => lv_icmp_ge (pc := 79) (tgt := 131) X.2.2.1 X.2.2.2.1 dX2_minuteGoesBy_79 rfl k1 k2) (fun c => ?_) (fun c => ?_)
  · have hf := ite_t c hf
    refine a_iload_n (pc := 131) X dX2_minuteGoesBy_131 rfl hl 1 rfl ?_
    exact a_ireturn X Z.2.2.1 Z.2.2.2.1 dX2_minuteGoesBy_132 hf
  · have hf := ite_f c hf
    refine a_aload_n (pc := 82) X dX2_minuteGoesBy_82 rfl hl 0 rfl ?_
    refine a_get (pc := 83) (φ := 302) pR_t X Z.1.2.1 (gw X.1 X.2.1 q232) (fun _ q => q) (by decide) dX2_minuteGoesBy_83 hf (fun x83 hf => ?_)
    refine a_iload_n (pc := 86) X dX2_minuteGoesBy_86 rfl hl 2 rfl ?_
    obtain ⟨a87, rfl, ⟨hk, hf⟩ | ⟨-, hf⟩⟩ := dv_some hf
    rotate_left
    · exact fl_none hf
    refine a_callb (pc := 87) (rs := []) (avs := [vR (some a87), vI v2]) Z.1 (w_J2_get GA (some a87) v2) (Or.inl rfl) q505 q78 (by decide) (by decide) dX2_minuteGoesBy_87 hl.1 (Nat.le_of_ble_eq_true rfl) hf (ct_V hk ⟨by decide, by decide⟩ X (Or.inl rfl) q505 q1828 q503 q3487 hy_J2_get np_J2_get rfl dX2_minuteGoesBy_87) (fun q h he hX => a_out (unc_of Z.2.1 rfl) Z.2.2.2.1 he hX) (fun x87 h hf => ?kk87)
    refine AW.eq (g2 := F0 m 90 ls [va_rf x87]) rfl ?_
    refine a_checkcast (pc := 90) X (gw X.1 X.2.1 q950) (cs_JumpHall_Party GA) dX2_minuteGoesBy_90 hf (fun hf => ?_)
    obtain ⟨a93, rfl, ⟨hk, hf⟩ | ⟨-, hf⟩⟩ := dv_some hf
    rotate_left
    · exact fl_none hf
    refine a_callb (pc := 93) (rs := []) (avs := [vR (some a93)]) Z.1 (w_X9_isBooked GA (some a93)) (Or.inl rfl) q2429 q108 (by decide) (by decide) dX2_minuteGoesBy_93 hl.1 (Nat.le_of_ble_eq_true rfl) hf (ct_V hk ⟨by decide, by decide⟩ X (Or.inl rfl) q2429 q2426 q2427 q2428 hy_X9_isBooked np_X9_isBooked rfl dX2_minuteGoesBy_93) (fun q h he hX => a_out (unc_of Z.2.1 rfl) Z.2.2.2.1 he hX) (fun x93 h hf => ?kk93)
    refine AW.eq (g2 := F0 m 96 ls [.int x93]) rfl ?_
    refine AW.lift2 (fun _ _ _ _ k1 k2 => lv_if_eq (pc := 96) (tgt := 125) X.2.2.1 X.2.2.2.1 dX2_minuteGoesBy_96 rfl k1 k2) (fun c => ?_) (fun c => ?_)
    · have hf := ite_t c hf
      exact w_X2_minuteGoesBy_j125 GA Z v0 v1 v2  rc71 hrc71 (hl.sub [0, 1, 2] rfl) hf
    · have hf := ite_f c hf
      refine a_aload_n (pc := 99) X dX2_minuteGoesBy_99 rfl hl 0 rfl ?_
      refine a_get (pc := 100) (φ := 302) pR_t X Z.1.2.1 (gw X.1 X.2.1 q232) (fun _ q => q) (by decide) dX2_minuteGoesBy_100 hf (fun x100 hf => ?_)
      refine a_iload_n (pc := 103) X dX2_minuteGoesBy_103 rfl hl 2 rfl ?_
      obtain ⟨a104, rfl, ⟨hk, hf⟩ | ⟨-, hf⟩⟩ := dv_some hf
      rotate_left
      · exact fl_none hf
      refine a_callb (pc := 104) (rs := []) (avs := [vR (some a104), vI v2]) Z.1 (w_J2_get GA (some a104) v2) (Or.inl rfl) q505 q78 (by decide) (by decide) dX2_minuteGoesBy_104 hl.1 (Nat.le_of_ble_eq_true rfl) hf (ct_V hk ⟨by decide, by decide⟩ X (Or.inl rfl) q505 q1828 q503 q3487 hy_J2_get np_J2_get rfl dX2_minuteGoesBy_104) (fun q h he hX => a_out (unc_of Z.2.1 rfl) Z.2.2.2.1 he hX) (fun x104 h hf => ?kk104)
      refine AW.eq (g2 := F0 m 107 ls [va_rf x104]) rfl ?_
      refine a_checkcast (pc := 107) X (gw X.1 X.2.1 q950) (cs_JumpHall_Party GA) dX2_minuteGoesBy_107 hf (fun hf => ?_)
      refine a_getN (pc := 110) (φ := 600) pI_t X Z.1.2.1 (gnF X.1 X.2.1 q962) (fun _ q => q) (by decide) dX2_minuteGoesBy_110 hf (fun x110 hf => ?_)
      refine a_aload_n (pc := 113) X dX2_minuteGoesBy_113 rfl hl 0 rfl ?_
      refine a_get (pc := 114) (φ := 310) pI_t X Z.1.2.1 (gw X.1 X.2.1 q248) (fun _ q => q) (by decide) dX2_minuteGoesBy_114 hf (fun x114 hf => ?_)
      refine AW.lift2 (fun _ _ _ _ k1 k2 => lv_icmp_ne (pc := 117) (tgt := 125) X.2.2.1 X.2.2.2.1 dX2_minuteGoesBy_117 rfl k2 k1) (fun c => ?_) (fun c => ?_)
      · have hf := ite_t c hf
        refine a_aload_n (pc := 120) X dX2_minuteGoesBy_120 rfl hl 0 rfl ?_
        refine a_iload_n (pc := 121) X dX2_minuteGoesBy_121 rfl hl 2 rfl ?_
        obtain ⟨a122, rfl, ⟨hk, hf⟩ | ⟨-, hf⟩⟩ := dv_some hf
        rotate_left
        · exact fl_none hf
        refine a_callb (pc := 122) (rs := []) (avs := [vR (some a122), vI v2]) Z.1 (w_X2_comes GA (some a122) v2) (Or.inr (Or.inl ⟨_, rfl⟩)) q2476 q75 (by decide) (by decide) dX2_minuteGoesBy_122 hl.1 (Nat.le_of_ble_eq_true rfl) hf (ct_V hk ⟨by decide, by decide⟩ X (Or.inr (Or.inl ⟨_, rfl⟩)) q2476 q2473 q2475 pv_14 hy_X2_comes np_X2_comes rfl dX2_minuteGoesBy_122) (fun q h he hX => a_out (unc_of Z.2.1 rfl) Z.2.2.2.1 he hX) (fun _ h hf => ?kk122)
        refine AW.eq (g2 := F0 m 125 ls []) rfl ?_
        exact w_X2_minuteGoesBy_j125 GA Z (some a122) v1 v2  rc71 hrc71 (hl.sub [0, 1, 2] rfl) hf
      · have hf := ite_f c hf
        exact w_X2_minuteGoesBy_j125 GA Z v0 v1 v2  rc71 hrc71 (hl.sub [0, 1, 2] rfl) hf
theorem w_X2_minuteGoesBy_l71 {r : Except Nat (Int32) × AH} (GA : GA l s0 a0 K lam) (Z : WZ l s0 a0 K p s m c cX2_minuteGoesBy yX2_minuteGoesBy.cls 3 b R 11 3109 meth [] (some (.int)) yX2_minuteGoesBy) (v0 : Option Nat) (v1 : Int32)  : ∀ (n : Nat) (v2 : Int32) (h : AH) (ls : Array Slot), LV ls 3 [(0, vR v0), (1, vI v1), (2, vI v2)] → f_X2_minuteGoesBy_l71 K v0 v1 n v2 h = some r → AW s0 K lam p l e R s m args below meth c (AQ s0 K lam below oI b r s) b h (F0 m 71 ls []) := by
  intro n
  induction n with
  | zero => intro v2 h ls hl hf; exact fl_no (h := h) hf
  | succ n ih => intro v2 h ls hl hf; exact w_X2_minuteGoesBy_b71 GA Z v0 v1 v2 (f_X2_minuteGoesBy_l71 K v0 v1 n) ih hl hf
theorem w_X2_minuteGoesBy_j59 {r : Except Nat (Int32) × AH} (GA : GA l s0 a0 K lam) (Z : WZ l s0 a0 K p s m c cX2_minuteGoesBy yX2_minuteGoesBy.cls 3 b R 11 3109 meth [] (some (.int)) yX2_minuteGoesBy) (v0 : Option Nat) (v1 : Int32)   {h : AH} {ls : Array Slot} (hl : LV ls 3 [(0, vR v0), (1, vI v1)]) (hf : f_X2_minuteGoesBy_j59 K v0 v1 h = some r) : AW s0 K lam p l e R s m args below meth c (AQ s0 K lam below oI b r s) b h (F0 m 59 ls []) := by
  unfold f_X2_minuteGoesBy_j59 at hf
  have X := Z.1.1
  refine a_aload_n (pc := 59) X dX2_minuteGoesBy_59 rfl hl 0 rfl ?_
  refine AW.lift (fun _ _ _ _ k => lv_dup (pc := 60) X.2.2.1 X.2.2.2.1 dX2_minuteGoesBy_60 (cat_rf _) k) ?_
  refine a_get (pc := 61) (φ := 310) pI_t X Z.1.2.1 (gw X.1 X.2.1 q248) (fun _ q => q) (by decide) dX2_minuteGoesBy_61 hf (fun x61 hf => ?_)
  refine AW.lift (fun _ _ _ _ k => lv_iconst (pc := 64) (v := (1 : Int32)) X.2.2.1 X.2.2.2.1 dX2_minuteGoesBy_64 rfl k) ?_
  refine AW.lift (fun _ _ _ _ k => lv_iadd (pc := 65) X.2.2.1 X.2.2.2.1 dX2_minuteGoesBy_65 k) ?_
  refine a_put (pc := 66) (φ := 310) X Z.1.2.1 Z.1.2.2.1 (gw X.1 X.2.1 q248) (fun _ q => q) (by decide) rfl rfl dX2_minuteGoesBy_66 hf (fun h hf => ?_)
  refine AW.lift (fun _ _ _ _ k => lv_iconst (pc := 69) (v := (0 : Int32)) X.2.2.1 X.2.2.2.1 dX2_minuteGoesBy_69 rfl k) ?_
  refine a_istore_n (pc := 70) X dX2_minuteGoesBy_70 rfl hl (by decide) (lv' := [(2, vI (0 : Int32)), (0, vR v0), (1, vI v1)]) rfl (fun ls hl => ?_)
  exact w_X2_minuteGoesBy_l71 GA Z v0 v1  FU (0 : Int32) _ _ (hl.sub [1, 2, 0] rfl) hf
theorem w_X2_minuteGoesBy_j51 {r : Except Nat (Int32) × AH} (GA : GA l s0 a0 K lam) (Z : WZ l s0 a0 K p s m c cX2_minuteGoesBy yX2_minuteGoesBy.cls 3 b R 11 3109 meth [] (some (.int)) yX2_minuteGoesBy) (v0 : Option Nat) (v2 : Int32) (t0 : Int32) (t1 : Int32) (rc8 : Int32 → Int32 → AM (Int32)) (hrc8 : ∀ (v1 : Int32) (v2 : Int32) (h : AH) (ls : Array Slot), LV ls 3 [(0, vR v0), (1, vI v1), (2, vI v2)] → rc8 v1 v2 h = some r → AW s0 K lam p l e R s m args below meth c (AQ s0 K lam below oI b r s) b h (F0 m 8 ls [])) {h : AH} {ls : Array Slot} (hl : LV ls 3 [(0, vR v0), (2, vI v2)]) (hf : f_X2_minuteGoesBy_j51 K rc8 v0 v2 t0 t1 h = some r) : AW s0 K lam p l e R s m args below meth c (AQ s0 K lam below oI b r s) b h (F0 m 51 ls [.int t0, .int t1]) := by
  unfold f_X2_minuteGoesBy_j51 at hf
  have X := Z.1.1
  refine AW.lift (fun _ _ _ _ k => lv_iadd (pc := 51) X.2.2.1 X.2.2.2.1 dX2_minuteGoesBy_51 k) ?_
  refine a_istore_n (pc := 52) X dX2_minuteGoesBy_52 rfl hl (by decide) (lv' := [(1, vI (t1 + t0)), (0, vR v0), (2, vI v2)]) rfl (fun ls hl => ?_)
  refine a_iinc (pc := 53) (v := (v2 + (1 : Int32))) X dX2_minuteGoesBy_53 hl (k := 2) rfl rfl (by decide) (lv' := [(2, vI (v2 + (1 : Int32))), (1, vI (t1 + t0)), (0, vR v0)]) rfl (fun ls hl => ?_)
  refine AW.lift (fun _ _ _ _ k => lv_goto (pc := 56) (tgt := 8) X.2.2.1 X.2.2.2.1 dX2_minuteGoesBy_56 rfl k) ?_
  exact hrc8 (t1 + t0) (v2 + (1 : Int32)) _ _ (hl.sub [2, 1, 0] rfl) hf
theorem w_X2_minuteGoesBy_b8 {r : Except Nat (Int32) × AH} (GA : GA l s0 a0 K lam) (Z : WZ l s0 a0 K p s m c cX2_minuteGoesBy yX2_minuteGoesBy.cls 3 b R 11 3109 meth [] (some (.int)) yX2_minuteGoesBy) (v0 : Option Nat) (v1 : Int32) (v2 : Int32)  (rc8 : Int32 → Int32 → AM (Int32)) (hrc8 : ∀ (v1 : Int32) (v2 : Int32) (h : AH) (ls : Array Slot), LV ls 3 [(0, vR v0), (1, vI v1), (2, vI v2)] → rc8 v1 v2 h = some r → AW s0 K lam p l e R s m args below meth c (AQ s0 K lam below oI b r s) b h (F0 m 8 ls [])) {h : AH} {ls : Array Slot} (hl : LV ls 3 [(0, vR v0), (1, vI v1), (2, vI v2)]) (hf : f_X2_minuteGoesBy_b8 K rc8 v0 v1 v2 h = some r) : AW s0 K lam p l e R s m args below meth c (AQ s0 K lam below oI b r s) b h (F0 m 8 ls []) := by
  unfold f_X2_minuteGoesBy_b8 at hf
  have X := Z.1.1
  refine a_iload_n (pc := 8) X dX2_minuteGoesBy_8 rfl hl 2 rfl ?_
  refine a_aload_n (pc := 9) X dX2_minuteGoesBy_9 rfl hl 0 rfl ?_
  refine a_get (pc := 10) (φ := 300) pR_t X Z.1.2.1 (gw X.1 X.2.1 q228) (fun _ q => q) (by decide) dX2_minuteGoesBy_10 hf (fun x10 hf => ?_)
  obtain ⟨a13, rfl, ⟨hk, hf⟩ | ⟨-, hf⟩⟩ := dv_some hf
  rotate_left
  · exact fl_none hf
  refine a_callb (pc := 13) (rs := [vI v2]) (avs := [vR (some a13)]) Z.1 (w_J2_size GA (some a13)) (Or.inl rfl) q1012 q78 (by decide) (by decide) dX2_minuteGoesBy_13 hl.1 (Nat.le_of_ble_eq_true rfl) hf (ct_V hk ⟨by decide, by decide⟩ X (Or.inl rfl) q1012 q1720 q1011 q3486 hy_J2_size np_J2_size rfl dX2_minuteGoesBy_13) (fun q h he hX => a_out (unc_of Z.2.1 rfl) Z.2.2.2.1 he hX) (fun x13 h hf => ?kk13)
  refine AW.eq (g2 := F0 m 16 ls [.int x13, .int v2]) rfl ?_
  refine AW.lift2 (fun _ _ _ _ k1 k2 => lv_icmp_ge (pc := 16) (tgt := 59) X.2.2.1 X.2.2.2.1 dX2_minuteGoesBy_16 rfl k1 k2) (fun c => ?_) (fun c => ?_)
  · have hf := ite_t c hf
    exact w_X2_minuteGoesBy_j59 GA Z v0 v1   (hl.sub [0, 1] rfl) hf
  · have hf := ite_f c hf
    refine a_iload_n (pc := 19) X dX2_minuteGoesBy_19 rfl hl 1 rfl ?_
    refine a_aload_n (pc := 20) X dX2_minuteGoesBy_20 rfl hl 0 rfl ?_
    refine a_iload_n (pc := 21) X dX2_minuteGoesBy_21 rfl hl 2 rfl ?_
    obtain ⟨a22, rfl, ⟨hk, hf⟩ | ⟨-, hf⟩⟩ := dv_some hf
    rotate_left
    · exact fl_none hf
    refine a_callb (pc := 22) (rs := [vI v1]) (avs := [vR (some a22), vI v2]) Z.1 (w_X2_weightOn GA (some a22) v2) (Or.inl rfl) q1905 q75 (by decide) (by decide) dX2_minuteGoesBy_22 hl.1 (Nat.le_of_ble_eq_true rfl) hf (ct_V hk ⟨by decide, by decide⟩ X (Or.inl rfl) q1905 q1975 q1903 q1904 hy_X2_weightOn np_X2_weightOn rfl dX2_minuteGoesBy_22) (fun q h he hX => a_out (unc_of Z.2.1 rfl) Z.2.2.2.1 he hX) (fun x22 h hf => ?kk22)
    refine AW.eq (g2 := F0 m 25 ls [.int x22, .int v1]) rfl ?_
    refine a_aload_n (pc := 25) X dX2_minuteGoesBy_25 rfl hl 0 rfl ?_
    refine a_get (pc := 26) (φ := 300) pR_t X Z.1.2.1 (gw X.1 X.2.1 q228) (fun _ q => q) (by decide) dX2_minuteGoesBy_26 hf (fun x26 hf => ?_)
    refine a_iload_n (pc := 29) X dX2_minuteGoesBy_29 rfl hl 2 rfl ?_
    obtain ⟨a30, rfl, ⟨hk, hf⟩ | ⟨-, hf⟩⟩ := dv_some hf
    rotate_left
    · exact fl_none hf
    refine a_callb (pc := 30) (rs := [vI x22, vI v1]) (avs := [vR (some a30), vI v2]) Z.1 (w_J2_get GA (some a30) v2) (Or.inl rfl) q505 q78 (by decide) (by decide) dX2_minuteGoesBy_30 hl.1 (Nat.le_of_ble_eq_true rfl) hf (ct_V hk ⟨by decide, by decide⟩ X (Or.inl rfl) q505 q1828 q503 q3487 hy_J2_get np_J2_get rfl dX2_minuteGoesBy_30) (fun q h he hX => a_out (unc_of Z.2.1 rfl) Z.2.2.2.1 he hX) (fun x30 h hf => ?kk30)
    refine AW.eq (g2 := F0 m 33 ls [va_rf x30, .int x22, .int v1]) rfl ?_
    refine a_checkcast (pc := 33) X (gw X.1 X.2.1 q802) (cs_JumpHall_Mat GA) dX2_minuteGoesBy_33 hf (fun hf => ?_)
    obtain ⟨a36, rfl, ⟨hk, hf⟩ | ⟨-, hf⟩⟩ := dv_some hf
    rotate_left
    · exact fl_none hf
    refine a_callb (pc := 36) (rs := [vI x22, vI v1]) (avs := [vR (some a36)]) Z.1 (w_X7_bears GA (some a36)) (Or.inl rfl) q1846 q91 (by decide) (by decide) dX2_minuteGoesBy_36 hl.1 (Nat.le_of_ble_eq_true rfl) hf (ct_V hk ⟨by decide, by decide⟩ X (Or.inl rfl) q1846 q1843 q1844 q1845 hy_X7_bears np_X7_bears rfl dX2_minuteGoesBy_36) (fun q h he hX => a_out (unc_of Z.2.1 rfl) Z.2.2.2.1 he hX) (fun x36 h hf => ?kk36)
    refine AW.eq (g2 := F0 m 39 ls [.int x36, .int x22, .int v1]) rfl ?_
    refine AW.lift2 (fun _ _ _ _ k1 k2 => lv_icmp_le (pc := 39) (tgt := 50) X.2.2.1 X.2.2.2.1 dX2_minuteGoesBy_39 rfl k1 k2) (fun c => ?_) (fun c => ?_)
    · have hf := ite_t c hf
      refine AW.lift (fun _ _ _ _ k => lv_iconst (pc := 50) (v := (0 : Int32)) X.2.2.1 X.2.2.2.1 dX2_minuteGoesBy_50 rfl k) ?_
      exact w_X2_minuteGoesBy_j51 GA Z (some a22) v2 (0 : Int32) v1 rc8 hrc8 (hl.sub [0, 2] rfl) hf
    · have hf := ite_f c hf
      refine a_aload_n (pc := 42) X dX2_minuteGoesBy_42 rfl hl 0 rfl ?_
      refine a_iload_n (pc := 43) X dX2_minuteGoesBy_43 rfl hl 2 rfl ?_
      rcases dv_someS hf with ⟨hk, hf⟩ | ⟨-, hf⟩
      rotate_left
      · exact fl_none hf
      refine a_callb (pc := 44) (rs := [vI v1]) (avs := [vR (some a22), vI v2]) Z.1 (w_X2_clears GA (some a22) v2) (Or.inl rfl) q2472 q75 (by decide) (by decide) dX2_minuteGoesBy_44 hl.1 (Nat.le_of_ble_eq_true rfl) hf (ct_V hk ⟨by decide, by decide⟩ X (Or.inl rfl) q2472 q2469 q2471 pv_13 hy_X2_clears np_X2_clears rfl dX2_minuteGoesBy_44) (fun q h he hX => a_out (unc_of Z.2.1 rfl) Z.2.2.2.1 he hX) (fun x44 h hf => ?kk44)
      refine AW.eq (g2 := F0 m 47 ls [.int x44, .int v1]) rfl ?_
      refine AW.lift (fun _ _ _ _ k => lv_goto (pc := 47) (tgt := 51) X.2.2.1 X.2.2.2.1 dX2_minuteGoesBy_47 rfl k) ?_
      exact w_X2_minuteGoesBy_j51 GA Z (some a22) v2 x44 v1 rc8 hrc8 (hl.sub [0, 2] rfl) hf
theorem w_X2_minuteGoesBy_l8 {r : Except Nat (Int32) × AH} (GA : GA l s0 a0 K lam) (Z : WZ l s0 a0 K p s m c cX2_minuteGoesBy yX2_minuteGoesBy.cls 3 b R 11 3109 meth [] (some (.int)) yX2_minuteGoesBy) (v0 : Option Nat)  : ∀ (n : Nat) (v1 : Int32) (v2 : Int32) (h : AH) (ls : Array Slot), LV ls 3 [(0, vR v0), (1, vI v1), (2, vI v2)] → f_X2_minuteGoesBy_l8 K v0 n v1 v2 h = some r → AW s0 K lam p l e R s m args below meth c (AQ s0 K lam below oI b r s) b h (F0 m 8 ls []) := by
  intro n
  induction n with
  | zero => intro v1 v2 h ls hl hf; exact fl_no (h := h) hf
  | succ n ih => intro v1 v2 h ls hl hf; exact w_X2_minuteGoesBy_b8 GA Z v0 v1 v2 (f_X2_minuteGoesBy_l8 K v0 n) ih hl hf
theorem np_X2_minuteGoesBy : npar yX2_minuteGoesBy.desc 0 := by unfold npar; decide +kernel
theorem hy_X2_minuteGoesBy : yX2_minuteGoesBy.cls ≠ "java/lang/invoke/MethodHandle" ∧ yX2_minuteGoesBy.cls ≠ "java/lang/invoke/VarHandle" := by decide +kernel
theorem w_X2_minuteGoesBy (GA : GA l s0 a0 K lam) (v0 : Option Nat) : AMet l s0 K lam yX2_minuteGoesBy (Cond.code yX2_minuteGoesBy cX2_minuteGoesBy (3 : Nat) (Option.some ClassFile.FieldType.int)) 11 3109 [vR v0] oI (f_X2_minuteGoesBy K v0) := by
  refine AMet.of GA.1 (plainFor_of_name (by decide +kernel)) (Nat.le_of_ble_eq_true rfl) ?_
  intro b r hf p e s m args below meth c X hr hlk hnm hnd ht ls hl
  have Z : WZ l s0 a0 K p s m c cX2_minuteGoesBy yX2_minuteGoesBy.cls 3 b { frames := 11, cells := K 0 - aX b, slots := K 1 - aW b, locals := 3109 } 11 3109 meth [] (some (.int)) yX2_minuteGoesBy := ⟨⟨X, GA.2.1, GA.2.2.1, rfl, rfl, Nat.le_refl _, Nat.le_refl _⟩, tab_nil ht, hr, hlk, hnm, hnd⟩
  unfold f_X2_minuteGoesBy at hf
  clear hr hlk hnm hnd ht
  refine a_aload_n (pc := 0) X dX2_minuteGoesBy_0 rfl hl 0 rfl ?_
  obtain ⟨a1, rfl, ⟨hk, hf⟩ | ⟨-, hf⟩⟩ := dv_some hf
  rotate_left
  · exact fl_none hf
  refine a_callb (pc := 1) (rs := []) (avs := [vR (some a1)]) Z.1 (w_X2_wearMats GA (some a1)) (Or.inl rfl) q2468 q75 (by decide) (by decide) dX2_minuteGoesBy_1 hl.1 (Nat.le_of_ble_eq_true rfl) hf (ct_V hk ⟨by decide, by decide⟩ X (Or.inl rfl) q2468 q2465 q2467 pv_12 hy_X2_wearMats np_X2_wearMats rfl dX2_minuteGoesBy_1) (fun q h he hX => a_out (unc_of Z.2.1 rfl) Z.2.2.2.1 he hX) (fun _ h hf => ?kk1)
  refine AW.eq (g2 := F0 m 4 ls []) rfl ?_
  refine AW.lift (fun _ _ _ _ k => lv_iconst (pc := 4) (v := (0 : Int32)) X.2.2.1 X.2.2.2.1 dX2_minuteGoesBy_4 rfl k) ?_
  refine a_istore_n (pc := 5) X dX2_minuteGoesBy_5 rfl hl (by decide) (lv' := [(1, vI (0 : Int32)), (0, vR (some a1))]) rfl (fun ls hl => ?_)
  refine AW.lift (fun _ _ _ _ k => lv_iconst (pc := 6) (v := (0 : Int32)) X.2.2.1 X.2.2.2.1 dX2_minuteGoesBy_6 rfl k) ?_
  refine a_istore_n (pc := 7) X dX2_minuteGoesBy_7 rfl hl (by decide) (lv' := [(2, vI (0 : Int32)), (1, vI (0 : Int32)), (0, vR (some a1))]) rfl (fun ls hl => ?_)
  exact w_X2_minuteGoesBy_l8 GA Z (some a1)  FU (0 : Int32) (0 : Int32) _ _ (hl.sub [2, 1, 0] rfl) hf
theorem w_X2_pass_b4 {r : Except Nat (Int32) × AH} (GA : GA l s0 a0 K lam) (Z : WZ l s0 a0 K p s m c cX2_pass yX2_pass.cls 4 b R 12 3131 meth [] (some (.int)) yX2_pass) (v0 : Option Nat) (v1 : Int32) (v2 : Int32) (v3 : Int32)  (rc4 : Int32 → Int32 → AM (Int32)) (hrc4 : ∀ (v2 : Int32) (v3 : Int32) (h : AH) (ls : Array Slot), LV ls 4 [(0, vR v0), (1, vI v1), (2, vI v2), (3, vI v3)] → rc4 v2 v3 h = some r → AW s0 K lam p l e R s m args below meth c (AQ s0 K lam below oI b r s) b h (F0 m 4 ls [])) {h : AH} {ls : Array Slot} (hl : LV ls 4 [(0, vR v0), (1, vI v1), (2, vI v2), (3, vI v3)]) (hf : f_X2_pass_b4 K rc4 v0 v1 v2 v3 h = some r) : AW s0 K lam p l e R s m args below meth c (AQ s0 K lam below oI b r s) b h (F0 m 4 ls []) := by
  unfold f_X2_pass_b4 at hf
  have X := Z.1.1
  refine a_iload_n (pc := 4) X dX2_pass_4 rfl hl 3 rfl ?_
  refine a_iload_n (pc := 5) X dX2_pass_5 rfl hl 1 rfl ?_
  refine AW.lift2 (fun _ _ _ _ k1 k2 => lv_icmp_ge (pc := 6) (tgt := 22) X.2.2.1 X.2.2.2.1 dX2_pass_6 rfl k1 k2) (fun c => ?_) (fun c => ?_)
  · have hf := ite_t c hf
    refine a_iload_n (pc := 22) X dX2_pass_22 rfl hl 2 rfl ?_
    exact a_ireturn X Z.2.2.1 Z.2.2.2.1 dX2_pass_23 hf
  · have hf := ite_f c hf
    refine a_iload_n (pc := 9) X dX2_pass_9 rfl hl 2 rfl ?_
    refine a_aload_n (pc := 10) X dX2_pass_10 rfl hl 0 rfl ?_
    obtain ⟨a11, rfl, ⟨hk, hf⟩ | ⟨-, hf⟩⟩ := dv_some hf
    rotate_left
    · exact fl_none hf
    refine a_callb (pc := 11) (rs := [vI v2]) (avs := [vR (some a11)]) Z.1 (w_X2_minuteGoesBy GA (some a11)) (Or.inl rfl) q2464 q75 (by decide) (by decide) dX2_pass_11 hl.1 (Nat.le_of_ble_eq_true rfl) hf (ct_V hk ⟨by decide, by decide⟩ X (Or.inl rfl) q2464 q2461 q2463 pv_11 hy_X2_minuteGoesBy np_X2_minuteGoesBy rfl dX2_pass_11) (fun q h he hX => a_out (unc_of Z.2.1 rfl) Z.2.2.2.1 he hX) (fun x11 h hf => ?kk11)
    refine AW.eq (g2 := F0 m 14 ls [.int x11, .int v2]) rfl ?_
    refine AW.lift (fun _ _ _ _ k => lv_iadd (pc := 14) X.2.2.1 X.2.2.2.1 dX2_pass_14 k) ?_
    refine a_istore_n (pc := 15) X dX2_pass_15 rfl hl (by decide) (lv' := [(2, vI (v2 + x11)), (0, vR (some a11)), (1, vI v1), (3, vI v3)]) rfl (fun ls hl => ?_)
    refine a_iinc (pc := 16) (v := (v3 + (1 : Int32))) X dX2_pass_16 hl (k := 3) rfl rfl (by decide) (lv' := [(3, vI (v3 + (1 : Int32))), (2, vI (v2 + x11)), (0, vR (some a11)), (1, vI v1)]) rfl (fun ls hl => ?_)
    refine AW.lift (fun _ _ _ _ k => lv_goto (pc := 19) (tgt := 4) X.2.2.1 X.2.2.2.1 dX2_pass_19 rfl k) ?_
    exact hrc4 (v2 + x11) (v3 + (1 : Int32)) _ _ (hl.sub [2, 3, 1, 0] rfl) hf
theorem w_X2_pass_l4 {r : Except Nat (Int32) × AH} (GA : GA l s0 a0 K lam) (Z : WZ l s0 a0 K p s m c cX2_pass yX2_pass.cls 4 b R 12 3131 meth [] (some (.int)) yX2_pass) (v0 : Option Nat) (v1 : Int32)  : ∀ (n : Nat) (v2 : Int32) (v3 : Int32) (h : AH) (ls : Array Slot), LV ls 4 [(0, vR v0), (1, vI v1), (2, vI v2), (3, vI v3)] → f_X2_pass_l4 K v0 v1 n v2 v3 h = some r → AW s0 K lam p l e R s m args below meth c (AQ s0 K lam below oI b r s) b h (F0 m 4 ls []) := by
  intro n
  induction n with
  | zero => intro v2 v3 h ls hl hf; exact fl_no (h := h) hf
  | succ n ih => intro v2 v3 h ls hl hf; exact w_X2_pass_b4 GA Z v0 v1 v2 v3 (f_X2_pass_l4 K v0 v1 n) ih hl hf
theorem np_X2_pass : npar yX2_pass.desc 1 := by unfold npar; decide +kernel
theorem hy_X2_pass : yX2_pass.cls ≠ "java/lang/invoke/MethodHandle" ∧ yX2_pass.cls ≠ "java/lang/invoke/VarHandle" := by decide +kernel
theorem w_X2_pass (GA : GA l s0 a0 K lam) (v0 : Option Nat) (v1 : Int32) : AMet l s0 K lam yX2_pass (Cond.code yX2_pass cX2_pass (4 : Nat) (Option.some ClassFile.FieldType.int)) 12 3131 [vR v0, vI v1] oI (f_X2_pass K v0 v1) := by
  refine AMet.of GA.1 (plainFor_of_name (by decide +kernel)) (Nat.le_of_ble_eq_true rfl) ?_
  intro b r hf p e s m args below meth c X hr hlk hnm hnd ht ls hl
  have Z : WZ l s0 a0 K p s m c cX2_pass yX2_pass.cls 4 b { frames := 12, cells := K 0 - aX b, slots := K 1 - aW b, locals := 3131 } 12 3131 meth [] (some (.int)) yX2_pass := ⟨⟨X, GA.2.1, GA.2.2.1, rfl, rfl, Nat.le_refl _, Nat.le_refl _⟩, tab_nil ht, hr, hlk, hnm, hnd⟩
  unfold f_X2_pass at hf
  clear hr hlk hnm hnd ht
  refine AW.lift (fun _ _ _ _ k => lv_iconst (pc := 0) (v := (0 : Int32)) X.2.2.1 X.2.2.2.1 dX2_pass_0 rfl k) ?_
  refine a_istore_n (pc := 1) X dX2_pass_1 rfl hl (by decide) (lv' := [(2, vI (0 : Int32)), (0, vR v0), (1, vI v1)]) rfl (fun ls hl => ?_)
  refine AW.lift (fun _ _ _ _ k => lv_iconst (pc := 2) (v := (0 : Int32)) X.2.2.1 X.2.2.2.1 dX2_pass_2 rfl k) ?_
  refine a_istore_n (pc := 3) X dX2_pass_3 rfl hl (by decide) (lv' := [(3, vI (0 : Int32)), (2, vI (0 : Int32)), (0, vR v0), (1, vI v1)]) rfl (fun ls hl => ?_)
  exact w_X2_pass_l4 GA Z v0 v1  FU (0 : Int32) (0 : Int32) _ _ (hl.sub [2, 3, 1, 0] rfl) hf
theorem np_X1_lambda_pass_14 : npar yX1_lambda_pass_14.desc 2 := by unfold npar; decide +kernel
theorem hy_X1_lambda_pass_14 : yX1_lambda_pass_14.cls ≠ "java/lang/invoke/MethodHandle" ∧ yX1_lambda_pass_14.cls ≠ "java/lang/invoke/VarHandle" := by decide +kernel
theorem w_X1_lambda_pass_14 (GA : GA l s0 a0 K lam) (v0 : Int32) (v1 : Option Nat) : AMet l s0 K lam yX1_lambda_pass_14 (Cond.code yX1_lambda_pass_14 cX1_lambda_pass_14 (2 : Nat) (Option.some ClassFile.FieldType.int)) 13 3154 [vI v0, vR v1] oI (f_X1_lambda_pass_14 K v0 v1) := by
  refine AMet.of GA.1 (plainFor_of_name (by decide +kernel)) (Nat.le_of_ble_eq_true rfl) ?_
  intro b r hf p e s m args below meth c X hr hlk hnm hnd ht ls hl
  have Z : WZ l s0 a0 K p s m c cX1_lambda_pass_14 yX1_lambda_pass_14.cls 2 b { frames := 13, cells := K 0 - aX b, slots := K 1 - aW b, locals := 3154 } 13 3154 meth [] (some (.int)) yX1_lambda_pass_14 := ⟨⟨X, GA.2.1, GA.2.2.1, rfl, rfl, Nat.le_refl _, Nat.le_refl _⟩, tab_nil ht, hr, hlk, hnm, hnd⟩
  unfold f_X1_lambda_pass_14 at hf
  clear hr hlk hnm hnd ht
  refine a_aload_n (pc := 0) X dX1_lambda_pass_14_0 rfl hl 1 rfl ?_
  refine a_iload_n (pc := 1) X dX1_lambda_pass_14_1 rfl hl 0 rfl ?_
  obtain ⟨a2, rfl, ⟨hk, hf⟩ | ⟨-, hf⟩⟩ := dv_some hf
  rotate_left
  · exact fl_none hf
  refine a_callb (pc := 2) (rs := []) (avs := [vR (some a2), vI v0]) Z.1 (w_X2_pass GA (some a2) v0) (Or.inl rfl) q2460 q75 (by decide) (by decide) dX1_lambda_pass_14_2 hl.1 (Nat.le_of_ble_eq_true rfl) hf (ct_V hk ⟨by decide, by decide⟩ X (Or.inl rfl) q2460 q2457 q2458 q2459 hy_X2_pass np_X2_pass rfl dX1_lambda_pass_14_2) (fun q h he hX => a_out (unc_of Z.2.1 rfl) Z.2.2.2.1 he hX) (fun x2 h hf => ?kk2)
  refine AW.eq (g2 := F0 m 5 ls [.int x2]) rfl ?_
  exact a_ireturn X Z.2.2.1 Z.2.2.2.1 dX1_lambda_pass_14_5 hf
theorem cl_220 {Q : State → Prop} {h : AH} {cc : ByteArray} {own : String} {nL pc : Nat} {ls : Array Slot} {st : List Value} {F Lo idx cnt a : Nat} {v : Option Nat} {rs : List TV} (X : WX l s0 a0 K p s m c cc own nL b R F Lo) (GA : GA l s0 a0 K lam) (hk : aK h a = 220) (hlink : Cond.methodLink own idx ({ cls := "JumpHall$Deed", name := "in", desc := "(LJumpHall$Hall;)I" } : MethodName) ∈ lw_all) (hF : 15 ≤ F) (hLo : 3204 ≤ Lo) (hsz : ls.size = nL) (hW8 : (rs.map tcat).sum ≤ 8) (hst : st = va_rf v :: .ref a :: rs.map tvv) (hdg : decode cc pc = .ok (.invokeinterface idx cnt, 5)) : LC s0 K lam p l e R s m args below meth c Q b h pc ls (rs.map tvv) st (c_lam220 K (some a) v) := by
  intro r1 hf kk kx
  unfold c_lam220 at hf
  obtain ⟨a0, c0, e0, -, hp0, hf⟩ := gL_some hf
  cases e0
  refine lam_core (caps := [vI c0]) (arg := vR v) (f := f_X1_lambda_pass_14 K c0 v) (x := ⟨"JumpHall", "pass", "(I)I"⟩) (fs := [15]) (ig := .invokestatic 23) X (siG_220 GA) hfb_20 (lw_all_tbl q3550) ⟨by decide, by decide⟩ rfl hk (y := yX1_lambda_pass_14) (by decide +kernel) hy_X1_lambda_pass_14 (by decide +kernel) ⟨by decide, by decide⟩ hlink (gf X.1.1 X.1.2.1 q1758 rfl) (gf X.1.1 X.1.2.1 q1757 rfl) (by decide +kernel) (by unfold npar; decide +kernel) (w_X1_lambda_pass_14 GA c0 v) (Or.inl rfl) q2456 q74 (fun _ _ => rfl) rfl (fun j v hj => by
    rcases j with _ | j
    · exact (Option.some.inj hj : vI c0 = v) ▸ pI_t hp0
    · exact absurd hj (by simp)) ⟨(fun j i hj => by
    rcases j with _ | j
    · obtain rfl : 15 = i := Option.some.inj hj
      exact ⟨by decide +kernel, by decide +kernel⟩
    · exact absurd hj (by simp)), by decide +kernel, by decide +kernel, by decide +kernel⟩ ⟨rfl, by cases v <;> rfl⟩ hF hLo hsz hW8 hst hdg (lam_stat GA.1 q2455 q74 hy_X1_lambda_pass_14 np_X1_lambda_pass_14 (Or.inl rfl) q2456 (by decide +kernel)) r1 hf kk kx
theorem np_J7_isLatin1 : npar yJ7_isLatin1.desc 0 := by unfold npar; decide +kernel
theorem hy_J7_isLatin1 : yJ7_isLatin1.cls ≠ "java/lang/invoke/MethodHandle" ∧ yJ7_isLatin1.cls ≠ "java/lang/invoke/VarHandle" := by decide +kernel
theorem w_J7_isLatin1 (GA : GA l s0 a0 K lam) (v0 : Option Nat) : AMet l s0 K lam yJ7_isLatin1 (Cond.code yJ7_isLatin1 cJ7_isLatin1 (1 : Nat) (Option.some ClassFile.FieldType.boolean)) 0 0 [vR v0] oI (f_J7_isLatin1 K v0) := by
  refine AMet.of GA.1 (plainFor_of_name (by decide +kernel)) (Nat.le_of_ble_eq_true rfl) ?_
  intro b r hf p e s m args below meth c X hr hlk hnm hnd ht ls hl
  have Z : WZ l s0 a0 K p s m c cJ7_isLatin1 yJ7_isLatin1.cls 1 b { frames := 0, cells := K 0 - aX b, slots := K 1 - aW b, locals := 0 } 0 0 meth [] (some (.boolean)) yJ7_isLatin1 := ⟨⟨X, GA.2.1, GA.2.2.1, rfl, rfl, Nat.le_refl _, Nat.le_refl _⟩, tab_nil ht, hr, hlk, hnm, hnd⟩
  unfold f_J7_isLatin1 at hf
  clear hr hlk hnm hnd ht
  refine a_getstatic (pc := 0) (v := .int (1 : Int32)) X (st_COMPACT_STRINGS GA) (gw X.1 X.2.1 q627) (fun _ q => q) dJ7_isLatin1_0 ?_
  refine AW.lift2 (fun _ _ _ _ k1 k2 => lv_if_eq (pc := 3) (tgt := 17) X.2.2.1 X.2.2.2.1 dJ7_isLatin1_3 rfl k1 k2) (fun c => ?_) (fun c => ?_)
  · have hf := ite_t c hf
    refine AW.lift (fun _ _ _ _ k => lv_iconst (pc := 17) (v := (0 : Int32)) X.2.2.1 X.2.2.2.1 dJ7_isLatin1_17 rfl k) ?_
    exact a_zreturn X Z.2.2.1 rfl Z.2.2.2.1 dJ7_isLatin1_18 hf
  · have hf := ite_f c hf
    refine a_aload_n (pc := 6) X dJ7_isLatin1_6 rfl hl 0 rfl ?_
    refine a_get (pc := 7) (φ := 3401) pI_t X Z.1.2.1 (gw X.1 X.2.1 q776) (fun _ q => q) (by decide) dJ7_isLatin1_7 hf (fun x7 hf => ?_)
    refine AW.lift2 (fun _ _ _ _ k1 k2 => lv_if_ne (pc := 10) (tgt := 17) X.2.2.1 X.2.2.2.1 dJ7_isLatin1_10 rfl k2 k1) (fun c => ?_) (fun c => ?_)
    · have hf := ite_t c hf
      refine AW.lift (fun _ _ _ _ k => lv_iconst (pc := 13) (v := (1 : Int32)) X.2.2.1 X.2.2.2.1 dJ7_isLatin1_13 rfl k) ?_
      refine AW.lift (fun _ _ _ _ k => lv_goto (pc := 14) (tgt := 18) X.2.2.1 X.2.2.2.1 dJ7_isLatin1_14 rfl k) ?_
      exact a_zreturn X Z.2.2.1 rfl Z.2.2.2.1 dJ7_isLatin1_18 hf
    · have hf := ite_f c hf
      refine AW.lift (fun _ _ _ _ k => lv_iconst (pc := 17) (v := (0 : Int32)) X.2.2.1 X.2.2.2.1 dJ7_isLatin1_17 rfl k) ?_
      exact a_zreturn X Z.2.2.1 rfl Z.2.2.2.1 dJ7_isLatin1_18 hf
theorem w_J11_signedHashCode_b8 {r : Except Nat (Int32) × AH} (GA : GA l s0 a0 K lam) (Z : WZ l s0 a0 K p s m c cJ11_signedHashCode yJ11_signedHashCode.cls 6 b R 0 0 meth [] (some (.int)) yJ11_signedHashCode) (v0 : Int32) (v1 : Option Nat) (v4 : Int32) (v5 : Int32)  (rc8 : Int32 → Int32 → AM (Int32)) (hrc8 : ∀ (v0 : Int32) (v5 : Int32) (h : AH) (ls : Array Slot), LV ls 6 [(0, vI v0), (1, vR v1), (4, vI v4), (5, vI v5)] → rc8 v0 v5 h = some r → AW s0 K lam p l e R s m args below meth c (AQ s0 K lam below oI b r s) b h (F0 m 8 ls [])) {h : AH} {ls : Array Slot} (hl : LV ls 6 [(0, vI v0), (1, vR v1), (4, vI v4), (5, vI v5)]) (hf : f_J11_signedHashCode_b8 K rc8 v0 v1 v4 v5 h = some r) : AW s0 K lam p l e R s m args below meth c (AQ s0 K lam below oI b r s) b h (F0 m 8 ls []) := by
  unfold f_J11_signedHashCode_b8 at hf
  have X := Z.1.1
  refine a_iload (pc := 8) X dJ11_signedHashCode_8 hl 3 rfl ?_
  refine a_iload (pc := 10) X dJ11_signedHashCode_10 hl 2 rfl ?_
  refine AW.lift2 (fun _ _ _ _ k1 k2 => lv_icmp_ge (pc := 12) (tgt := 35) X.2.2.1 X.2.2.2.1 dJ11_signedHashCode_12 rfl k1 k2) (fun c => ?_) (fun c => ?_)
  · have hf := ite_t c hf
    refine a_iload_n (pc := 35) X dJ11_signedHashCode_35 rfl hl 0 rfl ?_
    exact a_ireturn X Z.2.2.1 Z.2.2.2.1 dJ11_signedHashCode_36 hf
  · have hf := ite_f c hf
    refine AW.lift (fun _ _ _ _ k => lv_bipush (pc := 15) (v := (31 : Int32)) X.2.2.1 X.2.2.2.1 dJ11_signedHashCode_15 rfl k) ?_
    refine a_iload_n (pc := 17) X dJ11_signedHashCode_17 rfl hl 0 rfl ?_
    refine AW.lift (fun _ _ _ _ k => lv_imul (pc := 18) X.2.2.1 X.2.2.2.1 dJ11_signedHashCode_18 k) ?_
    refine a_aload_n (pc := 19) X dJ11_signedHashCode_19 rfl hl 1 rfl ?_
    refine a_iload (pc := 20) X dJ11_signedHashCode_20 hl 3 rfl ?_
    refine a_baload (pc := 22) X dJ11_signedHashCode_22 hf (fun x22 hf => ?_)
    refine AW.lift (fun _ _ _ _ k => lv_sipush (pc := 23) (v := (255 : Int32)) X.2.2.1 X.2.2.2.1 dJ11_signedHashCode_23 rfl k) ?_
    refine AW.lift (fun _ _ _ _ k => lv_iand (pc := 26) X.2.2.1 X.2.2.2.1 dJ11_signedHashCode_26 k) ?_
    refine AW.lift (fun _ _ _ _ k => lv_iadd (pc := 27) X.2.2.1 X.2.2.2.1 dJ11_signedHashCode_27 k) ?_
    refine a_istore_n (pc := 28) X dJ11_signedHashCode_28 rfl hl (by decide) (lv' := [(0, vI (((31 : Int32) * v0) + (x22 &&& (255 : Int32)))), (1, vR v1), (4, vI v4), (5, vI v5)]) rfl (fun ls hl => ?_)
    refine a_iinc (pc := 29) (v := (v5 + (1 : Int32))) X dJ11_signedHashCode_29 hl (k := 3) rfl rfl (by decide) (lv' := [(5, vI (v5 + (1 : Int32))), (0, vI (((31 : Int32) * v0) + (x22 &&& (255 : Int32)))), (1, vR v1), (4, vI v4)]) rfl (fun ls hl => ?_)
    refine AW.lift (fun _ _ _ _ k => lv_goto (pc := 32) (tgt := 8) X.2.2.1 X.2.2.2.1 dJ11_signedHashCode_32 rfl k) ?_
    exact hrc8 (((31 : Int32) * v0) + (x22 &&& (255 : Int32))) (v5 + (1 : Int32)) _ _ (hl.sub [1, 2, 3, 0] rfl) hf
theorem w_J11_signedHashCode_l8 {r : Except Nat (Int32) × AH} (GA : GA l s0 a0 K lam) (Z : WZ l s0 a0 K p s m c cJ11_signedHashCode yJ11_signedHashCode.cls 6 b R 0 0 meth [] (some (.int)) yJ11_signedHashCode) (v1 : Option Nat) (v4 : Int32)  : ∀ (n : Nat) (v0 : Int32) (v5 : Int32) (h : AH) (ls : Array Slot), LV ls 6 [(0, vI v0), (1, vR v1), (4, vI v4), (5, vI v5)] → f_J11_signedHashCode_l8 K v1 v4 n v0 v5 h = some r → AW s0 K lam p l e R s m args below meth c (AQ s0 K lam below oI b r s) b h (F0 m 8 ls []) := by
  intro n
  induction n with
  | zero => intro v0 v5 h ls hl hf; exact fl_no (h := h) hf
  | succ n ih => intro v0 v5 h ls hl hf; exact w_J11_signedHashCode_b8 GA Z v0 v1 v4 v5 (f_J11_signedHashCode_l8 K v1 v4 n) ih hl hf
theorem np_J11_signedHashCode : npar yJ11_signedHashCode.desc 4 := by unfold npar; decide +kernel
theorem hy_J11_signedHashCode : yJ11_signedHashCode.cls ≠ "java/lang/invoke/MethodHandle" ∧ yJ11_signedHashCode.cls ≠ "java/lang/invoke/VarHandle" := by decide +kernel
theorem w_J11_signedHashCode (GA : GA l s0 a0 K lam) (v0 : Int32) (v1 : Option Nat) (v2 : Int32) (v3 : Int32) : AMet l s0 K lam yJ11_signedHashCode (Cond.code yJ11_signedHashCode cJ11_signedHashCode (6 : Nat) (Option.some ClassFile.FieldType.int)) 0 0 [vI v0, vR v1, vI v2, vI v3] oI (f_J11_signedHashCode K v0 v1 v2 v3) := by
  refine AMet.of GA.1 (plainFor_of_name (by decide +kernel)) (Nat.le_of_ble_eq_true rfl) ?_
  intro b r hf p e s m args below meth c X hr hlk hnm hnd ht ls hl
  have Z : WZ l s0 a0 K p s m c cJ11_signedHashCode yJ11_signedHashCode.cls 6 b { frames := 0, cells := K 0 - aX b, slots := K 1 - aW b, locals := 0 } 0 0 meth [] (some (.int)) yJ11_signedHashCode := ⟨⟨X, GA.2.1, GA.2.2.1, rfl, rfl, Nat.le_refl _, Nat.le_refl _⟩, tab_nil ht, hr, hlk, hnm, hnd⟩
  unfold f_J11_signedHashCode at hf
  clear hr hlk hnm hnd ht
  refine a_iload_n (pc := 0) X dJ11_signedHashCode_0 rfl hl 2 rfl ?_
  refine a_iload_n (pc := 1) X dJ11_signedHashCode_1 rfl hl 3 rfl ?_
  refine AW.lift (fun _ _ _ _ k => lv_iadd (pc := 2) X.2.2.1 X.2.2.2.1 dJ11_signedHashCode_2 k) ?_
  refine a_istore (pc := 3) X dJ11_signedHashCode_3 hl (by decide) (lv' := [(4, vI (v2 + v3)), (0, vI v0), (1, vR v1), (2, vI v2), (3, vI v3)]) rfl (fun ls hl => ?_)
  refine a_iload_n (pc := 5) X dJ11_signedHashCode_5 rfl hl 3 rfl ?_
  refine a_istore (pc := 6) X dJ11_signedHashCode_6 hl (by decide) (lv' := [(5, vI v2), (4, vI (v2 + v3)), (0, vI v0), (1, vR v1), (2, vI v2), (3, vI v3)]) rfl (fun ls hl => ?_)
  exact w_J11_signedHashCode_l8 GA Z v1 (v2 + v3)  FU v0 v2 _ _ (hl.sub [2, 3, 1, 0] rfl) hf
theorem w_J11_hashCode_2_b8 {r : Except Nat (Int32) × AH} (GA : GA l s0 a0 K lam) (Z : WZ l s0 a0 K p s m c cJ11_hashCode_2 yJ11_hashCode_2.cls 6 b R 0 0 meth [] (some (.int)) yJ11_hashCode_2) (v0 : Int32) (v1 : Option Nat) (v4 : Int32) (v5 : Int32)  (rc8 : Int32 → Int32 → AM (Int32)) (hrc8 : ∀ (v0 : Int32) (v5 : Int32) (h : AH) (ls : Array Slot), LV ls 6 [(0, vI v0), (1, vR v1), (4, vI v4), (5, vI v5)] → rc8 v0 v5 h = some r → AW s0 K lam p l e R s m args below meth c (AQ s0 K lam below oI b r s) b h (F0 m 8 ls [])) {h : AH} {ls : Array Slot} (hl : LV ls 6 [(0, vI v0), (1, vR v1), (4, vI v4), (5, vI v5)]) (hf : f_J11_hashCode_2_b8 K rc8 v0 v1 v4 v5 h = some r) : AW s0 K lam p l e R s m args below meth c (AQ s0 K lam below oI b r s) b h (F0 m 8 ls []) := by
  unfold f_J11_hashCode_2_b8 at hf
  have X := Z.1.1
  refine a_iload (pc := 8) X dJ11_hashCode_2_8 hl 3 rfl ?_
  refine a_iload (pc := 10) X dJ11_hashCode_2_10 hl 2 rfl ?_
  refine AW.lift2 (fun _ _ _ _ k1 k2 => lv_icmp_ge (pc := 12) (tgt := 31) X.2.2.1 X.2.2.2.1 dJ11_hashCode_2_12 rfl k1 k2) (fun c => ?_) (fun c => ?_)
  · have hf := ite_t c hf
    refine a_iload_n (pc := 31) X dJ11_hashCode_2_31 rfl hl 0 rfl ?_
    exact a_ireturn X Z.2.2.1 Z.2.2.2.1 dJ11_hashCode_2_32 hf
  · have hf := ite_f c hf
    refine AW.lift (fun _ _ _ _ k => lv_bipush (pc := 15) (v := (31 : Int32)) X.2.2.1 X.2.2.2.1 dJ11_hashCode_2_15 rfl k) ?_
    refine a_iload_n (pc := 17) X dJ11_hashCode_2_17 rfl hl 0 rfl ?_
    refine AW.lift (fun _ _ _ _ k => lv_imul (pc := 18) X.2.2.1 X.2.2.2.1 dJ11_hashCode_2_18 k) ?_
    refine a_aload_n (pc := 19) X dJ11_hashCode_2_19 rfl hl 1 rfl ?_
    refine a_iload (pc := 20) X dJ11_hashCode_2_20 hl 3 rfl ?_
    refine a_baload (pc := 22) X dJ11_hashCode_2_22 hf (fun x22 hf => ?_)
    refine AW.lift (fun _ _ _ _ k => lv_iadd (pc := 23) X.2.2.1 X.2.2.2.1 dJ11_hashCode_2_23 k) ?_
    refine a_istore_n (pc := 24) X dJ11_hashCode_2_24 rfl hl (by decide) (lv' := [(0, vI (((31 : Int32) * v0) + x22)), (1, vR v1), (4, vI v4), (5, vI v5)]) rfl (fun ls hl => ?_)
    refine a_iinc (pc := 25) (v := (v5 + (1 : Int32))) X dJ11_hashCode_2_25 hl (k := 3) rfl rfl (by decide) (lv' := [(5, vI (v5 + (1 : Int32))), (0, vI (((31 : Int32) * v0) + x22)), (1, vR v1), (4, vI v4)]) rfl (fun ls hl => ?_)
    refine AW.lift (fun _ _ _ _ k => lv_goto (pc := 28) (tgt := 8) X.2.2.1 X.2.2.2.1 dJ11_hashCode_2_28 rfl k) ?_
    exact hrc8 (((31 : Int32) * v0) + x22) (v5 + (1 : Int32)) _ _ (hl.sub [1, 2, 3, 0] rfl) hf
theorem w_J11_hashCode_2_l8 {r : Except Nat (Int32) × AH} (GA : GA l s0 a0 K lam) (Z : WZ l s0 a0 K p s m c cJ11_hashCode_2 yJ11_hashCode_2.cls 6 b R 0 0 meth [] (some (.int)) yJ11_hashCode_2) (v1 : Option Nat) (v4 : Int32)  : ∀ (n : Nat) (v0 : Int32) (v5 : Int32) (h : AH) (ls : Array Slot), LV ls 6 [(0, vI v0), (1, vR v1), (4, vI v4), (5, vI v5)] → f_J11_hashCode_2_l8 K v1 v4 n v0 v5 h = some r → AW s0 K lam p l e R s m args below meth c (AQ s0 K lam below oI b r s) b h (F0 m 8 ls []) := by
  intro n
  induction n with
  | zero => intro v0 v5 h ls hl hf; exact fl_no (h := h) hf
  | succ n ih => intro v0 v5 h ls hl hf; exact w_J11_hashCode_2_b8 GA Z v0 v1 v4 v5 (f_J11_hashCode_2_l8 K v1 v4 n) ih hl hf
theorem np_J11_hashCode_2 : npar yJ11_hashCode_2.desc 4 := by unfold npar; decide +kernel
theorem hy_J11_hashCode_2 : yJ11_hashCode_2.cls ≠ "java/lang/invoke/MethodHandle" ∧ yJ11_hashCode_2.cls ≠ "java/lang/invoke/VarHandle" := by decide +kernel
theorem w_J11_hashCode_2 (GA : GA l s0 a0 K lam) (v0 : Int32) (v1 : Option Nat) (v2 : Int32) (v3 : Int32) : AMet l s0 K lam yJ11_hashCode_2 (Cond.code yJ11_hashCode_2 cJ11_hashCode_2 (6 : Nat) (Option.some ClassFile.FieldType.int)) 0 0 [vI v0, vR v1, vI v2, vI v3] oI (f_J11_hashCode_2 K v0 v1 v2 v3) := by
  refine AMet.of GA.1 (plainFor_of_name (by decide +kernel)) (Nat.le_of_ble_eq_true rfl) ?_
  intro b r hf p e s m args below meth c X hr hlk hnm hnd ht ls hl
  have Z : WZ l s0 a0 K p s m c cJ11_hashCode_2 yJ11_hashCode_2.cls 6 b { frames := 0, cells := K 0 - aX b, slots := K 1 - aW b, locals := 0 } 0 0 meth [] (some (.int)) yJ11_hashCode_2 := ⟨⟨X, GA.2.1, GA.2.2.1, rfl, rfl, Nat.le_refl _, Nat.le_refl _⟩, tab_nil ht, hr, hlk, hnm, hnd⟩
  unfold f_J11_hashCode_2 at hf
  clear hr hlk hnm hnd ht
  refine a_iload_n (pc := 0) X dJ11_hashCode_2_0 rfl hl 2 rfl ?_
  refine a_iload_n (pc := 1) X dJ11_hashCode_2_1 rfl hl 3 rfl ?_
  refine AW.lift (fun _ _ _ _ k => lv_iadd (pc := 2) X.2.2.1 X.2.2.2.1 dJ11_hashCode_2_2 k) ?_
  refine a_istore (pc := 3) X dJ11_hashCode_2_3 hl (by decide) (lv' := [(4, vI (v2 + v3)), (0, vI v0), (1, vR v1), (2, vI v2), (3, vI v3)]) rfl (fun ls hl => ?_)
  refine a_iload_n (pc := 5) X dJ11_hashCode_2_5 rfl hl 3 rfl ?_
  refine a_istore (pc := 6) X dJ11_hashCode_2_6 hl (by decide) (lv' := [(5, vI v2), (4, vI (v2 + v3)), (0, vI v0), (1, vR v1), (2, vI v2), (3, vI v3)]) rfl (fun ls hl => ?_)
  exact w_J11_hashCode_2_l8 GA Z v1 (v2 + v3)  FU v0 v2 _ _ (hl.sub [2, 3, 1, 0] rfl) hf
theorem np_J11_vectorizedHashCode : npar yJ11_vectorizedHashCode.desc 5 := by unfold npar; decide +kernel
theorem hy_J11_vectorizedHashCode : yJ11_vectorizedHashCode.cls ≠ "java/lang/invoke/MethodHandle" ∧ yJ11_vectorizedHashCode.cls ≠ "java/lang/invoke/VarHandle" := by decide +kernel
theorem w_J11_vectorizedHashCode (GA : GA l s0 a0 K lam) (v0 : Option Nat) (v1 : Int32) (v2 : Int32) (v3 : Int32) (v4 : Int32) : AMet l s0 K lam yJ11_vectorizedHashCode (Cond.code yJ11_vectorizedHashCode cJ11_vectorizedHashCode (5 : Nat) (Option.some ClassFile.FieldType.int)) 3 61 [vR v0, vI v1, vI v2, vI v3, vI v4] oI (f_J11_vectorizedHashCode K v0 v1 v2 v3 v4) := by
  refine AMet.of GA.1 (plainFor_of_name (by decide +kernel)) (Nat.le_of_ble_eq_true rfl) ?_
  intro b r hf p e s m args below meth c X hr hlk hnm hnd ht ls hl
  have Z : WZ l s0 a0 K p s m c cJ11_vectorizedHashCode yJ11_vectorizedHashCode.cls 5 b { frames := 3, cells := K 0 - aX b, slots := K 1 - aW b, locals := 61 } 3 61 meth [] (some (.int)) yJ11_vectorizedHashCode := ⟨⟨X, GA.2.1, GA.2.2.1, rfl, rfl, Nat.le_refl _, Nat.le_refl _⟩, tab_nil ht, hr, hlk, hnm, hnd⟩
  unfold f_J11_vectorizedHashCode at hf
  clear hr hlk hnm hnd ht
  refine a_iload (pc := 0) X dJ11_vectorizedHashCode_0 hl 4 rfl ?_
  by_cases c0 : v4 = (4 : Int32)
  · have hf := ite_t c0 hf
    refine AW.lift (fun _ _ _ _ k => lv_tableIn (pc := 2) (tgt := 44) (off := 42) X.2.2.1 X.2.2.2.1 dJ11_vectorizedHashCode_2 (by rw [c0]; decide) (by rw [c0]; decide) (by rw [c0]; rfl) rfl k) ?_
    refine a_iload_n (pc := 44) X dJ11_vectorizedHashCode_44 rfl hl 3 rfl ?_
    refine a_aload_n (pc := 45) X dJ11_vectorizedHashCode_45 rfl hl 0 rfl ?_
    refine a_castB (pc := 46) X (gw X.1 X.2.1 q1533) dJ11_vectorizedHashCode_46 hf (fun hf => ?_)
    refine a_iload_n (pc := 49) X dJ11_vectorizedHashCode_49 rfl hl 1 rfl ?_
    refine a_iload_n (pc := 50) X dJ11_vectorizedHashCode_50 rfl hl 2 rfl ?_
    refine a_callb (pc := 51) (rs := []) (avs := [vI v3, vR v0, vI v1, vI v2]) Z.1 (w_J11_signedHashCode GA v3 v0 v1 v2) (Or.inl rfl) q1536 q92 (by decide) (by decide) dJ11_vectorizedHashCode_51 hl.1 (Nat.le_of_ble_eq_true rfl) hf (ct_S X (Or.inl rfl) q1536 q92 q1534 q1535 hy_J11_signedHashCode np_J11_signedHashCode rfl dJ11_vectorizedHashCode_51) (fun q h he hX => a_out (unc_of Z.2.1 rfl) Z.2.2.2.1 he hX) (fun x51 h hf => ?kk51)
    refine AW.eq (g2 := F0 m 54 ls [.int x51]) rfl ?_
    refine AW.lift (fun _ _ _ _ k => lv_goto (pc := 54) (tgt := 157) X.2.2.1 X.2.2.2.1 dJ11_vectorizedHashCode_54 rfl k) ?_
    exact a_ireturn X Z.2.2.1 Z.2.2.2.1 dJ11_vectorizedHashCode_157 hf
  have hf := ite_f c0 hf
  by_cases c1 : v4 = (5 : Int32)
  · have hf := ite_t c1 hf
    refine AW.lift (fun _ _ _ _ k => lv_tableIn (pc := 2) (tgt := 57) (off := 55) X.2.2.1 X.2.2.2.1 dJ11_vectorizedHashCode_2 (by rw [c1]; decide) (by rw [c1]; decide) (by rw [c1]; rfl) rfl k) ?_
    refine a_aload_n (pc := 57) X dJ11_vectorizedHashCode_57 rfl hl 0 rfl ?_
    refine a_instanceof (pc := 58) X (gw X.1 X.2.1 q1533) (cs_none GA) (nc___B GA) dJ11_vectorizedHashCode_58 hf (fun x58 hf => ?_)
    refine AW.lift2 (fun _ _ _ _ k1 k2 => lv_if_eq (pc := 61) (tgt := 77) X.2.2.1 X.2.2.2.1 dJ11_vectorizedHashCode_61 rfl k1 k2) (fun c => ?_) (fun c => ?_)
    · have hf := ite_t c hf
      refine a_iload_n (pc := 77) X dJ11_vectorizedHashCode_77 rfl hl 3 rfl ?_
      refine a_aload_n (pc := 78) X dJ11_vectorizedHashCode_78 rfl hl 0 rfl ?_
      exact fl_no hf
    · have hf := ite_f c hf
      refine a_iload_n (pc := 64) X dJ11_vectorizedHashCode_64 rfl hl 3 rfl ?_
      refine a_aload_n (pc := 65) X dJ11_vectorizedHashCode_65 rfl hl 0 rfl ?_
      refine a_castB (pc := 66) X (gw X.1 X.2.1 q1533) dJ11_vectorizedHashCode_66 hf (fun hf => ?_)
      refine a_iload_n (pc := 69) X dJ11_vectorizedHashCode_69 rfl hl 1 rfl ?_
      refine a_iload_n (pc := 70) X dJ11_vectorizedHashCode_70 rfl hl 2 rfl ?_
      exact fl_no hf
  have hf := ite_f c1 hf
  by_cases c2 : v4 = (6 : Int32)
  · have hf := ite_t c2 hf
    refine AW.lift (fun _ _ _ _ k => lv_tableIn (pc := 2) (tgt := 129) (off := 127) X.2.2.1 X.2.2.2.1 dJ11_vectorizedHashCode_2 (by rw [c2]; decide) (by rw [c2]; decide) (by rw [c2]; rfl) rfl k) ?_
    refine a_new (pc := 129) (cK := 17) (n := 6) X Z.1.2.1 Z.1.2.2.1 Z.1.2.2.2.1 Z.1.2.2.2.2.1 ⟨by decide, by decide, by decide⟩ (gw X.1 X.2.1 q1568) (gw X.1 X.2.1 q734) (gw X.1 X.2.1 q106) dJ11_vectorizedHashCode_129 hf (fun x129 h hf => ?_)
    refine AW.lift (fun _ _ _ _ k => lv_dup (pc := 132) X.2.2.1 X.2.2.2.1 dJ11_vectorizedHashCode_132 (cat_rf _) k) ?_
    refine a_new (pc := 133) (cK := 36) (n := 4) X Z.1.2.1 Z.1.2.2.1 Z.1.2.2.2.1 Z.1.2.2.2.2.1 ⟨by decide, by decide, by decide⟩ (gw X.1 X.2.1 q1569) (gw X.1 X.2.1 q276) (gw X.1 X.2.1 q83) dJ11_vectorizedHashCode_133 hf (fun x133 h hf => ?_)
    refine AW.lift (fun _ _ _ _ k => lv_dup (pc := 136) X.2.2.1 X.2.2.2.1 dJ11_vectorizedHashCode_136 (cat_rf _) k) ?_
    refine a_callb (pc := 137) (rs := [vR (some x133), vR (some x129), vR (some x129)]) (avs := [vR (some x133)]) Z.1 (w_J6_init GA (some x133)) (Or.inl rfl) q279 q83 (by decide) (by decide) dJ11_vectorizedHashCode_137 hl.1 (Nat.le_of_ble_eq_true rfl) hf (ct_I X q279 q1570 q278 rfl hy_J6_init np_J6_init rfl dJ11_vectorizedHashCode_137) (fun q h he hX => a_out (unc_of Z.2.1 rfl) Z.2.2.2.1 he hX) (fun _ h hf => ?kk137)
    refine AW.eq (g2 := F0 m 140 ls [va_rf (some x133), va_rf (some x129), va_rf (some x129)]) rfl ?_
    exact fl_no hf
  have hf := ite_f c2 hf
  by_cases c3 : v4 = (7 : Int32)
  · have hf := ite_t c3 hf
    refine AW.lift (fun _ _ _ _ k => lv_tableIn (pc := 2) (tgt := 129) (off := 127) X.2.2.1 X.2.2.2.1 dJ11_vectorizedHashCode_2 (by rw [c3]; decide) (by rw [c3]; decide) (by rw [c3]; rfl) rfl k) ?_
    refine a_new (pc := 129) (cK := 17) (n := 6) X Z.1.2.1 Z.1.2.2.1 Z.1.2.2.2.1 Z.1.2.2.2.2.1 ⟨by decide, by decide, by decide⟩ (gw X.1 X.2.1 q1568) (gw X.1 X.2.1 q734) (gw X.1 X.2.1 q106) dJ11_vectorizedHashCode_129 hf (fun x129 h hf => ?_)
    refine AW.lift (fun _ _ _ _ k => lv_dup (pc := 132) X.2.2.1 X.2.2.2.1 dJ11_vectorizedHashCode_132 (cat_rf _) k) ?_
    refine a_new (pc := 133) (cK := 36) (n := 4) X Z.1.2.1 Z.1.2.2.1 Z.1.2.2.2.1 Z.1.2.2.2.2.1 ⟨by decide, by decide, by decide⟩ (gw X.1 X.2.1 q1569) (gw X.1 X.2.1 q276) (gw X.1 X.2.1 q83) dJ11_vectorizedHashCode_133 hf (fun x133 h hf => ?_)
    refine AW.lift (fun _ _ _ _ k => lv_dup (pc := 136) X.2.2.1 X.2.2.2.1 dJ11_vectorizedHashCode_136 (cat_rf _) k) ?_
    refine a_callb (pc := 137) (rs := [vR (some x133), vR (some x129), vR (some x129)]) (avs := [vR (some x133)]) Z.1 (w_J6_init GA (some x133)) (Or.inl rfl) q279 q83 (by decide) (by decide) dJ11_vectorizedHashCode_137 hl.1 (Nat.le_of_ble_eq_true rfl) hf (ct_I X q279 q1570 q278 rfl hy_J6_init np_J6_init rfl dJ11_vectorizedHashCode_137) (fun q h he hX => a_out (unc_of Z.2.1 rfl) Z.2.2.2.1 he hX) (fun _ h hf => ?kk137x1)
    refine AW.eq (g2 := F0 m 140 ls [va_rf (some x133), va_rf (some x129), va_rf (some x129)]) rfl ?_
    exact fl_no hf
  have hf := ite_f c3 hf
  by_cases c4 : v4 = (8 : Int32)
  · have hf := ite_t c4 hf
    refine AW.lift (fun _ _ _ _ k => lv_tableIn (pc := 2) (tgt := 90) (off := 88) X.2.2.1 X.2.2.2.1 dJ11_vectorizedHashCode_2 (by rw [c4]; decide) (by rw [c4]; decide) (by rw [c4]; rfl) rfl k) ?_
    refine a_iload_n (pc := 90) X dJ11_vectorizedHashCode_90 rfl hl 3 rfl ?_
    refine a_aload_n (pc := 91) X dJ11_vectorizedHashCode_91 rfl hl 0 rfl ?_
    refine a_castB (pc := 92) X (gw X.1 X.2.1 q1533) dJ11_vectorizedHashCode_92 hf (fun hf => ?_)
    refine a_iload_n (pc := 95) X dJ11_vectorizedHashCode_95 rfl hl 1 rfl ?_
    refine a_iload_n (pc := 96) X dJ11_vectorizedHashCode_96 rfl hl 2 rfl ?_
    refine a_callb (pc := 97) (rs := []) (avs := [vI v3, vR v0, vI v1, vI v2]) Z.1 (w_J11_hashCode_2 GA v3 v0 v1 v2) (Or.inl rfl) q1559 q92 (by decide) (by decide) dJ11_vectorizedHashCode_97 hl.1 (Nat.le_of_ble_eq_true rfl) hf (ct_S X (Or.inl rfl) q1559 q92 q1557 q1558 hy_J11_hashCode_2 np_J11_hashCode_2 rfl dJ11_vectorizedHashCode_97) (fun q h he hX => a_out (unc_of Z.2.1 rfl) Z.2.2.2.1 he hX) (fun x97 h hf => ?kk97)
    refine AW.eq (g2 := F0 m 100 ls [.int x97]) rfl ?_
    refine AW.lift (fun _ _ _ _ k => lv_goto (pc := 100) (tgt := 157) X.2.2.1 X.2.2.2.1 dJ11_vectorizedHashCode_100 rfl k) ?_
    exact a_ireturn X Z.2.2.1 Z.2.2.2.1 dJ11_vectorizedHashCode_157 hf
  have hf := ite_f c4 hf
  by_cases c5 : v4 = (9 : Int32)
  · have hf := ite_t c5 hf
    refine AW.lift (fun _ _ _ _ k => lv_tableIn (pc := 2) (tgt := 103) (off := 101) X.2.2.1 X.2.2.2.1 dJ11_vectorizedHashCode_2 (by rw [c5]; decide) (by rw [c5]; decide) (by rw [c5]; rfl) rfl k) ?_
    refine a_iload_n (pc := 103) X dJ11_vectorizedHashCode_103 rfl hl 3 rfl ?_
    refine a_aload_n (pc := 104) X dJ11_vectorizedHashCode_104 rfl hl 0 rfl ?_
    exact fl_no hf
  have hf := ite_f c5 hf
  by_cases c6 : v4 = (10 : Int32)
  · have hf := ite_t c6 hf
    refine AW.lift (fun _ _ _ _ k => lv_tableIn (pc := 2) (tgt := 116) (off := 114) X.2.2.1 X.2.2.2.1 dJ11_vectorizedHashCode_2 (by rw [c6]; decide) (by rw [c6]; decide) (by rw [c6]; rfl) rfl k) ?_
    refine a_iload_n (pc := 116) X dJ11_vectorizedHashCode_116 rfl hl 3 rfl ?_
    refine a_aload_n (pc := 117) X dJ11_vectorizedHashCode_117 rfl hl 0 rfl ?_
    exact fl_no hf
  have hf := ite_f c6 hf
  have n0 := lv_neT (a := 4) c0 rfl
  have n1 := lv_neT (a := 5) c1 rfl
  have n2 := lv_neT (a := 6) c2 rfl
  have n3 := lv_neT (a := 7) c3 rfl
  have n4 := lv_neT (a := 8) c4 rfl
  have n5 := lv_neT (a := 9) c5 rfl
  have n6 := lv_neT (a := 10) c6 rfl
  refine AW.lift (fun _ _ _ _ k => lv_tableOut (pc := 2) (tgt := 129) X.2.2.1 X.2.2.2.1 dJ11_vectorizedHashCode_2 (by omega) rfl k) ?_
  refine a_new (pc := 129) (cK := 17) (n := 6) X Z.1.2.1 Z.1.2.2.1 Z.1.2.2.2.1 Z.1.2.2.2.2.1 ⟨by decide, by decide, by decide⟩ (gw X.1 X.2.1 q1568) (gw X.1 X.2.1 q734) (gw X.1 X.2.1 q106) dJ11_vectorizedHashCode_129 hf (fun x129 h hf => ?_)
  refine AW.lift (fun _ _ _ _ k => lv_dup (pc := 132) X.2.2.1 X.2.2.2.1 dJ11_vectorizedHashCode_132 (cat_rf _) k) ?_
  refine a_new (pc := 133) (cK := 36) (n := 4) X Z.1.2.1 Z.1.2.2.1 Z.1.2.2.2.1 Z.1.2.2.2.2.1 ⟨by decide, by decide, by decide⟩ (gw X.1 X.2.1 q1569) (gw X.1 X.2.1 q276) (gw X.1 X.2.1 q83) dJ11_vectorizedHashCode_133 hf (fun x133 h hf => ?_)
  refine AW.lift (fun _ _ _ _ k => lv_dup (pc := 136) X.2.2.1 X.2.2.2.1 dJ11_vectorizedHashCode_136 (cat_rf _) k) ?_
  refine a_callb (pc := 137) (rs := [vR (some x133), vR (some x129), vR (some x129)]) (avs := [vR (some x133)]) Z.1 (w_J6_init GA (some x133)) (Or.inl rfl) q279 q83 (by decide) (by decide) dJ11_vectorizedHashCode_137 hl.1 (Nat.le_of_ble_eq_true rfl) hf (ct_I X q279 q1570 q278 rfl hy_J6_init np_J6_init rfl dJ11_vectorizedHashCode_137) (fun q h he hX => a_out (unc_of Z.2.1 rfl) Z.2.2.2.1 he hX) (fun _ h hf => ?kk137x2)
  refine AW.eq (g2 := F0 m 140 ls [va_rf (some x133), va_rf (some x129), va_rf (some x129)]) rfl ?_
  exact fl_no hf
theorem np_J21_hashCode : npar yJ21_hashCode.desc 1 := by unfold npar; decide +kernel
theorem hy_J21_hashCode : yJ21_hashCode.cls ≠ "java/lang/invoke/MethodHandle" ∧ yJ21_hashCode.cls ≠ "java/lang/invoke/VarHandle" := by decide +kernel
theorem w_J21_hashCode (GA : GA l s0 a0 K lam) (v0 : Option Nat) : AMet l s0 K lam yJ21_hashCode (Cond.code yJ21_hashCode cJ21_hashCode (1 : Nat) (Option.some ClassFile.FieldType.int)) 4 85 [vR v0] oI (f_J21_hashCode K v0) := by
  refine AMet.of GA.1 (plainFor_of_name (by decide +kernel)) (Nat.le_of_ble_eq_true rfl) ?_
  intro b r hf p e s m args below meth c X hr hlk hnm hnd ht ls hl
  have Z : WZ l s0 a0 K p s m c cJ21_hashCode yJ21_hashCode.cls 1 b { frames := 4, cells := K 0 - aX b, slots := K 1 - aW b, locals := 85 } 4 85 meth [] (some (.int)) yJ21_hashCode := ⟨⟨X, GA.2.1, GA.2.2.1, rfl, rfl, Nat.le_refl _, Nat.le_refl _⟩, tab_nil ht, hr, hlk, hnm, hnd⟩
  unfold f_J21_hashCode at hf
  clear hr hlk hnm hnd ht
  refine a_aload_n (pc := 0) X dJ21_hashCode_0 rfl hl 0 rfl ?_
  refine a_arraylength (pc := 1) X dJ21_hashCode_1 hf (fun x1 hf => ?_)
  by_cases c0 : x1 = (0 : Int32)
  · have hf := ite_t c0 hf
    refine AW.lift (fun _ _ _ _ k => lv_lookup (pc := 2) (tgt := 28) (off := 26) X.2.2.1 X.2.2.2.1 dJ21_hashCode_2 (by decide) (by rw [c0]; rfl) rfl k) ?_
    refine AW.lift (fun _ _ _ _ k => lv_iconst (pc := 28) (v := (0 : Int32)) X.2.2.1 X.2.2.2.1 dJ21_hashCode_28 rfl k) ?_
    refine AW.lift (fun _ _ _ _ k => lv_goto (pc := 29) (tgt := 51) X.2.2.1 X.2.2.2.1 dJ21_hashCode_29 rfl k) ?_
    exact a_ireturn X Z.2.2.1 Z.2.2.2.1 dJ21_hashCode_51 hf
  have hf := ite_f c0 hf
  by_cases c1 : x1 = (1 : Int32)
  · have hf := ite_t c1 hf
    refine AW.lift (fun _ _ _ _ k => lv_lookup (pc := 2) (tgt := 32) (off := 30) X.2.2.1 X.2.2.2.1 dJ21_hashCode_2 (by decide) (by rw [c1]; rfl) rfl k) ?_
    refine a_aload_n (pc := 32) X dJ21_hashCode_32 rfl hl 0 rfl ?_
    refine AW.lift (fun _ _ _ _ k => lv_iconst (pc := 33) (v := (0 : Int32)) X.2.2.1 X.2.2.2.1 dJ21_hashCode_33 rfl k) ?_
    refine a_baload (pc := 34) X dJ21_hashCode_34 hf (fun x34 hf => ?_)
    refine AW.lift (fun _ _ _ _ k => lv_sipush (pc := 35) (v := (255 : Int32)) X.2.2.1 X.2.2.2.1 dJ21_hashCode_35 rfl k) ?_
    refine AW.lift (fun _ _ _ _ k => lv_iand (pc := 38) X.2.2.1 X.2.2.2.1 dJ21_hashCode_38 k) ?_
    refine AW.lift (fun _ _ _ _ k => lv_goto (pc := 39) (tgt := 51) X.2.2.1 X.2.2.2.1 dJ21_hashCode_39 rfl k) ?_
    exact a_ireturn X Z.2.2.1 Z.2.2.2.1 dJ21_hashCode_51 hf
  have hf := ite_f c1 hf
  refine AW.lift (fun _ _ _ _ k => lv_lookup (pc := 2) (tgt := 42) (off := 40) X.2.2.1 X.2.2.2.1 dJ21_hashCode_2 (by decide) ((lv_osw c0 rfl).trans ((lv_osw c1 rfl).trans rfl)) rfl k) ?_
  refine a_aload_n (pc := 42) X dJ21_hashCode_42 rfl hl 0 rfl ?_
  refine AW.lift (fun _ _ _ _ k => lv_iconst (pc := 43) (v := (0 : Int32)) X.2.2.1 X.2.2.2.1 dJ21_hashCode_43 rfl k) ?_
  refine a_aload_n (pc := 44) X dJ21_hashCode_44 rfl hl 0 rfl ?_
  refine a_arraylength (pc := 45) X dJ21_hashCode_45 hf (fun x45 hf => ?_)
  refine AW.lift (fun _ _ _ _ k => lv_iconst (pc := 46) (v := (0 : Int32)) X.2.2.1 X.2.2.2.1 dJ21_hashCode_46 rfl k) ?_
  refine AW.lift (fun _ _ _ _ k => lv_iconst (pc := 47) (v := (4 : Int32)) X.2.2.1 X.2.2.2.1 dJ21_hashCode_47 rfl k) ?_
  refine a_callb (pc := 48) (rs := []) (avs := [vR v0, vI (0 : Int32), vI x45, vI (0 : Int32), vI (4 : Int32)]) Z.1 (w_J11_vectorizedHashCode GA v0 (0 : Int32) x45 (0 : Int32) (4 : Int32)) (Or.inl rfl) q1532 q92 (by decide) (by decide) dJ21_hashCode_48 hl.1 (Nat.le_of_ble_eq_true rfl) hf (ct_S X (Or.inl rfl) q1532 q92 q1530 q1531 hy_J11_vectorizedHashCode np_J11_vectorizedHashCode rfl dJ21_hashCode_48) (fun q h he hX => a_out (unc_of Z.2.1 rfl) Z.2.2.2.1 he hX) (fun x48 h hf => ?kk48)
  refine AW.eq (g2 := F0 m 51 ls [.int x48]) rfl ?_
  exact a_ireturn X Z.2.2.1 Z.2.2.2.1 dJ21_hashCode_51 hf
theorem w_J7_hashCode_j40 {r : Except Nat (Int32) × AH} (GA : GA l s0 a0 K lam) (Z : WZ l s0 a0 K p s m c cJ7_hashCode yJ7_hashCode.cls 2 b R 5 105 meth [] (some (.int)) yJ7_hashCode) (v0 : Option Nat) (t0 : Int32)  {h : AH} {ls : Array Slot} (hl : LV ls 2 [(0, vR v0)]) (hf : f_J7_hashCode_j40 K v0 t0 h = some r) : AW s0 K lam p l e R s m args below meth c (AQ s0 K lam below oI b r s) b h (F0 m 40 ls [.int t0]) := by
  unfold f_J7_hashCode_j40 at hf
  have X := Z.1.1
  refine a_istore_n (pc := 40) X dJ7_hashCode_40 rfl hl (by decide) (lv' := [(1, vI t0), (0, vR v0)]) rfl (fun ls hl => ?_)
  refine a_iload_n (pc := 41) X dJ7_hashCode_41 rfl hl 0 rfl ?_
  refine AW.lift2 (fun _ _ _ _ k1 k2 => lv_if_ne (pc := 42) (tgt := 53) X.2.2.1 X.2.2.2.1 dJ7_hashCode_42 rfl k2 k1) (fun c => ?_) (fun c => ?_)
  · have hf := ite_t c hf
    refine a_aload_n (pc := 45) X dJ7_hashCode_45 rfl hl 1 rfl ?_
    refine AW.lift (fun _ _ _ _ k => lv_iconst (pc := 46) (v := (1 : Int32)) X.2.2.1 X.2.2.2.1 dJ7_hashCode_46 rfl k) ?_
    refine a_put (pc := 47) (φ := 3403) X Z.1.2.1 Z.1.2.2.1 (gw X.1 X.2.1 q778) (fun _ q => q) (by decide) rfl rfl dJ7_hashCode_47 hf (fun h hf => ?_)
    refine AW.lift (fun _ _ _ _ k => lv_goto (pc := 50) (tgt := 58) X.2.2.1 X.2.2.2.1 dJ7_hashCode_50 rfl k) ?_
    refine a_iload_n (pc := 58) X dJ7_hashCode_58 rfl hl 0 rfl ?_
    exact a_ireturn X Z.2.2.1 Z.2.2.2.1 dJ7_hashCode_59 hf
  · have hf := ite_f c hf
    refine a_aload_n (pc := 53) X dJ7_hashCode_53 rfl hl 1 rfl ?_
    refine a_iload_n (pc := 54) X dJ7_hashCode_54 rfl hl 0 rfl ?_
    refine a_put (pc := 55) (φ := 3402) X Z.1.2.1 Z.1.2.2.1 (gw X.1 X.2.1 q777) (fun _ q => q) (by decide) rfl rfl dJ7_hashCode_55 hf (fun h hf => ?_)
    refine a_iload_n (pc := 58) X dJ7_hashCode_58 rfl hl 0 rfl ?_
    exact a_ireturn X Z.2.2.1 Z.2.2.2.1 dJ7_hashCode_59 hf
theorem np_J7_hashCode : npar yJ7_hashCode.desc 0 := by unfold npar; decide +kernel
theorem hy_J7_hashCode : yJ7_hashCode.cls ≠ "java/lang/invoke/MethodHandle" ∧ yJ7_hashCode.cls ≠ "java/lang/invoke/VarHandle" := by decide +kernel
theorem w_J7_hashCode (GA : GA l s0 a0 K lam) (v0 : Option Nat) : AMet l s0 K lam yJ7_hashCode (Cond.code yJ7_hashCode cJ7_hashCode (2 : Nat) (Option.some ClassFile.FieldType.int)) 5 105 [vR v0] oI (f_J7_hashCode K v0) := by
  refine AMet.of GA.1 (plainFor_of_name (by decide +kernel)) (Nat.le_of_ble_eq_true rfl) ?_
  intro b r hf p e s m args below meth c X hr hlk hnm hnd ht ls hl
  have Z : WZ l s0 a0 K p s m c cJ7_hashCode yJ7_hashCode.cls 2 b { frames := 5, cells := K 0 - aX b, slots := K 1 - aW b, locals := 105 } 5 105 meth [] (some (.int)) yJ7_hashCode := ⟨⟨X, GA.2.1, GA.2.2.1, rfl, rfl, Nat.le_refl _, Nat.le_refl _⟩, tab_nil ht, hr, hlk, hnm, hnd⟩
  unfold f_J7_hashCode at hf
  clear hr hlk hnm hnd ht
  refine a_aload_n (pc := 0) X dJ7_hashCode_0 rfl hl 0 rfl ?_
  refine a_get (pc := 1) (φ := 3402) pI_t X Z.1.2.1 (gw X.1 X.2.1 q777) (fun _ q => q) (by decide) dJ7_hashCode_1 hf (fun x1 hf => ?_)
  refine a_istore_n (pc := 4) X dJ7_hashCode_4 rfl hl (by decide) (lv' := [(1, vI x1), (0, vR v0)]) rfl (fun ls hl => ?_)
  refine a_iload_n (pc := 5) X dJ7_hashCode_5 rfl hl 0 rfl ?_
  refine AW.lift2 (fun _ _ _ _ k1 k2 => lv_if_ne (pc := 6) (tgt := 58) X.2.2.1 X.2.2.2.1 dJ7_hashCode_6 rfl k2 k1) (fun c => ?_) (fun c => ?_)
  · have hf := ite_t c hf
    refine a_aload_n (pc := 9) X dJ7_hashCode_9 rfl hl 1 rfl ?_
    refine a_get (pc := 10) (φ := 3403) pI_t X Z.1.2.1 (gw X.1 X.2.1 q778) (fun _ q => q) (by decide) dJ7_hashCode_10 hf (fun x10 hf => ?_)
    refine AW.lift2 (fun _ _ _ _ k1 k2 => lv_if_ne (pc := 13) (tgt := 58) X.2.2.1 X.2.2.2.1 dJ7_hashCode_13 rfl k2 k1) (fun c => ?_) (fun c => ?_)
    · have hf := ite_t c hf
      refine a_aload_n (pc := 16) X dJ7_hashCode_16 rfl hl 1 rfl ?_
      obtain ⟨a17, rfl, ⟨hk, hf⟩ | ⟨-, hf⟩⟩ := dv_some hf
      rotate_left
      · exact fl_none hf
      refine a_callb (pc := 17) (rs := []) (avs := [vR (some a17)]) Z.1 (w_J7_isLatin1 GA (some a17)) (Or.inl rfl) q1526 q84 (by decide) (by decide) dJ7_hashCode_17 hl.1 (Nat.le_of_ble_eq_true rfl) hf (ct_V hk ⟨by decide, by decide⟩ X (Or.inl rfl) q1526 q1523 q1524 q1525 hy_J7_isLatin1 np_J7_isLatin1 rfl dJ7_hashCode_17) (fun q h he hX => a_out (unc_of Z.2.1 rfl) Z.2.2.2.1 he hX) (fun x17 h hf => ?kk17)
      refine AW.eq (g2 := F0 m 20 ls [.int x17]) rfl ?_
      refine AW.lift2 (fun _ _ _ _ k1 k2 => lv_if_eq (pc := 20) (tgt := 33) X.2.2.1 X.2.2.2.1 dJ7_hashCode_20 rfl k1 k2) (fun c => ?_) (fun c => ?_)
      · have hf := ite_t c hf
        refine a_aload_n (pc := 33) X dJ7_hashCode_33 rfl hl 1 rfl ?_
        refine a_get (pc := 34) (φ := 3400) pR_t X Z.1.2.1 (gw X.1 X.2.1 q775) (fun _ q => q) (by decide) dJ7_hashCode_34 hf (fun x34 hf => ?_)
        exact fl_no hf
      · have hf := ite_f c hf
        refine a_aload_n (pc := 23) X dJ7_hashCode_23 rfl hl 1 rfl ?_
        refine a_get (pc := 24) (φ := 3400) pR_t X Z.1.2.1 (gw X.1 X.2.1 q775) (fun _ q => q) (by decide) dJ7_hashCode_24 hf (fun x24 hf => ?_)
        refine a_callb (pc := 27) (rs := []) (avs := [vR x24]) Z.1 (w_J21_hashCode GA x24) (Or.inl rfl) q1529 q103 (by decide) (by decide) dJ7_hashCode_27 hl.1 (Nat.le_of_ble_eq_true rfl) hf (ct_S X (Or.inl rfl) q1529 q103 q1527 q1528 hy_J21_hashCode np_J21_hashCode rfl dJ7_hashCode_27) (fun q h he hX => a_out (unc_of Z.2.1 rfl) Z.2.2.2.1 he hX) (fun x27 h hf => ?kk27)
        refine AW.eq (g2 := F0 m 30 ls [.int x27]) rfl ?_
        refine AW.lift (fun _ _ _ _ k => lv_goto (pc := 30) (tgt := 40) X.2.2.1 X.2.2.2.1 dJ7_hashCode_30 rfl k) ?_
        exact w_J7_hashCode_j40 GA Z (some a17) x27  (hl.sub [1] rfl) hf
    · have hf := ite_f c hf
      refine a_iload_n (pc := 58) X dJ7_hashCode_58 rfl hl 0 rfl ?_
      exact a_ireturn X Z.2.2.1 Z.2.2.2.1 dJ7_hashCode_59 hf
  · have hf := ite_f c hf
    refine a_iload_n (pc := 58) X dJ7_hashCode_58 rfl hl 0 rfl ?_
    exact a_ireturn X Z.2.2.1 Z.2.2.2.1 dJ7_hashCode_59 hf
theorem np_X1_isIn : npar yX1_isIn.desc 3 := by unfold npar; decide +kernel
theorem hy_X1_isIn : yX1_isIn.cls ≠ "java/lang/invoke/MethodHandle" ∧ yX1_isIn.cls ≠ "java/lang/invoke/VarHandle" := by decide +kernel
theorem w_X1_isIn (GA : GA l s0 a0 K lam) (v0 : Int32) (v1 : Int32) (v2 : Int32) : AMet l s0 K lam yX1_isIn (Cond.code yX1_isIn cX1_isIn (3 : Nat) (Option.some ClassFile.FieldType.boolean)) 0 0 [vI v0, vI v1, vI v2] oI (f_X1_isIn K v0 v1 v2) := by
  refine AMet.of GA.1 (plainFor_of_name (by decide +kernel)) (Nat.le_of_ble_eq_true rfl) ?_
  intro b r hf p e s m args below meth c X hr hlk hnm hnd ht ls hl
  have Z : WZ l s0 a0 K p s m c cX1_isIn yX1_isIn.cls 3 b { frames := 0, cells := K 0 - aX b, slots := K 1 - aW b, locals := 0 } 0 0 meth [] (some (.boolean)) yX1_isIn := ⟨⟨X, GA.2.1, GA.2.2.1, rfl, rfl, Nat.le_refl _, Nat.le_refl _⟩, tab_nil ht, hr, hlk, hnm, hnd⟩
  unfold f_X1_isIn at hf
  clear hr hlk hnm hnd ht
  refine a_iload_n (pc := 0) X dX1_isIn_0 rfl hl 0 rfl ?_
  refine a_iload_n (pc := 1) X dX1_isIn_1 rfl hl 1 rfl ?_
  refine AW.lift2 (fun _ _ _ _ k1 k2 => lv_icmp_lt (pc := 2) (tgt := 14) X.2.2.1 X.2.2.2.1 dX1_isIn_2 rfl k1 k2) (fun c => ?_) (fun c => ?_)
  · have hf := ite_t c hf
    refine AW.lift (fun _ _ _ _ k => lv_iconst (pc := 14) (v := (0 : Int32)) X.2.2.1 X.2.2.2.1 dX1_isIn_14 rfl k) ?_
    exact a_zreturn X Z.2.2.1 rfl Z.2.2.2.1 dX1_isIn_15 hf
  · have hf := ite_f c hf
    refine a_iload_n (pc := 5) X dX1_isIn_5 rfl hl 0 rfl ?_
    refine a_iload_n (pc := 6) X dX1_isIn_6 rfl hl 2 rfl ?_
    refine AW.lift2 (fun _ _ _ _ k1 k2 => lv_icmp_gt (pc := 7) (tgt := 14) X.2.2.1 X.2.2.2.1 dX1_isIn_7 rfl k1 k2) (fun c => ?_) (fun c => ?_)
    · have hf := ite_t c hf
      refine AW.lift (fun _ _ _ _ k => lv_iconst (pc := 14) (v := (0 : Int32)) X.2.2.1 X.2.2.2.1 dX1_isIn_14 rfl k) ?_
      exact a_zreturn X Z.2.2.1 rfl Z.2.2.2.1 dX1_isIn_15 hf
    · have hf := ite_f c hf
      refine AW.lift (fun _ _ _ _ k => lv_iconst (pc := 10) (v := (1 : Int32)) X.2.2.1 X.2.2.2.1 dX1_isIn_10 rfl k) ?_
      refine AW.lift (fun _ _ _ _ k => lv_goto (pc := 11) (tgt := 15) X.2.2.1 X.2.2.2.1 dX1_isIn_11 rfl k) ?_
      exact a_zreturn X Z.2.2.1 rfl Z.2.2.2.1 dX1_isIn_15 hf
end WK
