section WK
variable {l : Launch} {s0 : State} {a0 : Array Value} {K : Nat → Nat} {lam : Nat → ClassId}
variable {p : Program} {e : Env} {R : Room} {s : State} {m : MethodId} {args : Array Value} {below : List Frame} {meth : Method} {c : Code} {b : AH}
theorem np_X1_lambda_jumper_4 : npar yX1_lambda_jumper_4.desc 3 := by unfold npar; decide +kernel
theorem hy_X1_lambda_jumper_4 : yX1_lambda_jumper_4.cls ≠ "java/lang/invoke/MethodHandle" ∧ yX1_lambda_jumper_4.cls ≠ "java/lang/invoke/VarHandle" := by decide +kernel
theorem w_X1_lambda_jumper_4 (GA : GA l s0 a0 K lam) (v0 : Int32) (v1 : Int32) (v2 : Option Nat) : AMet l s0 K lam yX1_lambda_jumper_4 (Cond.code yX1_lambda_jumper_4 cX1_lambda_jumper_4 (3 : Nat) (Option.some ClassFile.FieldType.int)) 10 449 [vI v0, vI v1, vR v2] oI (f_X1_lambda_jumper_4 K v0 v1 v2) := by
  refine AMet.of GA.1 (plainFor_of_name (by decide +kernel)) (Nat.le_of_ble_eq_true rfl) ?_
  intro b r hf p e s m args below meth c X hr hlk hnm hnd ht ls hl
  have Z : WZ l s0 a0 K p s m c cX1_lambda_jumper_4 yX1_lambda_jumper_4.cls 3 b { frames := 10, cells := K 0 - aX b, slots := K 1 - aW b, locals := 449 } 10 449 meth [] (some (.int)) yX1_lambda_jumper_4 := ⟨⟨X, GA.2.1, GA.2.2.1, rfl, rfl, Nat.le_refl _, Nat.le_refl _⟩, tab_nil ht, hr, hlk, hnm, hnd⟩
  unfold f_X1_lambda_jumper_4 at hf
  clear hr hlk hnm hnd ht
  refine a_aload_n (pc := 0) X dX1_lambda_jumper_4_0 rfl hl 2 rfl ?_
  refine a_iload_n (pc := 1) X dX1_lambda_jumper_4_1 rfl hl 0 rfl ?_
  refine a_iload_n (pc := 2) X dX1_lambda_jumper_4_2 rfl hl 1 rfl ?_
  refine AW.lift (fun _ _ _ _ k => lv_iconst (pc := 3) (v := (-1 : Int32)) X.2.2.1 X.2.2.2.1 dX1_lambda_jumper_4_3 rfl k) ?_
  obtain ⟨a4, rfl, ⟨hk, hf⟩ | ⟨-, hf⟩⟩ := dv_some hf
  rotate_left
  · exact fl_none hf
  refine a_callb (pc := 4) (rs := []) (avs := [vR (some a4), vI v0, vI v1, vI (-1 : Int32)]) Z.1 (w_X2_addJumper GA (some a4) v0 v1 (-1 : Int32)) (Or.inl rfl) q2005 q75 (by decide) (by decide) dX1_lambda_jumper_4_4 hl.1 (Nat.le_of_ble_eq_true rfl) hf (ct_V hk ⟨by decide, by decide⟩ X (Or.inl rfl) q2005 q2002 q2003 q2004 hy_X2_addJumper np_X2_addJumper rfl dX1_lambda_jumper_4_4) (fun q h he hX => a_out (unc_of Z.2.1 rfl) Z.2.2.2.1 he hX) (fun x4 h hf => ?kk4)
  refine AW.eq (g2 := F0 m 7 ls [.int x4]) rfl ?_
  exact a_ireturn X Z.2.2.1 Z.2.2.2.1 dX1_lambda_jumper_4_7 hf
theorem cl_207 {Q : State → Prop} {h : AH} {cc : ByteArray} {own : String} {nL pc : Nat} {ls : Array Slot} {st : List Value} {F Lo idx cnt a : Nat} {v : Option Nat} {rs : List TV} (X : WX l s0 a0 K p s m c cc own nL b R F Lo) (GA : GA l s0 a0 K lam) (hk : aK h a = 207) (hlink : Cond.methodLink own idx ({ cls := "JumpHall$Deed", name := "in", desc := "(LJumpHall$Hall;)I" } : MethodName) ∈ lw_all) (hF : 12 ≤ F) (hLo : 500 ≤ Lo) (hsz : ls.size = nL) (hW8 : (rs.map tcat).sum ≤ 8) (hst : st = va_rf v :: .ref a :: rs.map tvv) (hdg : decode cc pc = .ok (.invokeinterface idx cnt, 5)) : LC s0 K lam p l e R s m args below meth c Q b h pc ls (rs.map tvv) st (c_lam207 K (some a) v) := by
  intro r1 hf kk kx
  unfold c_lam207 at hf
  obtain ⟨a0, c0, e0, -, hp0, hf⟩ := gL_some hf
  cases e0
  obtain ⟨a1, c1, e1, -, hp1, hf⟩ := gL_some hf
  cases e1
  refine lam_core (caps := [vI c0, vI c1]) (arg := vR v) (f := f_X1_lambda_jumper_4 K c0 c1 v) (x := ⟨"JumpHall", "jumper", "(II)I"⟩) (fs := [16, 18]) (ig := .invokestatic 26) X (siG_207 GA) hfb_7 (lw_all_tbl q3550) ⟨by decide, by decide⟩ rfl hk (y := yX1_lambda_jumper_4) (by decide +kernel) hy_X1_lambda_jumper_4 (by decide +kernel) ⟨by decide, by decide⟩ hlink (gf X.1.1 X.1.2.1 q1758 rfl) (gf X.1.1 X.1.2.1 q1757 rfl) (by decide +kernel) (by unfold npar; decide +kernel) (w_X1_lambda_jumper_4 GA c0 c1 v) (Or.inl rfl) q2001 q74 (fun _ _ => rfl) rfl (fun j v hj => by
    rcases j with _ | _ | j
    · exact (Option.some.inj hj : vI c0 = v) ▸ pI_t hp0
    · exact (Option.some.inj hj : vI c1 = v) ▸ pI_t hp1
    · exact absurd hj (by simp)) ⟨(fun j i hj => by
    rcases j with _ | _ | j
    · obtain rfl : 16 = i := Option.some.inj hj
      exact ⟨by decide +kernel, by decide +kernel⟩
    · obtain rfl : 18 = i := Option.some.inj hj
      exact ⟨by decide +kernel, by decide +kernel⟩
    · exact absurd hj (by simp)), by decide +kernel, by decide +kernel, by decide +kernel⟩ ⟨rfl, by cases v <;> rfl⟩ hF hLo hsz hW8 hst hdg (lam_stat GA.1 q2000 q74 hy_X1_lambda_jumper_4 np_X1_lambda_jumper_4 (Or.inl rfl) q2001 (by decide +kernel)) r1 hf kk kx
theorem w_X2_many_j47 {r : Except Nat (Int32) × AH} (GA : GA l s0 a0 K lam) (Z : WZ l s0 a0 K p s m c cX2_many yX2_many.cls 5 b R 9 422 meth [] (some (.int)) yX2_many) (v1 : Option Nat) (v3 : Option Nat) (t0 : Int32) (t1 : Int32) (rc10 : Int32 → AM (Int32)) (hrc10 : ∀ (v2 : Int32) (h : AH) (ls : Array Slot), LV ls 5 [(1, vR v1), (2, vI v2), (3, vR v3)] → rc10 v2 h = some r → AW s0 K lam p l e R s m args below meth c (AQ s0 K lam below oI b r s) b h (F0 m 10 ls [])) {h : AH} {ls : Array Slot} (hl : LV ls 5 [(1, vR v1), (3, vR v3)]) (hf : f_X2_many_j47 K rc10 v1 v3 t0 t1 h = some r) : AW s0 K lam p l e R s m args below meth c (AQ s0 K lam below oI b r s) b h (F0 m 47 ls [.int t0, .int t1]) := by
  unfold f_X2_many_j47 at hf
  have X := Z.1.1
  refine AW.lift (fun _ _ _ _ k => lv_iadd (pc := 47) X.2.2.1 X.2.2.2.1 dX2_many_47 k) ?_
  refine a_istore_n (pc := 48) X dX2_many_48 rfl hl (by decide) (lv' := [(2, vI (t1 + t0)), (1, vR v1), (3, vR v3)]) rfl (fun ls hl => ?_)
  refine AW.lift (fun _ _ _ _ k => lv_goto (pc := 49) (tgt := 10) X.2.2.1 X.2.2.2.1 dX2_many_49 rfl k) ?_
  exact hrc10 (t1 + t0) _ _ (hl.sub [1, 0, 2] rfl) hf
theorem w_X2_many_b10 {r : Except Nat (Int32) × AH} (GA : GA l s0 a0 K lam) (Z : WZ l s0 a0 K p s m c cX2_many yX2_many.cls 5 b R 9 422 meth [] (some (.int)) yX2_many) (v1 : Option Nat) (v2 : Int32) (v3 : Option Nat)  (rc10 : Int32 → AM (Int32)) (hrc10 : ∀ (v2 : Int32) (h : AH) (ls : Array Slot), LV ls 5 [(1, vR v1), (2, vI v2), (3, vR v3)] → rc10 v2 h = some r → AW s0 K lam p l e R s m args below meth c (AQ s0 K lam below oI b r s) b h (F0 m 10 ls [])) {h : AH} {ls : Array Slot} (hl : LV ls 5 [(1, vR v1), (2, vI v2), (3, vR v3)]) (hf : f_X2_many_b10 K rc10 v1 v2 v3 h = some r) : AW s0 K lam p l e R s m args below meth c (AQ s0 K lam below oI b r s) b h (F0 m 10 ls []) := by
  unfold f_X2_many_b10 at hf
  have X := Z.1.1
  refine a_aload_n (pc := 10) X dX2_many_10 rfl hl 2 rfl ?_
  obtain ⟨a11, rfl, ⟨hk, hf⟩ | ⟨-, hf⟩⟩ := dv_some hf
  rotate_left
  · exact fl_none hf
  refine a_callb (pc := 11) (rs := []) (avs := [vR (some a11)]) Z.1 (w_J14_hasNext GA (some a11)) (Or.inl rfl) q376 q96 (by decide) (by decide) dX2_many_11 hl.1 (Nat.le_of_ble_eq_true rfl) hf (ct_F (x := ({ cls := "java/util/Iterator", name := "hasNext", desc := "()Z" } : MethodName)) hk ⟨by decide, by decide⟩ X (Or.inl rfl) q376 q368 (gf X.1 X.2.1 q370 rfl) (gf X.1 X.2.1 q369 rfl) (gf X.1 X.2.1 q375 rfl) (gf X.1 X.2.1 q373 rfl) (gf X.1 X.2.1 q371 rfl) q374 q372 ⟨by decide, by decide⟩ np_J14_hasNext rfl dX2_many_11) (fun q h he hX => a_out (unc_of Z.2.1 rfl) Z.2.2.2.1 he hX) (fun x11 h hf => ?kk11)
  refine AW.eq (g2 := F0 m 16 ls [.int x11]) rfl ?_
  refine AW.lift2 (fun _ _ _ _ k1 k2 => lv_if_eq (pc := 16) (tgt := 52) X.2.2.1 X.2.2.2.1 dX2_many_16 rfl k1 k2) (fun c => ?_) (fun c => ?_)
  · have hf := ite_t c hf
    refine a_iload_n (pc := 52) X dX2_many_52 rfl hl 1 rfl ?_
    exact a_ireturn X Z.2.2.1 Z.2.2.2.1 dX2_many_53 hf
  · have hf := ite_f c hf
    refine a_aload_n (pc := 19) X dX2_many_19 rfl hl 2 rfl ?_
    rcases dv_someS hf with ⟨hk, hf⟩ | ⟨-, hf⟩
    rotate_left
    · exact fl_none hf
    refine a_callb (pc := 20) (rs := []) (avs := [vR (some a11)]) Z.1 (w_J14_next GA (some a11)) (Or.inl rfl) q397 q96 (by decide) (by decide) dX2_many_20 hl.1 (Nat.le_of_ble_eq_true rfl) hf (ct_F (x := ({ cls := "java/util/Iterator", name := "next", desc := "()Ljava/lang/Object;" } : MethodName)) hk ⟨by decide, by decide⟩ X (Or.inl rfl) q397 q390 (gf X.1 X.2.1 q392 rfl) (gf X.1 X.2.1 q391 rfl) (gf X.1 X.2.1 q396 rfl) (gf X.1 X.2.1 q394 rfl) (gf X.1 X.2.1 q371 rfl) q395 q393 ⟨by decide, by decide⟩ np_J14_next rfl dX2_many_20) (fun q h he hX => a_out (unc_of Z.2.1 rfl) Z.2.2.2.1 he hX) (fun x20 h hf => ?kk20)
    refine AW.eq (g2 := F0 m 25 ls [va_rf x20]) rfl ?_
    refine a_checkcast (pc := 25) X (gw X.1 X.2.1 q899) (cs_JumpHall_Jumper GA) dX2_many_25 hf (fun hf => ?_)
    refine a_astore (pc := 28) X dX2_many_28 hl (by decide) (lv' := [(4, vR x20), (1, vR v1), (2, vI v2), (3, vR (some a11))]) rfl (fun ls hl => ?_)
    refine a_iload_n (pc := 30) X dX2_many_30 rfl hl 2 rfl ?_
    refine a_aload_n (pc := 31) X dX2_many_31 rfl hl 1 rfl ?_
    refine a_aload (pc := 32) X dX2_many_32 hl 0 rfl ?_
    obtain ⟨a34, rfl⟩ := dv_ref hf
    refine' a_virt hf ?kv34 ?cs34
    case cs34 =>
      intro hf kk
      rcases dv_someS hf with ⟨hk, hf⟩ | ⟨-, hf⟩
      · refine a_lamb (cl_203 (pc := 34) (rs := [vI v2]) Z.1 GA hk q1840 (by decide) (by decide) hl.1 (Nat.le_of_ble_eq_true rfl) rfl dX2_many_34) hf (fun q h he hX => a_out (unc_of Z.2.1 rfl) Z.2.2.2.1 he hX) (fun v h hf => kk v h hf)
      rcases dv_someS hf with ⟨hk, hf⟩ | ⟨-, hf⟩
      · refine a_lamb (cl_205 (pc := 34) (rs := [vI v2]) Z.1 GA hk q1840 (by decide) (by decide) hl.1 (Nat.le_of_ble_eq_true rfl) rfl dX2_many_34) hf (fun q h he hX => a_out (unc_of Z.2.1 rfl) Z.2.2.2.1 he hX) (fun v h hf => kk v h hf)
      rcases dv_someS hf with ⟨hk, hf⟩ | ⟨-, hf⟩
      · refine a_lamb (cl_206 (pc := 34) (rs := [vI v2]) Z.1 GA hk q1840 (by decide) (by decide) hl.1 (Nat.le_of_ble_eq_true rfl) rfl dX2_many_34) hf (fun q h he hX => a_out (unc_of Z.2.1 rfl) Z.2.2.2.1 he hX) (fun v h hf => kk v h hf)
      rcases dv_someS hf with ⟨hk, hf⟩ | ⟨-, hf⟩
      · refine a_lamb (cl_209 (pc := 34) (rs := [vI v2]) Z.1 GA hk q1840 (by decide) (by decide) hl.1 (Nat.le_of_ble_eq_true rfl) rfl dX2_many_34) hf (fun q h he hX => a_out (unc_of Z.2.1 rfl) Z.2.2.2.1 he hX) (fun v h hf => kk v h hf)
      rcases dv_someS hf with ⟨hk, hf⟩ | ⟨-, hf⟩
      · refine a_lamb (cl_210 (pc := 34) (rs := [vI v2]) Z.1 GA hk q1840 (by decide) (by decide) hl.1 (Nat.le_of_ble_eq_true rfl) rfl dX2_many_34) hf (fun q h he hX => a_out (unc_of Z.2.1 rfl) Z.2.2.2.1 he hX) (fun v h hf => kk v h hf)
      rcases dv_someS hf with ⟨hk, hf⟩ | ⟨-, hf⟩
      · refine a_lamb (cl_213 (pc := 34) (rs := [vI v2]) Z.1 GA hk q1840 (by decide) (by decide) hl.1 (Nat.le_of_ble_eq_true rfl) rfl dX2_many_34) hf (fun q h he hX => a_out (unc_of Z.2.1 rfl) Z.2.2.2.1 he hX) (fun v h hf => kk v h hf)
      rcases dv_someS hf with ⟨hk, hf⟩ | ⟨-, hf⟩
      · refine a_lamb (cl_221 (pc := 34) (rs := [vI v2]) Z.1 GA hk q1840 (by decide) (by decide) hl.1 (Nat.le_of_ble_eq_true rfl) rfl dX2_many_34) hf (fun q h he hX => a_out (unc_of Z.2.1 rfl) Z.2.2.2.1 he hX) (fun v h hf => kk v h hf)
      rcases dv_someS hf with ⟨hk, hf⟩ | ⟨-, hf⟩
      · refine a_lamb (cl_222 (pc := 34) (rs := [vI v2]) Z.1 GA hk q1840 (by decide) (by decide) hl.1 (Nat.le_of_ble_eq_true rfl) rfl dX2_many_34) hf (fun q h he hX => a_out (unc_of Z.2.1 rfl) Z.2.2.2.1 he hX) (fun v h hf => kk v h hf)
      rcases dv_someS hf with ⟨hk, hf⟩ | ⟨-, hf⟩
      · refine a_lamb (cl_223 (pc := 34) (rs := [vI v2]) Z.1 GA hk q1840 (by decide) (by decide) hl.1 (Nat.le_of_ble_eq_true rfl) rfl dX2_many_34) hf (fun q h he hX => a_out (unc_of Z.2.1 rfl) Z.2.2.2.1 he hX) (fun v h hf => kk v h hf)
      rcases dv_someS hf with ⟨hk, hf⟩ | ⟨-, hf⟩
      · refine a_lamb (cl_224 (pc := 34) (rs := [vI v2]) Z.1 GA hk q1840 (by decide) (by decide) hl.1 (Nat.le_of_ble_eq_true rfl) rfl dX2_many_34) hf (fun q h he hX => a_out (unc_of Z.2.1 rfl) Z.2.2.2.1 he hX) (fun v h hf => kk v h hf)
      exact fl_none hf
    case kv34 =>
    intro x34 h hf
    refine AW.eq (g2 := F0 m 39 ls [.int x34, .int v2]) rfl ?_
    refine AW.lift2 (fun _ _ _ _ k1 k2 => lv_if_eq (pc := 39) (tgt := 46) X.2.2.1 X.2.2.2.1 dX2_many_39 rfl k1 k2) (fun c => ?_) (fun c => ?_)
    · have hf := ite_t c hf
      refine AW.lift (fun _ _ _ _ k => lv_iconst (pc := 46) (v := (0 : Int32)) X.2.2.1 X.2.2.2.1 dX2_many_46 rfl k) ?_
      exact w_X2_many_j47 GA Z (some a34) (some a11) (0 : Int32) v2 rc10 hrc10 (hl.sub [1, 3] rfl) hf
    · have hf := ite_f c hf
      refine AW.lift (fun _ _ _ _ k => lv_iconst (pc := 42) (v := (1 : Int32)) X.2.2.1 X.2.2.2.1 dX2_many_42 rfl k) ?_
      refine AW.lift (fun _ _ _ _ k => lv_goto (pc := 43) (tgt := 47) X.2.2.1 X.2.2.2.1 dX2_many_43 rfl k) ?_
      exact w_X2_many_j47 GA Z (some a34) (some a11) (1 : Int32) v2 rc10 hrc10 (hl.sub [1, 3] rfl) hf
theorem w_X2_many_l10 {r : Except Nat (Int32) × AH} (GA : GA l s0 a0 K lam) (Z : WZ l s0 a0 K p s m c cX2_many yX2_many.cls 5 b R 9 422 meth [] (some (.int)) yX2_many) (v1 : Option Nat) (v3 : Option Nat)  : ∀ (n : Nat) (v2 : Int32) (h : AH) (ls : Array Slot), LV ls 5 [(1, vR v1), (2, vI v2), (3, vR v3)] → f_X2_many_l10 K v1 v3 n v2 h = some r → AW s0 K lam p l e R s m args below meth c (AQ s0 K lam below oI b r s) b h (F0 m 10 ls []) := by
  intro n
  induction n with
  | zero => intro v2 h ls hl hf; exact fl_no (h := h) hf
  | succ n ih => intro v2 h ls hl hf; exact w_X2_many_b10 GA Z v1 v2 v3 (f_X2_many_l10 K v1 v3 n) ih hl hf
theorem np_X2_many : npar yX2_many.desc 1 := by unfold npar; decide +kernel
theorem hy_X2_many : yX2_many.cls ≠ "java/lang/invoke/MethodHandle" ∧ yX2_many.cls ≠ "java/lang/invoke/VarHandle" := by decide +kernel
theorem w_X2_many (GA : GA l s0 a0 K lam) (v0 : Option Nat) (v1 : Option Nat) : AMet l s0 K lam yX2_many (Cond.code yX2_many cX2_many (5 : Nat) (Option.some ClassFile.FieldType.int)) 9 422 [vR v0, vR v1] oI (f_X2_many K v0 v1) := by
  refine AMet.of GA.1 (plainFor_of_name (by decide +kernel)) (Nat.le_of_ble_eq_true rfl) ?_
  intro b r hf p e s m args below meth c X hr hlk hnm hnd ht ls hl
  have Z : WZ l s0 a0 K p s m c cX2_many yX2_many.cls 5 b { frames := 9, cells := K 0 - aX b, slots := K 1 - aW b, locals := 422 } 9 422 meth [] (some (.int)) yX2_many := ⟨⟨X, GA.2.1, GA.2.2.1, rfl, rfl, Nat.le_refl _, Nat.le_refl _⟩, tab_nil ht, hr, hlk, hnm, hnd⟩
  unfold f_X2_many at hf
  clear hr hlk hnm hnd ht
  refine AW.lift (fun _ _ _ _ k => lv_iconst (pc := 0) (v := (0 : Int32)) X.2.2.1 X.2.2.2.1 dX2_many_0 rfl k) ?_
  refine a_istore_n (pc := 1) X dX2_many_1 rfl hl (by decide) (lv' := [(2, vI (0 : Int32)), (0, vR v0), (1, vR v1)]) rfl (fun ls hl => ?_)
  refine a_aload_n (pc := 2) X dX2_many_2 rfl hl 1 rfl ?_
  refine a_get (pc := 3) (φ := 301) pR_t X Z.1.2.1 (gw X.1 X.2.1 q230) (fun _ q => q) (by decide) dX2_many_3 hf (fun x3 hf => ?_)
  obtain ⟨a6, rfl, ⟨hk, hf⟩ | ⟨-, hf⟩⟩ := dv_some hf
  rotate_left
  · exact fl_none hf
  refine a_callb (pc := 6) (rs := []) (avs := [vR (some a6)]) Z.1 (w_J2_iterator GA (some a6)) (Or.inl rfl) q347 q78 (by decide) (by decide) dX2_many_6 hl.1 (Nat.le_of_ble_eq_true rfl) hf (ct_V hk ⟨by decide, by decide⟩ X (Or.inl rfl) q347 q344 q345 q346 hy_J2_iterator np_J2_iterator rfl dX2_many_6) (fun q h he hX => a_out (unc_of Z.2.1 rfl) Z.2.2.2.1 he hX) (fun x6 h hf => ?kk6)
  refine AW.eq (g2 := F0 m 9 ls [va_rf x6]) rfl ?_
  refine a_astore_n (pc := 9) X dX2_many_9 rfl hl (by decide) (lv' := [(3, vR x6), (2, vI (0 : Int32)), (0, vR v0), (1, vR v1)]) rfl (fun ls hl => ?_)
  exact w_X2_many_l10 GA Z v1 x6  FU (0 : Int32) _ _ (hl.sub [3, 1, 0] rfl) hf
theorem w_X2_weightOf_j51 {r : Except Nat (Int32) × AH} (GA : GA l s0 a0 K lam) (Z : WZ l s0 a0 K p s m c cX2_weightOf yX2_weightOf.cls 5 b R 9 422 meth [] (some (.int)) yX2_weightOf) (v1 : Option Nat) (v3 : Option Nat) (t0 : Int32) (t1 : Int32) (rc10 : Int32 → AM (Int32)) (hrc10 : ∀ (v2 : Int32) (h : AH) (ls : Array Slot), LV ls 5 [(1, vR v1), (2, vI v2), (3, vR v3)] → rc10 v2 h = some r → AW s0 K lam p l e R s m args below meth c (AQ s0 K lam below oI b r s) b h (F0 m 10 ls [])) {h : AH} {ls : Array Slot} (hl : LV ls 5 [(1, vR v1), (3, vR v3)]) (hf : f_X2_weightOf_j51 K rc10 v1 v3 t0 t1 h = some r) : AW s0 K lam p l e R s m args below meth c (AQ s0 K lam below oI b r s) b h (F0 m 51 ls [.int t0, .int t1]) := by
  unfold f_X2_weightOf_j51 at hf
  have X := Z.1.1
  refine AW.lift (fun _ _ _ _ k => lv_iadd (pc := 51) X.2.2.1 X.2.2.2.1 dX2_weightOf_51 k) ?_
  refine a_istore_n (pc := 52) X dX2_weightOf_52 rfl hl (by decide) (lv' := [(2, vI (t1 + t0)), (1, vR v1), (3, vR v3)]) rfl (fun ls hl => ?_)
  refine AW.lift (fun _ _ _ _ k => lv_goto (pc := 53) (tgt := 10) X.2.2.1 X.2.2.2.1 dX2_weightOf_53 rfl k) ?_
  exact hrc10 (t1 + t0) _ _ (hl.sub [1, 0, 2] rfl) hf
theorem w_X2_weightOf_b10 {r : Except Nat (Int32) × AH} (GA : GA l s0 a0 K lam) (Z : WZ l s0 a0 K p s m c cX2_weightOf yX2_weightOf.cls 5 b R 9 422 meth [] (some (.int)) yX2_weightOf) (v1 : Option Nat) (v2 : Int32) (v3 : Option Nat)  (rc10 : Int32 → AM (Int32)) (hrc10 : ∀ (v2 : Int32) (h : AH) (ls : Array Slot), LV ls 5 [(1, vR v1), (2, vI v2), (3, vR v3)] → rc10 v2 h = some r → AW s0 K lam p l e R s m args below meth c (AQ s0 K lam below oI b r s) b h (F0 m 10 ls [])) {h : AH} {ls : Array Slot} (hl : LV ls 5 [(1, vR v1), (2, vI v2), (3, vR v3)]) (hf : f_X2_weightOf_b10 K rc10 v1 v2 v3 h = some r) : AW s0 K lam p l e R s m args below meth c (AQ s0 K lam below oI b r s) b h (F0 m 10 ls []) := by
  unfold f_X2_weightOf_b10 at hf
  have X := Z.1.1
  refine a_aload_n (pc := 10) X dX2_weightOf_10 rfl hl 2 rfl ?_
  obtain ⟨a11, rfl, ⟨hk, hf⟩ | ⟨-, hf⟩⟩ := dv_some hf
  rotate_left
  · exact fl_none hf
  refine a_callb (pc := 11) (rs := []) (avs := [vR (some a11)]) Z.1 (w_J14_hasNext GA (some a11)) (Or.inl rfl) q376 q96 (by decide) (by decide) dX2_weightOf_11 hl.1 (Nat.le_of_ble_eq_true rfl) hf (ct_F (x := ({ cls := "java/util/Iterator", name := "hasNext", desc := "()Z" } : MethodName)) hk ⟨by decide, by decide⟩ X (Or.inl rfl) q376 q368 (gf X.1 X.2.1 q370 rfl) (gf X.1 X.2.1 q369 rfl) (gf X.1 X.2.1 q375 rfl) (gf X.1 X.2.1 q373 rfl) (gf X.1 X.2.1 q371 rfl) q374 q372 ⟨by decide, by decide⟩ np_J14_hasNext rfl dX2_weightOf_11) (fun q h he hX => a_out (unc_of Z.2.1 rfl) Z.2.2.2.1 he hX) (fun x11 h hf => ?kk11)
  refine AW.eq (g2 := F0 m 16 ls [.int x11]) rfl ?_
  refine AW.lift2 (fun _ _ _ _ k1 k2 => lv_if_eq (pc := 16) (tgt := 56) X.2.2.1 X.2.2.2.1 dX2_weightOf_16 rfl k1 k2) (fun c => ?_) (fun c => ?_)
  · have hf := ite_t c hf
    refine a_iload_n (pc := 56) X dX2_weightOf_56 rfl hl 1 rfl ?_
    exact a_ireturn X Z.2.2.1 Z.2.2.2.1 dX2_weightOf_57 hf
  · have hf := ite_f c hf
    refine a_aload_n (pc := 19) X dX2_weightOf_19 rfl hl 2 rfl ?_
    rcases dv_someS hf with ⟨hk, hf⟩ | ⟨-, hf⟩
    rotate_left
    · exact fl_none hf
    refine a_callb (pc := 20) (rs := []) (avs := [vR (some a11)]) Z.1 (w_J14_next GA (some a11)) (Or.inl rfl) q397 q96 (by decide) (by decide) dX2_weightOf_20 hl.1 (Nat.le_of_ble_eq_true rfl) hf (ct_F (x := ({ cls := "java/util/Iterator", name := "next", desc := "()Ljava/lang/Object;" } : MethodName)) hk ⟨by decide, by decide⟩ X (Or.inl rfl) q397 q390 (gf X.1 X.2.1 q392 rfl) (gf X.1 X.2.1 q391 rfl) (gf X.1 X.2.1 q396 rfl) (gf X.1 X.2.1 q394 rfl) (gf X.1 X.2.1 q371 rfl) q395 q393 ⟨by decide, by decide⟩ np_J14_next rfl dX2_weightOf_20) (fun q h he hX => a_out (unc_of Z.2.1 rfl) Z.2.2.2.1 he hX) (fun x20 h hf => ?kk20)
    refine AW.eq (g2 := F0 m 25 ls [va_rf x20]) rfl ?_
    refine a_checkcast (pc := 25) X (gw X.1 X.2.1 q899) (cs_JumpHall_Jumper GA) dX2_weightOf_25 hf (fun hf => ?_)
    refine a_astore (pc := 28) X dX2_weightOf_28 hl (by decide) (lv' := [(4, vR x20), (1, vR v1), (2, vI v2), (3, vR (some a11))]) rfl (fun ls hl => ?_)
    refine a_iload_n (pc := 30) X dX2_weightOf_30 rfl hl 2 rfl ?_
    refine a_aload_n (pc := 31) X dX2_weightOf_31 rfl hl 1 rfl ?_
    refine a_aload (pc := 32) X dX2_weightOf_32 hl 0 rfl ?_
    obtain ⟨a34, rfl⟩ := dv_ref hf
    refine' a_virt hf ?kv34 ?cs34
    case cs34 =>
      intro hf kk
      rcases dv_someS hf with ⟨hk, hf⟩ | ⟨-, hf⟩
      · refine a_lamb (cl_203 (pc := 34) (rs := [vI v2]) Z.1 GA hk q1840 (by decide) (by decide) hl.1 (Nat.le_of_ble_eq_true rfl) rfl dX2_weightOf_34) hf (fun q h he hX => a_out (unc_of Z.2.1 rfl) Z.2.2.2.1 he hX) (fun v h hf => kk v h hf)
      rcases dv_someS hf with ⟨hk, hf⟩ | ⟨-, hf⟩
      · refine a_lamb (cl_205 (pc := 34) (rs := [vI v2]) Z.1 GA hk q1840 (by decide) (by decide) hl.1 (Nat.le_of_ble_eq_true rfl) rfl dX2_weightOf_34) hf (fun q h he hX => a_out (unc_of Z.2.1 rfl) Z.2.2.2.1 he hX) (fun v h hf => kk v h hf)
      rcases dv_someS hf with ⟨hk, hf⟩ | ⟨-, hf⟩
      · refine a_lamb (cl_206 (pc := 34) (rs := [vI v2]) Z.1 GA hk q1840 (by decide) (by decide) hl.1 (Nat.le_of_ble_eq_true rfl) rfl dX2_weightOf_34) hf (fun q h he hX => a_out (unc_of Z.2.1 rfl) Z.2.2.2.1 he hX) (fun v h hf => kk v h hf)
      rcases dv_someS hf with ⟨hk, hf⟩ | ⟨-, hf⟩
      · refine a_lamb (cl_209 (pc := 34) (rs := [vI v2]) Z.1 GA hk q1840 (by decide) (by decide) hl.1 (Nat.le_of_ble_eq_true rfl) rfl dX2_weightOf_34) hf (fun q h he hX => a_out (unc_of Z.2.1 rfl) Z.2.2.2.1 he hX) (fun v h hf => kk v h hf)
      rcases dv_someS hf with ⟨hk, hf⟩ | ⟨-, hf⟩
      · refine a_lamb (cl_210 (pc := 34) (rs := [vI v2]) Z.1 GA hk q1840 (by decide) (by decide) hl.1 (Nat.le_of_ble_eq_true rfl) rfl dX2_weightOf_34) hf (fun q h he hX => a_out (unc_of Z.2.1 rfl) Z.2.2.2.1 he hX) (fun v h hf => kk v h hf)
      rcases dv_someS hf with ⟨hk, hf⟩ | ⟨-, hf⟩
      · refine a_lamb (cl_213 (pc := 34) (rs := [vI v2]) Z.1 GA hk q1840 (by decide) (by decide) hl.1 (Nat.le_of_ble_eq_true rfl) rfl dX2_weightOf_34) hf (fun q h he hX => a_out (unc_of Z.2.1 rfl) Z.2.2.2.1 he hX) (fun v h hf => kk v h hf)
      rcases dv_someS hf with ⟨hk, hf⟩ | ⟨-, hf⟩
      · refine a_lamb (cl_221 (pc := 34) (rs := [vI v2]) Z.1 GA hk q1840 (by decide) (by decide) hl.1 (Nat.le_of_ble_eq_true rfl) rfl dX2_weightOf_34) hf (fun q h he hX => a_out (unc_of Z.2.1 rfl) Z.2.2.2.1 he hX) (fun v h hf => kk v h hf)
      rcases dv_someS hf with ⟨hk, hf⟩ | ⟨-, hf⟩
      · refine a_lamb (cl_222 (pc := 34) (rs := [vI v2]) Z.1 GA hk q1840 (by decide) (by decide) hl.1 (Nat.le_of_ble_eq_true rfl) rfl dX2_weightOf_34) hf (fun q h he hX => a_out (unc_of Z.2.1 rfl) Z.2.2.2.1 he hX) (fun v h hf => kk v h hf)
      rcases dv_someS hf with ⟨hk, hf⟩ | ⟨-, hf⟩
      · refine a_lamb (cl_223 (pc := 34) (rs := [vI v2]) Z.1 GA hk q1840 (by decide) (by decide) hl.1 (Nat.le_of_ble_eq_true rfl) rfl dX2_weightOf_34) hf (fun q h he hX => a_out (unc_of Z.2.1 rfl) Z.2.2.2.1 he hX) (fun v h hf => kk v h hf)
      rcases dv_someS hf with ⟨hk, hf⟩ | ⟨-, hf⟩
      · refine a_lamb (cl_224 (pc := 34) (rs := [vI v2]) Z.1 GA hk q1840 (by decide) (by decide) hl.1 (Nat.le_of_ble_eq_true rfl) rfl dX2_weightOf_34) hf (fun q h he hX => a_out (unc_of Z.2.1 rfl) Z.2.2.2.1 he hX) (fun v h hf => kk v h hf)
      exact fl_none hf
    case kv34 =>
    intro x34 h hf
    refine AW.eq (g2 := F0 m 39 ls [.int x34, .int v2]) rfl ?_
    refine AW.lift2 (fun _ _ _ _ k1 k2 => lv_if_eq (pc := 39) (tgt := 50) X.2.2.1 X.2.2.2.1 dX2_weightOf_39 rfl k1 k2) (fun c => ?_) (fun c => ?_)
    · have hf := ite_t c hf
      refine AW.lift (fun _ _ _ _ k => lv_iconst (pc := 50) (v := (0 : Int32)) X.2.2.1 X.2.2.2.1 dX2_weightOf_50 rfl k) ?_
      exact w_X2_weightOf_j51 GA Z (some a34) (some a11) (0 : Int32) v2 rc10 hrc10 (hl.sub [1, 3] rfl) hf
    · have hf := ite_f c hf
      refine a_aload (pc := 42) X dX2_weightOf_42 hl 0 rfl ?_
      refine a_getN (pc := 44) (φ := 501) pI_t X Z.1.2.1 (gnF X.1 X.2.1 q914) (fun _ q => q) (by decide) dX2_weightOf_44 hf (fun x44 hf => ?_)
      refine AW.lift (fun _ _ _ _ k => lv_goto (pc := 47) (tgt := 51) X.2.2.1 X.2.2.2.1 dX2_weightOf_47 rfl k) ?_
      exact w_X2_weightOf_j51 GA Z (some a34) (some a11) x44 v2 rc10 hrc10 (hl.sub [1, 3] rfl) hf
theorem w_X2_weightOf_l10 {r : Except Nat (Int32) × AH} (GA : GA l s0 a0 K lam) (Z : WZ l s0 a0 K p s m c cX2_weightOf yX2_weightOf.cls 5 b R 9 422 meth [] (some (.int)) yX2_weightOf) (v1 : Option Nat) (v3 : Option Nat)  : ∀ (n : Nat) (v2 : Int32) (h : AH) (ls : Array Slot), LV ls 5 [(1, vR v1), (2, vI v2), (3, vR v3)] → f_X2_weightOf_l10 K v1 v3 n v2 h = some r → AW s0 K lam p l e R s m args below meth c (AQ s0 K lam below oI b r s) b h (F0 m 10 ls []) := by
  intro n
  induction n with
  | zero => intro v2 h ls hl hf; exact fl_no (h := h) hf
  | succ n ih => intro v2 h ls hl hf; exact w_X2_weightOf_b10 GA Z v1 v2 v3 (f_X2_weightOf_l10 K v1 v3 n) ih hl hf
theorem np_X2_weightOf : npar yX2_weightOf.desc 1 := by unfold npar; decide +kernel
theorem hy_X2_weightOf : yX2_weightOf.cls ≠ "java/lang/invoke/MethodHandle" ∧ yX2_weightOf.cls ≠ "java/lang/invoke/VarHandle" := by decide +kernel
theorem w_X2_weightOf (GA : GA l s0 a0 K lam) (v0 : Option Nat) (v1 : Option Nat) : AMet l s0 K lam yX2_weightOf (Cond.code yX2_weightOf cX2_weightOf (5 : Nat) (Option.some ClassFile.FieldType.int)) 9 422 [vR v0, vR v1] oI (f_X2_weightOf K v0 v1) := by
  refine AMet.of GA.1 (plainFor_of_name (by decide +kernel)) (Nat.le_of_ble_eq_true rfl) ?_
  intro b r hf p e s m args below meth c X hr hlk hnm hnd ht ls hl
  have Z : WZ l s0 a0 K p s m c cX2_weightOf yX2_weightOf.cls 5 b { frames := 9, cells := K 0 - aX b, slots := K 1 - aW b, locals := 422 } 9 422 meth [] (some (.int)) yX2_weightOf := ⟨⟨X, GA.2.1, GA.2.2.1, rfl, rfl, Nat.le_refl _, Nat.le_refl _⟩, tab_nil ht, hr, hlk, hnm, hnd⟩
  unfold f_X2_weightOf at hf
  clear hr hlk hnm hnd ht
  refine AW.lift (fun _ _ _ _ k => lv_iconst (pc := 0) (v := (0 : Int32)) X.2.2.1 X.2.2.2.1 dX2_weightOf_0 rfl k) ?_
  refine a_istore_n (pc := 1) X dX2_weightOf_1 rfl hl (by decide) (lv' := [(2, vI (0 : Int32)), (0, vR v0), (1, vR v1)]) rfl (fun ls hl => ?_)
  refine a_aload_n (pc := 2) X dX2_weightOf_2 rfl hl 1 rfl ?_
  refine a_get (pc := 3) (φ := 301) pR_t X Z.1.2.1 (gw X.1 X.2.1 q230) (fun _ q => q) (by decide) dX2_weightOf_3 hf (fun x3 hf => ?_)
  obtain ⟨a6, rfl, ⟨hk, hf⟩ | ⟨-, hf⟩⟩ := dv_some hf
  rotate_left
  · exact fl_none hf
  refine a_callb (pc := 6) (rs := []) (avs := [vR (some a6)]) Z.1 (w_J2_iterator GA (some a6)) (Or.inl rfl) q347 q78 (by decide) (by decide) dX2_weightOf_6 hl.1 (Nat.le_of_ble_eq_true rfl) hf (ct_V hk ⟨by decide, by decide⟩ X (Or.inl rfl) q347 q344 q345 q346 hy_J2_iterator np_J2_iterator rfl dX2_weightOf_6) (fun q h he hX => a_out (unc_of Z.2.1 rfl) Z.2.2.2.1 he hX) (fun x6 h hf => ?kk6)
  refine AW.eq (g2 := F0 m 9 ls [va_rf x6]) rfl ?_
  refine a_astore_n (pc := 9) X dX2_weightOf_9 rfl hl (by decide) (lv' := [(3, vR x6), (2, vI (0 : Int32)), (0, vR v0), (1, vR v1)]) rfl (fun ls hl => ?_)
  exact w_X2_weightOf_l10 GA Z v1 x6  FU (0 : Int32) _ _ (hl.sub [3, 1, 0] rfl) hf
theorem np_X2_weightOn : npar yX2_weightOn.desc 1 := by unfold npar; decide +kernel
theorem hy_X2_weightOn : yX2_weightOn.cls ≠ "java/lang/invoke/MethodHandle" ∧ yX2_weightOn.cls ≠ "java/lang/invoke/VarHandle" := by decide +kernel
theorem w_X2_weightOn (GA : GA l s0 a0 K lam) (v0 : Option Nat) (v1 : Int32) : AMet l s0 K lam yX2_weightOn (Cond.code yX2_weightOn cX2_weightOn (2 : Nat) (Option.some ClassFile.FieldType.int)) 10 3088 [vR v0, vI v1] oI (f_X2_weightOn K v0 v1) := by
  refine AMet.of GA.1 (plainFor_of_name (by decide +kernel)) (Nat.le_of_ble_eq_true rfl) ?_
  intro b r hf p e s m args below meth c X hr hlk hnm hnd ht ls hl
  have Z : WZ l s0 a0 K p s m c cX2_weightOn yX2_weightOn.cls 2 b { frames := 10, cells := K 0 - aX b, slots := K 1 - aW b, locals := 3088 } 10 3088 meth [] (some (.int)) yX2_weightOn := ⟨⟨X, GA.2.1, GA.2.2.1, rfl, rfl, Nat.le_refl _, Nat.le_refl _⟩, tab_nil ht, hr, hlk, hnm, hnd⟩
  unfold f_X2_weightOn at hf
  clear hr hlk hnm hnd ht
  refine a_aload_n (pc := 0) X dX2_weightOn_0 rfl hl 0 rfl ?_
  refine a_iload_n (pc := 1) X dX2_weightOn_1 rfl hl 1 rfl ?_
  refine a_ndy (pc := 2) (rs := [vR v0]) (avs := [vI v1]) Z.1 Z.2.2.2.2.2 (siG_206 GA) hfb_6 (lw_all_tbl q3550) ⟨by decide, by decide⟩ rfl rfl rfl (by decide) hl.1 (Nat.le_of_ble_eq_true rfl) (Nat.le_of_ble_eq_true rfl) rfl dX2_weightOn_2 hf (fun x2 h hf => ?_)
  refine AW.eq (g2 := F0 m 7 ls [va_rf (some x2), va_rf v0]) rfl ?_
  obtain ⟨a7, rfl, ⟨hk, hf⟩ | ⟨-, hf⟩⟩ := dv_some hf
  rotate_left
  · exact fl_none hf
  refine a_callb (pc := 7) (rs := []) (avs := [vR (some a7), vR (some x2)]) Z.1 (w_X2_weightOf GA (some a7) (some x2)) (Or.inl rfl) q1911 q75 (by decide) (by decide) dX2_weightOn_7 hl.1 (Nat.le_of_ble_eq_true rfl) hf (ct_V hk ⟨by decide, by decide⟩ X (Or.inl rfl) q1911 q1908 q1909 q1910 hy_X2_weightOf np_X2_weightOf rfl dX2_weightOn_7) (fun q h he hX => a_out (unc_of Z.2.1 rfl) Z.2.2.2.1 he hX) (fun x7 h hf => ?kk7)
  refine AW.eq (g2 := F0 m 10 ls [.int x7]) rfl ?_
  exact a_ireturn X Z.2.2.1 Z.2.2.2.1 dX2_weightOn_10 hf
theorem w_X7_broken_j24 {r : Except Nat (Int32) × AH} (GA : GA l s0 a0 K lam) (Z : WZ l s0 a0 K p s m c cX7_broken yX7_broken.cls 3 b R 1 21 meth [] (some (.int)) yX7_broken) (v0 : Option Nat) (v2 : Int32) (t0 : Int32) (t1 : Int32) (rc4 : Int32 → Int32 → AM (Int32)) (hrc4 : ∀ (v1 : Int32) (v2 : Int32) (h : AH) (ls : Array Slot), LV ls 3 [(0, vR v0), (1, vI v1), (2, vI v2)] → rc4 v1 v2 h = some r → AW s0 K lam p l e R s m args below meth c (AQ s0 K lam below oI b r s) b h (F0 m 4 ls [])) {h : AH} {ls : Array Slot} (hl : LV ls 3 [(0, vR v0), (2, vI v2)]) (hf : f_X7_broken_j24 K rc4 v0 v2 t0 t1 h = some r) : AW s0 K lam p l e R s m args below meth c (AQ s0 K lam below oI b r s) b h (F0 m 24 ls [.int t0, .int t1]) := by
  unfold f_X7_broken_j24 at hf
  have X := Z.1.1
  refine AW.lift (fun _ _ _ _ k => lv_iadd (pc := 24) X.2.2.1 X.2.2.2.1 dX7_broken_24 k) ?_
  refine a_istore_n (pc := 25) X dX7_broken_25 rfl hl (by decide) (lv' := [(1, vI (t1 + t0)), (0, vR v0), (2, vI v2)]) rfl (fun ls hl => ?_)
  refine a_iinc (pc := 26) (v := (v2 + (1 : Int32))) X dX7_broken_26 hl (k := 2) rfl rfl (by decide) (lv' := [(2, vI (v2 + (1 : Int32))), (1, vI (t1 + t0)), (0, vR v0)]) rfl (fun ls hl => ?_)
  refine AW.lift (fun _ _ _ _ k => lv_goto (pc := 29) (tgt := 4) X.2.2.1 X.2.2.2.1 dX7_broken_29 rfl k) ?_
  exact hrc4 (t1 + t0) (v2 + (1 : Int32)) _ _ (hl.sub [2, 1, 0] rfl) hf
theorem w_X7_broken_b4 {r : Except Nat (Int32) × AH} (GA : GA l s0 a0 K lam) (Z : WZ l s0 a0 K p s m c cX7_broken yX7_broken.cls 3 b R 1 21 meth [] (some (.int)) yX7_broken) (v0 : Option Nat) (v1 : Int32) (v2 : Int32)  (rc4 : Int32 → Int32 → AM (Int32)) (hrc4 : ∀ (v1 : Int32) (v2 : Int32) (h : AH) (ls : Array Slot), LV ls 3 [(0, vR v0), (1, vI v1), (2, vI v2)] → rc4 v1 v2 h = some r → AW s0 K lam p l e R s m args below meth c (AQ s0 K lam below oI b r s) b h (F0 m 4 ls [])) {h : AH} {ls : Array Slot} (hl : LV ls 3 [(0, vR v0), (1, vI v1), (2, vI v2)]) (hf : f_X7_broken_b4 K rc4 v0 v1 v2 h = some r) : AW s0 K lam p l e R s m args below meth c (AQ s0 K lam below oI b r s) b h (F0 m 4 ls []) := by
  unfold f_X7_broken_b4 at hf
  have X := Z.1.1
  refine a_iload_n (pc := 4) X dX7_broken_4 rfl hl 2 rfl ?_
  refine AW.lift (fun _ _ _ _ k => lv_bipush (pc := 5) (v := (8 : Int32)) X.2.2.1 X.2.2.2.1 dX7_broken_5 rfl k) ?_
  refine AW.lift2 (fun _ _ _ _ k1 k2 => lv_icmp_ge (pc := 7) (tgt := 32) X.2.2.1 X.2.2.2.1 dX7_broken_7 rfl k1 k2) (fun c => ?_) (fun c => ?_)
  · have hf := ite_t c hf
    refine a_iload_n (pc := 32) X dX7_broken_32 rfl hl 1 rfl ?_
    exact a_ireturn X Z.2.2.1 Z.2.2.2.1 dX7_broken_33 hf
  · have hf := ite_f c hf
    refine a_iload_n (pc := 10) X dX7_broken_10 rfl hl 1 rfl ?_
    refine a_aload_n (pc := 11) X dX7_broken_11 rfl hl 0 rfl ?_
    refine a_iload_n (pc := 12) X dX7_broken_12 rfl hl 2 rfl ?_
    obtain ⟨a13, rfl, ⟨hk, hf⟩ | ⟨-, hf⟩⟩ := dv_some hf
    rotate_left
    · exact fl_none hf
    refine a_callb (pc := 13) (rs := [vI v1]) (avs := [vR (some a13), vI v2]) Z.1 (w_X7_isBroken GA (some a13) v2) (Or.inl rfl) q1850 q91 (by decide) (by decide) dX7_broken_13 hl.1 (Nat.le_of_ble_eq_true rfl) hf (ct_V hk ⟨by decide, by decide⟩ X (Or.inl rfl) q1850 q1847 q1848 q1849 hy_X7_isBroken np_X7_isBroken rfl dX7_broken_13) (fun q h he hX => a_out (unc_of Z.2.1 rfl) Z.2.2.2.1 he hX) (fun x13 h hf => ?kk13)
    refine AW.eq (g2 := F0 m 16 ls [.int x13, .int v1]) rfl ?_
    refine AW.lift2 (fun _ _ _ _ k1 k2 => lv_if_eq (pc := 16) (tgt := 23) X.2.2.1 X.2.2.2.1 dX7_broken_16 rfl k1 k2) (fun c => ?_) (fun c => ?_)
    · have hf := ite_t c hf
      refine AW.lift (fun _ _ _ _ k => lv_iconst (pc := 23) (v := (0 : Int32)) X.2.2.1 X.2.2.2.1 dX7_broken_23 rfl k) ?_
      exact w_X7_broken_j24 GA Z (some a13) v2 (0 : Int32) v1 rc4 hrc4 (hl.sub [0, 2] rfl) hf
    · have hf := ite_f c hf
      refine AW.lift (fun _ _ _ _ k => lv_iconst (pc := 19) (v := (1 : Int32)) X.2.2.1 X.2.2.2.1 dX7_broken_19 rfl k) ?_
      refine AW.lift (fun _ _ _ _ k => lv_goto (pc := 20) (tgt := 24) X.2.2.1 X.2.2.2.1 dX7_broken_20 rfl k) ?_
      exact w_X7_broken_j24 GA Z (some a13) v2 (1 : Int32) v1 rc4 hrc4 (hl.sub [0, 2] rfl) hf
theorem w_X7_broken_l4 {r : Except Nat (Int32) × AH} (GA : GA l s0 a0 K lam) (Z : WZ l s0 a0 K p s m c cX7_broken yX7_broken.cls 3 b R 1 21 meth [] (some (.int)) yX7_broken) (v0 : Option Nat)  : ∀ (n : Nat) (v1 : Int32) (v2 : Int32) (h : AH) (ls : Array Slot), LV ls 3 [(0, vR v0), (1, vI v1), (2, vI v2)] → f_X7_broken_l4 K v0 n v1 v2 h = some r → AW s0 K lam p l e R s m args below meth c (AQ s0 K lam below oI b r s) b h (F0 m 4 ls []) := by
  intro n
  induction n with
  | zero => intro v1 v2 h ls hl hf; exact fl_no (h := h) hf
  | succ n ih => intro v1 v2 h ls hl hf; exact w_X7_broken_b4 GA Z v0 v1 v2 (f_X7_broken_l4 K v0 n) ih hl hf
theorem np_X7_broken : npar yX7_broken.desc 0 := by unfold npar; decide +kernel
theorem hy_X7_broken : yX7_broken.cls ≠ "java/lang/invoke/MethodHandle" ∧ yX7_broken.cls ≠ "java/lang/invoke/VarHandle" := by decide +kernel
theorem w_X7_broken (GA : GA l s0 a0 K lam) (v0 : Option Nat) : AMet l s0 K lam yX7_broken (Cond.code yX7_broken cX7_broken (3 : Nat) (Option.some ClassFile.FieldType.int)) 1 21 [vR v0] oI (f_X7_broken K v0) := by
  refine AMet.of GA.1 (plainFor_of_name (by decide +kernel)) (Nat.le_of_ble_eq_true rfl) ?_
  intro b r hf p e s m args below meth c X hr hlk hnm hnd ht ls hl
  have Z : WZ l s0 a0 K p s m c cX7_broken yX7_broken.cls 3 b { frames := 1, cells := K 0 - aX b, slots := K 1 - aW b, locals := 21 } 1 21 meth [] (some (.int)) yX7_broken := ⟨⟨X, GA.2.1, GA.2.2.1, rfl, rfl, Nat.le_refl _, Nat.le_refl _⟩, tab_nil ht, hr, hlk, hnm, hnd⟩
  unfold f_X7_broken at hf
  clear hr hlk hnm hnd ht
  refine AW.lift (fun _ _ _ _ k => lv_iconst (pc := 0) (v := (0 : Int32)) X.2.2.1 X.2.2.2.1 dX7_broken_0 rfl k) ?_
  refine a_istore_n (pc := 1) X dX7_broken_1 rfl hl (by decide) (lv' := [(1, vI (0 : Int32)), (0, vR v0)]) rfl (fun ls hl => ?_)
  refine AW.lift (fun _ _ _ _ k => lv_iconst (pc := 2) (v := (0 : Int32)) X.2.2.1 X.2.2.2.1 dX7_broken_2 rfl k) ?_
  refine a_istore_n (pc := 3) X dX7_broken_3 rfl hl (by decide) (lv' := [(2, vI (0 : Int32)), (1, vI (0 : Int32)), (0, vR v0)]) rfl (fun ls hl => ?_)
  exact w_X7_broken_l4 GA Z v0  FU (0 : Int32) (0 : Int32) _ _ (hl.sub [2, 1, 0] rfl) hf
theorem np_X6_behind : npar yX6_behind.desc 1 := by unfold npar; decide +kernel
theorem hy_X6_behind : yX6_behind.cls ≠ "java/lang/invoke/MethodHandle" ∧ yX6_behind.cls ≠ "java/lang/invoke/VarHandle" := by decide +kernel
theorem w_X6_behind (GA : GA l s0 a0 K lam) (v0 : Option Nat) (v1 : Option Nat) : AMet l s0 K lam yX6_behind (Cond.code yX6_behind cX6_behind (3 : Nat) (Option.some (ClassFile.FieldType.object "JumpHall$Refusal"))) 4 321 [vR v0, vR v1] oR (f_X6_behind K v0 v1) := by
  refine AMet.of GA.1 (plainFor_of_name (by decide +kernel)) (Nat.le_of_ble_eq_true rfl) ?_
  intro b r hf p e s m args below meth c X hr hlk hnm hnd ht ls hl
  have Z : WZ l s0 a0 K p s m c cX6_behind yX6_behind.cls 3 b { frames := 4, cells := K 0 - aX b, slots := K 1 - aW b, locals := 321 } 4 321 meth [] (some (.object "JumpHall$Refusal")) yX6_behind := ⟨⟨X, GA.2.1, GA.2.2.1, rfl, rfl, Nat.le_refl _, Nat.le_refl _⟩, tab_nil ht, hr, hlk, hnm, hnd⟩
  unfold f_X6_behind at hf
  clear hr hlk hnm hnd ht
  refine a_aload_n (pc := 0) X dX6_behind_0 rfl hl 1 rfl ?_
  refine a_ifnull (pc := 1) (tgt := 10) X dX6_behind_1 rfl (fun c => ?_) (fun c => ?_)
  · have hf := ite_t c hf
    refine a_aload_n (pc := 10) X dX6_behind_10 rfl hl 0 rfl ?_
    exact a_areturn X Z.2.2.1 (Or.inl ⟨_, rfl⟩) Z.2.2.2.1 dX6_behind_11 hf
  · have hf := ite_f c hf
    refine a_aload_n (pc := 4) X dX6_behind_4 rfl hl 0 rfl ?_
    refine a_aload_n (pc := 5) X dX6_behind_5 rfl hl 1 rfl ?_
    obtain ⟨a6, rfl, ⟨hk, hf⟩ | ⟨-, hf⟩⟩ := dv_some hf
    rotate_left
    · exact fl_none hf
    refine a_callb (pc := 6) (rs := []) (avs := [vR (some a6), vR v1]) Z.1 (w_T_initCause GA (some a6) v1) (Or.inr (Or.inr rfl)) q2053 q87 (by decide) (by decide) dX6_behind_6 hl.1 (Nat.le_of_ble_eq_true rfl) hf (ct_U (x := ({ cls := "JumpHall$Refusal", name := "initCause", desc := "(Ljava/lang/Throwable;)Ljava/lang/Throwable;" } : MethodName)) (owner := "java/lang/Throwable") hk ⟨by decide, by decide⟩ X (Or.inr (Or.inr rfl)) q2053 q2048 (q2049) (va_Decl.ofD (gf (args := args) X.1 X.2.1 q2050 rfl)) ⟨by decide, by decide⟩ q2052 q2051 (np_of (np_T_initCause)) rfl dX6_behind_6) (fun q h he hX => a_out (unc_of Z.2.1 rfl) Z.2.2.2.1 he hX) (fun x6 h hf => ?kk6)
    refine AW.eq (g2 := F0 m 9 ls [va_rf x6]) rfl ?_
    refine a_astore_n (pc := 9) X dX6_behind_9 rfl hl (by decide) (lv' := [(2, vR x6), (0, vR (some a6)), (1, vR v1)]) rfl (fun ls hl => ?_)
    refine a_aload_n (pc := 10) X dX6_behind_10 rfl hl 1 rfl ?_
    exact a_areturn X Z.2.2.1 (Or.inl ⟨_, rfl⟩) Z.2.2.2.1 dX6_behind_11 hf
theorem w_X2_checkBearing_j58 {r : Except Nat (Unit) × AH} (GA : GA l s0 a0 K lam) (Z : WZ l s0 a0 K p s m c cX2_checkBearing yX2_checkBearing.cls 6 b R 11 3109 meth [] none yX2_checkBearing) (v4 : Int32) (t0 : Option Nat)  {h : AH} {ls : Array Slot} (hl : LV ls 6 [(4, vI v4)]) (hf : f_X2_checkBearing_j58 K v4 t0 h = some r) : AW s0 K lam p l e R s m args below meth c (AQ s0 K lam below oV b r s) b h (F0 m 58 ls [va_rf t0]) := by
  unfold f_X2_checkBearing_j58 at hf
  have X := Z.1.1
  refine a_astore (pc := 58) X dX2_checkBearing_58 hl (by decide) (lv' := [(5, vR t0), (4, vI v4)]) rfl (fun ls hl => ?_)
  refine a_new (pc := 60) (cK := 12) (n := 8) X Z.1.2.1 Z.1.2.2.1 Z.1.2.2.2.1 Z.1.2.2.2.2.1 ⟨by decide, by decide, by decide⟩ (gw X.1 X.2.1 q2042) (gw X.1 X.2.1 q1725) (gw X.1 X.2.1 q90) dX2_checkBearing_60 hf (fun x60 h hf => ?_)
  refine AW.lift (fun _ _ _ _ k => lv_dup (pc := 63) X.2.2.1 X.2.2.2.1 dX2_checkBearing_63 (cat_rf _) k) ?_
  refine AW.lift (fun _ _ _ _ k => lv_bipush (pc := 64) (v := (6 : Int32)) X.2.2.1 X.2.2.2.1 dX2_checkBearing_64 rfl k) ?_
  refine a_iload (pc := 66) X dX2_checkBearing_66 hl 1 rfl ?_
  refine a_callb (pc := 68) (rs := [vR (some x60)]) (avs := [vR (some x60), vI (6 : Int32), vI v4]) Z.1 (w_X6_init GA (some x60) (6 : Int32) v4) (Or.inl rfl) q1735 q90 (by decide) (by decide) dX2_checkBearing_68 hl.1 (Nat.le_of_ble_eq_true rfl) hf (ct_I X q1735 q2043 q1734 rfl hy_X6_init np_X6_init rfl dX2_checkBearing_68) (fun q h he hX => a_out (unc_of Z.2.1 rfl) Z.2.2.2.1 he hX) (fun _ h hf => ?kk68)
  refine AW.eq (g2 := F0 m 71 ls [va_rf (some x60)]) rfl ?_
  refine a_aload (pc := 71) X dX2_checkBearing_71 hl 0 rfl ?_
  rcases dv_someS hf with ⟨hk, hf⟩ | ⟨-, hf⟩
  rotate_left
  · exact fl_none hf
  refine a_callb (pc := 73) (rs := []) (avs := [vR (some x60), vR t0]) Z.1 (w_X6_behind GA (some x60) t0) (Or.inl rfl) q2047 q90 (by decide) (by decide) dX2_checkBearing_73 hl.1 (Nat.le_of_ble_eq_true rfl) hf (ct_V hk ⟨by decide, by decide⟩ X (Or.inl rfl) q2047 q2044 q2045 q2046 hy_X6_behind np_X6_behind rfl dX2_checkBearing_73) (fun q h he hX => a_out (unc_of Z.2.1 rfl) Z.2.2.2.1 he hX) (fun x73 h hf => ?kk73)
  refine AW.eq (g2 := F0 m 76 ls [va_rf x73]) rfl ?_
  exact a_athrow X dX2_checkBearing_76 hf (fun q e he hX => a_out (unc_of Z.2.1 rfl) Z.2.2.2.1 he hX)
theorem np_X2_checkBearing : npar yX2_checkBearing.desc 2 := by unfold npar; decide +kernel
theorem hy_X2_checkBearing : yX2_checkBearing.cls ≠ "java/lang/invoke/MethodHandle" ∧ yX2_checkBearing.cls ≠ "java/lang/invoke/VarHandle" := by decide +kernel
theorem w_X2_checkBearing (GA : GA l s0 a0 K lam) (v0 : Option Nat) (v1 : Option Nat) (v2 : Int32) : AMet l s0 K lam yX2_checkBearing (Cond.code yX2_checkBearing cX2_checkBearing (6 : Nat) (Option.none : Option ClassFile.FieldType)) 11 3109 [vR v0, vR v1, vI v2] oV (f_X2_checkBearing K v0 v1 v2) := by
  refine AMet.of GA.1 (plainFor_of_name (by decide +kernel)) (Nat.le_of_ble_eq_true rfl) ?_
  intro b r hf p e s m args below meth c X hr hlk hnm hnd ht ls hl
  have Z : WZ l s0 a0 K p s m c cX2_checkBearing yX2_checkBearing.cls 6 b { frames := 11, cells := K 0 - aX b, slots := K 1 - aW b, locals := 3109 } 11 3109 meth [] none yX2_checkBearing := ⟨⟨X, GA.2.1, GA.2.2.1, rfl, rfl, Nat.le_refl _, Nat.le_refl _⟩, tab_nil ht, hr, hlk, hnm, hnd⟩
  unfold f_X2_checkBearing at hf
  clear hr hlk hnm hnd ht
  refine a_aload_n (pc := 0) X dX2_checkBearing_0 rfl hl 0 rfl ?_
  refine a_get (pc := 1) (φ := 300) pR_t X Z.1.2.1 (gw X.1 X.2.1 q228) (fun _ q => q) (by decide) dX2_checkBearing_1 hf (fun x1 hf => ?_)
  refine a_iload_n (pc := 4) X dX2_checkBearing_4 rfl hl 2 rfl ?_
  obtain ⟨a5, rfl, ⟨hk, hf⟩ | ⟨-, hf⟩⟩ := dv_some hf
  rotate_left
  · exact fl_none hf
  refine a_callb (pc := 5) (rs := []) (avs := [vR (some a5), vI v2]) Z.1 (w_J2_get GA (some a5) v2) (Or.inl rfl) q505 q78 (by decide) (by decide) dX2_checkBearing_5 hl.1 (Nat.le_of_ble_eq_true rfl) hf (ct_V hk ⟨by decide, by decide⟩ X (Or.inl rfl) q505 q1828 q503 q3487 hy_J2_get np_J2_get rfl dX2_checkBearing_5) (fun q h he hX => a_out (unc_of Z.2.1 rfl) Z.2.2.2.1 he hX) (fun x5 h hf => ?kk5)
  refine AW.eq (g2 := F0 m 8 ls [va_rf x5]) rfl ?_
  refine a_checkcast (pc := 8) X (gw X.1 X.2.1 q802) (cs_JumpHall_Mat GA) dX2_checkBearing_8 hf (fun hf => ?_)
  refine a_astore_n (pc := 11) X dX2_checkBearing_11 rfl hl (by decide) (lv' := [(3, vR x5), (0, vR v0), (1, vR v1), (2, vI v2)]) rfl (fun ls hl => ?_)
  refine a_aload_n (pc := 12) X dX2_checkBearing_12 rfl hl 1 rfl ?_
  refine a_iload_n (pc := 13) X dX2_checkBearing_13 rfl hl 3 rfl ?_
  obtain ⟨a14, rfl, ⟨hk, hf⟩ | ⟨-, hf⟩⟩ := dv_some hf
  rotate_left
  · exact fl_none hf
  refine a_callb (pc := 14) (rs := []) (avs := [vR (some a14), vI v2]) Z.1 (w_X2_weightOn GA (some a14) v2) (Or.inl rfl) q1905 q75 (by decide) (by decide) dX2_checkBearing_14 hl.1 (Nat.le_of_ble_eq_true rfl) hf (ct_V hk ⟨by decide, by decide⟩ X (Or.inl rfl) q1905 q1975 q1903 q1904 hy_X2_weightOn np_X2_weightOn rfl dX2_checkBearing_14) (fun q h he hX => a_out (unc_of Z.2.1 rfl) Z.2.2.2.1 he hX) (fun x14 h hf => ?kk14)
  refine AW.eq (g2 := F0 m 17 ls [.int x14]) rfl ?_
  refine a_aload_n (pc := 17) X dX2_checkBearing_17 rfl hl 2 rfl ?_
  refine a_getN (pc := 18) (φ := 501) pI_t X Z.1.2.1 (gnF X.1 X.2.1 q914) (fun _ q => q) (by decide) dX2_checkBearing_18 hf (fun x18 hf => ?_)
  refine AW.lift (fun _ _ _ _ k => lv_iadd (pc := 21) X.2.2.1 X.2.2.2.1 dX2_checkBearing_21 k) ?_
  refine a_aload_n (pc := 22) X dX2_checkBearing_22 rfl hl 0 rfl ?_
  obtain ⟨a23, rfl, ⟨hk, hf⟩ | ⟨-, hf⟩⟩ := dv_some hf
  rotate_left
  · exact fl_none hf
  refine a_callb (pc := 23) (rs := [vI (x14 + x18)]) (avs := [vR (some a23)]) Z.1 (w_X7_bears GA (some a23)) (Or.inl rfl) q1846 q91 (by decide) (by decide) dX2_checkBearing_23 hl.1 (Nat.le_of_ble_eq_true rfl) hf (ct_V hk ⟨by decide, by decide⟩ X (Or.inl rfl) q1846 q1843 q1844 q1845 hy_X7_bears np_X7_bears rfl dX2_checkBearing_23) (fun q h he hX => a_out (unc_of Z.2.1 rfl) Z.2.2.2.1 he hX) (fun x23 h hf => ?kk23)
  refine AW.eq (g2 := F0 m 26 ls [.int x23, .int (x14 + x18)]) rfl ?_
  refine AW.lift (fun _ _ _ _ k => lv_isub (pc := 26) X.2.2.1 X.2.2.2.1 dX2_checkBearing_26 k) ?_
  refine a_istore (pc := 27) X dX2_checkBearing_27 hl (by decide) (lv' := [(4, vI ((x14 + x18) - x23)), (3, vR (some a23)), (0, vR (some a14)), (1, vR v1), (2, vI v2)]) rfl (fun ls hl => ?_)
  refine a_iload (pc := 29) X dX2_checkBearing_29 hl 0 rfl ?_
  refine AW.lift2 (fun _ _ _ _ k1 k2 => lv_if_le (pc := 31) (tgt := 77) X.2.2.1 X.2.2.2.1 dX2_checkBearing_31 rfl k1 k2) (fun c => ?_) (fun c => ?_)
  · have hf := ite_t c hf
    exact a_return X Z.2.2.1 Z.2.2.2.1 dX2_checkBearing_77 hf
  · have hf := ite_f c hf
    refine a_aload_n (pc := 34) X dX2_checkBearing_34 rfl hl 1 rfl ?_
    rcases dv_someS hf with ⟨hk, hf⟩ | ⟨-, hf⟩
    rotate_left
    · exact fl_none hf
    refine a_callb (pc := 35) (rs := []) (avs := [vR (some a23)]) Z.1 (w_X7_broken GA (some a23)) (Or.inl rfl) q1890 q91 (by decide) (by decide) dX2_checkBearing_35 hl.1 (Nat.le_of_ble_eq_true rfl) hf (ct_V hk ⟨by decide, by decide⟩ X (Or.inl rfl) q1890 q2041 q1888 q1889 hy_X7_broken np_X7_broken rfl dX2_checkBearing_35) (fun q h he hX => a_out (unc_of Z.2.1 rfl) Z.2.2.2.1 he hX) (fun x35 h hf => ?kk35)
    refine AW.eq (g2 := F0 m 38 ls [.int x35]) rfl ?_
    refine AW.lift2 (fun _ _ _ _ k1 k2 => lv_if_le (pc := 38) (tgt := 57) X.2.2.1 X.2.2.2.1 dX2_checkBearing_38 rfl k1 k2) (fun c => ?_) (fun c => ?_)
    · have hf := ite_t c hf
      refine a_null (pc := 57) X dX2_checkBearing_57 ?_
      exact w_X2_checkBearing_j58 GA Z ((x14 + x18) - x23) none  (hl.sub [0] rfl) hf
    · have hf := ite_f c hf
      refine a_new (pc := 41) (cK := 12) (n := 8) X Z.1.2.1 Z.1.2.2.1 Z.1.2.2.2.1 Z.1.2.2.2.2.1 ⟨by decide, by decide, by decide⟩ (gw X.1 X.2.1 q2042) (gw X.1 X.2.1 q1725) (gw X.1 X.2.1 q90) dX2_checkBearing_41 hf (fun x41 h hf => ?_)
      refine AW.lift (fun _ _ _ _ k => lv_dup (pc := 44) X.2.2.1 X.2.2.2.1 dX2_checkBearing_44 (cat_rf _) k) ?_
      refine AW.lift (fun _ _ _ _ k => lv_bipush (pc := 45) (v := (16 : Int32)) X.2.2.1 X.2.2.2.1 dX2_checkBearing_45 rfl k) ?_
      refine a_aload_n (pc := 47) X dX2_checkBearing_47 rfl hl 1 rfl ?_
      rcases dv_someS hf with ⟨hk, hf⟩ | ⟨-, hf⟩
      rotate_left
      · exact fl_none hf
      refine a_callb (pc := 48) (rs := [vI (16 : Int32), vR (some x41), vR (some x41)]) (avs := [vR (some a23)]) Z.1 (w_X7_broken GA (some a23)) (Or.inl rfl) q1890 q91 (by decide) (by decide) dX2_checkBearing_48 hl.1 (Nat.le_of_ble_eq_true rfl) hf (ct_V hk ⟨by decide, by decide⟩ X (Or.inl rfl) q1890 q2041 q1888 q1889 hy_X7_broken np_X7_broken rfl dX2_checkBearing_48) (fun q h he hX => a_out (unc_of Z.2.1 rfl) Z.2.2.2.1 he hX) (fun x48 h hf => ?kk48)
      refine AW.eq (g2 := F0 m 51 ls [.int x48, .int (16 : Int32), va_rf (some x41), va_rf (some x41)]) rfl ?_
      refine a_callb (pc := 51) (rs := [vR (some x41)]) (avs := [vR (some x41), vI (16 : Int32), vI x48]) Z.1 (w_X6_init GA (some x41) (16 : Int32) x48) (Or.inl rfl) q1735 q90 (by decide) (by decide) dX2_checkBearing_51 hl.1 (Nat.le_of_ble_eq_true rfl) hf (ct_I X q1735 q2043 q1734 rfl hy_X6_init np_X6_init rfl dX2_checkBearing_51) (fun q h he hX => a_out (unc_of Z.2.1 rfl) Z.2.2.2.1 he hX) (fun _ h hf => ?kk51)
      refine AW.eq (g2 := F0 m 54 ls [va_rf (some x41)]) rfl ?_
      refine AW.lift (fun _ _ _ _ k => lv_goto (pc := 54) (tgt := 58) X.2.2.1 X.2.2.2.1 dX2_checkBearing_54 rfl k) ?_
      exact w_X2_checkBearing_j58 GA Z ((x14 + x18) - x23) (some x41)  (hl.sub [0] rfl) hf
theorem w_J23_valueOf_j23 {r : Except Nat (Option Nat) × AH} (GA : GA l s0 a0 K lam) (Z : WZ l s0 a0 K p s m c cJ23_valueOf yJ23_valueOf.cls 1 b R 0 0 meth [] (some (.object "java/lang/Integer")) yJ23_valueOf) (v0 : Int32)   {h : AH} {ls : Array Slot} (hl : LV ls 1 [(0, vI v0)]) (hf : f_J23_valueOf_j23 K v0 h = some r) : AW s0 K lam p l e R s m args below meth c (AQ s0 K lam below oR b r s) b h (F0 m 23 ls []) := by
  unfold f_J23_valueOf_j23 at hf
  have X := Z.1.1
  refine a_new (pc := 23) (cK := 33) (n := 1) X Z.1.2.1 Z.1.2.2.1 Z.1.2.2.2.1 Z.1.2.2.2.2.1 ⟨by decide, by decide, by decide⟩ (gw X.1 X.2.1 q1230) (gw X.1 X.2.1 q1923) (gw X.1 X.2.1 q105) dJ23_valueOf_23 hf (fun x23 h hf => ?_)
  refine AW.lift (fun _ _ _ _ k => lv_dup (pc := 26) X.2.2.1 X.2.2.2.1 dJ23_valueOf_26 (cat_rf _) k) ?_
  refine a_iload_n (pc := 27) X dJ23_valueOf_27 rfl hl 0 rfl ?_
  exact fl_no hf
theorem np_J23_valueOf : npar yJ23_valueOf.desc 1 := by unfold npar; decide +kernel
theorem hy_J23_valueOf : yJ23_valueOf.cls ≠ "java/lang/invoke/MethodHandle" ∧ yJ23_valueOf.cls ≠ "java/lang/invoke/VarHandle" := by decide +kernel
theorem w_J23_valueOf (GA : GA l s0 a0 K lam) (v0 : Int32) : AMet l s0 K lam yJ23_valueOf (Cond.code yJ23_valueOf cJ23_valueOf (1 : Nat) (Option.some (ClassFile.FieldType.object "java/lang/Integer"))) 0 0 [vI v0] oR (f_J23_valueOf K v0) := by
  refine AMet.of GA.1 (plainFor_of_name (by decide +kernel)) (Nat.le_of_ble_eq_true rfl) ?_
  intro b r hf p e s m args below meth c X hr hlk hnm hnd ht ls hl
  have Z : WZ l s0 a0 K p s m c cJ23_valueOf yJ23_valueOf.cls 1 b { frames := 0, cells := K 0 - aX b, slots := K 1 - aW b, locals := 0 } 0 0 meth [] (some (.object "java/lang/Integer")) yJ23_valueOf := ⟨⟨X, GA.2.1, GA.2.2.1, rfl, rfl, Nat.le_refl _, Nat.le_refl _⟩, tab_nil ht, hr, hlk, hnm, hnd⟩
  unfold f_J23_valueOf at hf
  clear hr hlk hnm hnd ht
  refine a_iload_n (pc := 0) X dJ23_valueOf_0 rfl hl 0 rfl ?_
  refine AW.lift (fun _ _ _ _ k => lv_bipush (pc := 1) (v := (-128 : Int32)) X.2.2.1 X.2.2.2.1 dJ23_valueOf_1 rfl k) ?_
  refine AW.lift2 (fun _ _ _ _ k1 k2 => lv_icmp_lt (pc := 3) (tgt := 23) X.2.2.1 X.2.2.2.1 dJ23_valueOf_3 rfl k1 k2) (fun c => ?_) (fun c => ?_)
  · have hf := ite_t c hf
    exact w_J23_valueOf_j23 GA Z v0   (hl.sub [0] rfl) hf
  · have hf := ite_f c hf
    refine a_iload_n (pc := 6) X dJ23_valueOf_6 rfl hl 0 rfl ?_
    refine a_getstatic (pc := 7) (v := .int (127 : Int32)) X (st_high GA) (gw X.1 X.2.1 q1919) (fun _ q => q) dJ23_valueOf_7 ?_
    refine AW.lift2 (fun _ _ _ _ k1 k2 => lv_icmp_gt (pc := 10) (tgt := 23) X.2.2.1 X.2.2.2.1 dJ23_valueOf_10 rfl k1 k2) (fun c => ?_) (fun c => ?_)
    · have hf := ite_t c hf
      exact w_J23_valueOf_j23 GA Z v0   (hl.sub [0] rfl) hf
    · have hf := ite_f c hf
      refine a_getstatic (pc := 13) (v := va_rf (some (K 10))) X (st_cache GA) (gw X.1 X.2.1 q1921) (fun _ q => q) dJ23_valueOf_13 ?_
      refine a_iload_n (pc := 16) X dJ23_valueOf_16 rfl hl 0 rfl ?_
      refine AW.lift (fun _ _ _ _ k => lv_sipush (pc := 17) (v := (128 : Int32)) X.2.2.1 X.2.2.2.1 dJ23_valueOf_17 rfl k) ?_
      refine AW.lift (fun _ _ _ _ k => lv_iadd (pc := 20) X.2.2.1 X.2.2.2.1 dJ23_valueOf_20 k) ?_
      refine a_aaload (pc := 21) (t := 1008) (by decide) rfl X dJ23_valueOf_21 hf (fun x21 hf => ?_)
      exact a_areturn X Z.2.2.1 (Or.inl ⟨_, rfl⟩) Z.2.2.2.1 dJ23_valueOf_22 hf
theorem w_J2_indexOfRange_j36 {r : Except Nat (Int32) × AH} (GA : GA l s0 a0 K lam) (Z : WZ l s0 a0 K p s m c cJ2_indexOfRange yJ2_indexOfRange.cls 6 b R 2 44 meth [] (some (.int)) yJ2_indexOfRange)    {h : AH} {ls : Array Slot} (hl : LV ls 6 []) (hf : f_J2_indexOfRange_j36 K h = some r) : AW s0 K lam p l e R s m args below meth c (AQ s0 K lam below oI b r s) b h (F0 m 36 ls []) := by
  unfold f_J2_indexOfRange_j36 at hf
  have X := Z.1.1
  refine AW.lift (fun _ _ _ _ k => lv_goto (pc := 36) (tgt := 69) X.2.2.1 X.2.2.2.1 dJ2_indexOfRange_36 rfl k) ?_
  refine AW.lift (fun _ _ _ _ k => lv_iconst (pc := 69) (v := (-1 : Int32)) X.2.2.1 X.2.2.2.1 dJ2_indexOfRange_69 rfl k) ?_
  exact a_ireturn X Z.2.2.1 Z.2.2.2.1 dJ2_indexOfRange_70 hf
theorem w_J2_indexOfRange_b13 {r : Except Nat (Int32) × AH} (GA : GA l s0 a0 K lam) (Z : WZ l s0 a0 K p s m c cJ2_indexOfRange yJ2_indexOfRange.cls 6 b R 2 44 meth [] (some (.int)) yJ2_indexOfRange) (v3 : Int32) (v4 : Option Nat) (v5 : Int32)  (rc13 : Int32 → AM (Int32)) (hrc13 : ∀ (v5 : Int32) (h : AH) (ls : Array Slot), LV ls 6 [(3, vI v3), (4, vR v4), (5, vI v5)] → rc13 v5 h = some r → AW s0 K lam p l e R s m args below meth c (AQ s0 K lam below oI b r s) b h (F0 m 13 ls [])) {h : AH} {ls : Array Slot} (hl : LV ls 6 [(3, vI v3), (4, vR v4), (5, vI v5)]) (hf : f_J2_indexOfRange_b13 K rc13 v3 v4 v5 h = some r) : AW s0 K lam p l e R s m args below meth c (AQ s0 K lam below oI b r s) b h (F0 m 13 ls []) := by
  unfold f_J2_indexOfRange_b13 at hf
  have X := Z.1.1
  refine a_iload (pc := 13) X dJ2_indexOfRange_13 hl 2 rfl ?_
  refine a_iload_n (pc := 15) X dJ2_indexOfRange_15 rfl hl 0 rfl ?_
  refine AW.lift2 (fun _ _ _ _ k1 k2 => lv_icmp_ge (pc := 16) (tgt := 36) X.2.2.1 X.2.2.2.1 dJ2_indexOfRange_16 rfl k1 k2) (fun c => ?_) (fun c => ?_)
  · have hf := ite_t c hf
    exact w_J2_indexOfRange_j36 GA Z    (hl.sub [] rfl) hf
  · have hf := ite_f c hf
    refine a_aload (pc := 19) X dJ2_indexOfRange_19 hl 1 rfl ?_
    refine a_iload (pc := 21) X dJ2_indexOfRange_21 hl 2 rfl ?_
    refine a_aaload (pc := 23) (t := 1006) (by decide) rfl X dJ2_indexOfRange_23 hf (fun x23 hf => ?_)
    refine a_ifnonnull (pc := 24) (tgt := 30) X dJ2_indexOfRange_24 rfl (fun c => ?_) (fun c => ?_)
    · have hf := ite_f c hf
      refine a_iinc (pc := 30) (v := (v5 + (1 : Int32))) X dJ2_indexOfRange_30 hl (k := 2) rfl rfl (by decide) (lv' := [(5, vI (v5 + (1 : Int32))), (3, vI v3), (4, vR v4)]) rfl (fun ls hl => ?_)
      refine AW.lift (fun _ _ _ _ k => lv_goto (pc := 33) (tgt := 13) X.2.2.1 X.2.2.2.1 dJ2_indexOfRange_33 rfl k) ?_
      exact hrc13 (v5 + (1 : Int32)) _ _ (hl.sub [1, 2, 0] rfl) hf
    · have hf := ite_t c hf
      refine a_iload (pc := 27) X dJ2_indexOfRange_27 hl 2 rfl ?_
      exact a_ireturn X Z.2.2.1 Z.2.2.2.1 dJ2_indexOfRange_29 hf
theorem w_J2_indexOfRange_l13 {r : Except Nat (Int32) × AH} (GA : GA l s0 a0 K lam) (Z : WZ l s0 a0 K p s m c cJ2_indexOfRange yJ2_indexOfRange.cls 6 b R 2 44 meth [] (some (.int)) yJ2_indexOfRange) (v3 : Int32) (v4 : Option Nat)  : ∀ (n : Nat) (v5 : Int32) (h : AH) (ls : Array Slot), LV ls 6 [(3, vI v3), (4, vR v4), (5, vI v5)] → f_J2_indexOfRange_l13 K v3 v4 n v5 h = some r → AW s0 K lam p l e R s m args below meth c (AQ s0 K lam below oI b r s) b h (F0 m 13 ls []) := by
  intro n
  induction n with
  | zero => intro v5 h ls hl hf; exact fl_no (h := h) hf
  | succ n ih => intro v5 h ls hl hf; exact w_J2_indexOfRange_b13 GA Z v3 v4 v5 (f_J2_indexOfRange_l13 K v3 v4 n) ih hl hf
theorem w_J2_indexOfRange_b42 {r : Except Nat (Int32) × AH} (GA : GA l s0 a0 K lam) (Z : WZ l s0 a0 K p s m c cJ2_indexOfRange yJ2_indexOfRange.cls 6 b R 2 44 meth [] (some (.int)) yJ2_indexOfRange) (v1 : Option Nat) (v3 : Int32) (v4 : Option Nat) (v5 : Int32)  (rc42 : Int32 → AM (Int32)) (hrc42 : ∀ (v5 : Int32) (h : AH) (ls : Array Slot), LV ls 6 [(1, vR v1), (3, vI v3), (4, vR v4), (5, vI v5)] → rc42 v5 h = some r → AW s0 K lam p l e R s m args below meth c (AQ s0 K lam below oI b r s) b h (F0 m 42 ls [])) {h : AH} {ls : Array Slot} (hl : LV ls 6 [(1, vR v1), (3, vI v3), (4, vR v4), (5, vI v5)]) (hf : f_J2_indexOfRange_b42 K rc42 v1 v3 v4 v5 h = some r) : AW s0 K lam p l e R s m args below meth c (AQ s0 K lam below oI b r s) b h (F0 m 42 ls []) := by
  unfold f_J2_indexOfRange_b42 at hf
  have X := Z.1.1
  refine a_iload (pc := 42) X dJ2_indexOfRange_42 hl 3 rfl ?_
  refine a_iload_n (pc := 44) X dJ2_indexOfRange_44 rfl hl 1 rfl ?_
  refine AW.lift2 (fun _ _ _ _ k1 k2 => lv_icmp_ge (pc := 45) (tgt := 69) X.2.2.1 X.2.2.2.1 dJ2_indexOfRange_45 rfl k1 k2) (fun c => ?_) (fun c => ?_)
  · have hf := ite_t c hf
    refine AW.lift (fun _ _ _ _ k => lv_iconst (pc := 69) (v := (-1 : Int32)) X.2.2.1 X.2.2.2.1 dJ2_indexOfRange_69 rfl k) ?_
    exact a_ireturn X Z.2.2.1 Z.2.2.2.1 dJ2_indexOfRange_70 hf
  · have hf := ite_f c hf
    refine a_aload_n (pc := 48) X dJ2_indexOfRange_48 rfl hl 0 rfl ?_
    refine a_aload (pc := 49) X dJ2_indexOfRange_49 hl 2 rfl ?_
    refine a_iload (pc := 51) X dJ2_indexOfRange_51 hl 3 rfl ?_
    refine a_aaload (pc := 53) (t := 1006) (by decide) rfl X dJ2_indexOfRange_53 hf (fun x53 hf => ?_)
    obtain ⟨a54, rfl⟩ := dv_ref hf
    refine' a_virt hf ?kv54 ?cs54
    case cs54 =>
      intro hf kk
      rcases dv_someS hf with ⟨hk, hf⟩ | ⟨-, hf⟩
      · refine a_callb (pc := 54) (rs := []) (avs := [vR (some a54), vR x53]) Z.1 (w_X10_equals GA (some a54) x53) (Or.inl rfl) q1611 q126 (by decide) (by decide) dJ2_indexOfRange_54 hl.1 (Nat.le_of_ble_eq_true rfl) hf (ct_U (x := ({ cls := "java/lang/Object", name := "equals", desc := "(Ljava/lang/Object;)Z" } : MethodName)) (owner := "java/lang/Object") hk ⟨by decide, by decide⟩ X (Or.inl rfl) q1611 q1943 (q1597) (va_Decl.ofD (gf (args := args) X.1 X.2.1 q1594 rfl)) ⟨by decide, by decide⟩ q1610 q1609 (np_of (np_X10_equals)) rfl dJ2_indexOfRange_54) (fun q h he hX => a_out (unc_of Z.2.1 rfl) Z.2.2.2.1 he hX) (fun v h hf => kk v h hf)
      rcases dv_someS hf with ⟨hk, hf⟩ | ⟨-, hf⟩
      · refine a_callb (pc := 54) (rs := []) (avs := [vR (some a54), vR x53]) Z.1 (w_J23_equals GA (some a54) x53) (Or.inl rfl) q1621 q105 (by decide) (by decide) dJ2_indexOfRange_54 hl.1 (Nat.le_of_ble_eq_true rfl) hf (ct_U (x := ({ cls := "java/lang/Object", name := "equals", desc := "(Ljava/lang/Object;)Z" } : MethodName)) (owner := "java/lang/Object") hk ⟨by decide, by decide⟩ X (Or.inl rfl) q1621 q1943 (q1597) (va_Decl.ofD (gf (args := args) X.1 X.2.1 q1594 rfl)) ⟨by decide, by decide⟩ q1620 q1619 (np_of (np_J23_equals)) rfl dJ2_indexOfRange_54) (fun q h he hX => a_out (unc_of Z.2.1 rfl) Z.2.2.2.1 he hX) (fun v h hf => kk v h hf)
      rcases dv_someS hf with ⟨hk, hf⟩ | ⟨-, hf⟩
      · refine a_callb (pc := 54) (rs := []) (avs := [vR (some a54), vR x53]) Z.1 (w_J7_equals GA (some a54) x53) (Or.inl rfl) q1628 q84 (by decide) (by decide) dJ2_indexOfRange_54 hl.1 (Nat.le_of_ble_eq_true rfl) hf (ct_U (x := ({ cls := "java/lang/Object", name := "equals", desc := "(Ljava/lang/Object;)Z" } : MethodName)) (owner := "java/lang/Object") hk ⟨by decide, by decide⟩ X (Or.inl rfl) q1628 q1943 (q1597) (va_Decl.ofD (gf (args := args) X.1 X.2.1 q1594 rfl)) ⟨by decide, by decide⟩ q1627 q1626 (np_of (np_J7_equals)) rfl dJ2_indexOfRange_54) (fun q h he hX => a_out (unc_of Z.2.1 rfl) Z.2.2.2.1 he hX) (fun v h hf => kk v h hf)
      exact fl_none hf
    case kv54 =>
    intro x54 h hf
    refine AW.eq (g2 := F0 m 57 ls [.int x54]) rfl ?_
    refine AW.lift2 (fun _ _ _ _ k1 k2 => lv_if_eq (pc := 57) (tgt := 63) X.2.2.1 X.2.2.2.1 dJ2_indexOfRange_57 rfl k1 k2) (fun c => ?_) (fun c => ?_)
    · have hf := ite_t c hf
      refine a_iinc (pc := 63) (v := (v5 + (1 : Int32))) X dJ2_indexOfRange_63 hl (k := 3) rfl rfl (by decide) (lv' := [(5, vI (v5 + (1 : Int32))), (1, vR (some a54)), (3, vI v3), (4, vR v4)]) rfl (fun ls hl => ?_)
      refine AW.lift (fun _ _ _ _ k => lv_goto (pc := 66) (tgt := 42) X.2.2.1 X.2.2.2.1 dJ2_indexOfRange_66 rfl k) ?_
      exact hrc42 (v5 + (1 : Int32)) _ _ (hl.sub [1, 2, 3, 0] rfl) hf
    · have hf := ite_f c hf
      refine a_iload (pc := 60) X dJ2_indexOfRange_60 hl 3 rfl ?_
      exact a_ireturn X Z.2.2.1 Z.2.2.2.1 dJ2_indexOfRange_62 hf
theorem w_J2_indexOfRange_l42 {r : Except Nat (Int32) × AH} (GA : GA l s0 a0 K lam) (Z : WZ l s0 a0 K p s m c cJ2_indexOfRange yJ2_indexOfRange.cls 6 b R 2 44 meth [] (some (.int)) yJ2_indexOfRange) (v1 : Option Nat) (v3 : Int32) (v4 : Option Nat)  : ∀ (n : Nat) (v5 : Int32) (h : AH) (ls : Array Slot), LV ls 6 [(1, vR v1), (3, vI v3), (4, vR v4), (5, vI v5)] → f_J2_indexOfRange_l42 K v1 v3 v4 n v5 h = some r → AW s0 K lam p l e R s m args below meth c (AQ s0 K lam below oI b r s) b h (F0 m 42 ls []) := by
  intro n
  induction n with
  | zero => intro v5 h ls hl hf; exact fl_no (h := h) hf
  | succ n ih => intro v5 h ls hl hf; exact w_J2_indexOfRange_b42 GA Z v1 v3 v4 v5 (f_J2_indexOfRange_l42 K v1 v3 v4 n) ih hl hf
theorem np_J2_indexOfRange : npar yJ2_indexOfRange.desc 3 := by unfold npar; decide +kernel
theorem hy_J2_indexOfRange : yJ2_indexOfRange.cls ≠ "java/lang/invoke/MethodHandle" ∧ yJ2_indexOfRange.cls ≠ "java/lang/invoke/VarHandle" := by decide +kernel
theorem w_J2_indexOfRange (GA : GA l s0 a0 K lam) (v0 : Option Nat) (v1 : Option Nat) (v2 : Int32) (v3 : Int32) : AMet l s0 K lam yJ2_indexOfRange (Cond.code yJ2_indexOfRange cJ2_indexOfRange (6 : Nat) (Option.some ClassFile.FieldType.int)) 2 44 [vR v0, vR v1, vI v2, vI v3] oI (f_J2_indexOfRange K v0 v1 v2 v3) := by
  refine AMet.of GA.1 (plainFor_of_name (by decide +kernel)) (Nat.le_of_ble_eq_true rfl) ?_
  intro b r hf p e s m args below meth c X hr hlk hnm hnd ht ls hl
  have Z : WZ l s0 a0 K p s m c cJ2_indexOfRange yJ2_indexOfRange.cls 6 b { frames := 2, cells := K 0 - aX b, slots := K 1 - aW b, locals := 44 } 2 44 meth [] (some (.int)) yJ2_indexOfRange := ⟨⟨X, GA.2.1, GA.2.2.1, rfl, rfl, Nat.le_refl _, Nat.le_refl _⟩, tab_nil ht, hr, hlk, hnm, hnd⟩
  unfold f_J2_indexOfRange at hf
  clear hr hlk hnm hnd ht
  refine a_aload_n (pc := 0) X dJ2_indexOfRange_0 rfl hl 0 rfl ?_
  refine a_get (pc := 1) (φ := 2500) pR_t X Z.1.2.1 (gw X.1 X.2.1 q166) (fun _ q => q) (by decide) dJ2_indexOfRange_1 hf (fun x1 hf => ?_)
  refine a_astore (pc := 4) X dJ2_indexOfRange_4 hl (by decide) (lv' := [(4, vR x1), (0, vR v0), (1, vR v1), (2, vI v2), (3, vI v3)]) rfl (fun ls hl => ?_)
  refine a_aload_n (pc := 6) X dJ2_indexOfRange_6 rfl hl 2 rfl ?_
  refine a_ifnonnull (pc := 7) (tgt := 39) X dJ2_indexOfRange_7 rfl (fun c => ?_) (fun c => ?_)
  · have hf := ite_f c hf
    refine a_iload_n (pc := 39) X dJ2_indexOfRange_39 rfl hl 3 rfl ?_
    refine a_istore (pc := 40) X dJ2_indexOfRange_40 hl (by decide) (lv' := [(5, vI v2), (4, vR x1), (0, vR v0), (1, vR v1), (2, vI v2), (3, vI v3)]) rfl (fun ls hl => ?_)
    exact w_J2_indexOfRange_l42 GA Z v1 v3 x1  FU v2 _ _ (hl.sub [3, 5, 1, 0] rfl) hf
  · have hf := ite_t c hf
    refine a_iload_n (pc := 10) X dJ2_indexOfRange_10 rfl hl 3 rfl ?_
    refine a_istore (pc := 11) X dJ2_indexOfRange_11 hl (by decide) (lv' := [(5, vI v2), (4, vR x1), (0, vR v0), (1, vR v1), (2, vI v2), (3, vI v3)]) rfl (fun ls hl => ?_)
    exact w_J2_indexOfRange_l13 GA Z v3 x1  FU v2 _ _ (hl.sub [5, 1, 0] rfl) hf
theorem np_J2_indexOf : npar yJ2_indexOf.desc 1 := by unfold npar; decide +kernel
theorem hy_J2_indexOf : yJ2_indexOf.cls ≠ "java/lang/invoke/MethodHandle" ∧ yJ2_indexOf.cls ≠ "java/lang/invoke/VarHandle" := by decide +kernel
theorem w_J2_indexOf (GA : GA l s0 a0 K lam) (v0 : Option Nat) (v1 : Option Nat) : AMet l s0 K lam yJ2_indexOf (Cond.code yJ2_indexOf cJ2_indexOf (2 : Nat) (Option.some ClassFile.FieldType.int)) 3 69 [vR v0, vR v1] oI (f_J2_indexOf K v0 v1) := by
  refine AMet.of GA.1 (plainFor_of_name (by decide +kernel)) (Nat.le_of_ble_eq_true rfl) ?_
  intro b r hf p e s m args below meth c X hr hlk hnm hnd ht ls hl
  have Z : WZ l s0 a0 K p s m c cJ2_indexOf yJ2_indexOf.cls 2 b { frames := 3, cells := K 0 - aX b, slots := K 1 - aW b, locals := 69 } 3 69 meth [] (some (.int)) yJ2_indexOf := ⟨⟨X, GA.2.1, GA.2.2.1, rfl, rfl, Nat.le_refl _, Nat.le_refl _⟩, tab_nil ht, hr, hlk, hnm, hnd⟩
  unfold f_J2_indexOf at hf
  clear hr hlk hnm hnd ht
  refine a_aload_n (pc := 0) X dJ2_indexOf_0 rfl hl 0 rfl ?_
  refine a_aload_n (pc := 1) X dJ2_indexOf_1 rfl hl 1 rfl ?_
  refine AW.lift (fun _ _ _ _ k => lv_iconst (pc := 2) (v := (0 : Int32)) X.2.2.1 X.2.2.2.1 dJ2_indexOf_2 rfl k) ?_
  refine a_aload_n (pc := 3) X dJ2_indexOf_3 rfl hl 0 rfl ?_
  refine a_get (pc := 4) (φ := 2501) pI_t X Z.1.2.1 (gw X.1 X.2.1 q169) (fun _ q => q) (by decide) dJ2_indexOf_4 hf (fun x4 hf => ?_)
  obtain ⟨a7, rfl, ⟨hk, hf⟩ | ⟨-, hf⟩⟩ := dv_some hf
  rotate_left
  · exact fl_none hf
  refine a_callb (pc := 7) (rs := []) (avs := [vR (some a7), vR v1, vI (0 : Int32), vI x4]) Z.1 (w_J2_indexOfRange GA (some a7) v1 (0 : Int32) x4) (Or.inl rfl) q1942 q78 (by decide) (by decide) dJ2_indexOf_7 hl.1 (Nat.le_of_ble_eq_true rfl) hf (ct_V hk ⟨by decide, by decide⟩ X (Or.inl rfl) q1942 q1939 q1940 q1941 hy_J2_indexOfRange np_J2_indexOfRange rfl dJ2_indexOf_7) (fun q h he hX => a_out (unc_of Z.2.1 rfl) Z.2.2.2.1 he hX) (fun x7 h hf => ?kk7)
  refine AW.eq (g2 := F0 m 10 ls [.int x7]) rfl ?_
  exact a_ireturn X Z.2.2.1 Z.2.2.2.1 dJ2_indexOf_10 hf
theorem np_X2_guardAt : npar yX2_guardAt.desc 1 := by unfold npar; decide +kernel
theorem hy_X2_guardAt : yX2_guardAt.cls ≠ "java/lang/invoke/MethodHandle" ∧ yX2_guardAt.cls ≠ "java/lang/invoke/VarHandle" := by decide +kernel
theorem w_X2_guardAt (GA : GA l s0 a0 K lam) (v0 : Option Nat) (v1 : Int32) : AMet l s0 K lam yX2_guardAt (Cond.code yX2_guardAt cX2_guardAt (2 : Nat) (Option.some ClassFile.FieldType.int)) 4 90 [vR v0, vI v1] oI (f_X2_guardAt K v0 v1) := by
  refine AMet.of GA.1 (plainFor_of_name (by decide +kernel)) (Nat.le_of_ble_eq_true rfl) ?_
  intro b r hf p e s m args below meth c X hr hlk hnm hnd ht ls hl
  have Z : WZ l s0 a0 K p s m c cX2_guardAt yX2_guardAt.cls 2 b { frames := 4, cells := K 0 - aX b, slots := K 1 - aW b, locals := 90 } 4 90 meth [] (some (.int)) yX2_guardAt := ⟨⟨X, GA.2.1, GA.2.2.1, rfl, rfl, Nat.le_refl _, Nat.le_refl _⟩, tab_nil ht, hr, hlk, hnm, hnd⟩
  unfold f_X2_guardAt at hf
  clear hr hlk hnm hnd ht
  refine a_aload_n (pc := 0) X dX2_guardAt_0 rfl hl 0 rfl ?_
  refine a_get (pc := 1) (φ := 303) pR_t X Z.1.2.1 (gw X.1 X.2.1 q234) (fun _ q => q) (by decide) dX2_guardAt_1 hf (fun x1 hf => ?_)
  refine a_iload_n (pc := 4) X dX2_guardAt_4 rfl hl 1 rfl ?_
  refine a_callb (pc := 5) (rs := [vR x1]) (avs := [vI v1]) Z.1 (w_J23_valueOf GA v1) (Or.inl rfl) q1918 q105 (by decide) (by decide) dX2_guardAt_5 hl.1 (Nat.le_of_ble_eq_true rfl) hf (ct_S X (Or.inl rfl) q1918 q105 q1916 q1917 hy_J23_valueOf np_J23_valueOf rfl dX2_guardAt_5) (fun q h he hX => a_out (unc_of Z.2.1 rfl) Z.2.2.2.1 he hX) (fun x5 h hf => ?kk5)
  refine AW.eq (g2 := F0 m 8 ls [va_rf x5, va_rf x1]) rfl ?_
  obtain ⟨a8, rfl, ⟨hk, hf⟩ | ⟨-, hf⟩⟩ := dv_some hf
  rotate_left
  · exact fl_none hf
  refine a_callb (pc := 8) (rs := []) (avs := [vR (some a8), vR x5]) Z.1 (w_J2_indexOf GA (some a8) x5) (Or.inl rfl) q1938 q78 (by decide) (by decide) dX2_guardAt_8 hl.1 (Nat.le_of_ble_eq_true rfl) hf (ct_V hk ⟨by decide, by decide⟩ X (Or.inl rfl) q1938 q1935 q1936 q1937 hy_J2_indexOf np_J2_indexOf rfl dX2_guardAt_8) (fun q h he hX => a_out (unc_of Z.2.1 rfl) Z.2.2.2.1 he hX) (fun x8 h hf => ?kk8)
  refine AW.eq (g2 := F0 m 11 ls [.int x8]) rfl ?_
  exact a_ireturn X Z.2.2.1 Z.2.2.2.1 dX2_guardAt_11 hf
theorem np_X8_isLight : npar yX8_isLight.desc 0 := by unfold npar; decide +kernel
theorem hy_X8_isLight : yX8_isLight.cls ≠ "java/lang/invoke/MethodHandle" ∧ yX8_isLight.cls ≠ "java/lang/invoke/VarHandle" := by decide +kernel
theorem w_X8_isLight (GA : GA l s0 a0 K lam) (v0 : Option Nat) : AMet l s0 K lam yX8_isLight (Cond.code yX8_isLight cX8_isLight (1 : Nat) (Option.some ClassFile.FieldType.boolean)) 0 0 [vR v0] oI (f_X8_isLight K v0) := by
  refine AMet.of GA.1 (plainFor_of_name (by decide +kernel)) (Nat.le_of_ble_eq_true rfl) ?_
  intro b r hf p e s m args below meth c X hr hlk hnm hnd ht ls hl
  have Z : WZ l s0 a0 K p s m c cX8_isLight yX8_isLight.cls 1 b { frames := 0, cells := K 0 - aX b, slots := K 1 - aW b, locals := 0 } 0 0 meth [] (some (.boolean)) yX8_isLight := ⟨⟨X, GA.2.1, GA.2.2.1, rfl, rfl, Nat.le_refl _, Nat.le_refl _⟩, tab_nil ht, hr, hlk, hnm, hnd⟩
  unfold f_X8_isLight at hf
  clear hr hlk hnm hnd ht
  refine a_aload_n (pc := 0) X dX8_isLight_0 rfl hl 0 rfl ?_
  refine a_get (pc := 1) (φ := 501) pI_t X Z.1.2.1 (gw X.1 X.2.1 q913) (fun _ q => q) (by decide) dX8_isLight_1 hf (fun x1 hf => ?_)
  refine AW.lift (fun _ _ _ _ k => lv_bipush (pc := 4) (v := (25 : Int32)) X.2.2.1 X.2.2.2.1 dX8_isLight_4 rfl k) ?_
  refine AW.lift2 (fun _ _ _ _ k1 k2 => lv_icmp_ge (pc := 6) (tgt := 13) X.2.2.1 X.2.2.2.1 dX8_isLight_6 rfl k1 k2) (fun c => ?_) (fun c => ?_)
  · have hf := ite_t c hf
    refine AW.lift (fun _ _ _ _ k => lv_iconst (pc := 13) (v := (0 : Int32)) X.2.2.1 X.2.2.2.1 dX8_isLight_13 rfl k) ?_
    exact a_zreturn X Z.2.2.1 rfl Z.2.2.2.1 dX8_isLight_14 hf
  · have hf := ite_f c hf
    refine AW.lift (fun _ _ _ _ k => lv_iconst (pc := 9) (v := (1 : Int32)) X.2.2.1 X.2.2.2.1 dX8_isLight_9 rfl k) ?_
    refine AW.lift (fun _ _ _ _ k => lv_goto (pc := 10) (tgt := 14) X.2.2.1 X.2.2.2.1 dX8_isLight_10 rfl k) ?_
    exact a_zreturn X Z.2.2.1 rfl Z.2.2.2.1 dX8_isLight_14 hf
theorem w_X2_checkUp_j102 {r : Except Nat (Unit) × AH} (GA : GA l s0 a0 K lam) (Z : WZ l s0 a0 K p s m c cX2_checkUp yX2_checkUp.cls 4 b R 12 3134 meth [] none yX2_checkUp) (v0 : Option Nat) (v1 : Option Nat) (v2 : Int32) (v3 : Option Nat) (t0 : Int32) (t1 : Int32) (t2 : Int32)  {h : AH} {ls : Array Slot} (hl : LV ls 4 [(0, vR v0), (1, vR v1), (2, vI v2), (3, vR v3)]) (hf : f_X2_checkUp_j102 K v0 v1 v2 v3 t0 t1 t2 h = some r) : AW s0 K lam p l e R s m args below meth c (AQ s0 K lam below oV b r s) b h (F0 m 102 ls [.int t0, .int t1, .int t2]) := by
  unfold f_X2_checkUp_j102 at hf
  have X := Z.1.1
  refine a_callb (pc := 102) (rs := []) (avs := [vI t2, vI t1, vI t0]) Z.1 (w_X1_refuse GA t2 t1 t0) (Or.inl rfl) q1723 q74 (by decide) (by decide) dX2_checkUp_102 hl.1 (Nat.le_of_ble_eq_true rfl) hf (ct_SN X (Or.inl rfl) q1723 q74 q1721 q1722 hy_X1_refuse np_X1_refuse rfl dX2_checkUp_102) (fun q h he hX => a_out (unc_of Z.2.1 rfl) Z.2.2.2.1 he hX) (fun _ h hf => ?kk102)
  refine AW.eq (g2 := F0 m 105 ls []) rfl ?_
  refine a_aload_n (pc := 105) X dX2_checkUp_105 rfl hl 0 rfl ?_
  refine a_aload_n (pc := 106) X dX2_checkUp_106 rfl hl 1 rfl ?_
  refine a_iload_n (pc := 107) X dX2_checkUp_107 rfl hl 2 rfl ?_
  obtain ⟨a108, rfl, ⟨hk, hf⟩ | ⟨-, hf⟩⟩ := dv_some hf
  rotate_left
  · exact fl_none hf
  refine a_callb (pc := 108) (rs := []) (avs := [vR (some a108), vR v1, vI v2]) Z.1 (w_X2_checkBearing GA (some a108) v1 v2) (Or.inl rfl) q2040 q75 (by decide) (by decide) dX2_checkUp_108 hl.1 (Nat.le_of_ble_eq_true rfl) hf (ct_V hk ⟨by decide, by decide⟩ X (Or.inl rfl) q2040 q2037 q2039 pv_8 hy_X2_checkBearing np_X2_checkBearing rfl dX2_checkUp_108) (fun q h he hX => a_out (unc_of Z.2.1 rfl) Z.2.2.2.1 he hX) (fun _ h hf => ?kk108)
  refine AW.eq (g2 := F0 m 111 ls []) rfl ?_
  refine a_aload_n (pc := 111) X dX2_checkUp_111 rfl hl 3 rfl ?_
  refine a_ifnull (pc := 112) (tgt := 150) X dX2_checkUp_112 rfl (fun c => ?_) (fun c => ?_)
  · have hf := ite_t c hf
    exact a_return X Z.2.2.1 Z.2.2.2.1 dX2_checkUp_150 hf
  · have hf := ite_f c hf
    refine a_aload_n (pc := 115) X dX2_checkUp_115 rfl hl 0 rfl ?_
    refine a_iload_n (pc := 116) X dX2_checkUp_116 rfl hl 2 rfl ?_
    rcases dv_someS hf with ⟨hk, hf⟩ | ⟨-, hf⟩
    rotate_left
    · exact fl_none hf
    refine a_callb (pc := 117) (rs := []) (avs := [vR (some a108), vI v2]) Z.1 (w_X2_guardAt GA (some a108) v2) (Or.inl rfl) q1915 q75 (by decide) (by decide) dX2_checkUp_117 hl.1 (Nat.le_of_ble_eq_true rfl) hf (ct_V hk ⟨by decide, by decide⟩ X (Or.inl rfl) q1915 q2170 q1913 q1914 hy_X2_guardAt np_X2_guardAt rfl dX2_checkUp_117) (fun q h he hX => a_out (unc_of Z.2.1 rfl) Z.2.2.2.1 he hX) (fun x117 h hf => ?kk117)
    refine AW.eq (g2 := F0 m 120 ls [.int x117]) rfl ?_
    refine AW.lift (fun _ _ _ _ k => lv_iconst (pc := 120) (v := (-1 : Int32)) X.2.2.1 X.2.2.2.1 dX2_checkUp_120 rfl k) ?_
    refine AW.lift2 (fun _ _ _ _ k1 k2 => lv_icmp_ne (pc := 121) (tgt := 150) X.2.2.1 X.2.2.2.1 dX2_checkUp_121 rfl k2 k1) (fun c => ?_) (fun c => ?_)
    · have hf := ite_t c hf
      refine a_aload_n (pc := 124) X dX2_checkUp_124 rfl hl 1 rfl ?_
      obtain ⟨a125, rfl, ⟨hk, hf⟩ | ⟨-, hf⟩⟩ := dv_some hf
      rotate_left
      · exact fl_none hf
      refine a_callb (pc := 125) (rs := []) (avs := [vR (some a125)]) Z.1 (w_X8_isLight GA (some a125)) (Or.inl rfl) q2174 q107 (by decide) (by decide) dX2_checkUp_125 hl.1 (Nat.le_of_ble_eq_true rfl) hf (ct_V hk ⟨by decide, by decide⟩ X (Or.inl rfl) q2174 q2171 q2172 q2173 hy_X8_isLight np_X8_isLight rfl dX2_checkUp_125) (fun q h he hX => a_out (unc_of Z.2.1 rfl) Z.2.2.2.1 he hX) (fun x125 h hf => ?kk125)
      refine AW.eq (g2 := F0 m 128 ls [.int x125]) rfl ?_
      refine AW.lift (fun _ _ _ _ k => lv_bipush (pc := 128) (v := (7 : Int32)) X.2.2.1 X.2.2.2.1 dX2_checkUp_128 rfl k) ?_
      refine a_aload_n (pc := 130) X dX2_checkUp_130 rfl hl 1 rfl ?_
      refine a_getN (pc := 131) (φ := 500) pI_t X Z.1.2.1 (gnF X.1 X.2.1 q911) (fun _ q => q) (by decide) dX2_checkUp_131 hf (fun x131 hf => ?_)
      refine a_callb (pc := 134) (rs := []) (avs := [vI x125, vI (7 : Int32), vI x131]) Z.1 (w_X1_refuse GA x125 (7 : Int32) x131) (Or.inl rfl) q1723 q74 (by decide) (by decide) dX2_checkUp_134 hl.1 (Nat.le_of_ble_eq_true rfl) hf (ct_SN X (Or.inl rfl) q1723 q74 q1721 q1722 hy_X1_refuse np_X1_refuse rfl dX2_checkUp_134) (fun q h he hX => a_out (unc_of Z.2.1 rfl) Z.2.2.2.1 he hX) (fun _ h hf => ?kk134)
      refine AW.eq (g2 := F0 m 137 ls []) rfl ?_
      refine a_aload_n (pc := 137) X dX2_checkUp_137 rfl hl 3 rfl ?_
      obtain ⟨a138, rfl, ⟨hk, hf⟩ | ⟨-, hf⟩⟩ := dv_some hf
      rotate_left
      · exact fl_none hf
      refine a_callb (pc := 138) (rs := []) (avs := [vR (some a138)]) Z.1 (w_X8_isLight GA (some a138)) (Or.inl rfl) q2174 q107 (by decide) (by decide) dX2_checkUp_138 hl.1 (Nat.le_of_ble_eq_true rfl) hf (ct_V hk ⟨by decide, by decide⟩ X (Or.inl rfl) q2174 q2171 q2172 q2173 hy_X8_isLight np_X8_isLight rfl dX2_checkUp_138) (fun q h he hX => a_out (unc_of Z.2.1 rfl) Z.2.2.2.1 he hX) (fun x138 h hf => ?kk138)
      refine AW.eq (g2 := F0 m 141 ls [.int x138]) rfl ?_
      refine AW.lift (fun _ _ _ _ k => lv_bipush (pc := 141) (v := (7 : Int32)) X.2.2.1 X.2.2.2.1 dX2_checkUp_141 rfl k) ?_
      refine a_aload_n (pc := 143) X dX2_checkUp_143 rfl hl 3 rfl ?_
      refine a_getN (pc := 144) (φ := 500) pI_t X Z.1.2.1 (gnF X.1 X.2.1 q911) (fun _ q => q) (by decide) dX2_checkUp_144 hf (fun x144 hf => ?_)
      refine a_callb (pc := 147) (rs := []) (avs := [vI x138, vI (7 : Int32), vI x144]) Z.1 (w_X1_refuse GA x138 (7 : Int32) x144) (Or.inl rfl) q1723 q74 (by decide) (by decide) dX2_checkUp_147 hl.1 (Nat.le_of_ble_eq_true rfl) hf (ct_SN X (Or.inl rfl) q1723 q74 q1721 q1722 hy_X1_refuse np_X1_refuse rfl dX2_checkUp_147) (fun q h he hX => a_out (unc_of Z.2.1 rfl) Z.2.2.2.1 he hX) (fun _ h hf => ?kk147)
      refine AW.eq (g2 := F0 m 150 ls []) rfl ?_
      exact a_return X Z.2.2.1 Z.2.2.2.1 dX2_checkUp_150 hf
    · have hf := ite_f c hf
      exact a_return X Z.2.2.1 Z.2.2.2.1 dX2_checkUp_150 hf
theorem w_X2_checkUp_j89 {r : Except Nat (Unit) × AH} (GA : GA l s0 a0 K lam) (Z : WZ l s0 a0 K p s m c cX2_checkUp yX2_checkUp.cls 4 b R 12 3134 meth [] none yX2_checkUp) (v0 : Option Nat) (v1 : Option Nat) (v2 : Int32) (v3 : Option Nat) (t0 : Int32)  {h : AH} {ls : Array Slot} (hl : LV ls 4 [(0, vR v0), (1, vR v1), (2, vI v2), (3, vR v3)]) (hf : f_X2_checkUp_j89 K v0 v1 v2 v3 t0 h = some r) : AW s0 K lam p l e R s m args below meth c (AQ s0 K lam below oV b r s) b h (F0 m 89 ls [.int t0]) := by
  unfold f_X2_checkUp_j89 at hf
  have X := Z.1.1
  refine AW.lift (fun _ _ _ _ k => lv_iconst (pc := 89) (v := (5 : Int32)) X.2.2.1 X.2.2.2.1 dX2_checkUp_89 rfl k) ?_
  refine a_aload_n (pc := 90) X dX2_checkUp_90 rfl hl 3 rfl ?_
  refine a_ifnonnull (pc := 91) (tgt := 98) X dX2_checkUp_91 rfl (fun c => ?_) (fun c => ?_)
  · have hf := ite_f c hf
    refine a_aload_n (pc := 98) X dX2_checkUp_98 rfl hl 3 rfl ?_
    refine a_getN (pc := 99) (φ := 500) pI_t X Z.1.2.1 (gnF X.1 X.2.1 q911) (fun _ q => q) (by decide) dX2_checkUp_99 hf (fun x99 hf => ?_)
    exact w_X2_checkUp_j102 GA Z v0 v1 v2 v3 x99 (5 : Int32) t0  (hl.sub [0, 1, 2, 3] rfl) hf
  · have hf := ite_t c hf
    refine AW.lift (fun _ _ _ _ k => lv_iconst (pc := 94) (v := (-1 : Int32)) X.2.2.1 X.2.2.2.1 dX2_checkUp_94 rfl k) ?_
    refine AW.lift (fun _ _ _ _ k => lv_goto (pc := 95) (tgt := 102) X.2.2.1 X.2.2.2.1 dX2_checkUp_95 rfl k) ?_
    exact w_X2_checkUp_j102 GA Z v0 v1 v2 v3 (-1 : Int32) (5 : Int32) t0  (hl.sub [0, 1, 2, 3] rfl) hf
theorem w_X2_checkUp_j32 {r : Except Nat (Unit) × AH} (GA : GA l s0 a0 K lam) (Z : WZ l s0 a0 K p s m c cX2_checkUp yX2_checkUp.cls 4 b R 12 3134 meth [] none yX2_checkUp) (v0 : Option Nat) (v1 : Option Nat) (v2 : Int32) (t0 : Int32)  {h : AH} {ls : Array Slot} (hl : LV ls 4 [(0, vR v0), (1, vR v1), (2, vI v2)]) (hf : f_X2_checkUp_j32 K v0 v1 v2 t0 h = some r) : AW s0 K lam p l e R s m args below meth c (AQ s0 K lam below oV b r s) b h (F0 m 32 ls [.int t0]) := by
  unfold f_X2_checkUp_j32 at hf
  have X := Z.1.1
  refine AW.lift (fun _ _ _ _ k => lv_iconst (pc := 32) (v := (3 : Int32)) X.2.2.1 X.2.2.2.1 dX2_checkUp_32 rfl k) ?_
  refine a_aload_n (pc := 33) X dX2_checkUp_33 rfl hl 1 rfl ?_
  refine a_getN (pc := 34) (φ := 502) pI_t X Z.1.2.1 (gnF X.1 X.2.1 q917) (fun _ q => q) (by decide) dX2_checkUp_34 hf (fun x34 hf => ?_)
  refine a_callb (pc := 37) (rs := []) (avs := [vI t0, vI (3 : Int32), vI x34]) Z.1 (w_X1_refuse GA t0 (3 : Int32) x34) (Or.inl rfl) q1723 q74 (by decide) (by decide) dX2_checkUp_37 hl.1 (Nat.le_of_ble_eq_true rfl) hf (ct_SN X (Or.inl rfl) q1723 q74 q1721 q1722 hy_X1_refuse np_X1_refuse rfl dX2_checkUp_37) (fun q h he hX => a_out (unc_of Z.2.1 rfl) Z.2.2.2.1 he hX) (fun _ h hf => ?kk37)
  refine AW.eq (g2 := F0 m 40 ls []) rfl ?_
  refine a_aload_n (pc := 40) X dX2_checkUp_40 rfl hl 0 rfl ?_
  refine a_get (pc := 41) (φ := 300) pR_t X Z.1.2.1 (gw X.1 X.2.1 q228) (fun _ q => q) (by decide) dX2_checkUp_41 hf (fun x41 hf => ?_)
  refine a_iload_n (pc := 44) X dX2_checkUp_44 rfl hl 2 rfl ?_
  obtain ⟨a45, rfl, ⟨hk, hf⟩ | ⟨-, hf⟩⟩ := dv_some hf
  rotate_left
  · exact fl_none hf
  refine a_callb (pc := 45) (rs := []) (avs := [vR (some a45), vI v2]) Z.1 (w_J2_get GA (some a45) v2) (Or.inl rfl) q505 q78 (by decide) (by decide) dX2_checkUp_45 hl.1 (Nat.le_of_ble_eq_true rfl) hf (ct_V hk ⟨by decide, by decide⟩ X (Or.inl rfl) q505 q1828 q503 q3487 hy_J2_get np_J2_get rfl dX2_checkUp_45) (fun q h he hX => a_out (unc_of Z.2.1 rfl) Z.2.2.2.1 he hX) (fun x45 h hf => ?kk45)
  refine AW.eq (g2 := F0 m 48 ls [va_rf x45]) rfl ?_
  refine a_checkcast (pc := 48) X (gw X.1 X.2.1 q802) (cs_JumpHall_Mat GA) dX2_checkUp_48 hf (fun hf => ?_)
  refine a_getN (pc := 51) (φ := 401) pI_t X Z.1.2.1 (gnF X.1 X.2.1 q817) (fun _ q => q) (by decide) dX2_checkUp_51 hf (fun x51 hf => ?_)
  refine AW.lift (fun _ _ _ _ k => lv_iconst (pc := 54) (v := (4 : Int32)) X.2.2.1 X.2.2.2.1 dX2_checkUp_54 rfl k) ?_
  refine a_iload_n (pc := 55) X dX2_checkUp_55 rfl hl 2 rfl ?_
  refine a_callb (pc := 56) (rs := []) (avs := [vI x51, vI (4 : Int32), vI v2]) Z.1 (w_X1_refuse GA x51 (4 : Int32) v2) (Or.inl rfl) q1723 q74 (by decide) (by decide) dX2_checkUp_56 hl.1 (Nat.le_of_ble_eq_true rfl) hf (ct_SN X (Or.inl rfl) q1723 q74 q1721 q1722 hy_X1_refuse np_X1_refuse rfl dX2_checkUp_56) (fun q h he hX => a_out (unc_of Z.2.1 rfl) Z.2.2.2.1 he hX) (fun _ h hf => ?kk56)
  refine AW.eq (g2 := F0 m 59 ls []) rfl ?_
  refine a_aload_n (pc := 59) X dX2_checkUp_59 rfl hl 0 rfl ?_
  refine a_iload_n (pc := 60) X dX2_checkUp_60 rfl hl 2 rfl ?_
  refine a_ndy (pc := 61) (rs := [vR v0]) (avs := [vI v2]) Z.1 Z.2.2.2.2.2 (siG_209 GA) hfb_9 (lw_all_tbl q3550) ⟨by decide, by decide⟩ rfl rfl rfl (by decide) hl.1 (Nat.le_of_ble_eq_true rfl) (Nat.le_of_ble_eq_true rfl) rfl dX2_checkUp_61 hf (fun x61 h hf => ?_)
  refine AW.eq (g2 := F0 m 66 ls [va_rf (some x61), va_rf v0]) rfl ?_
  obtain ⟨a66, rfl, ⟨hk, hf⟩ | ⟨-, hf⟩⟩ := dv_some hf
  rotate_left
  · exact fl_none hf
  refine a_callb (pc := 66) (rs := []) (avs := [vR (some a66), vR (some x61)]) Z.1 (w_X2_lowest GA (some a66) (some x61)) (Or.inl rfl) q1838 q75 (by decide) (by decide) dX2_checkUp_66 hl.1 (Nat.le_of_ble_eq_true rfl) hf (ct_V hk ⟨by decide, by decide⟩ X (Or.inl rfl) q1838 q1835 q1836 q1837 hy_X2_lowest np_X2_lowest rfl dX2_checkUp_66) (fun q h he hX => a_out (unc_of Z.2.1 rfl) Z.2.2.2.1 he hX) (fun x66 h hf => ?kk66)
  refine AW.eq (g2 := F0 m 69 ls [va_rf x66]) rfl ?_
  refine a_astore_n (pc := 69) X dX2_checkUp_69 rfl hl (by decide) (lv' := [(3, vR x66), (0, vR (some a66)), (1, vR v1), (2, vI v2)]) rfl (fun ls hl => ?_)
  refine a_aload_n (pc := 70) X dX2_checkUp_70 rfl hl 1 rfl ?_
  refine a_iload_n (pc := 71) X dX2_checkUp_71 rfl hl 3 rfl ?_
  refine a_ndy (pc := 72) (rs := [vR (some a66)]) (avs := [vI v2]) Z.1 Z.2.2.2.2.2 (siG_210 GA) hfb_10 (lw_all_tbl q3550) ⟨by decide, by decide⟩ rfl rfl rfl (by decide) hl.1 (Nat.le_of_ble_eq_true rfl) (Nat.le_of_ble_eq_true rfl) rfl dX2_checkUp_72 hf (fun x72 h hf => ?_)
  refine AW.eq (g2 := F0 m 77 ls [va_rf (some x72), va_rf (some a66)]) rfl ?_
  rcases dv_someS hf with ⟨hk, hf⟩ | ⟨-, hf⟩
  rotate_left
  · exact fl_none hf
  refine a_callb (pc := 77) (rs := []) (avs := [vR (some a66), vR (some x72)]) Z.1 (w_X2_many GA (some a66) (some x72)) (Or.inl rfl) q1901 q75 (by decide) (by decide) dX2_checkUp_77 hl.1 (Nat.le_of_ble_eq_true rfl) hf (ct_V hk ⟨by decide, by decide⟩ X (Or.inl rfl) q1901 q2036 q1899 q1900 hy_X2_many np_X2_many rfl dX2_checkUp_77) (fun q h he hX => a_out (unc_of Z.2.1 rfl) Z.2.2.2.1 he hX) (fun x77 h hf => ?kk77)
  refine AW.eq (g2 := F0 m 80 ls [.int x77]) rfl ?_
  refine AW.lift (fun _ _ _ _ k => lv_iconst (pc := 80) (v := (2 : Int32)) X.2.2.1 X.2.2.2.1 dX2_checkUp_80 rfl k) ?_
  refine AW.lift2 (fun _ _ _ _ k1 k2 => lv_icmp_ne (pc := 81) (tgt := 88) X.2.2.1 X.2.2.2.1 dX2_checkUp_81 rfl k2 k1) (fun c => ?_) (fun c => ?_)
  · have hf := ite_t c hf
    refine AW.lift (fun _ _ _ _ k => lv_iconst (pc := 84) (v := (1 : Int32)) X.2.2.1 X.2.2.2.1 dX2_checkUp_84 rfl k) ?_
    refine AW.lift (fun _ _ _ _ k => lv_goto (pc := 85) (tgt := 89) X.2.2.1 X.2.2.2.1 dX2_checkUp_85 rfl k) ?_
    exact w_X2_checkUp_j89 GA Z (some a66) v1 v2 x66 (1 : Int32)  (hl.sub [1, 2, 3, 0] rfl) hf
  · have hf := ite_f c hf
    refine AW.lift (fun _ _ _ _ k => lv_iconst (pc := 88) (v := (0 : Int32)) X.2.2.1 X.2.2.2.1 dX2_checkUp_88 rfl k) ?_
    exact w_X2_checkUp_j89 GA Z (some a66) v1 v2 x66 (0 : Int32)  (hl.sub [1, 2, 3, 0] rfl) hf
theorem w_X2_checkUp_j12 {r : Except Nat (Unit) × AH} (GA : GA l s0 a0 K lam) (Z : WZ l s0 a0 K p s m c cX2_checkUp yX2_checkUp.cls 4 b R 12 3134 meth [] none yX2_checkUp) (v0 : Option Nat) (v1 : Option Nat) (v2 : Int32) (t0 : Int32)  {h : AH} {ls : Array Slot} (hl : LV ls 4 [(0, vR v0), (1, vR v1), (2, vI v2)]) (hf : f_X2_checkUp_j12 K v0 v1 v2 t0 h = some r) : AW s0 K lam p l e R s m args below meth c (AQ s0 K lam below oV b r s) b h (F0 m 12 ls [.int t0]) := by
  unfold f_X2_checkUp_j12 at hf
  have X := Z.1.1
  refine AW.lift (fun _ _ _ _ k => lv_iconst (pc := 12) (v := (2 : Int32)) X.2.2.1 X.2.2.2.1 dX2_checkUp_12 rfl k) ?_
  refine a_aload_n (pc := 13) X dX2_checkUp_13 rfl hl 1 rfl ?_
  refine a_getN (pc := 14) (φ := 504) pI_t X Z.1.2.1 (gnF X.1 X.2.1 q922) (fun _ q => q) (by decide) dX2_checkUp_14 hf (fun x14 hf => ?_)
  refine a_callb (pc := 17) (rs := []) (avs := [vI t0, vI (2 : Int32), vI x14]) Z.1 (w_X1_refuse GA t0 (2 : Int32) x14) (Or.inl rfl) q1723 q74 (by decide) (by decide) dX2_checkUp_17 hl.1 (Nat.le_of_ble_eq_true rfl) hf (ct_SN X (Or.inl rfl) q1723 q74 q1721 q1722 hy_X1_refuse np_X1_refuse rfl dX2_checkUp_17) (fun q h he hX => a_out (unc_of Z.2.1 rfl) Z.2.2.2.1 he hX) (fun _ h hf => ?kk17)
  refine AW.eq (g2 := F0 m 20 ls []) rfl ?_
  refine a_aload_n (pc := 20) X dX2_checkUp_20 rfl hl 1 rfl ?_
  obtain ⟨a21, rfl, ⟨hk, hf⟩ | ⟨-, hf⟩⟩ := dv_some hf
  rotate_left
  · exact fl_none hf
  refine a_callb (pc := 21) (rs := []) (avs := [vR (some a21)]) Z.1 (w_X8_hasSocks GA (some a21)) (Or.inl rfl) q2031 q107 (by decide) (by decide) dX2_checkUp_21 hl.1 (Nat.le_of_ble_eq_true rfl) hf (ct_V hk ⟨by decide, by decide⟩ X (Or.inl rfl) q2031 q2028 q2029 q2030 hy_X8_hasSocks np_X8_hasSocks rfl dX2_checkUp_21) (fun q h he hX => a_out (unc_of Z.2.1 rfl) Z.2.2.2.1 he hX) (fun x21 h hf => ?kk21)
  refine AW.eq (g2 := F0 m 24 ls [.int x21]) rfl ?_
  refine AW.lift2 (fun _ _ _ _ k1 k2 => lv_if_ne (pc := 24) (tgt := 31) X.2.2.1 X.2.2.2.1 dX2_checkUp_24 rfl k2 k1) (fun c => ?_) (fun c => ?_)
  · have hf := ite_t c hf
    refine AW.lift (fun _ _ _ _ k => lv_iconst (pc := 27) (v := (1 : Int32)) X.2.2.1 X.2.2.2.1 dX2_checkUp_27 rfl k) ?_
    refine AW.lift (fun _ _ _ _ k => lv_goto (pc := 28) (tgt := 32) X.2.2.1 X.2.2.2.1 dX2_checkUp_28 rfl k) ?_
    exact w_X2_checkUp_j32 GA Z v0 (some a21) v2 (1 : Int32)  (hl.sub [0, 1, 2] rfl) hf
  · have hf := ite_f c hf
    refine AW.lift (fun _ _ _ _ k => lv_iconst (pc := 31) (v := (0 : Int32)) X.2.2.1 X.2.2.2.1 dX2_checkUp_31 rfl k) ?_
    exact w_X2_checkUp_j32 GA Z v0 (some a21) v2 (0 : Int32)  (hl.sub [0, 1, 2] rfl) hf
theorem np_X2_checkUp : npar yX2_checkUp.desc 2 := by unfold npar; decide +kernel
theorem hy_X2_checkUp : yX2_checkUp.cls ≠ "java/lang/invoke/MethodHandle" ∧ yX2_checkUp.cls ≠ "java/lang/invoke/VarHandle" := by decide +kernel
theorem w_X2_checkUp (GA : GA l s0 a0 K lam) (v0 : Option Nat) (v1 : Option Nat) (v2 : Int32) : AMet l s0 K lam yX2_checkUp (Cond.code yX2_checkUp cX2_checkUp (4 : Nat) (Option.none : Option ClassFile.FieldType)) 12 3134 [vR v0, vR v1, vI v2] oV (f_X2_checkUp K v0 v1 v2) := by
  refine AMet.of GA.1 (plainFor_of_name (by decide +kernel)) (Nat.le_of_ble_eq_true rfl) ?_
  intro b r hf p e s m args below meth c X hr hlk hnm hnd ht ls hl
  have Z : WZ l s0 a0 K p s m c cX2_checkUp yX2_checkUp.cls 4 b { frames := 12, cells := K 0 - aX b, slots := K 1 - aW b, locals := 3134 } 12 3134 meth [] none yX2_checkUp := ⟨⟨X, GA.2.1, GA.2.2.1, rfl, rfl, Nat.le_refl _, Nat.le_refl _⟩, tab_nil ht, hr, hlk, hnm, hnd⟩
  unfold f_X2_checkUp at hf
  clear hr hlk hnm hnd ht
  refine a_aload_n (pc := 0) X dX2_checkUp_0 rfl hl 1 rfl ?_
  refine a_getN (pc := 1) (φ := 504) pI_t X Z.1.2.1 (gnF X.1 X.2.1 q922) (fun _ q => q) (by decide) dX2_checkUp_1 hf (fun x1 hf => ?_)
  refine AW.lift2 (fun _ _ _ _ k1 k2 => lv_if_eq (pc := 4) (tgt := 11) X.2.2.1 X.2.2.2.1 dX2_checkUp_4 rfl k1 k2) (fun c => ?_) (fun c => ?_)
  · have hf := ite_t c hf
    refine AW.lift (fun _ _ _ _ k => lv_iconst (pc := 11) (v := (0 : Int32)) X.2.2.1 X.2.2.2.1 dX2_checkUp_11 rfl k) ?_
    exact w_X2_checkUp_j12 GA Z v0 v1 v2 (0 : Int32)  (hl.sub [0, 1, 2] rfl) hf
  · have hf := ite_f c hf
    refine AW.lift (fun _ _ _ _ k => lv_iconst (pc := 7) (v := (1 : Int32)) X.2.2.1 X.2.2.2.1 dX2_checkUp_7 rfl k) ?_
    refine AW.lift (fun _ _ _ _ k => lv_goto (pc := 8) (tgt := 12) X.2.2.1 X.2.2.2.1 dX2_checkUp_8 rfl k) ?_
    exact w_X2_checkUp_j12 GA Z v0 v1 v2 (1 : Int32)  (hl.sub [0, 1, 2] rfl) hf
theorem np_X2_up : npar yX2_up.desc 2 := by unfold npar; decide +kernel
theorem hy_X2_up : yX2_up.cls ≠ "java/lang/invoke/MethodHandle" ∧ yX2_up.cls ≠ "java/lang/invoke/VarHandle" := by decide +kernel
theorem w_X2_up (GA : GA l s0 a0 K lam) (v0 : Option Nat) (v1 : Int32) (v2 : Int32) : AMet l s0 K lam yX2_up (Cond.code yX2_up cX2_up (4 : Nat) (Option.some ClassFile.FieldType.int)) 13 3157 [vR v0, vI v1, vI v2] oI (f_X2_up K v0 v1 v2) := by
  refine AMet.of GA.1 (plainFor_of_name (by decide +kernel)) (Nat.le_of_ble_eq_true rfl) ?_
  intro b r hf p e s m args below meth c X hr hlk hnm hnd ht ls hl
  have Z : WZ l s0 a0 K p s m c cX2_up yX2_up.cls 4 b { frames := 13, cells := K 0 - aX b, slots := K 1 - aW b, locals := 3157 } 13 3157 meth [] (some (.int)) yX2_up := ⟨⟨X, GA.2.1, GA.2.2.1, rfl, rfl, Nat.le_refl _, Nat.le_refl _⟩, tab_nil ht, hr, hlk, hnm, hnd⟩
  unfold f_X2_up at hf
  clear hr hlk hnm hnd ht
  refine a_aload_n (pc := 0) X dX2_up_0 rfl hl 0 rfl ?_
  refine a_get (pc := 1) (φ := 301) pR_t X Z.1.2.1 (gw X.1 X.2.1 q230) (fun _ q => q) (by decide) dX2_up_1 hf (fun x1 hf => ?_)
  refine a_iload_n (pc := 4) X dX2_up_4 rfl hl 1 rfl ?_
  obtain ⟨a5, rfl, ⟨hk, hf⟩ | ⟨-, hf⟩⟩ := dv_some hf
  rotate_left
  · exact fl_none hf
  refine a_callb (pc := 5) (rs := []) (avs := [vR (some a5), vI v1]) Z.1 (w_J2_get GA (some a5) v1) (Or.inl rfl) q505 q78 (by decide) (by decide) dX2_up_5 hl.1 (Nat.le_of_ble_eq_true rfl) hf (ct_V hk ⟨by decide, by decide⟩ X (Or.inl rfl) q505 q1828 q503 q3487 hy_J2_get np_J2_get rfl dX2_up_5) (fun q h he hX => a_out (unc_of Z.2.1 rfl) Z.2.2.2.1 he hX) (fun x5 h hf => ?kk5)
  refine AW.eq (g2 := F0 m 8 ls [va_rf x5]) rfl ?_
  refine a_checkcast (pc := 8) X (gw X.1 X.2.1 q899) (cs_JumpHall_Jumper GA) dX2_up_8 hf (fun hf => ?_)
  refine a_astore_n (pc := 11) X dX2_up_11 rfl hl (by decide) (lv' := [(3, vR x5), (0, vR v0), (1, vI v1), (2, vI v2)]) rfl (fun ls hl => ?_)
  refine a_aload_n (pc := 12) X dX2_up_12 rfl hl 1 rfl ?_
  refine a_aload_n (pc := 13) X dX2_up_13 rfl hl 0 rfl ?_
  refine a_iload_n (pc := 14) X dX2_up_14 rfl hl 3 rfl ?_
  obtain ⟨a15, rfl, ⟨hk, hf⟩ | ⟨-, hf⟩⟩ := dv_some hf
  rotate_left
  · exact fl_none hf
  refine a_callb (pc := 15) (rs := []) (avs := [vR (some a15), vR x5, vI v2]) Z.1 (w_X2_checkUp GA (some a15) x5 v2) (Or.inl rfl) q2027 q75 (by decide) (by decide) dX2_up_15 hl.1 (Nat.le_of_ble_eq_true rfl) hf (ct_V hk ⟨by decide, by decide⟩ X (Or.inl rfl) q2027 q2024 q2026 pv_7 hy_X2_checkUp np_X2_checkUp rfl dX2_up_15) (fun q h he hX => a_out (unc_of Z.2.1 rfl) Z.2.2.2.1 he hX) (fun _ h hf => ?kk15)
  refine AW.eq (g2 := F0 m 18 ls []) rfl ?_
  refine a_aload_n (pc := 18) X dX2_up_18 rfl hl 0 rfl ?_
  refine AW.lift (fun _ _ _ _ k => lv_iconst (pc := 19) (v := (1 : Int32)) X.2.2.1 X.2.2.2.1 dX2_up_19 rfl k) ?_
  refine a_putN (pc := 20) (φ := 504) X Z.1.2.1 Z.1.2.2.1 (gnF X.1 X.2.1 q922) (fun _ q => q) (by decide) rfl rfl dX2_up_20 hf (fun h hf => ?_)
  refine a_aload_n (pc := 23) X dX2_up_23 rfl hl 0 rfl ?_
  refine a_iload_n (pc := 24) X dX2_up_24 rfl hl 3 rfl ?_
  refine a_putN (pc := 25) (φ := 505) X Z.1.2.1 Z.1.2.2.1 (gnF X.1 X.2.1 q925) (fun _ q => q) (by decide) rfl rfl dX2_up_25 hf (fun h hf => ?_)
  refine a_aload_n (pc := 28) X dX2_up_28 rfl hl 1 rfl ?_
  refine a_get (pc := 29) (φ := 300) pR_t X Z.1.2.1 (gw X.1 X.2.1 q228) (fun _ q => q) (by decide) dX2_up_29 hf (fun x29 hf => ?_)
  refine a_iload_n (pc := 32) X dX2_up_32 rfl hl 3 rfl ?_
  obtain ⟨a33, rfl, ⟨hk, hf⟩ | ⟨-, hf⟩⟩ := dv_some hf
  rotate_left
  · exact fl_none hf
  refine a_callb (pc := 33) (rs := []) (avs := [vR (some a33), vI v2]) Z.1 (w_J2_get GA (some a33) v2) (Or.inl rfl) q505 q78 (by decide) (by decide) dX2_up_33 hl.1 (Nat.le_of_ble_eq_true rfl) hf (ct_V hk ⟨by decide, by decide⟩ X (Or.inl rfl) q505 q1828 q503 q3487 hy_J2_get np_J2_get rfl dX2_up_33) (fun q h he hX => a_out (unc_of Z.2.1 rfl) Z.2.2.2.1 he hX) (fun x33 h hf => ?kk33)
  refine AW.eq (g2 := F0 m 36 ls [va_rf x33]) rfl ?_
  refine a_checkcast (pc := 36) X (gw X.1 X.2.1 q802) (cs_JumpHall_Mat GA) dX2_up_36 hf (fun hf => ?_)
  refine AW.lift (fun _ _ _ _ k => lv_dup (pc := 39) X.2.2.1 X.2.2.2.1 dX2_up_39 (cat_rf _) k) ?_
  refine a_getN (pc := 40) (φ := 402) pI_t X Z.1.2.1 (gnF X.1 X.2.1 q821) (fun _ q => q) (by decide) dX2_up_40 hf (fun x40 hf => ?_)
  refine AW.lift (fun _ _ _ _ k => lv_iconst (pc := 43) (v := (1 : Int32)) X.2.2.1 X.2.2.2.1 dX2_up_43 rfl k) ?_
  refine AW.lift (fun _ _ _ _ k => lv_iadd (pc := 44) X.2.2.1 X.2.2.2.1 dX2_up_44 k) ?_
  refine a_putN (pc := 45) (φ := 402) X Z.1.2.1 Z.1.2.2.1 (gnF X.1 X.2.1 q821) (fun _ q => q) (by decide) rfl rfl dX2_up_45 hf (fun h hf => ?_)
  refine a_aload_n (pc := 48) X dX2_up_48 rfl hl 1 rfl ?_
  refine a_get (pc := 49) (φ := 300) pR_t X Z.1.2.1 (gw X.1 X.2.1 q228) (fun _ q => q) (by decide) dX2_up_49 hf (fun x49 hf => ?_)
  refine a_iload_n (pc := 52) X dX2_up_52 rfl hl 3 rfl ?_
  obtain ⟨a53, rfl, ⟨hk, hf⟩ | ⟨-, hf⟩⟩ := dv_some hf
  rotate_left
  · exact fl_none hf
  refine a_callb (pc := 53) (rs := []) (avs := [vR (some a53), vI v2]) Z.1 (w_J2_get GA (some a53) v2) (Or.inl rfl) q505 q78 (by decide) (by decide) dX2_up_53 hl.1 (Nat.le_of_ble_eq_true rfl) hf (ct_V hk ⟨by decide, by decide⟩ X (Or.inl rfl) q505 q1828 q503 q3487 hy_J2_get np_J2_get rfl dX2_up_53) (fun q h he hX => a_out (unc_of Z.2.1 rfl) Z.2.2.2.1 he hX) (fun x53 h hf => ?kk53)
  refine AW.eq (g2 := F0 m 56 ls [va_rf x53]) rfl ?_
  refine a_checkcast (pc := 56) X (gw X.1 X.2.1 q802) (cs_JumpHall_Mat GA) dX2_up_56 hf (fun hf => ?_)
  obtain ⟨a59, rfl, ⟨hk, hf⟩ | ⟨-, hf⟩⟩ := dv_some hf
  rotate_left
  · exact fl_none hf
  refine a_callb (pc := 59) (rs := []) (avs := [vR (some a59)]) Z.1 (w_X7_bears GA (some a59)) (Or.inl rfl) q1846 q91 (by decide) (by decide) dX2_up_59 hl.1 (Nat.le_of_ble_eq_true rfl) hf (ct_V hk ⟨by decide, by decide⟩ X (Or.inl rfl) q1846 q1843 q1844 q1845 hy_X7_bears np_X7_bears rfl dX2_up_59) (fun q h he hX => a_out (unc_of Z.2.1 rfl) Z.2.2.2.1 he hX) (fun x59 h hf => ?kk59)
  refine AW.eq (g2 := F0 m 62 ls [.int x59]) rfl ?_
  refine a_aload_n (pc := 62) X dX2_up_62 rfl hl 1 rfl ?_
  refine a_iload_n (pc := 63) X dX2_up_63 rfl hl 3 rfl ?_
  rcases dv_someS hf with ⟨hk, hf⟩ | ⟨-, hf⟩
  rotate_left
  · exact fl_none hf
  refine a_callb (pc := 64) (rs := [vI x59]) (avs := [vR (some a15), vI v2]) Z.1 (w_X2_weightOn GA (some a15) v2) (Or.inl rfl) q1905 q75 (by decide) (by decide) dX2_up_64 hl.1 (Nat.le_of_ble_eq_true rfl) hf (ct_V hk ⟨by decide, by decide⟩ X (Or.inl rfl) q1905 q1975 q1903 q1904 hy_X2_weightOn np_X2_weightOn rfl dX2_up_64) (fun q h he hX => a_out (unc_of Z.2.1 rfl) Z.2.2.2.1 he hX) (fun x64 h hf => ?kk64)
  refine AW.eq (g2 := F0 m 67 ls [.int x64, .int x59]) rfl ?_
  refine AW.lift (fun _ _ _ _ k => lv_isub (pc := 67) X.2.2.1 X.2.2.2.1 dX2_up_67 k) ?_
  exact a_ireturn X Z.2.2.1 Z.2.2.2.1 dX2_up_68 hf
theorem np_X1_lambda_up_5 : npar yX1_lambda_up_5.desc 3 := by unfold npar; decide +kernel
theorem hy_X1_lambda_up_5 : yX1_lambda_up_5.cls ≠ "java/lang/invoke/MethodHandle" ∧ yX1_lambda_up_5.cls ≠ "java/lang/invoke/VarHandle" := by decide +kernel
theorem w_X1_lambda_up_5 (GA : GA l s0 a0 K lam) (v0 : Int32) (v1 : Int32) (v2 : Option Nat) : AMet l s0 K lam yX1_lambda_up_5 (Cond.code yX1_lambda_up_5 cX1_lambda_up_5 (3 : Nat) (Option.some ClassFile.FieldType.int)) 14 3180 [vI v0, vI v1, vR v2] oI (f_X1_lambda_up_5 K v0 v1 v2) := by
  refine AMet.of GA.1 (plainFor_of_name (by decide +kernel)) (Nat.le_of_ble_eq_true rfl) ?_
  intro b r hf p e s m args below meth c X hr hlk hnm hnd ht ls hl
  have Z : WZ l s0 a0 K p s m c cX1_lambda_up_5 yX1_lambda_up_5.cls 3 b { frames := 14, cells := K 0 - aX b, slots := K 1 - aW b, locals := 3180 } 14 3180 meth [] (some (.int)) yX1_lambda_up_5 := ⟨⟨X, GA.2.1, GA.2.2.1, rfl, rfl, Nat.le_refl _, Nat.le_refl _⟩, tab_nil ht, hr, hlk, hnm, hnd⟩
  unfold f_X1_lambda_up_5 at hf
  clear hr hlk hnm hnd ht
  refine a_aload_n (pc := 0) X dX1_lambda_up_5_0 rfl hl 2 rfl ?_
  refine a_iload_n (pc := 1) X dX1_lambda_up_5_1 rfl hl 0 rfl ?_
  refine a_iload_n (pc := 2) X dX1_lambda_up_5_2 rfl hl 1 rfl ?_
  obtain ⟨a3, rfl, ⟨hk, hf⟩ | ⟨-, hf⟩⟩ := dv_some hf
  rotate_left
  · exact fl_none hf
  refine a_callb (pc := 3) (rs := []) (avs := [vR (some a3), vI v0, vI v1]) Z.1 (w_X2_up GA (some a3) v0 v1) (Or.inl rfl) q2023 q75 (by decide) (by decide) dX1_lambda_up_5_3 hl.1 (Nat.le_of_ble_eq_true rfl) hf (ct_V hk ⟨by decide, by decide⟩ X (Or.inl rfl) q2023 q2020 q2021 q2022 hy_X2_up np_X2_up rfl dX1_lambda_up_5_3) (fun q h he hX => a_out (unc_of Z.2.1 rfl) Z.2.2.2.1 he hX) (fun x3 h hf => ?kk3)
  refine AW.eq (g2 := F0 m 6 ls [.int x3]) rfl ?_
  exact a_ireturn X Z.2.2.1 Z.2.2.2.1 dX1_lambda_up_5_6 hf
theorem cl_208 {Q : State → Prop} {h : AH} {cc : ByteArray} {own : String} {nL pc : Nat} {ls : Array Slot} {st : List Value} {F Lo idx cnt a : Nat} {v : Option Nat} {rs : List TV} (X : WX l s0 a0 K p s m c cc own nL b R F Lo) (GA : GA l s0 a0 K lam) (hk : aK h a = 208) (hlink : Cond.methodLink own idx ({ cls := "JumpHall$Deed", name := "in", desc := "(LJumpHall$Hall;)I" } : MethodName) ∈ lw_all) (hF : 16 ≤ F) (hLo : 3231 ≤ Lo) (hsz : ls.size = nL) (hW8 : (rs.map tcat).sum ≤ 8) (hst : st = va_rf v :: .ref a :: rs.map tvv) (hdg : decode cc pc = .ok (.invokeinterface idx cnt, 5)) : LC s0 K lam p l e R s m args below meth c Q b h pc ls (rs.map tvv) st (c_lam208 K (some a) v) := by
  intro r1 hf kk kx
  unfold c_lam208 at hf
  obtain ⟨a0, c0, e0, -, hp0, hf⟩ := gL_some hf
  cases e0
  obtain ⟨a1, c1, e1, -, hp1, hf⟩ := gL_some hf
  cases e1
  refine lam_core (caps := [vI c0, vI c1]) (arg := vR v) (f := f_X1_lambda_up_5 K c0 c1 v) (x := ⟨"JumpHall", "up", "(II)I"⟩) (fs := [16, 18]) (ig := .invokestatic 26) X (siG_208 GA) hfb_8 (lw_all_tbl q3550) ⟨by decide, by decide⟩ rfl hk (y := yX1_lambda_up_5) (by decide +kernel) hy_X1_lambda_up_5 (by decide +kernel) ⟨by decide, by decide⟩ hlink (gf X.1.1 X.1.2.1 q1758 rfl) (gf X.1.1 X.1.2.1 q1757 rfl) (by decide +kernel) (by unfold npar; decide +kernel) (w_X1_lambda_up_5 GA c0 c1 v) (Or.inl rfl) q2019 q74 (fun _ _ => rfl) rfl (fun j v hj => by
    rcases j with _ | _ | j
    · exact (Option.some.inj hj : vI c0 = v) ▸ pI_t hp0
    · exact (Option.some.inj hj : vI c1 = v) ▸ pI_t hp1
    · exact absurd hj (by simp)) ⟨(fun j i hj => by
    rcases j with _ | _ | j
    · obtain rfl : 16 = i := Option.some.inj hj
      exact ⟨by decide +kernel, by decide +kernel⟩
    · obtain rfl : 18 = i := Option.some.inj hj
      exact ⟨by decide +kernel, by decide +kernel⟩
    · exact absurd hj (by simp)), by decide +kernel, by decide +kernel, by decide +kernel⟩ ⟨rfl, by cases v <;> rfl⟩ hF hLo hsz hW8 hst hdg (lam_stat GA.1 q2018 q74 hy_X1_lambda_up_5 np_X1_lambda_up_5 (Or.inl rfl) q2019 (by decide +kernel)) r1 hf kk kx
theorem np_X8_waits : npar yX8_waits.desc 0 := by unfold npar; decide +kernel
theorem hy_X8_waits : yX8_waits.cls ≠ "java/lang/invoke/MethodHandle" ∧ yX8_waits.cls ≠ "java/lang/invoke/VarHandle" := by decide +kernel
theorem w_X8_waits (GA : GA l s0 a0 K lam) (v0 : Option Nat) : AMet l s0 K lam yX8_waits (Cond.code yX8_waits cX8_waits (1 : Nat) (Option.none : Option ClassFile.FieldType)) 0 0 [vR v0] oV (f_X8_waits K v0) := by
  refine AMet.of GA.1 (plainFor_of_name (by decide +kernel)) (Nat.le_of_ble_eq_true rfl) ?_
  intro b r hf p e s m args below meth c X hr hlk hnm hnd ht ls hl
  have Z : WZ l s0 a0 K p s m c cX8_waits yX8_waits.cls 1 b { frames := 0, cells := K 0 - aX b, slots := K 1 - aW b, locals := 0 } 0 0 meth [] none yX8_waits := ⟨⟨X, GA.2.1, GA.2.2.1, rfl, rfl, Nat.le_refl _, Nat.le_refl _⟩, tab_nil ht, hr, hlk, hnm, hnd⟩
  unfold f_X8_waits at hf
  clear hr hlk hnm hnd ht
  refine a_aload_n (pc := 0) X dX8_waits_0 rfl hl 0 rfl ?_
  refine AW.lift (fun _ _ _ _ k => lv_iconst (pc := 1) (v := (0 : Int32)) X.2.2.1 X.2.2.2.1 dX8_waits_1 rfl k) ?_
  refine a_put (pc := 2) (φ := 504) X Z.1.2.1 Z.1.2.2.1 (gw X.1 X.2.1 q921) (fun _ q => q) (by decide) rfl rfl dX8_waits_2 hf (fun h hf => ?_)
  refine a_aload_n (pc := 5) X dX8_waits_5 rfl hl 0 rfl ?_
  refine AW.lift (fun _ _ _ _ k => lv_iconst (pc := 6) (v := (-1 : Int32)) X.2.2.1 X.2.2.2.1 dX8_waits_6 rfl k) ?_
  refine a_put (pc := 7) (φ := 505) X Z.1.2.1 Z.1.2.2.1 (gw X.1 X.2.1 q924) (fun _ q => q) (by decide) rfl rfl dX8_waits_7 hf (fun h hf => ?_)
  exact a_return X Z.2.2.1 Z.2.2.2.1 dX8_waits_10 hf
theorem w_X2_down_j25 {r : Except Nat (Int32) × AH} (GA : GA l s0 a0 K lam) (Z : WZ l s0 a0 K p s m c cX2_down yX2_down.cls 4 b R 9 426 meth [] (some (.int)) yX2_down) (v2 : Option Nat) (t0 : Int32)  {h : AH} {ls : Array Slot} (hl : LV ls 4 [(2, vR v2)]) (hf : f_X2_down_j25 K v2 t0 h = some r) : AW s0 K lam p l e R s m args below meth c (AQ s0 K lam below oI b r s) b h (F0 m 25 ls [.int t0]) := by
  unfold f_X2_down_j25 at hf
  have X := Z.1.1
  refine AW.lift (fun _ _ _ _ k => lv_iconst (pc := 25) (v := (2 : Int32)) X.2.2.1 X.2.2.2.1 dX2_down_25 rfl k) ?_
  refine a_aload_n (pc := 26) X dX2_down_26 rfl hl 0 rfl ?_
  refine a_getN (pc := 27) (φ := 504) pI_t X Z.1.2.1 (gnF X.1 X.2.1 q922) (fun _ q => q) (by decide) dX2_down_27 hf (fun x27 hf => ?_)
  refine a_callb (pc := 30) (rs := []) (avs := [vI t0, vI (2 : Int32), vI x27]) Z.1 (w_X1_refuse GA t0 (2 : Int32) x27) (Or.inl rfl) q1723 q74 (by decide) (by decide) dX2_down_30 hl.1 (Nat.le_of_ble_eq_true rfl) hf (ct_SN X (Or.inl rfl) q1723 q74 q1721 q1722 hy_X1_refuse np_X1_refuse rfl dX2_down_30) (fun q h he hX => a_out (unc_of Z.2.1 rfl) Z.2.2.2.1 he hX) (fun _ h hf => ?kk30)
  refine AW.eq (g2 := F0 m 33 ls []) rfl ?_
  refine a_aload_n (pc := 33) X dX2_down_33 rfl hl 0 rfl ?_
  refine a_getN (pc := 34) (φ := 505) pI_t X Z.1.2.1 (gnF X.1 X.2.1 q925) (fun _ q => q) (by decide) dX2_down_34 hf (fun x34 hf => ?_)
  refine a_istore_n (pc := 37) X dX2_down_37 rfl hl (by decide) (lv' := [(3, vI x34), (2, vR v2)]) rfl (fun ls hl => ?_)
  refine a_aload_n (pc := 38) X dX2_down_38 rfl hl 1 rfl ?_
  obtain ⟨a39, rfl, ⟨hk, hf⟩ | ⟨-, hf⟩⟩ := dv_some hf
  rotate_left
  · exact fl_none hf
  refine a_callb (pc := 39) (rs := []) (avs := [vR (some a39)]) Z.1 (w_X8_waits GA (some a39)) (Or.inl rfl) q2196 q107 (by decide) (by decide) dX2_down_39 hl.1 (Nat.le_of_ble_eq_true rfl) hf (ct_V hk ⟨by decide, by decide⟩ X (Or.inl rfl) q2196 q2193 q2194 q2195 hy_X8_waits np_X8_waits rfl dX2_down_39) (fun q h he hX => a_out (unc_of Z.2.1 rfl) Z.2.2.2.1 he hX) (fun _ h hf => ?kk39)
  refine AW.eq (g2 := F0 m 42 ls []) rfl ?_
  refine a_iload_n (pc := 42) X dX2_down_42 rfl hl 0 rfl ?_
  exact a_ireturn X Z.2.2.1 Z.2.2.2.1 dX2_down_43 hf
theorem np_X2_down : npar yX2_down.desc 1 := by unfold npar; decide +kernel
theorem hy_X2_down : yX2_down.cls ≠ "java/lang/invoke/MethodHandle" ∧ yX2_down.cls ≠ "java/lang/invoke/VarHandle" := by decide +kernel
theorem w_X2_down (GA : GA l s0 a0 K lam) (v0 : Option Nat) (v1 : Int32) : AMet l s0 K lam yX2_down (Cond.code yX2_down cX2_down (4 : Nat) (Option.some ClassFile.FieldType.int)) 9 426 [vR v0, vI v1] oI (f_X2_down K v0 v1) := by
  refine AMet.of GA.1 (plainFor_of_name (by decide +kernel)) (Nat.le_of_ble_eq_true rfl) ?_
  intro b r hf p e s m args below meth c X hr hlk hnm hnd ht ls hl
  have Z : WZ l s0 a0 K p s m c cX2_down yX2_down.cls 4 b { frames := 9, cells := K 0 - aX b, slots := K 1 - aW b, locals := 426 } 9 426 meth [] (some (.int)) yX2_down := ⟨⟨X, GA.2.1, GA.2.2.1, rfl, rfl, Nat.le_refl _, Nat.le_refl _⟩, tab_nil ht, hr, hlk, hnm, hnd⟩
  unfold f_X2_down at hf
  clear hr hlk hnm hnd ht
  refine a_aload_n (pc := 0) X dX2_down_0 rfl hl 0 rfl ?_
  refine a_get (pc := 1) (φ := 301) pR_t X Z.1.2.1 (gw X.1 X.2.1 q230) (fun _ q => q) (by decide) dX2_down_1 hf (fun x1 hf => ?_)
  refine a_iload_n (pc := 4) X dX2_down_4 rfl hl 1 rfl ?_
  obtain ⟨a5, rfl, ⟨hk, hf⟩ | ⟨-, hf⟩⟩ := dv_some hf
  rotate_left
  · exact fl_none hf
  refine a_callb (pc := 5) (rs := []) (avs := [vR (some a5), vI v1]) Z.1 (w_J2_get GA (some a5) v1) (Or.inl rfl) q505 q78 (by decide) (by decide) dX2_down_5 hl.1 (Nat.le_of_ble_eq_true rfl) hf (ct_V hk ⟨by decide, by decide⟩ X (Or.inl rfl) q505 q1828 q503 q3487 hy_J2_get np_J2_get rfl dX2_down_5) (fun q h he hX => a_out (unc_of Z.2.1 rfl) Z.2.2.2.1 he hX) (fun x5 h hf => ?kk5)
  refine AW.eq (g2 := F0 m 8 ls [va_rf x5]) rfl ?_
  refine a_checkcast (pc := 8) X (gw X.1 X.2.1 q899) (cs_JumpHall_Jumper GA) dX2_down_8 hf (fun hf => ?_)
  refine a_astore_n (pc := 11) X dX2_down_11 rfl hl (by decide) (lv' := [(2, vR x5), (0, vR v0), (1, vI v1)]) rfl (fun ls hl => ?_)
  refine a_aload_n (pc := 12) X dX2_down_12 rfl hl 0 rfl ?_
  refine a_getN (pc := 13) (φ := 504) pI_t X Z.1.2.1 (gnF X.1 X.2.1 q922) (fun _ q => q) (by decide) dX2_down_13 hf (fun x13 hf => ?_)
  refine AW.lift (fun _ _ _ _ k => lv_iconst (pc := 16) (v := (1 : Int32)) X.2.2.1 X.2.2.2.1 dX2_down_16 rfl k) ?_
  refine AW.lift2 (fun _ _ _ _ k1 k2 => lv_icmp_eq (pc := 17) (tgt := 24) X.2.2.1 X.2.2.2.1 dX2_down_17 rfl k1 k2) (fun c => ?_) (fun c => ?_)
  · have hf := ite_t c hf
    refine AW.lift (fun _ _ _ _ k => lv_iconst (pc := 24) (v := (0 : Int32)) X.2.2.1 X.2.2.2.1 dX2_down_24 rfl k) ?_
    exact w_X2_down_j25 GA Z x5 (0 : Int32)  (hl.sub [0] rfl) hf
  · have hf := ite_f c hf
    refine AW.lift (fun _ _ _ _ k => lv_iconst (pc := 20) (v := (1 : Int32)) X.2.2.1 X.2.2.2.1 dX2_down_20 rfl k) ?_
    refine AW.lift (fun _ _ _ _ k => lv_goto (pc := 21) (tgt := 25) X.2.2.1 X.2.2.2.1 dX2_down_21 rfl k) ?_
    exact w_X2_down_j25 GA Z x5 (1 : Int32)  (hl.sub [0] rfl) hf
theorem np_X1_lambda_down_6 : npar yX1_lambda_down_6.desc 2 := by unfold npar; decide +kernel
theorem hy_X1_lambda_down_6 : yX1_lambda_down_6.cls ≠ "java/lang/invoke/MethodHandle" ∧ yX1_lambda_down_6.cls ≠ "java/lang/invoke/VarHandle" := by decide +kernel
theorem w_X1_lambda_down_6 (GA : GA l s0 a0 K lam) (v0 : Int32) (v1 : Option Nat) : AMet l s0 K lam yX1_lambda_down_6 (Cond.code yX1_lambda_down_6 cX1_lambda_down_6 (2 : Nat) (Option.some ClassFile.FieldType.int)) 10 449 [vI v0, vR v1] oI (f_X1_lambda_down_6 K v0 v1) := by
  refine AMet.of GA.1 (plainFor_of_name (by decide +kernel)) (Nat.le_of_ble_eq_true rfl) ?_
  intro b r hf p e s m args below meth c X hr hlk hnm hnd ht ls hl
  have Z : WZ l s0 a0 K p s m c cX1_lambda_down_6 yX1_lambda_down_6.cls 2 b { frames := 10, cells := K 0 - aX b, slots := K 1 - aW b, locals := 449 } 10 449 meth [] (some (.int)) yX1_lambda_down_6 := ⟨⟨X, GA.2.1, GA.2.2.1, rfl, rfl, Nat.le_refl _, Nat.le_refl _⟩, tab_nil ht, hr, hlk, hnm, hnd⟩
  unfold f_X1_lambda_down_6 at hf
  clear hr hlk hnm hnd ht
  refine a_aload_n (pc := 0) X dX1_lambda_down_6_0 rfl hl 1 rfl ?_
  refine a_iload_n (pc := 1) X dX1_lambda_down_6_1 rfl hl 0 rfl ?_
  obtain ⟨a2, rfl, ⟨hk, hf⟩ | ⟨-, hf⟩⟩ := dv_some hf
  rotate_left
  · exact fl_none hf
  refine a_callb (pc := 2) (rs := []) (avs := [vR (some a2), vI v0]) Z.1 (w_X2_down GA (some a2) v0) (Or.inl rfl) q2192 q75 (by decide) (by decide) dX1_lambda_down_6_2 hl.1 (Nat.le_of_ble_eq_true rfl) hf (ct_V hk ⟨by decide, by decide⟩ X (Or.inl rfl) q2192 q2189 q2190 q2191 hy_X2_down np_X2_down rfl dX1_lambda_down_6_2) (fun q h he hX => a_out (unc_of Z.2.1 rfl) Z.2.2.2.1 he hX) (fun x2 h hf => ?kk2)
  refine AW.eq (g2 := F0 m 5 ls [.int x2]) rfl ?_
  exact a_ireturn X Z.2.2.1 Z.2.2.2.1 dX1_lambda_down_6_5 hf
theorem cl_211 {Q : State → Prop} {h : AH} {cc : ByteArray} {own : String} {nL pc : Nat} {ls : Array Slot} {st : List Value} {F Lo idx cnt a : Nat} {v : Option Nat} {rs : List TV} (X : WX l s0 a0 K p s m c cc own nL b R F Lo) (GA : GA l s0 a0 K lam) (hk : aK h a = 211) (hlink : Cond.methodLink own idx ({ cls := "JumpHall$Deed", name := "in", desc := "(LJumpHall$Hall;)I" } : MethodName) ∈ lw_all) (hF : 12 ≤ F) (hLo : 499 ≤ Lo) (hsz : ls.size = nL) (hW8 : (rs.map tcat).sum ≤ 8) (hst : st = va_rf v :: .ref a :: rs.map tvv) (hdg : decode cc pc = .ok (.invokeinterface idx cnt, 5)) : LC s0 K lam p l e R s m args below meth c Q b h pc ls (rs.map tvv) st (c_lam211 K (some a) v) := by
  intro r1 hf kk kx
  unfold c_lam211 at hf
  obtain ⟨a0, c0, e0, -, hp0, hf⟩ := gL_some hf
  cases e0
  refine lam_core (caps := [vI c0]) (arg := vR v) (f := f_X1_lambda_down_6 K c0 v) (x := ⟨"JumpHall", "down", "(I)I"⟩) (fs := [15]) (ig := .invokestatic 23) X (siG_211 GA) hfb_11 (lw_all_tbl q3550) ⟨by decide, by decide⟩ rfl hk (y := yX1_lambda_down_6) (by decide +kernel) hy_X1_lambda_down_6 (by decide +kernel) ⟨by decide, by decide⟩ hlink (gf X.1.1 X.1.2.1 q1758 rfl) (gf X.1.1 X.1.2.1 q1757 rfl) (by decide +kernel) (by unfold npar; decide +kernel) (w_X1_lambda_down_6 GA c0 v) (Or.inl rfl) q2188 q74 (fun _ _ => rfl) rfl (fun j v hj => by
    rcases j with _ | j
    · exact (Option.some.inj hj : vI c0 = v) ▸ pI_t hp0
    · exact absurd hj (by simp)) ⟨(fun j i hj => by
    rcases j with _ | j
    · obtain rfl : 15 = i := Option.some.inj hj
      exact ⟨by decide +kernel, by decide +kernel⟩
    · exact absurd hj (by simp)), by decide +kernel, by decide +kernel, by decide +kernel⟩ ⟨rfl, by cases v <;> rfl⟩ hF hLo hsz hW8 hst hdg (lam_stat GA.1 q2187 q74 hy_X1_lambda_down_6 np_X1_lambda_down_6 (Or.inl rfl) q2188 (by decide +kernel)) r1 hf kk kx
theorem w_X2_leave_j24 {r : Except Nat (Int32) × AH} (GA : GA l s0 a0 K lam) (Z : WZ l s0 a0 K p s m c cX2_leave yX2_leave.cls 3 b R 10 3080 meth [] (some (.int)) yX2_leave) (v0 : Option Nat) (v2 : Option Nat) (t0 : Int32)  {h : AH} {ls : Array Slot} (hl : LV ls 3 [(0, vR v0), (2, vR v2)]) (hf : f_X2_leave_j24 K v0 v2 t0 h = some r) : AW s0 K lam p l e R s m args below meth c (AQ s0 K lam below oI b r s) b h (F0 m 24 ls [.int t0]) := by
  unfold f_X2_leave_j24 at hf
  have X := Z.1.1
  refine AW.lift (fun _ _ _ _ k => lv_iconst (pc := 24) (v := (2 : Int32)) X.2.2.1 X.2.2.2.1 dX2_leave_24 rfl k) ?_
  refine a_aload_n (pc := 25) X dX2_leave_25 rfl hl 1 rfl ?_
  refine a_getN (pc := 26) (φ := 504) pI_t X Z.1.2.1 (gnF X.1 X.2.1 q922) (fun _ q => q) (by decide) dX2_leave_26 hf (fun x26 hf => ?_)
  refine a_callb (pc := 29) (rs := []) (avs := [vI t0, vI (2 : Int32), vI x26]) Z.1 (w_X1_refuse GA t0 (2 : Int32) x26) (Or.inl rfl) q1723 q74 (by decide) (by decide) dX2_leave_29 hl.1 (Nat.le_of_ble_eq_true rfl) hf (ct_SN X (Or.inl rfl) q1723 q74 q1721 q1722 hy_X1_refuse np_X1_refuse rfl dX2_leave_29) (fun q h he hX => a_out (unc_of Z.2.1 rfl) Z.2.2.2.1 he hX) (fun _ h hf => ?kk29)
  refine AW.eq (g2 := F0 m 32 ls []) rfl ?_
  refine a_aload_n (pc := 32) X dX2_leave_32 rfl hl 1 rfl ?_
  refine AW.lift (fun _ _ _ _ k => lv_iconst (pc := 33) (v := (2 : Int32)) X.2.2.1 X.2.2.2.1 dX2_leave_33 rfl k) ?_
  refine a_putN (pc := 34) (φ := 504) X Z.1.2.1 Z.1.2.2.1 (gnF X.1 X.2.1 q922) (fun _ q => q) (by decide) rfl rfl dX2_leave_34 hf (fun h hf => ?_)
  refine a_aload_n (pc := 37) X dX2_leave_37 rfl hl 0 rfl ?_
  refine a_ndyC (pc := 38) (rs := [vR v0]) Z.1 Z.2.2.2.2.2 (siG_213 GA) (by decide) hl.1 (Nat.le_of_ble_eq_true rfl) dX2_leave_38 ?_
  refine AW.eq (g2 := F0 m 43 ls [va_rf (some (K 113)), va_rf v0]) rfl ?_
  obtain ⟨a43, rfl, ⟨hk, hf⟩ | ⟨-, hf⟩⟩ := dv_some hf
  rotate_left
  · exact fl_none hf
  refine a_callb (pc := 43) (rs := []) (avs := [vR (some a43), vR (some (K 113))]) Z.1 (w_X2_many GA (some a43) (some (K 113))) (Or.inl rfl) q1901 q75 (by decide) (by decide) dX2_leave_43 hl.1 (Nat.le_of_ble_eq_true rfl) hf (ct_V hk ⟨by decide, by decide⟩ X (Or.inl rfl) q1901 q2036 q1899 q1900 hy_X2_many np_X2_many rfl dX2_leave_43) (fun q h he hX => a_out (unc_of Z.2.1 rfl) Z.2.2.2.1 he hX) (fun x43 h hf => ?kk43)
  refine AW.eq (g2 := F0 m 46 ls [.int x43]) rfl ?_
  exact a_ireturn X Z.2.2.1 Z.2.2.2.1 dX2_leave_46 hf
theorem np_X2_leave : npar yX2_leave.desc 1 := by unfold npar; decide +kernel
theorem hy_X2_leave : yX2_leave.cls ≠ "java/lang/invoke/MethodHandle" ∧ yX2_leave.cls ≠ "java/lang/invoke/VarHandle" := by decide +kernel
theorem w_X2_leave (GA : GA l s0 a0 K lam) (v0 : Option Nat) (v1 : Int32) : AMet l s0 K lam yX2_leave (Cond.code yX2_leave cX2_leave (3 : Nat) (Option.some ClassFile.FieldType.int)) 10 3080 [vR v0, vI v1] oI (f_X2_leave K v0 v1) := by
  refine AMet.of GA.1 (plainFor_of_name (by decide +kernel)) (Nat.le_of_ble_eq_true rfl) ?_
  intro b r hf p e s m args below meth c X hr hlk hnm hnd ht ls hl
  have Z : WZ l s0 a0 K p s m c cX2_leave yX2_leave.cls 3 b { frames := 10, cells := K 0 - aX b, slots := K 1 - aW b, locals := 3080 } 10 3080 meth [] (some (.int)) yX2_leave := ⟨⟨X, GA.2.1, GA.2.2.1, rfl, rfl, Nat.le_refl _, Nat.le_refl _⟩, tab_nil ht, hr, hlk, hnm, hnd⟩
  unfold f_X2_leave at hf
  clear hr hlk hnm hnd ht
  refine a_aload_n (pc := 0) X dX2_leave_0 rfl hl 0 rfl ?_
  refine a_get (pc := 1) (φ := 301) pR_t X Z.1.2.1 (gw X.1 X.2.1 q230) (fun _ q => q) (by decide) dX2_leave_1 hf (fun x1 hf => ?_)
  refine a_iload_n (pc := 4) X dX2_leave_4 rfl hl 1 rfl ?_
  obtain ⟨a5, rfl, ⟨hk, hf⟩ | ⟨-, hf⟩⟩ := dv_some hf
  rotate_left
  · exact fl_none hf
  refine a_callb (pc := 5) (rs := []) (avs := [vR (some a5), vI v1]) Z.1 (w_J2_get GA (some a5) v1) (Or.inl rfl) q505 q78 (by decide) (by decide) dX2_leave_5 hl.1 (Nat.le_of_ble_eq_true rfl) hf (ct_V hk ⟨by decide, by decide⟩ X (Or.inl rfl) q505 q1828 q503 q3487 hy_J2_get np_J2_get rfl dX2_leave_5) (fun q h he hX => a_out (unc_of Z.2.1 rfl) Z.2.2.2.1 he hX) (fun x5 h hf => ?kk5)
  refine AW.eq (g2 := F0 m 8 ls [va_rf x5]) rfl ?_
  refine a_checkcast (pc := 8) X (gw X.1 X.2.1 q899) (cs_JumpHall_Jumper GA) dX2_leave_8 hf (fun hf => ?_)
  refine a_astore_n (pc := 11) X dX2_leave_11 rfl hl (by decide) (lv' := [(2, vR x5), (0, vR v0), (1, vI v1)]) rfl (fun ls hl => ?_)
  refine a_aload_n (pc := 12) X dX2_leave_12 rfl hl 0 rfl ?_
  refine a_getN (pc := 13) (φ := 504) pI_t X Z.1.2.1 (gnF X.1 X.2.1 q922) (fun _ q => q) (by decide) dX2_leave_13 hf (fun x13 hf => ?_)
  refine AW.lift2 (fun _ _ _ _ k1 k2 => lv_if_eq (pc := 16) (tgt := 23) X.2.2.1 X.2.2.2.1 dX2_leave_16 rfl k1 k2) (fun c => ?_) (fun c => ?_)
  · have hf := ite_t c hf
    refine AW.lift (fun _ _ _ _ k => lv_iconst (pc := 23) (v := (0 : Int32)) X.2.2.1 X.2.2.2.1 dX2_leave_23 rfl k) ?_
    exact w_X2_leave_j24 GA Z v0 x5 (0 : Int32)  (hl.sub [1, 0] rfl) hf
  · have hf := ite_f c hf
    refine AW.lift (fun _ _ _ _ k => lv_iconst (pc := 19) (v := (1 : Int32)) X.2.2.1 X.2.2.2.1 dX2_leave_19 rfl k) ?_
    refine AW.lift (fun _ _ _ _ k => lv_goto (pc := 20) (tgt := 24) X.2.2.1 X.2.2.2.1 dX2_leave_20 rfl k) ?_
    exact w_X2_leave_j24 GA Z v0 x5 (1 : Int32)  (hl.sub [1, 0] rfl) hf
theorem np_X1_lambda_leave_7 : npar yX1_lambda_leave_7.desc 2 := by unfold npar; decide +kernel
theorem hy_X1_lambda_leave_7 : yX1_lambda_leave_7.cls ≠ "java/lang/invoke/MethodHandle" ∧ yX1_lambda_leave_7.cls ≠ "java/lang/invoke/VarHandle" := by decide +kernel
theorem w_X1_lambda_leave_7 (GA : GA l s0 a0 K lam) (v0 : Int32) (v1 : Option Nat) : AMet l s0 K lam yX1_lambda_leave_7 (Cond.code yX1_lambda_leave_7 cX1_lambda_leave_7 (2 : Nat) (Option.some ClassFile.FieldType.int)) 11 3102 [vI v0, vR v1] oI (f_X1_lambda_leave_7 K v0 v1) := by
  refine AMet.of GA.1 (plainFor_of_name (by decide +kernel)) (Nat.le_of_ble_eq_true rfl) ?_
  intro b r hf p e s m args below meth c X hr hlk hnm hnd ht ls hl
  have Z : WZ l s0 a0 K p s m c cX1_lambda_leave_7 yX1_lambda_leave_7.cls 2 b { frames := 11, cells := K 0 - aX b, slots := K 1 - aW b, locals := 3102 } 11 3102 meth [] (some (.int)) yX1_lambda_leave_7 := ⟨⟨X, GA.2.1, GA.2.2.1, rfl, rfl, Nat.le_refl _, Nat.le_refl _⟩, tab_nil ht, hr, hlk, hnm, hnd⟩
  unfold f_X1_lambda_leave_7 at hf
  clear hr hlk hnm hnd ht
  refine a_aload_n (pc := 0) X dX1_lambda_leave_7_0 rfl hl 1 rfl ?_
  refine a_iload_n (pc := 1) X dX1_lambda_leave_7_1 rfl hl 0 rfl ?_
  obtain ⟨a2, rfl, ⟨hk, hf⟩ | ⟨-, hf⟩⟩ := dv_some hf
  rotate_left
  · exact fl_none hf
  refine a_callb (pc := 2) (rs := []) (avs := [vR (some a2), vI v0]) Z.1 (w_X2_leave GA (some a2) v0) (Or.inl rfl) q2209 q75 (by decide) (by decide) dX1_lambda_leave_7_2 hl.1 (Nat.le_of_ble_eq_true rfl) hf (ct_V hk ⟨by decide, by decide⟩ X (Or.inl rfl) q2209 q2206 q2207 q2208 hy_X2_leave np_X2_leave rfl dX1_lambda_leave_7_2) (fun q h he hX => a_out (unc_of Z.2.1 rfl) Z.2.2.2.1 he hX) (fun x2 h hf => ?kk2)
  refine AW.eq (g2 := F0 m 5 ls [.int x2]) rfl ?_
  exact a_ireturn X Z.2.2.1 Z.2.2.2.1 dX1_lambda_leave_7_5 hf
theorem cl_212 {Q : State → Prop} {h : AH} {cc : ByteArray} {own : String} {nL pc : Nat} {ls : Array Slot} {st : List Value} {F Lo idx cnt a : Nat} {v : Option Nat} {rs : List TV} (X : WX l s0 a0 K p s m c cc own nL b R F Lo) (GA : GA l s0 a0 K lam) (hk : aK h a = 212) (hlink : Cond.methodLink own idx ({ cls := "JumpHall$Deed", name := "in", desc := "(LJumpHall$Hall;)I" } : MethodName) ∈ lw_all) (hF : 13 ≤ F) (hLo : 3152 ≤ Lo) (hsz : ls.size = nL) (hW8 : (rs.map tcat).sum ≤ 8) (hst : st = va_rf v :: .ref a :: rs.map tvv) (hdg : decode cc pc = .ok (.invokeinterface idx cnt, 5)) : LC s0 K lam p l e R s m args below meth c Q b h pc ls (rs.map tvv) st (c_lam212 K (some a) v) := by
  intro r1 hf kk kx
  unfold c_lam212 at hf
  obtain ⟨a0, c0, e0, -, hp0, hf⟩ := gL_some hf
  cases e0
  refine lam_core (caps := [vI c0]) (arg := vR v) (f := f_X1_lambda_leave_7 K c0 v) (x := ⟨"JumpHall", "leave", "(I)I"⟩) (fs := [15]) (ig := .invokestatic 23) X (siG_212 GA) hfb_12 (lw_all_tbl q3550) ⟨by decide, by decide⟩ rfl hk (y := yX1_lambda_leave_7) (by decide +kernel) hy_X1_lambda_leave_7 (by decide +kernel) ⟨by decide, by decide⟩ hlink (gf X.1.1 X.1.2.1 q1758 rfl) (gf X.1.1 X.1.2.1 q1757 rfl) (by decide +kernel) (by unfold npar; decide +kernel) (w_X1_lambda_leave_7 GA c0 v) (Or.inl rfl) q2205 q74 (fun _ _ => rfl) rfl (fun j v hj => by
    rcases j with _ | j
    · exact (Option.some.inj hj : vI c0 = v) ▸ pI_t hp0
    · exact absurd hj (by simp)) ⟨(fun j i hj => by
    rcases j with _ | j
    · obtain rfl : 15 = i := Option.some.inj hj
      exact ⟨by decide +kernel, by decide +kernel⟩
    · exact absurd hj (by simp)), by decide +kernel, by decide +kernel, by decide +kernel⟩ ⟨rfl, by cases v <;> rfl⟩ hF hLo hsz hW8 hst hdg (lam_stat GA.1 q2204 q74 hy_X1_lambda_leave_7 np_X1_lambda_leave_7 (Or.inl rfl) q2205 (by decide +kernel)) r1 hf kk kx
theorem np_X10_init : npar yX10_init.desc 2 := by unfold npar; decide +kernel
theorem hy_X10_init : yX10_init.cls ≠ "java/lang/invoke/MethodHandle" ∧ yX10_init.cls ≠ "java/lang/invoke/VarHandle" := by decide +kernel
theorem w_X10_init (GA : GA l s0 a0 K lam) (v0 : Option Nat) (v1 : Int32) (v2 : Int32) : AMet l s0 K lam yX10_init (Cond.code yX10_init cX10_init (3 : Nat) (Option.none : Option ClassFile.FieldType)) 1 20 [vR v0, vI v1, vI v2] oV (f_X10_init K v0 v1 v2) := by
  refine AMet.of GA.1 (plainFor_of_name (by decide +kernel)) (Nat.le_of_ble_eq_true rfl) ?_
  intro b r hf p e s m args below meth c X hr hlk hnm hnd ht ls hl
  have Z : WZ l s0 a0 K p s m c cX10_init yX10_init.cls 3 b { frames := 1, cells := K 0 - aX b, slots := K 1 - aW b, locals := 20 } 1 20 meth [] none yX10_init := ⟨⟨X, GA.2.1, GA.2.2.1, rfl, rfl, Nat.le_refl _, Nat.le_refl _⟩, tab_nil ht, hr, hlk, hnm, hnd⟩
  unfold f_X10_init at hf
  clear hr hlk hnm hnd ht
  refine a_aload_n (pc := 0) X dX10_init_0 rfl hl 0 rfl ?_
  obtain ⟨a1, rfl, hf⟩ := nz_some hf
  refine a_objInit (pc := 1) (rs := []) Z.1 q2233 q144 q145 (by decide) (by decide) hl.1 (Nat.le_of_ble_eq_true rfl) dX10_init_1 ?_
  refine AW.eq (g2 := F0 m 4 ls []) rfl ?_
  refine a_aload_n (pc := 4) X dX10_init_4 rfl hl 0 rfl ?_
  refine a_iload_n (pc := 5) X dX10_init_5 rfl hl 1 rfl ?_
  refine a_putF (pc := 6) (φ := 800) X Z.1.2.1 Z.1.2.2.1 (gw X.1 X.2.1 q2234) (fun _ q => q) (by decide) rfl Z.2.2.2.2.1 rfl rfl dX10_init_6 hf (fun h hf => ?_)
  refine a_aload_n (pc := 9) X dX10_init_9 rfl hl 0 rfl ?_
  refine a_iload_n (pc := 10) X dX10_init_10 rfl hl 2 rfl ?_
  refine a_putF (pc := 11) (φ := 801) X Z.1.2.1 Z.1.2.2.1 (gw X.1 X.2.1 q2236) (fun _ q => q) (by decide) rfl Z.2.2.2.2.1 rfl rfl dX10_init_11 hf (fun h hf => ?_)
  exact a_return X Z.2.2.1 Z.2.2.2.1 dX10_init_14 hf
end WK
