section WK
variable {l : Launch} {s0 : State} {a0 : Array Value} {K : Nat → Nat} {lam : Nat → ClassId}
variable {p : Program} {e : Env} {R : Room} {s : State} {m : MethodId} {args : Array Value} {below : List Frame} {meth : Method} {c : Code} {b : AH}
theorem w_X2_matFor_j31 {r : Except Nat (Int32) × AH} (GA : GA l s0 a0 K lam) (Z : WZ l s0 a0 K p s m c cX2_matFor yX2_matFor.cls 4 b R 13 3157 meth [(13, 30, 31, 181)] (some (.int)) yX2_matFor) (v0 : Option Nat) (v1 : Int32) (v2 : Int32) (t0 : Option Nat) (rc2 : Int32 → AM (Int32)) (hrc2 : ∀ (v2 : Int32) (h : AH) (ls : Array Slot), LV ls 4 [(0, vR v0), (1, vI v1), (2, vI v2)] → rc2 v2 h = some r → AW s0 K lam p l e R s m args below meth c (AQ s0 K lam below oI b r s) b h (F0 m 2 ls [])) {h : AH} {ls : Array Slot} (hl : LV ls 4 [(0, vR v0), (1, vI v1), (2, vI v2)]) (hf : f_X2_matFor_j31 K rc2 v0 v1 v2 t0 h = some r) : AW s0 K lam p l e R s m args below meth c (AQ s0 K lam below oI b r s) b h (F0 m 31 ls [va_rf t0]) := by
  unfold f_X2_matFor_j31 at hf
  have X := Z.1.1
  refine a_astore_n (pc := 31) X dX2_matFor_31 rfl hl (by decide) (lv' := [(3, vR t0), (0, vR v0), (1, vI v1), (2, vI v2)]) rfl (fun ls hl => ?_)
  refine AW.lift (fun _ _ _ _ k => lv_goto (pc := 32) (tgt := 35) X.2.2.1 X.2.2.2.1 dX2_matFor_32 rfl k) ?_
  refine a_iinc (pc := 35) (v := (v2 + (1 : Int32))) X dX2_matFor_35 hl (k := 3) rfl rfl (by decide) (lv' := [(2, vI (v2 + (1 : Int32))), (3, vR t0), (0, vR v0), (1, vI v1)]) rfl (fun ls hl => ?_)
  refine AW.lift (fun _ _ _ _ k => lv_goto (pc := 38) (tgt := 2) X.2.2.1 X.2.2.2.1 dX2_matFor_38 rfl k) ?_
  exact hrc2 (v2 + (1 : Int32)) _ _ (hl.sub [2, 3, 0] rfl) hf
theorem w_X2_matFor_b2 {r : Except Nat (Int32) × AH} (GA : GA l s0 a0 K lam) (Z : WZ l s0 a0 K p s m c cX2_matFor yX2_matFor.cls 4 b R 13 3157 meth [(13, 30, 31, 181)] (some (.int)) yX2_matFor) (v0 : Option Nat) (v1 : Int32) (v2 : Int32)  (rc2 : Int32 → AM (Int32)) (hrc2 : ∀ (v2 : Int32) (h : AH) (ls : Array Slot), LV ls 4 [(0, vR v0), (1, vI v1), (2, vI v2)] → rc2 v2 h = some r → AW s0 K lam p l e R s m args below meth c (AQ s0 K lam below oI b r s) b h (F0 m 2 ls [])) {h : AH} {ls : Array Slot} (hl : LV ls 4 [(0, vR v0), (1, vI v1), (2, vI v2)]) (hf : f_X2_matFor_b2 K rc2 v0 v1 v2 h = some r) : AW s0 K lam p l e R s m args below meth c (AQ s0 K lam below oI b r s) b h (F0 m 2 ls []) := by
  unfold f_X2_matFor_b2 at hf
  have X := Z.1.1
  refine a_iload_n (pc := 2) X dX2_matFor_2 rfl hl 2 rfl ?_
  refine a_aload_n (pc := 3) X dX2_matFor_3 rfl hl 0 rfl ?_
  refine a_get (pc := 4) (φ := 300) pR_t X Z.1.2.1 (gw X.1 X.2.1 q228) (fun _ q => q) (by decide) dX2_matFor_4 hf (fun x4 hf => ?_)
  obtain ⟨a7, rfl, ⟨hk, hf⟩ | ⟨-, hf⟩⟩ := dv_some hf
  rotate_left
  · exact fl_none hf
  refine a_callb (pc := 7) (rs := [vI v2]) (avs := [vR (some a7)]) Z.1 (w_J2_size GA (some a7)) (Or.inl rfl) q1012 q78 (by decide) (by decide) dX2_matFor_7 hl.1 (Nat.le_of_ble_eq_true rfl) hf (ct_V hk ⟨by decide, by decide⟩ X (Or.inl rfl) q1012 q1720 q1011 q3486 hy_J2_size np_J2_size rfl dX2_matFor_7) (fun q h he hX => a_out (unc_of Z.2.1 rfl) Z.2.2.2.1 he hX) (fun x7 h hf => ?kk7)
  refine AW.eq (g2 := F0 m 10 ls [.int x7, .int v2]) rfl ?_
  refine AW.lift2 (fun _ _ _ _ k1 k2 => lv_icmp_ge (pc := 10) (tgt := 41) X.2.2.1 X.2.2.2.1 dX2_matFor_10 rfl k1 k2) (fun c => ?_) (fun c => ?_)
  · have hf := ite_t c hf
    refine AW.lift (fun _ _ _ _ k => lv_iconst (pc := 41) (v := (-1 : Int32)) X.2.2.1 X.2.2.2.1 dX2_matFor_41 rfl k) ?_
    exact a_ireturn X Z.2.2.1 Z.2.2.2.1 dX2_matFor_42 hf
  · have hf := ite_f c hf
    refine a_aload_n (pc := 13) X dX2_matFor_13 rfl hl 0 rfl ?_
    refine a_aload_n (pc := 14) X dX2_matFor_14 rfl hl 0 rfl ?_
    refine a_get (pc := 15) (φ := 301) pR_t X Z.1.2.1 (gw X.1 X.2.1 q230) (fun _ q => q) (by decide) dX2_matFor_15 hf (fun x15 hf => ?_)
    refine a_iload_n (pc := 18) X dX2_matFor_18 rfl hl 1 rfl ?_
    obtain ⟨a19, rfl, ⟨hk, hf⟩ | ⟨-, hf⟩⟩ := dv_tsome hf
    rotate_left
    · exact fl_tnone hf
    refine a_callt (pc := 19) (rs := [vR v0]) (avs := [vR (some a19), vI v1]) Z.1 (w_J2_get GA (some a19) v1) (Or.inl rfl) q505 q78 (by decide) (by decide) dX2_matFor_19 hl.1 (Nat.le_of_ble_eq_true rfl) hf (ct_V hk ⟨by decide, by decide⟩ X (Or.inl rfl) q505 q1828 q503 q3487 hy_J2_get np_J2_get rfl dX2_matFor_19) (fun q h hf hX => ?hx19) (fun x19 h hf => ?kk19)
    case hx19 =>
      rcases ctc_some hf with ⟨hy, hf⟩ | ⟨hn0, hf⟩
      · refine a_catchH (st := 13) (en := 30) (hp := 31) (ct := 181) (pre := []) (suf := []) X hX Z.2.1 rfl (fun z hz => nomatch hz) (by decide) (Or.inr ⟨by decide, _, gw X.1 X.2.1 q2042, (cs_X12 GA) _ hy⟩) (AW.eq (g2 := F0 m 31 ls [va_rf (some q)]) rfl ?_)
        exact w_X2_matFor_j31 GA Z v0 v1 v2 (some q) rc2 hrc2 (hl.sub [0, 1, 2] rfl) hf
      · skip
        exact a_outH X Z.2.1 (by intro z hz; simp only [List.mem_cons, List.not_mem_nil, or_false] at hz; rcases hz with rfl <;> first | exact Or.inl (by decide) | exact Or.inr ⟨by decide, _, gw X.1 X.2.1 q2042, (nc_13_14_16_17_18_19_20_21_JumpHall_Refusal GA _ (by simpa using hn0)).2.2⟩) Z.2.2.2.1 (th_eq hf) hX
    refine AW.eq (g2 := F0 m 22 ls [va_rf x19, va_rf v0]) rfl ?_
    refine a_checkcast (pc := 22) X (gw X.1 X.2.1 q899) (cs_JumpHall_Jumper GA) dX2_matFor_22 hf (fun hf => ?_)
    refine a_iload_n (pc := 25) X dX2_matFor_25 rfl hl 2 rfl ?_
    obtain ⟨a26, rfl, ⟨hk, hf⟩ | ⟨-, hf⟩⟩ := dv_tsome hf
    rotate_left
    · exact fl_tnone hf
    refine a_callt (pc := 26) (rs := []) (avs := [vR (some a26), vR x19, vI v2]) Z.1 (w_X2_checkUp GA (some a26) x19 v2) (Or.inl rfl) q2027 q75 (by decide) (by decide) dX2_matFor_26 hl.1 (Nat.le_of_ble_eq_true rfl) hf (ct_V hk ⟨by decide, by decide⟩ X (Or.inl rfl) q2027 q2024 q2026 pv_7 hy_X2_checkUp np_X2_checkUp rfl dX2_matFor_26) (fun q h hf hX => ?hx26) (fun _ h hf => ?kk26)
    case hx26 =>
      rcases ctc_some hf with ⟨hy, hf⟩ | ⟨hn0, hf⟩
      · refine a_catchH (st := 13) (en := 30) (hp := 31) (ct := 181) (pre := []) (suf := []) X hX Z.2.1 rfl (fun z hz => nomatch hz) (by decide) (Or.inr ⟨by decide, _, gw X.1 X.2.1 q2042, (cs_X12 GA) _ hy⟩) (AW.eq (g2 := F0 m 31 ls [va_rf (some q)]) rfl ?_)
        exact w_X2_matFor_j31 GA Z (some a26) v1 v2 (some q) rc2 hrc2 (hl.sub [0, 1, 2] rfl) hf
      · skip
        exact a_outH X Z.2.1 (by intro z hz; simp only [List.mem_cons, List.not_mem_nil, or_false] at hz; rcases hz with rfl <;> first | exact Or.inl (by decide) | exact Or.inr ⟨by decide, _, gw X.1 X.2.1 q2042, (nc_13_14_16_17_18_19_20_21_JumpHall_Refusal GA _ (by simpa using hn0)).2.2⟩) Z.2.2.2.1 (th_eq hf) hX
    refine AW.eq (g2 := F0 m 29 ls []) rfl ?_
    refine a_iload_n (pc := 29) X dX2_matFor_29 rfl hl 2 rfl ?_
    exact a_ireturn X Z.2.2.1 Z.2.2.2.1 dX2_matFor_30 hf
theorem w_X2_matFor_l2 {r : Except Nat (Int32) × AH} (GA : GA l s0 a0 K lam) (Z : WZ l s0 a0 K p s m c cX2_matFor yX2_matFor.cls 4 b R 13 3157 meth [(13, 30, 31, 181)] (some (.int)) yX2_matFor) (v0 : Option Nat) (v1 : Int32)  : ∀ (n : Nat) (v2 : Int32) (h : AH) (ls : Array Slot), LV ls 4 [(0, vR v0), (1, vI v1), (2, vI v2)] → f_X2_matFor_l2 K v0 v1 n v2 h = some r → AW s0 K lam p l e R s m args below meth c (AQ s0 K lam below oI b r s) b h (F0 m 2 ls []) := by
  intro n
  induction n with
  | zero => intro v2 h ls hl hf; exact fl_no (h := h) hf
  | succ n ih => intro v2 h ls hl hf; exact w_X2_matFor_b2 GA Z v0 v1 v2 (f_X2_matFor_l2 K v0 v1 n) ih hl hf
theorem np_X2_matFor : npar yX2_matFor.desc 1 := by unfold npar; decide +kernel
theorem hy_X2_matFor : yX2_matFor.cls ≠ "java/lang/invoke/MethodHandle" ∧ yX2_matFor.cls ≠ "java/lang/invoke/VarHandle" := by decide +kernel
theorem w_X2_matFor (GA : GA l s0 a0 K lam) (v0 : Option Nat) (v1 : Int32) : AMet l s0 K lam yX2_matFor (Cond.codeWith yX2_matFor cX2_matFor (4 : Nat) (Option.some ClassFile.FieldType.int) [((13 : Nat), (30 : Nat), (31 : Nat), (181 : Nat))]) 13 3157 [vR v0, vI v1] oI (f_X2_matFor K v0 v1) := by
  refine AMet.ofW GA.1 (plainFor_of_name (by decide +kernel)) (Nat.le_of_ble_eq_true rfl) ?_
  intro b r hf p e s m args below meth c X hr hlk hnm hnd ht ls hl
  have Z : WZ l s0 a0 K p s m c cX2_matFor yX2_matFor.cls 4 b { frames := 13, cells := K 0 - aX b, slots := K 1 - aW b, locals := 3157 } 13 3157 meth [(13, 30, 31, 181)] (some (.int)) yX2_matFor := ⟨⟨X, GA.2.1, GA.2.2.1, rfl, rfl, Nat.le_refl _, Nat.le_refl _⟩, ht, hr, hlk, hnm, hnd⟩
  unfold f_X2_matFor at hf
  clear hr hlk hnm hnd ht
  refine AW.lift (fun _ _ _ _ k => lv_iconst (pc := 0) (v := (0 : Int32)) X.2.2.1 X.2.2.2.1 dX2_matFor_0 rfl k) ?_
  refine a_istore_n (pc := 1) X dX2_matFor_1 rfl hl (by decide) (lv' := [(2, vI (0 : Int32)), (0, vR v0), (1, vI v1)]) rfl (fun ls hl => ?_)
  exact w_X2_matFor_l2 GA Z v0 v1  FU (0 : Int32) _ _ (hl.sub [1, 2, 0] rfl) hf
theorem w_X1_matFor_j25 {r : Except Nat (Int32) × AH} (GA : GA l s0 a0 K lam) (Z : WZ l s0 a0 K p s m c cX1_matFor yX1_matFor.cls 4 b R 14 3180 meth [] (some (.int)) yX1_matFor) (v3 : Int32) (t0 : Int32)  {h : AH} {ls : Array Slot} (hl : LV ls 4 [(3, vI v3)]) (hf : f_X1_matFor_j25 K v3 t0 h = some r) : AW s0 K lam p l e R s m args below meth c (AQ s0 K lam below oI b r s) b h (F0 m 25 ls [.int t0]) := by
  unfold f_X1_matFor_j25 at hf
  have X := Z.1.1
  refine a_callb (pc := 25) (rs := []) (avs := [vI t0]) Z.1 (w_X1_checkElement GA t0) (Or.inl rfl) q1968 q74 (by decide) (by decide) dX1_matFor_25 hl.1 (Nat.le_of_ble_eq_true rfl) hf (ct_S X (Or.inl rfl) q1968 q74 q1966 q1967 hy_X1_checkElement np_X1_checkElement rfl dX1_matFor_25) (fun q h he hX => a_out (unc_of Z.2.1 rfl) Z.2.2.2.1 he hX) (fun _ h hf => ?kk25)
  refine AW.eq (g2 := F0 m 28 ls []) rfl ?_
  refine a_iload_n (pc := 28) X dX1_matFor_28 rfl hl 0 rfl ?_
  exact a_ireturn X Z.2.2.1 Z.2.2.2.1 dX1_matFor_29 hf
theorem np_X1_matFor : npar yX1_matFor.desc 1 := by unfold npar; decide +kernel
theorem hy_X1_matFor : yX1_matFor.cls ≠ "java/lang/invoke/MethodHandle" ∧ yX1_matFor.cls ≠ "java/lang/invoke/VarHandle" := by decide +kernel
theorem w_X1_matFor (GA : GA l s0 a0 K lam) (v0 : Option Nat) (v1 : Int32) : AMet l s0 K lam yX1_matFor (Cond.code yX1_matFor cX1_matFor (4 : Nat) (Option.some ClassFile.FieldType.int)) 14 3180 [vR v0, vI v1] oI (f_X1_matFor K v0 v1) := by
  refine AMet.of GA.1 (plainFor_of_name (by decide +kernel)) (Nat.le_of_ble_eq_true rfl) ?_
  intro b r hf p e s m args below meth c X hr hlk hnm hnd ht ls hl
  have Z : WZ l s0 a0 K p s m c cX1_matFor yX1_matFor.cls 4 b { frames := 14, cells := K 0 - aX b, slots := K 1 - aW b, locals := 3180 } 14 3180 meth [] (some (.int)) yX1_matFor := ⟨⟨X, GA.2.1, GA.2.2.1, rfl, rfl, Nat.le_refl _, Nat.le_refl _⟩, tab_nil ht, hr, hlk, hnm, hnd⟩
  unfold f_X1_matFor at hf
  clear hr hlk hnm hnd ht
  refine a_aload_n (pc := 0) X dX1_matFor_0 rfl hl 0 rfl ?_
  refine a_iload_n (pc := 1) X dX1_matFor_1 rfl hl 1 rfl ?_
  obtain ⟨a2, rfl, ⟨hk, hf⟩ | ⟨-, hf⟩⟩ := dv_some hf
  rotate_left
  · exact fl_none hf
  refine a_callb (pc := 2) (rs := []) (avs := [vR (some a2), vI v1]) Z.1 (w_X1_jumperAt GA (some a2) v1) (Or.inl rfl) q2185 q74 (by decide) (by decide) dX1_matFor_2 hl.1 (Nat.le_of_ble_eq_true rfl) hf (ct_V hk ⟨by decide, by decide⟩ X (Or.inl rfl) q2185 q2182 q2184 pv_9 hy_X1_jumperAt np_X1_jumperAt rfl dX1_matFor_2) (fun q h he hX => a_out (unc_of Z.2.1 rfl) Z.2.2.2.1 he hX) (fun x2 h hf => ?kk2)
  refine AW.eq (g2 := F0 m 5 ls [va_rf x2]) rfl ?_
  refine a_astore_n (pc := 5) X dX1_matFor_5 rfl hl (by decide) (lv' := [(2, vR x2), (0, vR (some a2)), (1, vI v1)]) rfl (fun ls hl => ?_)
  refine a_aload_n (pc := 6) X dX1_matFor_6 rfl hl 1 rfl ?_
  refine a_get (pc := 7) (φ := 200) pR_t X Z.1.2.1 (gw X.1 X.2.1 q309) (fun _ q => q) (by decide) dX1_matFor_7 hf (fun x7 hf => ?_)
  refine a_iload_n (pc := 10) X dX1_matFor_10 rfl hl 2 rfl ?_
  obtain ⟨a11, rfl, ⟨hk, hf⟩ | ⟨-, hf⟩⟩ := dv_some hf
  rotate_left
  · exact fl_none hf
  refine a_callb (pc := 11) (rs := []) (avs := [vR (some a11), vI v1]) Z.1 (w_X2_matFor GA (some a11) v1) (Or.inr (Or.inl ⟨_, rfl⟩)) q2345 q75 (by decide) (by decide) dX1_matFor_11 hl.1 (Nat.le_of_ble_eq_true rfl) hf (ct_V hk ⟨by decide, by decide⟩ X (Or.inr (Or.inl ⟨_, rfl⟩)) q2345 q2342 q2343 q2344 hy_X2_matFor np_X2_matFor rfl dX1_matFor_11) (fun q h he hX => a_out (unc_of Z.2.1 rfl) Z.2.2.2.1 he hX) (fun x11 h hf => ?kk11)
  refine AW.eq (g2 := F0 m 14 ls [.int x11]) rfl ?_
  refine a_istore_n (pc := 14) X dX1_matFor_14 rfl hl (by decide) (lv' := [(3, vI x11), (2, vR x2), (0, vR (some a2)), (1, vI v1)]) rfl (fun ls hl => ?_)
  refine a_iload_n (pc := 15) X dX1_matFor_15 rfl hl 0 rfl ?_
  refine AW.lift (fun _ _ _ _ k => lv_iconst (pc := 16) (v := (-1 : Int32)) X.2.2.1 X.2.2.2.1 dX1_matFor_16 rfl k) ?_
  refine AW.lift2 (fun _ _ _ _ k1 k2 => lv_icmp_eq (pc := 17) (tgt := 24) X.2.2.1 X.2.2.2.1 dX1_matFor_17 rfl k1 k2) (fun c => ?_) (fun c => ?_)
  · have hf := ite_t c hf
    refine AW.lift (fun _ _ _ _ k => lv_iconst (pc := 24) (v := (0 : Int32)) X.2.2.1 X.2.2.2.1 dX1_matFor_24 rfl k) ?_
    exact w_X1_matFor_j25 GA Z x11 (0 : Int32)  (hl.sub [0] rfl) hf
  · have hf := ite_f c hf
    refine AW.lift (fun _ _ _ _ k => lv_iconst (pc := 20) (v := (1 : Int32)) X.2.2.1 X.2.2.2.1 dX1_matFor_20 rfl k) ?_
    refine AW.lift (fun _ _ _ _ k => lv_goto (pc := 21) (tgt := 25) X.2.2.1 X.2.2.2.1 dX1_matFor_21 rfl k) ?_
    exact w_X1_matFor_j25 GA Z x11 (1 : Int32)  (hl.sub [0] rfl) hf
theorem np_X0_matFor : npar yX0_matFor.desc 3 := by unfold npar; decide +kernel
theorem hy_X0_matFor : yX0_matFor.cls ≠ "java/lang/invoke/MethodHandle" ∧ yX0_matFor.cls ≠ "java/lang/invoke/VarHandle" := by decide +kernel
theorem w_X0_matFor (GA : GA l s0 a0 K lam) (v0 : Option Nat) (v1 : Int32) (v2 : Option Nat) : AMet l s0 K lam yX0_matFor (Cond.codeWith yX0_matFor cX0_matFor (4 : Nat) (Option.some ClassFile.FieldType.int) [((0 : Nat), (9 : Nat), (12 : Nat), (19 : Nat)), ((0 : Nat), (9 : Nat), (15 : Nat), (39 : Nat))]) 15 3203 [vR v0, vI v1, vR v2] oI (f_X0_matFor K v0 v1 v2) := by
  refine AMet.ofW GA.1 (plainFor_of_name (by decide +kernel)) (Nat.le_of_ble_eq_true rfl) ?_
  intro b r hf p e s m args below meth c X hr hlk hnm hnd ht ls hl
  have Z : WZ l s0 a0 K p s m c cX0_matFor yX0_matFor.cls 4 b { frames := 15, cells := K 0 - aX b, slots := K 1 - aW b, locals := 3203 } 15 3203 meth [(0, 9, 12, 19), (0, 9, 15, 39)] (some (.int)) yX0_matFor := ⟨⟨X, GA.2.1, GA.2.2.1, rfl, rfl, Nat.le_refl _, Nat.le_refl _⟩, ht, hr, hlk, hnm, hnd⟩
  unfold f_X0_matFor at hf
  clear hr hlk hnm hnd ht
  refine a_aload_n (pc := 0) X dX0_matFor_0 rfl hl 2 rfl ?_
  refine AW.lift (fun _ _ _ _ k => lv_iconst (pc := 1) (v := (0 : Int32)) X.2.2.1 X.2.2.2.1 dX0_matFor_1 rfl k) ?_
  refine a_aload_n (pc := 2) X dX0_matFor_2 rfl hl 0 rfl ?_
  refine a_iload_n (pc := 3) X dX0_matFor_3 rfl hl 1 rfl ?_
  obtain ⟨a4, rfl, ⟨hk, hf⟩ | ⟨-, hf⟩⟩ := dv_tsome hf
  rotate_left
  · exact fl_tnone hf
  refine a_callt (pc := 4) (rs := [vI (0 : Int32), vR v2]) (avs := [vR (some a4), vI v1]) Z.1 (w_X1_matFor GA (some a4) v1) (Or.inl rfl) q2341 q74 (by decide) (by decide) dX0_matFor_4 hl.1 (Nat.le_of_ble_eq_true rfl) hf (ct_V hk ⟨by decide, by decide⟩ X (Or.inl rfl) q2341 q2338 q2339 q2340 hy_X1_matFor np_X1_matFor rfl dX0_matFor_4) (fun q h hf hX => ?hx4) (fun x4 h hf => ?kk4)
  case hx4 =>
    rcases ctc_some hf with ⟨hy, hf⟩ | ⟨hn0, hf⟩
    · refine a_catchH (st := 0) (en := 9) (hp := 12) (ct := 19) (pre := []) (suf := [(0, 9, 15, 39)]) X hX Z.2.1 rfl (fun z hz => nomatch hz) (by decide) (Or.inr ⟨by decide, _, gw X.1 X.2.1 q1786, (cs_X19 GA) _ hy⟩) (AW.eq (g2 := F0 m 12 ls [va_rf (some q)]) rfl ?_)
      refine a_astore_n (pc := 12) X dX0_matFor_12 rfl hl (by decide) (lv' := [(3, vR (some q)), (0, vR (some a4)), (1, vI v1), (2, vR v2)]) rfl (fun ls hl => ?_)
      refine AW.lift (fun _ _ _ _ k => lv_iconst (pc := 13) (v := (1 : Int32)) X.2.2.1 X.2.2.2.1 dX0_matFor_13 rfl k) ?_
      exact a_ireturn X Z.2.2.1 Z.2.2.2.1 dX0_matFor_14 hf
    · skip
      rcases ctc_some hf with ⟨hy, hf⟩ | ⟨hn1, hf⟩
      · refine a_catchH (st := 0) (en := 9) (hp := 15) (ct := 39) (pre := [(0, 9, 12, 19)]) (suf := []) X hX Z.2.1 rfl (by intro z hz; simp only [List.mem_cons, List.not_mem_nil, or_false] at hz; rcases hz with rfl <;> first | exact Or.inl (by decide) | exact Or.inr ⟨by decide, _, gw X.1 X.2.1 q1786, (nc_12_13_14_16_17_18_20_21_java_lang_IndexOutOfBoundsException GA _ (by simpa using hn0)).2.2⟩) (by decide) (Or.inr ⟨by decide, _, gw X.1 X.2.1 q1961, (cs_X20 GA) _ hy⟩) (AW.eq (g2 := F0 m 15 ls [va_rf (some q)]) rfl ?_)
        refine a_astore_n (pc := 15) X dX0_matFor_15 rfl hl (by decide) (lv' := [(3, vR (some q)), (0, vR (some a4)), (1, vI v1), (2, vR v2)]) rfl (fun ls hl => ?_)
        refine AW.lift (fun _ _ _ _ k => lv_iconst (pc := 16) (v := (2 : Int32)) X.2.2.1 X.2.2.2.1 dX0_matFor_16 rfl k) ?_
        exact a_ireturn X Z.2.2.1 Z.2.2.2.1 dX0_matFor_17 hf
      · skip
        exact a_outH X Z.2.1 (by intro z hz; simp only [List.mem_cons, List.not_mem_nil, or_false] at hz; rcases hz with rfl | rfl <;> first | exact Or.inl (by decide) | exact Or.inr ⟨by decide, _, gw X.1 X.2.1 q1786, (nc_12_13_14_16_17_18_20_21_java_lang_IndexOutOfBoundsException GA _ (by simpa using hn0)).2.2⟩ | exact Or.inr ⟨by decide, _, gw X.1 X.2.1 q1961, (nc_12_13_14_16_17_18_19_21_java_util_NoSuchElementException GA _ (by simpa using hn1)).2.2⟩) Z.2.2.2.1 (th_eq hf) hX
  refine AW.eq (g2 := F0 m 7 ls [.int x4, .int (0 : Int32), va_rf v2]) rfl ?_
  refine AW.lift (fun _ _ _ _ k => lv_i2l (pc := 7) X.2.2.1 X.2.2.2.1 dX0_matFor_7 rfl k) ?_
  refine a_lastore (pc := 8) X dX0_matFor_8 hf (fun h hf => ?_)
  refine AW.lift (fun _ _ _ _ k => lv_goto (pc := 9) (tgt := 18) X.2.2.1 X.2.2.2.1 dX0_matFor_9 rfl k) ?_
  refine AW.lift (fun _ _ _ _ k => lv_iconst (pc := 18) (v := (0 : Int32)) X.2.2.1 X.2.2.2.1 dX0_matFor_18 rfl k) ?_
  exact a_ireturn X Z.2.2.1 Z.2.2.2.1 dX0_matFor_19 hf
theorem w_X4_matFor_j48 {r : Except Nat (Int32) × AH} (GA : GA l s0 a0 K lam) (Z : WZ l s0 a0 K p s m c cX4_matFor yX4_matFor.cls 3 b R 4 91 meth [] (some (.int)) yX4_matFor) (v0 : Option Nat)   {h : AH} {ls : Array Slot} (hl : LV ls 3 [(0, vR v0)]) (hf : f_X4_matFor_j48 K v0 h = some r) : AW s0 K lam p l e R s m args below meth c (AQ s0 K lam below oI b r s) b h (F0 m 48 ls []) := by
  unfold f_X4_matFor_j48 at hf
  have X := Z.1.1
  refine a_aload_n (pc := 48) X dX4_matFor_48 rfl hl 0 rfl ?_
  refine AW.lift (fun _ _ _ _ k => lv_iconst (pc := 49) (v := (2 : Int32)) X.2.2.1 X.2.2.2.1 dX4_matFor_49 rfl k) ?_
  obtain ⟨a50, rfl, ⟨hk, hf⟩ | ⟨-, hf⟩⟩ := dv_some hf
  rotate_left
  · exact fl_none hf
  refine a_callb (pc := 50) (rs := []) (avs := [vR (some a50), vI (2 : Int32)]) Z.1 (w_X4_throwing GA (some a50) (2 : Int32)) (Or.inl rfl) q3120 q86 (by decide) (by decide) dX4_matFor_50 hl.1 (Nat.le_of_ble_eq_true rfl) hf (ct_V hk ⟨by decide, by decide⟩ X (Or.inl rfl) q3120 q3117 q3119 pv_30 hy_X4_throwing np_X4_throwing rfl dX4_matFor_50) (fun q h he hX => a_out (unc_of Z.2.1 rfl) Z.2.2.2.1 he hX) (fun x50 h hf => ?kk50)
  refine AW.eq (g2 := F0 m 53 ls [.int x50]) rfl ?_
  exact a_ireturn X Z.2.2.1 Z.2.2.2.1 dX4_matFor_53 hf
theorem w_X4_matFor_b21 {r : Except Nat (Int32) × AH} (GA : GA l s0 a0 K lam) (Z : WZ l s0 a0 K p s m c cX4_matFor yX4_matFor.cls 3 b R 4 91 meth [] (some (.int)) yX4_matFor) (v0 : Option Nat) (v1 : Int32) (v2 : Int32)  (rc21 : Int32 → AM (Int32)) (hrc21 : ∀ (v2 : Int32) (h : AH) (ls : Array Slot), LV ls 3 [(0, vR v0), (1, vI v1), (2, vI v2)] → rc21 v2 h = some r → AW s0 K lam p l e R s m args below meth c (AQ s0 K lam below oI b r s) b h (F0 m 21 ls [])) {h : AH} {ls : Array Slot} (hl : LV ls 3 [(0, vR v0), (1, vI v1), (2, vI v2)]) (hf : f_X4_matFor_b21 K rc21 v0 v1 v2 h = some r) : AW s0 K lam p l e R s m args below meth c (AQ s0 K lam below oI b r s) b h (F0 m 21 ls []) := by
  unfold f_X4_matFor_b21 at hf
  have X := Z.1.1
  refine a_iload_n (pc := 21) X dX4_matFor_21 rfl hl 2 rfl ?_
  refine a_aload_n (pc := 22) X dX4_matFor_22 rfl hl 0 rfl ?_
  refine a_get (pc := 23) (φ := 100) pR_t X Z.1.2.1 (gw X.1 X.2.1 q3025) (fun _ q => q) (by decide) dX4_matFor_23 hf (fun x23 hf => ?_)
  refine AW.lift (fun _ _ _ _ k => lv_iconst (pc := 26) (v := (1 : Int32)) X.2.2.1 X.2.2.2.1 dX4_matFor_26 rfl k) ?_
  refine a_iaload (pc := 27) X dX4_matFor_27 hf (fun x27 hf => ?_)
  refine AW.lift2 (fun _ _ _ _ k1 k2 => lv_icmp_ge (pc := 28) (tgt := 48) X.2.2.1 X.2.2.2.1 dX4_matFor_28 rfl k1 k2) (fun c => ?_) (fun c => ?_)
  · have hf := ite_t c hf
    exact w_X4_matFor_j48 GA Z v0   (hl.sub [0] rfl) hf
  · have hf := ite_f c hf
    refine a_aload_n (pc := 31) X dX4_matFor_31 rfl hl 0 rfl ?_
    refine a_iload_n (pc := 32) X dX4_matFor_32 rfl hl 1 rfl ?_
    refine a_iload_n (pc := 33) X dX4_matFor_33 rfl hl 2 rfl ?_
    obtain ⟨a34, rfl, ⟨hk, hf⟩ | ⟨-, hf⟩⟩ := dv_some hf
    rotate_left
    · exact fl_none hf
    refine a_callb (pc := 34) (rs := []) (avs := [vR (some a34), vI v1, vI v2]) Z.1 (w_X4_upReason GA (some a34) v1 v2) (Or.inl rfl) q3225 q86 (by decide) (by decide) dX4_matFor_34 hl.1 (Nat.le_of_ble_eq_true rfl) hf (ct_V hk ⟨by decide, by decide⟩ X (Or.inl rfl) q3225 q3222 q3224 pv_45 hy_X4_upReason np_X4_upReason rfl dX4_matFor_34) (fun q h he hX => a_out (unc_of Z.2.1 rfl) Z.2.2.2.1 he hX) (fun x34 h hf => ?kk34)
    refine AW.eq (g2 := F0 m 37 ls [.int x34]) rfl ?_
    refine AW.lift2 (fun _ _ _ _ k1 k2 => lv_if_ne (pc := 37) (tgt := 42) X.2.2.1 X.2.2.2.1 dX4_matFor_37 rfl k2 k1) (fun c => ?_) (fun c => ?_)
    · have hf := ite_t c hf
      refine a_iload_n (pc := 40) X dX4_matFor_40 rfl hl 2 rfl ?_
      exact a_ireturn X Z.2.2.1 Z.2.2.2.1 dX4_matFor_41 hf
    · have hf := ite_f c hf
      refine a_iinc (pc := 42) (v := (v2 + (1 : Int32))) X dX4_matFor_42 hl (k := 2) rfl rfl (by decide) (lv' := [(2, vI (v2 + (1 : Int32))), (0, vR (some a34)), (1, vI v1)]) rfl (fun ls hl => ?_)
      refine AW.lift (fun _ _ _ _ k => lv_goto (pc := 45) (tgt := 21) X.2.2.1 X.2.2.2.1 dX4_matFor_45 rfl k) ?_
      exact hrc21 (v2 + (1 : Int32)) _ _ (hl.sub [1, 2, 0] rfl) hf
theorem w_X4_matFor_l21 {r : Except Nat (Int32) × AH} (GA : GA l s0 a0 K lam) (Z : WZ l s0 a0 K p s m c cX4_matFor yX4_matFor.cls 3 b R 4 91 meth [] (some (.int)) yX4_matFor) (v0 : Option Nat) (v1 : Int32)  : ∀ (n : Nat) (v2 : Int32) (h : AH) (ls : Array Slot), LV ls 3 [(0, vR v0), (1, vI v1), (2, vI v2)] → f_X4_matFor_l21 K v0 v1 n v2 h = some r → AW s0 K lam p l e R s m args below meth c (AQ s0 K lam below oI b r s) b h (F0 m 21 ls []) := by
  intro n
  induction n with
  | zero => intro v2 h ls hl hf; exact fl_no (h := h) hf
  | succ n ih => intro v2 h ls hl hf; exact w_X4_matFor_b21 GA Z v0 v1 v2 (f_X4_matFor_l21 K v0 v1 n) ih hl hf
theorem np_X4_matFor : npar yX4_matFor.desc 1 := by unfold npar; decide +kernel
theorem hy_X4_matFor : yX4_matFor.cls ≠ "java/lang/invoke/MethodHandle" ∧ yX4_matFor.cls ≠ "java/lang/invoke/VarHandle" := by decide +kernel
theorem w_X4_matFor (GA : GA l s0 a0 K lam) (v0 : Option Nat) (v1 : Int32) : AMet l s0 K lam yX4_matFor (Cond.code yX4_matFor cX4_matFor (3 : Nat) (Option.some ClassFile.FieldType.int)) 4 91 [vR v0, vI v1] oI (f_X4_matFor K v0 v1) := by
  refine AMet.of GA.1 (plainFor_of_name (by decide +kernel)) (Nat.le_of_ble_eq_true rfl) ?_
  intro b r hf p e s m args below meth c X hr hlk hnm hnd ht ls hl
  have Z : WZ l s0 a0 K p s m c cX4_matFor yX4_matFor.cls 3 b { frames := 4, cells := K 0 - aX b, slots := K 1 - aW b, locals := 91 } 4 91 meth [] (some (.int)) yX4_matFor := ⟨⟨X, GA.2.1, GA.2.2.1, rfl, rfl, Nat.le_refl _, Nat.le_refl _⟩, tab_nil ht, hr, hlk, hnm, hnd⟩
  unfold f_X4_matFor at hf
  clear hr hlk hnm hnd ht
  refine a_aload_n (pc := 0) X dX4_matFor_0 rfl hl 0 rfl ?_
  refine AW.lift (fun _ _ _ _ k => lv_iconst (pc := 1) (v := (0 : Int32)) X.2.2.1 X.2.2.2.1 dX4_matFor_1 rfl k) ?_
  refine a_put (pc := 2) (φ := 107) X Z.1.2.1 Z.1.2.2.1 (gw X.1 X.2.1 q3032) (fun _ q => q) (by decide) rfl rfl dX4_matFor_2 hf (fun h hf => ?_)
  refine a_aload_n (pc := 5) X dX4_matFor_5 rfl hl 0 rfl ?_
  refine a_iload_n (pc := 6) X dX4_matFor_6 rfl hl 1 rfl ?_
  obtain ⟨a7, rfl, ⟨hk, hf⟩ | ⟨-, hf⟩⟩ := dv_some hf
  rotate_left
  · exact fl_none hf
  refine a_callb (pc := 7) (rs := []) (avs := [vR (some a7), vI v1]) Z.1 (w_X4_isJumper GA (some a7) v1) (Or.inl rfl) q3221 q86 (by decide) (by decide) dX4_matFor_7 hl.1 (Nat.le_of_ble_eq_true rfl) hf (ct_V hk ⟨by decide, by decide⟩ X (Or.inl rfl) q3221 q3218 q3220 pv_44 hy_X4_isJumper np_X4_isJumper rfl dX4_matFor_7) (fun q h he hX => a_out (unc_of Z.2.1 rfl) Z.2.2.2.1 he hX) (fun x7 h hf => ?kk7)
  refine AW.eq (g2 := F0 m 10 ls [.int x7]) rfl ?_
  refine AW.lift2 (fun _ _ _ _ k1 k2 => lv_if_ne (pc := 10) (tgt := 19) X.2.2.1 X.2.2.2.1 dX4_matFor_10 rfl k2 k1) (fun c => ?_) (fun c => ?_)
  · have hf := ite_t c hf
    refine a_aload_n (pc := 13) X dX4_matFor_13 rfl hl 0 rfl ?_
    refine AW.lift (fun _ _ _ _ k => lv_iconst (pc := 14) (v := (1 : Int32)) X.2.2.1 X.2.2.2.1 dX4_matFor_14 rfl k) ?_
    rcases dv_someS hf with ⟨hk, hf⟩ | ⟨-, hf⟩
    rotate_left
    · exact fl_none hf
    refine a_callb (pc := 15) (rs := []) (avs := [vR (some a7), vI (1 : Int32)]) Z.1 (w_X4_throwing GA (some a7) (1 : Int32)) (Or.inl rfl) q3120 q86 (by decide) (by decide) dX4_matFor_15 hl.1 (Nat.le_of_ble_eq_true rfl) hf (ct_V hk ⟨by decide, by decide⟩ X (Or.inl rfl) q3120 q3117 q3119 pv_30 hy_X4_throwing np_X4_throwing rfl dX4_matFor_15) (fun q h he hX => a_out (unc_of Z.2.1 rfl) Z.2.2.2.1 he hX) (fun x15 h hf => ?kk15)
    refine AW.eq (g2 := F0 m 18 ls [.int x15]) rfl ?_
    exact a_ireturn X Z.2.2.1 Z.2.2.2.1 dX4_matFor_18 hf
  · have hf := ite_f c hf
    refine AW.lift (fun _ _ _ _ k => lv_iconst (pc := 19) (v := (0 : Int32)) X.2.2.1 X.2.2.2.1 dX4_matFor_19 rfl k) ?_
    refine a_istore_n (pc := 20) X dX4_matFor_20 rfl hl (by decide) (lv' := [(2, vI (0 : Int32)), (0, vR (some a7)), (1, vI v1)]) rfl (fun ls hl => ?_)
    exact w_X4_matFor_l21 GA Z (some a7) v1  FU (0 : Int32) _ _ (hl.sub [1, 2, 0] rfl) hf
theorem np_X1_guard : npar yX1_guard.desc 0 := by unfold npar; decide +kernel
theorem hy_X1_guard : yX1_guard.cls ≠ "java/lang/invoke/MethodHandle" ∧ yX1_guard.cls ≠ "java/lang/invoke/VarHandle" := by decide +kernel
theorem w_X1_guard (GA : GA l s0 a0 K lam) (v0 : Option Nat) : AMet l s0 K lam yX1_guard (Cond.code yX1_guard cX1_guard (1 : Nat) (Option.some ClassFile.FieldType.int)) 21 3348 [vR v0] oI (f_X1_guard K v0) := by
  refine AMet.of GA.1 (plainFor_of_name (by decide +kernel)) (Nat.le_of_ble_eq_true rfl) ?_
  intro b r hf p e s m args below meth c X hr hlk hnm hnd ht ls hl
  have Z : WZ l s0 a0 K p s m c cX1_guard yX1_guard.cls 1 b { frames := 21, cells := K 0 - aX b, slots := K 1 - aW b, locals := 3348 } 21 3348 meth [] (some (.int)) yX1_guard := ⟨⟨X, GA.2.1, GA.2.2.1, rfl, rfl, Nat.le_refl _, Nat.le_refl _⟩, tab_nil ht, hr, hlk, hnm, hnd⟩
  unfold f_X1_guard at hf
  clear hr hlk hnm hnd ht
  refine a_aload_n (pc := 0) X dX1_guard_0 rfl hl 0 rfl ?_
  refine a_ndyC (pc := 1) (rs := [vR v0]) Z.1 Z.2.2.2.2.2 (siG_216 GA) (by decide) hl.1 (Nat.le_of_ble_eq_true rfl) dX1_guard_1 ?_
  refine AW.eq (g2 := F0 m 6 ls [va_rf (some (K 116)), va_rf v0]) rfl ?_
  obtain ⟨a6, rfl, ⟨hk, hf⟩ | ⟨-, hf⟩⟩ := dv_some hf
  rotate_left
  · exact fl_none hf
  refine a_callb (pc := 6) (rs := []) (avs := [vR (some a6), vR (some (K 116))]) Z.1 (w_X1_does GA (some a6) (some (K 116))) (Or.inr (Or.inl ⟨_, rfl⟩)) q1754 q74 (by decide) (by decide) dX1_guard_6 hl.1 (Nat.le_of_ble_eq_true rfl) hf (ct_V hk ⟨by decide, by decide⟩ X (Or.inr (Or.inl ⟨_, rfl⟩)) q1754 q1751 q1753 pv_4 hy_X1_does np_X1_does rfl dX1_guard_6) (fun q h he hX => a_out (unc_of Z.2.1 rfl) Z.2.2.2.1 he hX) (fun x6 h hf => ?kk6)
  refine AW.eq (g2 := F0 m 9 ls [.int x6]) rfl ?_
  exact a_ireturn X Z.2.2.1 Z.2.2.2.1 dX1_guard_9 hf
theorem np_X0_guard : npar yX0_guard.desc 2 := by unfold npar; decide +kernel
theorem hy_X0_guard : yX0_guard.cls ≠ "java/lang/invoke/MethodHandle" ∧ yX0_guard.cls ≠ "java/lang/invoke/VarHandle" := by decide +kernel
theorem w_X0_guard (GA : GA l s0 a0 K lam) (v0 : Option Nat) (v1 : Option Nat) : AMet l s0 K lam yX0_guard (Cond.codeWith yX0_guard cX0_guard (3 : Nat) (Option.some ClassFile.FieldType.int) [((0 : Nat), (8 : Nat), (11 : Nat), (13 : Nat))]) 22 3368 [vR v0, vR v1] oI (f_X0_guard K v0 v1) := by
  refine AMet.ofW GA.1 (plainFor_of_name (by decide +kernel)) (Nat.le_of_ble_eq_true rfl) ?_
  intro b r hf p e s m args below meth c X hr hlk hnm hnd ht ls hl
  have Z : WZ l s0 a0 K p s m c cX0_guard yX0_guard.cls 3 b { frames := 22, cells := K 0 - aX b, slots := K 1 - aW b, locals := 3368 } 22 3368 meth [(0, 8, 11, 13)] (some (.int)) yX0_guard := ⟨⟨X, GA.2.1, GA.2.2.1, rfl, rfl, Nat.le_refl _, Nat.le_refl _⟩, ht, hr, hlk, hnm, hnd⟩
  unfold f_X0_guard at hf
  clear hr hlk hnm hnd ht
  refine a_aload_n (pc := 0) X dX0_guard_0 rfl hl 1 rfl ?_
  refine AW.lift (fun _ _ _ _ k => lv_iconst (pc := 1) (v := (0 : Int32)) X.2.2.1 X.2.2.2.1 dX0_guard_1 rfl k) ?_
  refine a_aload_n (pc := 2) X dX0_guard_2 rfl hl 0 rfl ?_
  obtain ⟨a3, rfl, ⟨hk, hf⟩ | ⟨-, hf⟩⟩ := dv_tsome hf
  rotate_left
  · exact fl_tnone hf
  refine a_callt (pc := 3) (rs := [vI (0 : Int32), vR v1]) (avs := [vR (some a3)]) Z.1 (w_X1_guard GA (some a3)) (Or.inl rfl) q2352 q74 (by decide) (by decide) dX0_guard_3 hl.1 (Nat.le_of_ble_eq_true rfl) hf (ct_V hk ⟨by decide, by decide⟩ X (Or.inl rfl) q2352 q2349 q2350 q2351 hy_X1_guard np_X1_guard rfl dX0_guard_3) (fun q h hf hX => ?hx3) (fun x3 h hf => ?kk3)
  case hx3 =>
    rcases ctc_some hf with ⟨hy, hf⟩ | ⟨hn0, hf⟩
    · refine a_catchH (st := 0) (en := 8) (hp := 11) (ct := 13) (pre := []) (suf := []) X hX Z.2.1 rfl (fun z hz => nomatch hz) (by decide) (Or.inr ⟨by decide, _, gw X.1 X.2.1 q1709, (cs_X21 GA) _ hy⟩) (AW.eq (g2 := F0 m 11 ls [va_rf (some q)]) rfl ?_)
      refine a_astore_n (pc := 11) X dX0_guard_11 rfl hl (by decide) (lv' := [(2, vR (some q)), (0, vR (some a3)), (1, vR v1)]) rfl (fun ls hl => ?_)
      refine AW.lift (fun _ _ _ _ k => lv_iconst (pc := 12) (v := (1 : Int32)) X.2.2.1 X.2.2.2.1 dX0_guard_12 rfl k) ?_
      exact a_ireturn X Z.2.2.1 Z.2.2.2.1 dX0_guard_13 hf
    · skip
      exact a_outH X Z.2.1 (by intro z hz; simp only [List.mem_cons, List.not_mem_nil, or_false] at hz; rcases hz with rfl <;> first | exact Or.inl (by decide) | exact Or.inr ⟨by decide, _, gw X.1 X.2.1 q1709, (nc_12_13_14_16_17_18_19_20_java_lang_UnsupportedOperationException GA _ (by simpa using hn0)).2.2⟩) Z.2.2.2.1 (th_eq hf) hX
  refine AW.eq (g2 := F0 m 6 ls [.int x3, .int (0 : Int32), va_rf v1]) rfl ?_
  refine AW.lift (fun _ _ _ _ k => lv_i2l (pc := 6) X.2.2.1 X.2.2.2.1 dX0_guard_6 rfl k) ?_
  refine a_lastore (pc := 7) X dX0_guard_7 hf (fun h hf => ?_)
  refine AW.lift (fun _ _ _ _ k => lv_goto (pc := 8) (tgt := 14) X.2.2.1 X.2.2.2.1 dX0_guard_8 rfl k) ?_
  refine AW.lift (fun _ _ _ _ k => lv_iconst (pc := 14) (v := (0 : Int32)) X.2.2.1 X.2.2.2.1 dX0_guard_14 rfl k) ?_
  exact a_ireturn X Z.2.2.1 Z.2.2.2.1 dX0_guard_15 hf
theorem np_X4_guard : npar yX4_guard.desc 0 := by unfold npar; decide +kernel
theorem hy_X4_guard : yX4_guard.cls ≠ "java/lang/invoke/MethodHandle" ∧ yX4_guard.cls ≠ "java/lang/invoke/VarHandle" := by decide +kernel
theorem w_X4_guard (GA : GA l s0 a0 K lam) (v0 : Option Nat) : AMet l s0 K lam yX4_guard (Cond.code yX4_guard cX4_guard (1 : Nat) (Option.some ClassFile.FieldType.int)) 2 44 [vR v0] oI (f_X4_guard K v0) := by
  refine AMet.of GA.1 (plainFor_of_name (by decide +kernel)) (Nat.le_of_ble_eq_true rfl) ?_
  intro b r hf p e s m args below meth c X hr hlk hnm hnd ht ls hl
  have Z : WZ l s0 a0 K p s m c cX4_guard yX4_guard.cls 1 b { frames := 2, cells := K 0 - aX b, slots := K 1 - aW b, locals := 44 } 2 44 meth [] (some (.int)) yX4_guard := ⟨⟨X, GA.2.1, GA.2.2.1, rfl, rfl, Nat.le_refl _, Nat.le_refl _⟩, tab_nil ht, hr, hlk, hnm, hnd⟩
  unfold f_X4_guard at hf
  clear hr hlk hnm hnd ht
  refine a_aload_n (pc := 0) X dX4_guard_0 rfl hl 0 rfl ?_
  obtain ⟨a1, rfl, ⟨hk, hf⟩ | ⟨-, hf⟩⟩ := dv_some hf
  rotate_left
  · exact fl_none hf
  refine a_callb (pc := 1) (rs := []) (avs := [vR (some a1)]) Z.1 (w_X4_layAside GA (some a1)) (Or.inl rfl) q3112 q86 (by decide) (by decide) dX4_guard_1 hl.1 (Nat.le_of_ble_eq_true rfl) hf (ct_V hk ⟨by decide, by decide⟩ X (Or.inl rfl) q3112 q3109 q3111 pv_28 hy_X4_layAside np_X4_layAside rfl dX4_guard_1) (fun q h he hX => a_out (unc_of Z.2.1 rfl) Z.2.2.2.1 he hX) (fun _ h hf => ?kk1)
  refine AW.eq (g2 := F0 m 4 ls []) rfl ?_
  refine a_aload_n (pc := 4) X dX4_guard_4 rfl hl 0 rfl ?_
  refine a_get (pc := 5) (φ := 100) pR_t X Z.1.2.1 (gw X.1 X.2.1 q3025) (fun _ q => q) (by decide) dX4_guard_5 hf (fun x5 hf => ?_)
  refine AW.lift (fun _ _ _ _ k => lv_iconst (pc := 8) (v := (3 : Int32)) X.2.2.1 X.2.2.2.1 dX4_guard_8 rfl k) ?_
  refine a_iaload (pc := 9) X dX4_guard_9 hf (fun x9 hf => ?_)
  refine AW.lift (fun _ _ _ _ k => lv_iconst (pc := 10) (v := (4 : Int32)) X.2.2.1 X.2.2.2.1 dX4_guard_10 rfl k) ?_
  refine AW.lift2 (fun _ _ _ _ k1 k2 => lv_icmp_ne (pc := 11) (tgt := 22) X.2.2.1 X.2.2.2.1 dX4_guard_11 rfl k2 k1) (fun c => ?_) (fun c => ?_)
  · have hf := ite_t c hf
    refine a_aload_n (pc := 14) X dX4_guard_14 rfl hl 0 rfl ?_
    refine AW.lift (fun _ _ _ _ k => lv_iconst (pc := 15) (v := (1 : Int32)) X.2.2.1 X.2.2.2.1 dX4_guard_15 rfl k) ?_
    refine AW.lift (fun _ _ _ _ k => lv_iconst (pc := 16) (v := (1 : Int32)) X.2.2.1 X.2.2.2.1 dX4_guard_16 rfl k) ?_
    refine AW.lift (fun _ _ _ _ k => lv_iconst (pc := 17) (v := (4 : Int32)) X.2.2.1 X.2.2.2.1 dX4_guard_17 rfl k) ?_
    rcases dv_someS hf with ⟨hk, hf⟩ | ⟨-, hf⟩
    rotate_left
    · exact fl_none hf
    refine a_callb (pc := 18) (rs := []) (avs := [vR (some a1), vI (1 : Int32), vI (1 : Int32), vI (4 : Int32)]) Z.1 (w_X4_refuse GA (some a1) (1 : Int32) (1 : Int32) (4 : Int32)) (Or.inl rfl) q3116 q86 (by decide) (by decide) dX4_guard_18 hl.1 (Nat.le_of_ble_eq_true rfl) hf (ct_V hk ⟨by decide, by decide⟩ X (Or.inl rfl) q3116 q3113 q3115 pv_29 hy_X4_refuse np_X4_refuse rfl dX4_guard_18) (fun q h he hX => a_out (unc_of Z.2.1 rfl) Z.2.2.2.1 he hX) (fun x18 h hf => ?kk18)
    refine AW.eq (g2 := F0 m 21 ls [.int x18]) rfl ?_
    exact a_ireturn X Z.2.2.1 Z.2.2.2.1 dX4_guard_21 hf
  · have hf := ite_f c hf
    refine a_aload_n (pc := 22) X dX4_guard_22 rfl hl 0 rfl ?_
    refine a_get (pc := 23) (φ := 100) pR_t X Z.1.2.1 (gw X.1 X.2.1 q3025) (fun _ q => q) (by decide) dX4_guard_23 hf (fun x23 hf => ?_)
    refine AW.lift (fun _ _ _ _ k => lv_sipush (pc := 26) (v := (182 : Int32)) X.2.2.1 X.2.2.2.1 dX4_guard_26 rfl k) ?_
    refine a_aload_n (pc := 29) X dX4_guard_29 rfl hl 0 rfl ?_
    refine a_get (pc := 30) (φ := 100) pR_t X Z.1.2.1 (gw X.1 X.2.1 q3025) (fun _ q => q) (by decide) dX4_guard_30 hf (fun x30 hf => ?_)
    refine AW.lift (fun _ _ _ _ k => lv_iconst (pc := 33) (v := (3 : Int32)) X.2.2.1 X.2.2.2.1 dX4_guard_33 rfl k) ?_
    refine a_iaload (pc := 34) X dX4_guard_34 hf (fun x34 hf => ?_)
    refine AW.lift (fun _ _ _ _ k => lv_iadd (pc := 35) X.2.2.1 X.2.2.2.1 dX4_guard_35 k) ?_
    refine AW.lift (fun _ _ _ _ k => lv_iconst (pc := 36) (v := (-1 : Int32)) X.2.2.1 X.2.2.2.1 dX4_guard_36 rfl k) ?_
    refine a_iastore (pc := 37) X dX4_guard_37 hf (fun h hf => ?_)
    refine a_aload_n (pc := 38) X dX4_guard_38 rfl hl 0 rfl ?_
    refine a_get (pc := 39) (φ := 100) pR_t X Z.1.2.1 (gw X.1 X.2.1 q3025) (fun _ q => q) (by decide) dX4_guard_39 hf (fun x39 hf => ?_)
    refine AW.lift (fun _ _ _ _ k => lv_iconst (pc := 42) (v := (3 : Int32)) X.2.2.1 X.2.2.2.1 dX4_guard_42 rfl k) ?_
    refine AW.lift (fun _ _ _ _ k => lv_dup2_11 (pc := 43) X.2.2.1 X.2.2.2.1 dX4_guard_43 rfl (cat_rf _) k) ?_
    refine a_iaload (pc := 44) X dX4_guard_44 hf (fun x44 hf => ?_)
    refine AW.lift (fun _ _ _ _ k => lv_iconst (pc := 45) (v := (1 : Int32)) X.2.2.1 X.2.2.2.1 dX4_guard_45 rfl k) ?_
    refine AW.lift (fun _ _ _ _ k => lv_iadd (pc := 46) X.2.2.1 X.2.2.2.1 dX4_guard_46 k) ?_
    refine a_iastore (pc := 47) X dX4_guard_47 hf (fun h hf => ?_)
    refine a_aload_n (pc := 48) X dX4_guard_48 rfl hl 0 rfl ?_
    refine a_aload_n (pc := 49) X dX4_guard_49 rfl hl 0 rfl ?_
    refine a_get (pc := 50) (φ := 100) pR_t X Z.1.2.1 (gw X.1 X.2.1 q3025) (fun _ q => q) (by decide) dX4_guard_50 hf (fun x50 hf => ?_)
    refine AW.lift (fun _ _ _ _ k => lv_iconst (pc := 53) (v := (3 : Int32)) X.2.2.1 X.2.2.2.1 dX4_guard_53 rfl k) ?_
    refine a_iaload (pc := 54) X dX4_guard_54 hf (fun x54 hf => ?_)
    refine AW.lift (fun _ _ _ _ k => lv_iconst (pc := 55) (v := (1 : Int32)) X.2.2.1 X.2.2.2.1 dX4_guard_55 rfl k) ?_
    refine AW.lift (fun _ _ _ _ k => lv_isub (pc := 56) X.2.2.1 X.2.2.2.1 dX4_guard_56 k) ?_
    rcases dv_someS hf with ⟨hk, hf⟩ | ⟨-, hf⟩
    rotate_left
    · exact fl_none hf
    refine a_callb (pc := 57) (rs := []) (avs := [vR (some a1), vI (x54 - (1 : Int32))]) Z.1 (w_X4_changed GA (some a1) (x54 - (1 : Int32))) (Or.inl rfl) q3127 q86 (by decide) (by decide) dX4_guard_57 hl.1 (Nat.le_of_ble_eq_true rfl) hf (ct_V hk ⟨by decide, by decide⟩ X (Or.inl rfl) q3127 q3124 q3126 pv_31 hy_X4_changed np_X4_changed rfl dX4_guard_57) (fun q h he hX => a_out (unc_of Z.2.1 rfl) Z.2.2.2.1 he hX) (fun x57 h hf => ?kk57)
    refine AW.eq (g2 := F0 m 60 ls [.int x57]) rfl ?_
    exact a_ireturn X Z.2.2.1 Z.2.2.2.1 dX4_guard_60 hf
theorem w_X1_place_j27 {r : Except Nat (Int32) × AH} (GA : GA l s0 a0 K lam) (Z : WZ l s0 a0 K p s m c cX1_place yX1_place.cls 3 b R 21 3348 meth [] (some (.int)) yX1_place) (v0 : Option Nat) (v1 : Int32) (v2 : Int32) (t0 : Int32)  {h : AH} {ls : Array Slot} (hl : LV ls 3 [(0, vR v0), (1, vI v1), (2, vI v2)]) (hf : f_X1_place_j27 K v0 v1 v2 t0 h = some r) : AW s0 K lam p l e R s m args below meth c (AQ s0 K lam below oI b r s) b h (F0 m 27 ls [.int t0]) := by
  unfold f_X1_place_j27 at hf
  have X := Z.1.1
  refine a_callb (pc := 27) (rs := []) (avs := [vI t0]) Z.1 (w_X1_checkIndex GA t0) (Or.inl rfl) q1816 q74 (by decide) (by decide) dX1_place_27 hl.1 (Nat.le_of_ble_eq_true rfl) hf (ct_S X (Or.inl rfl) q1816 q74 q1814 q1815 hy_X1_checkIndex np_X1_checkIndex rfl dX1_place_27) (fun q h he hX => a_out (unc_of Z.2.1 rfl) Z.2.2.2.1 he hX) (fun _ h hf => ?kk27)
  refine AW.eq (g2 := F0 m 30 ls []) rfl ?_
  refine a_aload_n (pc := 30) X dX1_place_30 rfl hl 0 rfl ?_
  refine a_iload_n (pc := 31) X dX1_place_31 rfl hl 1 rfl ?_
  refine a_iload_n (pc := 32) X dX1_place_32 rfl hl 2 rfl ?_
  refine a_ndy (pc := 33) (rs := [vR v0]) (avs := [vI v1, vI v2]) Z.1 Z.2.2.2.2.2 (siG_217 GA) hfb_17 (lw_all_tbl q3550) ⟨by decide, by decide⟩ rfl rfl rfl (by decide) hl.1 (Nat.le_of_ble_eq_true rfl) (Nat.le_of_ble_eq_true rfl) rfl dX1_place_33 hf (fun x33 h hf => ?_)
  refine AW.eq (g2 := F0 m 38 ls [va_rf (some x33), va_rf v0]) rfl ?_
  obtain ⟨a38, rfl, ⟨hk, hf⟩ | ⟨-, hf⟩⟩ := dv_some hf
  rotate_left
  · exact fl_none hf
  refine a_callb (pc := 38) (rs := []) (avs := [vR (some a38), vR (some x33)]) Z.1 (w_X1_does GA (some a38) (some x33)) (Or.inr (Or.inl ⟨_, rfl⟩)) q1754 q74 (by decide) (by decide) dX1_place_38 hl.1 (Nat.le_of_ble_eq_true rfl) hf (ct_V hk ⟨by decide, by decide⟩ X (Or.inr (Or.inl ⟨_, rfl⟩)) q1754 q1751 q1753 pv_4 hy_X1_does np_X1_does rfl dX1_place_38) (fun q h he hX => a_out (unc_of Z.2.1 rfl) Z.2.2.2.1 he hX) (fun x38 h hf => ?kk38)
  refine AW.eq (g2 := F0 m 41 ls [.int x38]) rfl ?_
  exact a_ireturn X Z.2.2.1 Z.2.2.2.1 dX1_place_41 hf
theorem w_X1_place_j26 {r : Except Nat (Int32) × AH} (GA : GA l s0 a0 K lam) (Z : WZ l s0 a0 K p s m c cX1_place yX1_place.cls 3 b R 21 3348 meth [] (some (.int)) yX1_place) (v0 : Option Nat) (v1 : Int32) (v2 : Int32)   {h : AH} {ls : Array Slot} (hl : LV ls 3 [(0, vR v0), (1, vI v1), (2, vI v2)]) (hf : f_X1_place_j26 K v0 v1 v2 h = some r) : AW s0 K lam p l e R s m args below meth c (AQ s0 K lam below oI b r s) b h (F0 m 26 ls []) := by
  unfold f_X1_place_j26 at hf
  have X := Z.1.1
  refine AW.lift (fun _ _ _ _ k => lv_iconst (pc := 26) (v := (0 : Int32)) X.2.2.1 X.2.2.2.1 dX1_place_26 rfl k) ?_
  exact w_X1_place_j27 GA Z v0 v1 v2 (0 : Int32)  (hl.sub [0, 1, 2] rfl) hf
theorem np_X1_place : npar yX1_place.desc 2 := by unfold npar; decide +kernel
theorem hy_X1_place : yX1_place.cls ≠ "java/lang/invoke/MethodHandle" ∧ yX1_place.cls ≠ "java/lang/invoke/VarHandle" := by decide +kernel
theorem w_X1_place (GA : GA l s0 a0 K lam) (v0 : Option Nat) (v1 : Int32) (v2 : Int32) : AMet l s0 K lam yX1_place (Cond.code yX1_place cX1_place (3 : Nat) (Option.some ClassFile.FieldType.int)) 21 3348 [vR v0, vI v1, vI v2] oI (f_X1_place K v0 v1 v2) := by
  refine AMet.of GA.1 (plainFor_of_name (by decide +kernel)) (Nat.le_of_ble_eq_true rfl) ?_
  intro b r hf p e s m args below meth c X hr hlk hnm hnd ht ls hl
  have Z : WZ l s0 a0 K p s m c cX1_place yX1_place.cls 3 b { frames := 21, cells := K 0 - aX b, slots := K 1 - aW b, locals := 3348 } 21 3348 meth [] (some (.int)) yX1_place := ⟨⟨X, GA.2.1, GA.2.2.1, rfl, rfl, Nat.le_refl _, Nat.le_refl _⟩, tab_nil ht, hr, hlk, hnm, hnd⟩
  unfold f_X1_place at hf
  clear hr hlk hnm hnd ht
  refine a_aload_n (pc := 0) X dX1_place_0 rfl hl 0 rfl ?_
  refine a_get (pc := 1) (φ := 200) pR_t X Z.1.2.1 (gw X.1 X.2.1 q309) (fun _ q => q) (by decide) dX1_place_1 hf (fun x1 hf => ?_)
  refine a_iload_n (pc := 4) X dX1_place_4 rfl hl 1 rfl ?_
  obtain ⟨a5, rfl, ⟨hk, hf⟩ | ⟨-, hf⟩⟩ := dv_some hf
  rotate_left
  · exact fl_none hf
  refine a_callb (pc := 5) (rs := []) (avs := [vR (some a5), vI v1]) Z.1 (w_X2_isGuard GA (some a5) v1) (Or.inl rfl) q2369 q75 (by decide) (by decide) dX1_place_5 hl.1 (Nat.le_of_ble_eq_true rfl) hf (ct_V hk ⟨by decide, by decide⟩ X (Or.inl rfl) q2369 q2366 q2367 q2368 hy_X2_isGuard np_X2_isGuard rfl dX1_place_5) (fun q h he hX => a_out (unc_of Z.2.1 rfl) Z.2.2.2.1 he hX) (fun x5 h hf => ?kk5)
  refine AW.eq (g2 := F0 m 8 ls [.int x5]) rfl ?_
  refine AW.lift2 (fun _ _ _ _ k1 k2 => lv_if_eq (pc := 8) (tgt := 26) X.2.2.1 X.2.2.2.1 dX1_place_8 rfl k1 k2) (fun c => ?_) (fun c => ?_)
  · have hf := ite_t c hf
    exact w_X1_place_j26 GA Z v0 v1 v2   (hl.sub [0, 1, 2] rfl) hf
  · have hf := ite_f c hf
    refine a_aload_n (pc := 11) X dX1_place_11 rfl hl 0 rfl ?_
    refine a_get (pc := 12) (φ := 200) pR_t X Z.1.2.1 (gw X.1 X.2.1 q309) (fun _ q => q) (by decide) dX1_place_12 hf (fun x12 hf => ?_)
    refine a_iload_n (pc := 15) X dX1_place_15 rfl hl 2 rfl ?_
    obtain ⟨a16, rfl, ⟨hk, hf⟩ | ⟨-, hf⟩⟩ := dv_some hf
    rotate_left
    · exact fl_none hf
    refine a_callb (pc := 16) (rs := []) (avs := [vR (some a16), vI v2]) Z.1 (w_X2_isMat GA (some a16) v2) (Or.inl rfl) q1809 q75 (by decide) (by decide) dX1_place_16 hl.1 (Nat.le_of_ble_eq_true rfl) hf (ct_V hk ⟨by decide, by decide⟩ X (Or.inl rfl) q1809 q1806 q1807 q1808 hy_X2_isMat np_X2_isMat rfl dX1_place_16) (fun q h he hX => a_out (unc_of Z.2.1 rfl) Z.2.2.2.1 he hX) (fun x16 h hf => ?kk16)
    refine AW.eq (g2 := F0 m 19 ls [.int x16]) rfl ?_
    refine AW.lift2 (fun _ _ _ _ k1 k2 => lv_if_eq (pc := 19) (tgt := 26) X.2.2.1 X.2.2.2.1 dX1_place_19 rfl k1 k2) (fun c => ?_) (fun c => ?_)
    · have hf := ite_t c hf
      exact w_X1_place_j26 GA Z v0 v1 v2   (hl.sub [0, 1, 2] rfl) hf
    · have hf := ite_f c hf
      refine AW.lift (fun _ _ _ _ k => lv_iconst (pc := 22) (v := (1 : Int32)) X.2.2.1 X.2.2.2.1 dX1_place_22 rfl k) ?_
      refine AW.lift (fun _ _ _ _ k => lv_goto (pc := 23) (tgt := 27) X.2.2.1 X.2.2.2.1 dX1_place_23 rfl k) ?_
      exact w_X1_place_j27 GA Z v0 v1 v2 (1 : Int32)  (hl.sub [0, 1, 2] rfl) hf
theorem np_X0_place : npar yX0_place.desc 4 := by unfold npar; decide +kernel
theorem hy_X0_place : yX0_place.cls ≠ "java/lang/invoke/MethodHandle" ∧ yX0_place.cls ≠ "java/lang/invoke/VarHandle" := by decide +kernel
theorem w_X0_place (GA : GA l s0 a0 K lam) (v0 : Option Nat) (v1 : Int32) (v2 : Int32) (v3 : Option Nat) : AMet l s0 K lam yX0_place (Cond.codeWith yX0_place cX0_place (5 : Nat) (Option.some ClassFile.FieldType.int) [((0 : Nat), (10 : Nat), (13 : Nat), (19 : Nat))]) 22 3370 [vR v0, vI v1, vI v2, vR v3] oI (f_X0_place K v0 v1 v2 v3) := by
  refine AMet.ofW GA.1 (plainFor_of_name (by decide +kernel)) (Nat.le_of_ble_eq_true rfl) ?_
  intro b r hf p e s m args below meth c X hr hlk hnm hnd ht ls hl
  have Z : WZ l s0 a0 K p s m c cX0_place yX0_place.cls 5 b { frames := 22, cells := K 0 - aX b, slots := K 1 - aW b, locals := 3370 } 22 3370 meth [(0, 10, 13, 19)] (some (.int)) yX0_place := ⟨⟨X, GA.2.1, GA.2.2.1, rfl, rfl, Nat.le_refl _, Nat.le_refl _⟩, ht, hr, hlk, hnm, hnd⟩
  unfold f_X0_place at hf
  clear hr hlk hnm hnd ht
  refine a_aload_n (pc := 0) X dX0_place_0 rfl hl 3 rfl ?_
  refine AW.lift (fun _ _ _ _ k => lv_iconst (pc := 1) (v := (0 : Int32)) X.2.2.1 X.2.2.2.1 dX0_place_1 rfl k) ?_
  refine a_aload_n (pc := 2) X dX0_place_2 rfl hl 0 rfl ?_
  refine a_iload_n (pc := 3) X dX0_place_3 rfl hl 1 rfl ?_
  refine a_iload_n (pc := 4) X dX0_place_4 rfl hl 2 rfl ?_
  obtain ⟨a5, rfl, ⟨hk, hf⟩ | ⟨-, hf⟩⟩ := dv_tsome hf
  rotate_left
  · exact fl_tnone hf
  refine a_callt (pc := 5) (rs := [vI (0 : Int32), vR v3]) (avs := [vR (some a5), vI v1, vI v2]) Z.1 (w_X1_place GA (some a5) v1 v2) (Or.inl rfl) q2365 q74 (by decide) (by decide) dX0_place_5 hl.1 (Nat.le_of_ble_eq_true rfl) hf (ct_V hk ⟨by decide, by decide⟩ X (Or.inl rfl) q2365 q2362 q2363 q2364 hy_X1_place np_X1_place rfl dX0_place_5) (fun q h hf hX => ?hx5) (fun x5 h hf => ?kk5)
  case hx5 =>
    rcases ctc_some hf with ⟨hy, hf⟩ | ⟨hn0, hf⟩
    · refine a_catchH (st := 0) (en := 10) (hp := 13) (ct := 19) (pre := []) (suf := []) X hX Z.2.1 rfl (fun z hz => nomatch hz) (by decide) (Or.inr ⟨by decide, _, gw X.1 X.2.1 q1786, (cs_X19 GA) _ hy⟩) (AW.eq (g2 := F0 m 13 ls [va_rf (some q)]) rfl ?_)
      refine a_astore (pc := 13) X dX0_place_13 hl (by decide) (lv' := [(4, vR (some q)), (0, vR (some a5)), (1, vI v1), (2, vI v2), (3, vR v3)]) rfl (fun ls hl => ?_)
      refine AW.lift (fun _ _ _ _ k => lv_iconst (pc := 15) (v := (1 : Int32)) X.2.2.1 X.2.2.2.1 dX0_place_15 rfl k) ?_
      exact a_ireturn X Z.2.2.1 Z.2.2.2.1 dX0_place_16 hf
    · skip
      exact a_outH X Z.2.1 (by intro z hz; simp only [List.mem_cons, List.not_mem_nil, or_false] at hz; rcases hz with rfl <;> first | exact Or.inl (by decide) | exact Or.inr ⟨by decide, _, gw X.1 X.2.1 q1786, (nc_12_13_14_16_17_18_20_21_java_lang_IndexOutOfBoundsException GA _ (by simpa using hn0)).2.2⟩) Z.2.2.2.1 (th_eq hf) hX
  refine AW.eq (g2 := F0 m 8 ls [.int x5, .int (0 : Int32), va_rf v3]) rfl ?_
  refine AW.lift (fun _ _ _ _ k => lv_i2l (pc := 8) X.2.2.1 X.2.2.2.1 dX0_place_8 rfl k) ?_
  refine a_lastore (pc := 9) X dX0_place_9 hf (fun h hf => ?_)
  refine AW.lift (fun _ _ _ _ k => lv_goto (pc := 10) (tgt := 17) X.2.2.1 X.2.2.2.1 dX0_place_10 rfl k) ?_
  refine AW.lift (fun _ _ _ _ k => lv_iconst (pc := 17) (v := (0 : Int32)) X.2.2.1 X.2.2.2.1 dX0_place_17 rfl k) ?_
  exact a_ireturn X Z.2.2.1 Z.2.2.2.1 dX0_place_18 hf
theorem np_X4_isGuard : npar yX4_isGuard.desc 1 := by unfold npar; decide +kernel
theorem hy_X4_isGuard : yX4_isGuard.cls ≠ "java/lang/invoke/MethodHandle" ∧ yX4_isGuard.cls ≠ "java/lang/invoke/VarHandle" := by decide +kernel
theorem w_X4_isGuard (GA : GA l s0 a0 K lam) (v0 : Option Nat) (v1 : Int32) : AMet l s0 K lam yX4_isGuard (Cond.code yX4_isGuard cX4_isGuard (2 : Nat) (Option.some ClassFile.FieldType.boolean)) 1 25 [vR v0, vI v1] oI (f_X4_isGuard K v0 v1) := by
  refine AMet.of GA.1 (plainFor_of_name (by decide +kernel)) (Nat.le_of_ble_eq_true rfl) ?_
  intro b r hf p e s m args below meth c X hr hlk hnm hnd ht ls hl
  have Z : WZ l s0 a0 K p s m c cX4_isGuard yX4_isGuard.cls 2 b { frames := 1, cells := K 0 - aX b, slots := K 1 - aW b, locals := 25 } 1 25 meth [] (some (.boolean)) yX4_isGuard := ⟨⟨X, GA.2.1, GA.2.2.1, rfl, rfl, Nat.le_refl _, Nat.le_refl _⟩, tab_nil ht, hr, hlk, hnm, hnd⟩
  unfold f_X4_isGuard at hf
  clear hr hlk hnm hnd ht
  refine a_iload_n (pc := 0) X dX4_isGuard_0 rfl hl 1 rfl ?_
  refine AW.lift (fun _ _ _ _ k => lv_i2l (pc := 1) X.2.2.1 X.2.2.2.1 dX4_isGuard_1 rfl k) ?_
  refine AW.lift (fun _ _ _ _ k => lv_lconst (pc := 2) (v := (0 : Int64)) X.2.2.1 X.2.2.2.1 dX4_isGuard_2 rfl k) ?_
  refine a_aload_n (pc := 3) X dX4_isGuard_3 rfl hl 0 rfl ?_
  refine a_get (pc := 4) (φ := 100) pR_t X Z.1.2.1 (gw X.1 X.2.1 q3025) (fun _ q => q) (by decide) dX4_isGuard_4 hf (fun x4 hf => ?_)
  refine AW.lift (fun _ _ _ _ k => lv_iconst (pc := 7) (v := (3 : Int32)) X.2.2.1 X.2.2.2.1 dX4_isGuard_7 rfl k) ?_
  refine a_iaload (pc := 8) X dX4_isGuard_8 hf (fun x8 hf => ?_)
  refine AW.lift (fun _ _ _ _ k => lv_iconst (pc := 9) (v := (1 : Int32)) X.2.2.1 X.2.2.2.1 dX4_isGuard_9 rfl k) ?_
  refine AW.lift (fun _ _ _ _ k => lv_isub (pc := 10) X.2.2.1 X.2.2.2.1 dX4_isGuard_10 k) ?_
  refine AW.lift (fun _ _ _ _ k => lv_i2l (pc := 11) X.2.2.1 X.2.2.2.1 dX4_isGuard_11 rfl k) ?_
  refine a_callb (pc := 12) (rs := []) (avs := [vJ (v1.toInt64), vJ (0 : Int64), vJ ((x8 - (1 : Int32)).toInt64)]) Z.1 (w_X4_in GA (v1.toInt64) (0 : Int64) ((x8 - (1 : Int32)).toInt64)) (Or.inl rfl) q3142 q86 (by decide) (by decide) dX4_isGuard_12 hl.1 (Nat.le_of_ble_eq_true rfl) hf (ct_S X (Or.inl rfl) q3142 q86 q3140 q3141 hy_X4_in np_X4_in rfl dX4_isGuard_12) (fun q h he hX => a_out (unc_of Z.2.1 rfl) Z.2.2.2.1 he hX) (fun x12 h hf => ?kk12)
  refine AW.eq (g2 := F0 m 15 ls [.int x12]) rfl ?_
  obtain ⟨hg, hf⟩ := chk_some hf
  exact a_zreturn X Z.2.2.1 hg Z.2.2.2.1 dX4_isGuard_15 hf
theorem w_X4_placeIt_j16 {r : Except Nat (Int32) × AH} (GA : GA l s0 a0 K lam) (Z : WZ l s0 a0 K p s m c cX4_placeIt yX4_placeIt.cls 4 b R 2 46 meth [] (some (.int)) yX4_placeIt) (v0 : Option Nat)   {h : AH} {ls : Array Slot} (hl : LV ls 4 [(0, vR v0)]) (hf : f_X4_placeIt_j16 K v0 h = some r) : AW s0 K lam p l e R s m args below meth c (AQ s0 K lam below oI b r s) b h (F0 m 16 ls []) := by
  unfold f_X4_placeIt_j16 at hf
  have X := Z.1.1
  refine a_aload_n (pc := 16) X dX4_placeIt_16 rfl hl 0 rfl ?_
  refine AW.lift (fun _ _ _ _ k => lv_iconst (pc := 17) (v := (1 : Int32)) X.2.2.1 X.2.2.2.1 dX4_placeIt_17 rfl k) ?_
  obtain ⟨a18, rfl, ⟨hk, hf⟩ | ⟨-, hf⟩⟩ := dv_some hf
  rotate_left
  · exact fl_none hf
  refine a_callb (pc := 18) (rs := []) (avs := [vR (some a18), vI (1 : Int32)]) Z.1 (w_X4_throwing GA (some a18) (1 : Int32)) (Or.inl rfl) q3120 q86 (by decide) (by decide) dX4_placeIt_18 hl.1 (Nat.le_of_ble_eq_true rfl) hf (ct_V hk ⟨by decide, by decide⟩ X (Or.inl rfl) q3120 q3117 q3119 pv_30 hy_X4_throwing np_X4_throwing rfl dX4_placeIt_18) (fun q h he hX => a_out (unc_of Z.2.1 rfl) Z.2.2.2.1 he hX) (fun x18 h hf => ?kk18)
  refine AW.eq (g2 := F0 m 21 ls [.int x18]) rfl ?_
  exact a_ireturn X Z.2.2.1 Z.2.2.2.1 dX4_placeIt_21 hf
theorem w_X4_placeIt_j44 {r : Except Nat (Int32) × AH} (GA : GA l s0 a0 K lam) (Z : WZ l s0 a0 K p s m c cX4_placeIt yX4_placeIt.cls 4 b R 2 46 meth [] (some (.int)) yX4_placeIt) (v0 : Option Nat) (v1 : Int32) (v2 : Int32) (v3 : Int32)   {h : AH} {ls : Array Slot} (hl : LV ls 4 [(0, vR v0), (1, vI v1), (2, vI v2), (3, vI v3)]) (hf : f_X4_placeIt_j44 K v0 v1 v2 v3 h = some r) : AW s0 K lam p l e R s m args below meth c (AQ s0 K lam below oI b r s) b h (F0 m 44 ls []) := by
  unfold f_X4_placeIt_j44 at hf
  have X := Z.1.1
  refine a_aload_n (pc := 44) X dX4_placeIt_44 rfl hl 0 rfl ?_
  refine a_get (pc := 45) (φ := 100) pR_t X Z.1.2.1 (gw X.1 X.2.1 q3025) (fun _ q => q) (by decide) dX4_placeIt_45 hf (fun x45 hf => ?_)
  refine AW.lift (fun _ _ _ _ k => lv_sipush (pc := 48) (v := (182 : Int32)) X.2.2.1 X.2.2.2.1 dX4_placeIt_48 rfl k) ?_
  refine a_iload_n (pc := 51) X dX4_placeIt_51 rfl hl 1 rfl ?_
  refine AW.lift (fun _ _ _ _ k => lv_iadd (pc := 52) X.2.2.1 X.2.2.2.1 dX4_placeIt_52 k) ?_
  refine a_iload_n (pc := 53) X dX4_placeIt_53 rfl hl 2 rfl ?_
  refine a_iastore (pc := 54) X dX4_placeIt_54 hf (fun h hf => ?_)
  refine a_iload_n (pc := 55) X dX4_placeIt_55 rfl hl 3 rfl ?_
  exact a_ireturn X Z.2.2.1 Z.2.2.2.1 dX4_placeIt_56 hf
theorem np_X4_placeIt : npar yX4_placeIt.desc 2 := by unfold npar; decide +kernel
theorem hy_X4_placeIt : yX4_placeIt.cls ≠ "java/lang/invoke/MethodHandle" ∧ yX4_placeIt.cls ≠ "java/lang/invoke/VarHandle" := by decide +kernel
theorem w_X4_placeIt (GA : GA l s0 a0 K lam) (v0 : Option Nat) (v1 : Int32) (v2 : Int32) : AMet l s0 K lam yX4_placeIt (Cond.code yX4_placeIt cX4_placeIt (4 : Nat) (Option.some ClassFile.FieldType.int)) 2 46 [vR v0, vI v1, vI v2] oI (f_X4_placeIt K v0 v1 v2) := by
  refine AMet.of GA.1 (plainFor_of_name (by decide +kernel)) (Nat.le_of_ble_eq_true rfl) ?_
  intro b r hf p e s m args below meth c X hr hlk hnm hnd ht ls hl
  have Z : WZ l s0 a0 K p s m c cX4_placeIt yX4_placeIt.cls 4 b { frames := 2, cells := K 0 - aX b, slots := K 1 - aW b, locals := 46 } 2 46 meth [] (some (.int)) yX4_placeIt := ⟨⟨X, GA.2.1, GA.2.2.1, rfl, rfl, Nat.le_refl _, Nat.le_refl _⟩, tab_nil ht, hr, hlk, hnm, hnd⟩
  unfold f_X4_placeIt at hf
  clear hr hlk hnm hnd ht
  refine a_aload_n (pc := 0) X dX4_placeIt_0 rfl hl 0 rfl ?_
  refine a_iload_n (pc := 1) X dX4_placeIt_1 rfl hl 1 rfl ?_
  obtain ⟨a2, rfl, ⟨hk, hf⟩ | ⟨-, hf⟩⟩ := dv_some hf
  rotate_left
  · exact fl_none hf
  refine a_callb (pc := 2) (rs := []) (avs := [vR (some a2), vI v1]) Z.1 (w_X4_isGuard GA (some a2) v1) (Or.inl rfl) q3299 q86 (by decide) (by decide) dX4_placeIt_2 hl.1 (Nat.le_of_ble_eq_true rfl) hf (ct_V hk ⟨by decide, by decide⟩ X (Or.inl rfl) q3299 q3296 q3298 pv_52 hy_X4_isGuard np_X4_isGuard rfl dX4_placeIt_2) (fun q h he hX => a_out (unc_of Z.2.1 rfl) Z.2.2.2.1 he hX) (fun x2 h hf => ?kk2)
  refine AW.eq (g2 := F0 m 5 ls [.int x2]) rfl ?_
  refine AW.lift2 (fun _ _ _ _ k1 k2 => lv_if_eq (pc := 5) (tgt := 16) X.2.2.1 X.2.2.2.1 dX4_placeIt_5 rfl k1 k2) (fun c => ?_) (fun c => ?_)
  · have hf := ite_t c hf
    exact w_X4_placeIt_j16 GA Z (some a2)   (hl.sub [0] rfl) hf
  · have hf := ite_f c hf
    refine a_aload_n (pc := 8) X dX4_placeIt_8 rfl hl 0 rfl ?_
    refine a_iload_n (pc := 9) X dX4_placeIt_9 rfl hl 2 rfl ?_
    rcases dv_someS hf with ⟨hk, hf⟩ | ⟨-, hf⟩
    rotate_left
    · exact fl_none hf
    refine a_callb (pc := 10) (rs := []) (avs := [vR (some a2), vI v2]) Z.1 (w_X4_isMat GA (some a2) v2) (Or.inl rfl) q3139 q86 (by decide) (by decide) dX4_placeIt_10 hl.1 (Nat.le_of_ble_eq_true rfl) hf (ct_V hk ⟨by decide, by decide⟩ X (Or.inl rfl) q3139 q3136 q3138 pv_33 hy_X4_isMat np_X4_isMat rfl dX4_placeIt_10) (fun q h he hX => a_out (unc_of Z.2.1 rfl) Z.2.2.2.1 he hX) (fun x10 h hf => ?kk10)
    refine AW.eq (g2 := F0 m 13 ls [.int x10]) rfl ?_
    refine AW.lift2 (fun _ _ _ _ k1 k2 => lv_if_ne (pc := 13) (tgt := 22) X.2.2.1 X.2.2.2.1 dX4_placeIt_13 rfl k2 k1) (fun c => ?_) (fun c => ?_)
    · have hf := ite_t c hf
      exact w_X4_placeIt_j16 GA Z (some a2)   (hl.sub [0] rfl) hf
    · have hf := ite_f c hf
      refine a_aload_n (pc := 22) X dX4_placeIt_22 rfl hl 0 rfl ?_
      refine a_iload_n (pc := 23) X dX4_placeIt_23 rfl hl 2 rfl ?_
      rcases dv_someS hf with ⟨hk, hf⟩ | ⟨-, hf⟩
      rotate_left
      · exact fl_none hf
      refine a_callb (pc := 24) (rs := []) (avs := [vR (some a2), vI v2]) Z.1 (w_X4_guardAt GA (some a2) v2) (Or.inl rfl) q3186 q86 (by decide) (by decide) dX4_placeIt_24 hl.1 (Nat.le_of_ble_eq_true rfl) hf (ct_V hk ⟨by decide, by decide⟩ X (Or.inl rfl) q3186 q3183 q3185 pv_41 hy_X4_guardAt np_X4_guardAt rfl dX4_placeIt_24) (fun q h he hX => a_out (unc_of Z.2.1 rfl) Z.2.2.2.1 he hX) (fun x24 h hf => ?kk24)
      refine AW.eq (g2 := F0 m 27 ls [.int x24]) rfl ?_
      refine a_istore_n (pc := 27) X dX4_placeIt_27 rfl hl (by decide) (lv' := [(3, vI x24), (0, vR (some a2)), (1, vI v1), (2, vI v2)]) rfl (fun ls hl => ?_)
      refine a_iload_n (pc := 28) X dX4_placeIt_28 rfl hl 0 rfl ?_
      refine AW.lift (fun _ _ _ _ k => lv_iconst (pc := 29) (v := (-1 : Int32)) X.2.2.1 X.2.2.2.1 dX4_placeIt_29 rfl k) ?_
      refine AW.lift2 (fun _ _ _ _ k1 k2 => lv_icmp_eq (pc := 30) (tgt := 44) X.2.2.1 X.2.2.2.1 dX4_placeIt_30 rfl k1 k2) (fun c => ?_) (fun c => ?_)
      · have hf := ite_t c hf
        exact w_X4_placeIt_j44 GA Z (some a2) v1 v2 x24   (hl.sub [1, 2, 3, 0] rfl) hf
      · have hf := ite_f c hf
        refine a_aload_n (pc := 33) X dX4_placeIt_33 rfl hl 1 rfl ?_
        refine a_get (pc := 34) (φ := 100) pR_t X Z.1.2.1 (gw X.1 X.2.1 q3025) (fun _ q => q) (by decide) dX4_placeIt_34 hf (fun x34 hf => ?_)
        refine AW.lift (fun _ _ _ _ k => lv_sipush (pc := 37) (v := (182 : Int32)) X.2.2.1 X.2.2.2.1 dX4_placeIt_37 rfl k) ?_
        refine a_iload_n (pc := 40) X dX4_placeIt_40 rfl hl 0 rfl ?_
        refine AW.lift (fun _ _ _ _ k => lv_iadd (pc := 41) X.2.2.1 X.2.2.2.1 dX4_placeIt_41 k) ?_
        refine AW.lift (fun _ _ _ _ k => lv_iconst (pc := 42) (v := (-1 : Int32)) X.2.2.1 X.2.2.2.1 dX4_placeIt_42 rfl k) ?_
        refine a_iastore (pc := 43) X dX4_placeIt_43 hf (fun h hf => ?_)
        exact w_X4_placeIt_j44 GA Z (some a2) v1 v2 x24   (hl.sub [1, 2, 3, 0] rfl) hf
theorem np_X4_place : npar yX4_place.desc 2 := by unfold npar; decide +kernel
theorem hy_X4_place : yX4_place.cls ≠ "java/lang/invoke/MethodHandle" ∧ yX4_place.cls ≠ "java/lang/invoke/VarHandle" := by decide +kernel
theorem w_X4_place (GA : GA l s0 a0 K lam) (v0 : Option Nat) (v1 : Int32) (v2 : Int32) : AMet l s0 K lam yX4_place (Cond.code yX4_place cX4_place (3 : Nat) (Option.some ClassFile.FieldType.int)) 3 69 [vR v0, vI v1, vI v2] oI (f_X4_place K v0 v1 v2) := by
  refine AMet.of GA.1 (plainFor_of_name (by decide +kernel)) (Nat.le_of_ble_eq_true rfl) ?_
  intro b r hf p e s m args below meth c X hr hlk hnm hnd ht ls hl
  have Z : WZ l s0 a0 K p s m c cX4_place yX4_place.cls 3 b { frames := 3, cells := K 0 - aX b, slots := K 1 - aW b, locals := 69 } 3 69 meth [] (some (.int)) yX4_place := ⟨⟨X, GA.2.1, GA.2.2.1, rfl, rfl, Nat.le_refl _, Nat.le_refl _⟩, tab_nil ht, hr, hlk, hnm, hnd⟩
  unfold f_X4_place at hf
  clear hr hlk hnm hnd ht
  refine a_aload_n (pc := 0) X dX4_place_0 rfl hl 0 rfl ?_
  obtain ⟨a1, rfl, ⟨hk, hf⟩ | ⟨-, hf⟩⟩ := dv_some hf
  rotate_left
  · exact fl_none hf
  refine a_callb (pc := 1) (rs := []) (avs := [vR (some a1)]) Z.1 (w_X4_layAside GA (some a1)) (Or.inl rfl) q3112 q86 (by decide) (by decide) dX4_place_1 hl.1 (Nat.le_of_ble_eq_true rfl) hf (ct_V hk ⟨by decide, by decide⟩ X (Or.inl rfl) q3112 q3109 q3111 pv_28 hy_X4_layAside np_X4_layAside rfl dX4_place_1) (fun q h he hX => a_out (unc_of Z.2.1 rfl) Z.2.2.2.1 he hX) (fun _ h hf => ?kk1)
  refine AW.eq (g2 := F0 m 4 ls []) rfl ?_
  refine a_aload_n (pc := 4) X dX4_place_4 rfl hl 0 rfl ?_
  refine a_aload_n (pc := 5) X dX4_place_5 rfl hl 0 rfl ?_
  refine a_iload_n (pc := 6) X dX4_place_6 rfl hl 1 rfl ?_
  refine a_iload_n (pc := 7) X dX4_place_7 rfl hl 2 rfl ?_
  rcases dv_someS hf with ⟨hk, hf⟩ | ⟨-, hf⟩
  rotate_left
  · exact fl_none hf
  refine a_callb (pc := 8) (rs := [vR (some a1)]) (avs := [vR (some a1), vI v1, vI v2]) Z.1 (w_X4_placeIt GA (some a1) v1 v2) (Or.inl rfl) q3295 q86 (by decide) (by decide) dX4_place_8 hl.1 (Nat.le_of_ble_eq_true rfl) hf (ct_V hk ⟨by decide, by decide⟩ X (Or.inl rfl) q3295 q3292 q3294 pv_51 hy_X4_placeIt np_X4_placeIt rfl dX4_place_8) (fun q h he hX => a_out (unc_of Z.2.1 rfl) Z.2.2.2.1 he hX) (fun x8 h hf => ?kk8)
  refine AW.eq (g2 := F0 m 11 ls [.int x8, va_rf (some a1)]) rfl ?_
  rcases dv_someS hf with ⟨hk, hf⟩ | ⟨-, hf⟩
  rotate_left
  · exact fl_none hf
  refine a_callb (pc := 11) (rs := []) (avs := [vR (some a1), vI x8]) Z.1 (w_X4_changed GA (some a1) x8) (Or.inl rfl) q3127 q86 (by decide) (by decide) dX4_place_11 hl.1 (Nat.le_of_ble_eq_true rfl) hf (ct_V hk ⟨by decide, by decide⟩ X (Or.inl rfl) q3127 q3124 q3126 pv_31 hy_X4_changed np_X4_changed rfl dX4_place_11) (fun q h he hX => a_out (unc_of Z.2.1 rfl) Z.2.2.2.1 he hX) (fun x11 h hf => ?kk11)
  refine AW.eq (g2 := F0 m 14 ls [.int x11]) rfl ?_
  exact a_ireturn X Z.2.2.1 Z.2.2.2.1 dX4_place_14 hf
theorem w_X1_at_j39 {r : Except Nat (Int32) × AH} (GA : GA l s0 a0 K lam) (Z : WZ l s0 a0 K p s m c cX1_at yX1_at.cls 3 b R 9 420 meth [] (some (.int)) yX1_at) (v2 : Int32) (t0 : Int32)  {h : AH} {ls : Array Slot} (hl : LV ls 3 [(2, vI v2)]) (hf : f_X1_at_j39 K v2 t0 h = some r) : AW s0 K lam p l e R s m args below meth c (AQ s0 K lam below oI b r s) b h (F0 m 39 ls [.int t0]) := by
  unfold f_X1_at_j39 at hf
  have X := Z.1.1
  refine a_callb (pc := 39) (rs := []) (avs := [vI t0]) Z.1 (w_X1_checkElement GA t0) (Or.inl rfl) q1968 q74 (by decide) (by decide) dX1_at_39 hl.1 (Nat.le_of_ble_eq_true rfl) hf (ct_S X (Or.inl rfl) q1968 q74 q1966 q1967 hy_X1_checkElement np_X1_checkElement rfl dX1_at_39) (fun q h he hX => a_out (unc_of Z.2.1 rfl) Z.2.2.2.1 he hX) (fun _ h hf => ?kk39)
  refine AW.eq (g2 := F0 m 42 ls []) rfl ?_
  refine a_iload_n (pc := 42) X dX1_at_42 rfl hl 0 rfl ?_
  exact a_ireturn X Z.2.2.1 Z.2.2.2.1 dX1_at_43 hf
theorem np_X1_at : npar yX1_at.desc 1 := by unfold npar; decide +kernel
theorem hy_X1_at : yX1_at.cls ≠ "java/lang/invoke/MethodHandle" ∧ yX1_at.cls ≠ "java/lang/invoke/VarHandle" := by decide +kernel
theorem w_X1_at (GA : GA l s0 a0 K lam) (v0 : Option Nat) (v1 : Int32) : AMet l s0 K lam yX1_at (Cond.code yX1_at cX1_at (3 : Nat) (Option.some ClassFile.FieldType.int)) 9 420 [vR v0, vI v1] oI (f_X1_at K v0 v1) := by
  refine AMet.of GA.1 (plainFor_of_name (by decide +kernel)) (Nat.le_of_ble_eq_true rfl) ?_
  intro b r hf p e s m args below meth c X hr hlk hnm hnd ht ls hl
  have Z : WZ l s0 a0 K p s m c cX1_at yX1_at.cls 3 b { frames := 9, cells := K 0 - aX b, slots := K 1 - aW b, locals := 420 } 9 420 meth [] (some (.int)) yX1_at := ⟨⟨X, GA.2.1, GA.2.2.1, rfl, rfl, Nat.le_refl _, Nat.le_refl _⟩, tab_nil ht, hr, hlk, hnm, hnd⟩
  unfold f_X1_at at hf
  clear hr hlk hnm hnd ht
  refine a_aload_n (pc := 0) X dX1_at_0 rfl hl 0 rfl ?_
  refine a_get (pc := 1) (φ := 200) pR_t X Z.1.2.1 (gw X.1 X.2.1 q309) (fun _ q => q) (by decide) dX1_at_1 hf (fun x1 hf => ?_)
  refine a_iload_n (pc := 4) X dX1_at_4 rfl hl 1 rfl ?_
  obtain ⟨a5, rfl, ⟨hk, hf⟩ | ⟨-, hf⟩⟩ := dv_some hf
  rotate_left
  · exact fl_none hf
  refine a_callb (pc := 5) (rs := []) (avs := [vR (some a5), vI v1]) Z.1 (w_X2_isGuard GA (some a5) v1) (Or.inl rfl) q2369 q75 (by decide) (by decide) dX1_at_5 hl.1 (Nat.le_of_ble_eq_true rfl) hf (ct_V hk ⟨by decide, by decide⟩ X (Or.inl rfl) q2369 q2366 q2367 q2368 hy_X2_isGuard np_X2_isGuard rfl dX1_at_5) (fun q h he hX => a_out (unc_of Z.2.1 rfl) Z.2.2.2.1 he hX) (fun x5 h hf => ?kk5)
  refine AW.eq (g2 := F0 m 8 ls [.int x5]) rfl ?_
  refine a_callb (pc := 8) (rs := []) (avs := [vI x5]) Z.1 (w_X1_checkIndex GA x5) (Or.inl rfl) q1816 q74 (by decide) (by decide) dX1_at_8 hl.1 (Nat.le_of_ble_eq_true rfl) hf (ct_S X (Or.inl rfl) q1816 q74 q1814 q1815 hy_X1_checkIndex np_X1_checkIndex rfl dX1_at_8) (fun q h he hX => a_out (unc_of Z.2.1 rfl) Z.2.2.2.1 he hX) (fun _ h hf => ?kk8)
  refine AW.eq (g2 := F0 m 11 ls []) rfl ?_
  refine a_aload_n (pc := 11) X dX1_at_11 rfl hl 0 rfl ?_
  refine a_get (pc := 12) (φ := 200) pR_t X Z.1.2.1 (gw X.1 X.2.1 q309) (fun _ q => q) (by decide) dX1_at_12 hf (fun x12 hf => ?_)
  refine a_getN (pc := 15) (φ := 303) pR_t X Z.1.2.1 (gnF X.1 X.2.1 q235) (fun _ q => q) (by decide) dX1_at_15 hf (fun x15 hf => ?_)
  refine a_iload_n (pc := 18) X dX1_at_18 rfl hl 1 rfl ?_
  obtain ⟨a19, rfl, ⟨hk, hf⟩ | ⟨-, hf⟩⟩ := dv_some hf
  rotate_left
  · exact fl_none hf
  refine a_callb (pc := 19) (rs := []) (avs := [vR (some a19), vI v1]) Z.1 (w_J2_get GA (some a19) v1) (Or.inl rfl) q505 q78 (by decide) (by decide) dX1_at_19 hl.1 (Nat.le_of_ble_eq_true rfl) hf (ct_V hk ⟨by decide, by decide⟩ X (Or.inl rfl) q505 q1862 q503 q3487 hy_J2_get np_J2_get rfl dX1_at_19) (fun q h he hX => a_out (unc_of Z.2.1 rfl) Z.2.2.2.1 he hX) (fun x19 h hf => ?kk19)
  refine AW.eq (g2 := F0 m 22 ls [va_rf x19]) rfl ?_
  refine a_checkcast (pc := 22) X (gw X.1 X.2.1 q2388) (cs_java_lang_Integer GA) dX1_at_22 hf (fun hf => ?_)
  obtain ⟨a25, rfl, ⟨hk, hf⟩ | ⟨-, hf⟩⟩ := dv_some hf
  rotate_left
  · exact fl_none hf
  refine a_callb (pc := 25) (rs := []) (avs := [vR (some a25)]) Z.1 (w_J23_intValue GA (some a25)) (Or.inl rfl) q1625 q105 (by decide) (by decide) dX1_at_25 hl.1 (Nat.le_of_ble_eq_true rfl) hf (ct_V hk ⟨by decide, by decide⟩ X (Or.inl rfl) q1625 q2389 q1623 q1624 hy_J23_intValue np_J23_intValue rfl dX1_at_25) (fun q h he hX => a_out (unc_of Z.2.1 rfl) Z.2.2.2.1 he hX) (fun x25 h hf => ?kk25)
  refine AW.eq (g2 := F0 m 28 ls [.int x25]) rfl ?_
  refine a_istore_n (pc := 28) X dX1_at_28 rfl hl (by decide) (lv' := [(2, vI x25), (0, vR v0), (1, vI v1)]) rfl (fun ls hl => ?_)
  refine a_iload_n (pc := 29) X dX1_at_29 rfl hl 0 rfl ?_
  refine AW.lift (fun _ _ _ _ k => lv_iconst (pc := 30) (v := (-1 : Int32)) X.2.2.1 X.2.2.2.1 dX1_at_30 rfl k) ?_
  refine AW.lift2 (fun _ _ _ _ k1 k2 => lv_icmp_eq (pc := 31) (tgt := 38) X.2.2.1 X.2.2.2.1 dX1_at_31 rfl k1 k2) (fun c => ?_) (fun c => ?_)
  · have hf := ite_t c hf
    refine AW.lift (fun _ _ _ _ k => lv_iconst (pc := 38) (v := (0 : Int32)) X.2.2.1 X.2.2.2.1 dX1_at_38 rfl k) ?_
    exact w_X1_at_j39 GA Z x25 (0 : Int32)  (hl.sub [0] rfl) hf
  · have hf := ite_f c hf
    refine AW.lift (fun _ _ _ _ k => lv_iconst (pc := 34) (v := (1 : Int32)) X.2.2.1 X.2.2.2.1 dX1_at_34 rfl k) ?_
    refine AW.lift (fun _ _ _ _ k => lv_goto (pc := 35) (tgt := 39) X.2.2.1 X.2.2.2.1 dX1_at_35 rfl k) ?_
    exact w_X1_at_j39 GA Z x25 (1 : Int32)  (hl.sub [0] rfl) hf
theorem np_X0_at : npar yX0_at.desc 3 := by unfold npar; decide +kernel
theorem hy_X0_at : yX0_at.cls ≠ "java/lang/invoke/MethodHandle" ∧ yX0_at.cls ≠ "java/lang/invoke/VarHandle" := by decide +kernel
theorem w_X0_at (GA : GA l s0 a0 K lam) (v0 : Option Nat) (v1 : Int32) (v2 : Option Nat) : AMet l s0 K lam yX0_at (Cond.codeWith yX0_at cX0_at (4 : Nat) (Option.some ClassFile.FieldType.int) [((0 : Nat), (9 : Nat), (12 : Nat), (19 : Nat)), ((0 : Nat), (9 : Nat), (15 : Nat), (39 : Nat))]) 10 442 [vR v0, vI v1, vR v2] oI (f_X0_at K v0 v1 v2) := by
  refine AMet.ofW GA.1 (plainFor_of_name (by decide +kernel)) (Nat.le_of_ble_eq_true rfl) ?_
  intro b r hf p e s m args below meth c X hr hlk hnm hnd ht ls hl
  have Z : WZ l s0 a0 K p s m c cX0_at yX0_at.cls 4 b { frames := 10, cells := K 0 - aX b, slots := K 1 - aW b, locals := 442 } 10 442 meth [(0, 9, 12, 19), (0, 9, 15, 39)] (some (.int)) yX0_at := ⟨⟨X, GA.2.1, GA.2.2.1, rfl, rfl, Nat.le_refl _, Nat.le_refl _⟩, ht, hr, hlk, hnm, hnd⟩
  unfold f_X0_at at hf
  clear hr hlk hnm hnd ht
  refine a_aload_n (pc := 0) X dX0_at_0 rfl hl 2 rfl ?_
  refine AW.lift (fun _ _ _ _ k => lv_iconst (pc := 1) (v := (0 : Int32)) X.2.2.1 X.2.2.2.1 dX0_at_1 rfl k) ?_
  refine a_aload_n (pc := 2) X dX0_at_2 rfl hl 0 rfl ?_
  refine a_iload_n (pc := 3) X dX0_at_3 rfl hl 1 rfl ?_
  obtain ⟨a4, rfl, ⟨hk, hf⟩ | ⟨-, hf⟩⟩ := dv_tsome hf
  rotate_left
  · exact fl_tnone hf
  refine a_callt (pc := 4) (rs := [vI (0 : Int32), vR v2]) (avs := [vR (some a4), vI v1]) Z.1 (w_X1_at GA (some a4) v1) (Or.inl rfl) q2387 q74 (by decide) (by decide) dX0_at_4 hl.1 (Nat.le_of_ble_eq_true rfl) hf (ct_V hk ⟨by decide, by decide⟩ X (Or.inl rfl) q2387 q2384 q2385 q2386 hy_X1_at np_X1_at rfl dX0_at_4) (fun q h hf hX => ?hx4) (fun x4 h hf => ?kk4)
  case hx4 =>
    rcases ctc_some hf with ⟨hy, hf⟩ | ⟨hn0, hf⟩
    · refine a_catchH (st := 0) (en := 9) (hp := 12) (ct := 19) (pre := []) (suf := [(0, 9, 15, 39)]) X hX Z.2.1 rfl (fun z hz => nomatch hz) (by decide) (Or.inr ⟨by decide, _, gw X.1 X.2.1 q1786, (cs_X19 GA) _ hy⟩) (AW.eq (g2 := F0 m 12 ls [va_rf (some q)]) rfl ?_)
      refine a_astore_n (pc := 12) X dX0_at_12 rfl hl (by decide) (lv' := [(3, vR (some q)), (0, vR (some a4)), (1, vI v1), (2, vR v2)]) rfl (fun ls hl => ?_)
      refine AW.lift (fun _ _ _ _ k => lv_iconst (pc := 13) (v := (1 : Int32)) X.2.2.1 X.2.2.2.1 dX0_at_13 rfl k) ?_
      exact a_ireturn X Z.2.2.1 Z.2.2.2.1 dX0_at_14 hf
    · skip
      rcases ctc_some hf with ⟨hy, hf⟩ | ⟨hn1, hf⟩
      · refine a_catchH (st := 0) (en := 9) (hp := 15) (ct := 39) (pre := [(0, 9, 12, 19)]) (suf := []) X hX Z.2.1 rfl (by intro z hz; simp only [List.mem_cons, List.not_mem_nil, or_false] at hz; rcases hz with rfl <;> first | exact Or.inl (by decide) | exact Or.inr ⟨by decide, _, gw X.1 X.2.1 q1786, (nc_12_13_14_16_17_18_20_21_java_lang_IndexOutOfBoundsException GA _ (by simpa using hn0)).2.2⟩) (by decide) (Or.inr ⟨by decide, _, gw X.1 X.2.1 q1961, (cs_X20 GA) _ hy⟩) (AW.eq (g2 := F0 m 15 ls [va_rf (some q)]) rfl ?_)
        refine a_astore_n (pc := 15) X dX0_at_15 rfl hl (by decide) (lv' := [(3, vR (some q)), (0, vR (some a4)), (1, vI v1), (2, vR v2)]) rfl (fun ls hl => ?_)
        refine AW.lift (fun _ _ _ _ k => lv_iconst (pc := 16) (v := (2 : Int32)) X.2.2.1 X.2.2.2.1 dX0_at_16 rfl k) ?_
        exact a_ireturn X Z.2.2.1 Z.2.2.2.1 dX0_at_17 hf
      · skip
        exact a_outH X Z.2.1 (by intro z hz; simp only [List.mem_cons, List.not_mem_nil, or_false] at hz; rcases hz with rfl | rfl <;> first | exact Or.inl (by decide) | exact Or.inr ⟨by decide, _, gw X.1 X.2.1 q1786, (nc_12_13_14_16_17_18_20_21_java_lang_IndexOutOfBoundsException GA _ (by simpa using hn0)).2.2⟩ | exact Or.inr ⟨by decide, _, gw X.1 X.2.1 q1961, (nc_12_13_14_16_17_18_19_21_java_util_NoSuchElementException GA _ (by simpa using hn1)).2.2⟩) Z.2.2.2.1 (th_eq hf) hX
  refine AW.eq (g2 := F0 m 7 ls [.int x4, .int (0 : Int32), va_rf v2]) rfl ?_
  refine AW.lift (fun _ _ _ _ k => lv_i2l (pc := 7) X.2.2.1 X.2.2.2.1 dX0_at_7 rfl k) ?_
  refine a_lastore (pc := 8) X dX0_at_8 hf (fun h hf => ?_)
  refine AW.lift (fun _ _ _ _ k => lv_goto (pc := 9) (tgt := 18) X.2.2.1 X.2.2.2.1 dX0_at_9 rfl k) ?_
  refine AW.lift (fun _ _ _ _ k => lv_iconst (pc := 18) (v := (0 : Int32)) X.2.2.1 X.2.2.2.1 dX0_at_18 rfl k) ?_
  exact a_ireturn X Z.2.2.1 Z.2.2.2.1 dX0_at_19 hf
theorem np_X4_at : npar yX4_at.desc 1 := by unfold npar; decide +kernel
theorem hy_X4_at : yX4_at.cls ≠ "java/lang/invoke/MethodHandle" ∧ yX4_at.cls ≠ "java/lang/invoke/VarHandle" := by decide +kernel
theorem w_X4_at (GA : GA l s0 a0 K lam) (v0 : Option Nat) (v1 : Int32) : AMet l s0 K lam yX4_at (Cond.code yX4_at cX4_at (2 : Nat) (Option.some ClassFile.FieldType.int)) 2 46 [vR v0, vI v1] oI (f_X4_at K v0 v1) := by
  refine AMet.of GA.1 (plainFor_of_name (by decide +kernel)) (Nat.le_of_ble_eq_true rfl) ?_
  intro b r hf p e s m args below meth c X hr hlk hnm hnd ht ls hl
  have Z : WZ l s0 a0 K p s m c cX4_at yX4_at.cls 2 b { frames := 2, cells := K 0 - aX b, slots := K 1 - aW b, locals := 46 } 2 46 meth [] (some (.int)) yX4_at := ⟨⟨X, GA.2.1, GA.2.2.1, rfl, rfl, Nat.le_refl _, Nat.le_refl _⟩, tab_nil ht, hr, hlk, hnm, hnd⟩
  unfold f_X4_at at hf
  clear hr hlk hnm hnd ht
  refine a_aload_n (pc := 0) X dX4_at_0 rfl hl 0 rfl ?_
  refine AW.lift (fun _ _ _ _ k => lv_iconst (pc := 1) (v := (0 : Int32)) X.2.2.1 X.2.2.2.1 dX4_at_1 rfl k) ?_
  refine a_put (pc := 2) (φ := 107) X Z.1.2.1 Z.1.2.2.1 (gw X.1 X.2.1 q3032) (fun _ q => q) (by decide) rfl rfl dX4_at_2 hf (fun h hf => ?_)
  refine a_aload_n (pc := 5) X dX4_at_5 rfl hl 0 rfl ?_
  refine a_iload_n (pc := 6) X dX4_at_6 rfl hl 1 rfl ?_
  obtain ⟨a7, rfl, ⟨hk, hf⟩ | ⟨-, hf⟩⟩ := dv_some hf
  rotate_left
  · exact fl_none hf
  refine a_callb (pc := 7) (rs := []) (avs := [vR (some a7), vI v1]) Z.1 (w_X4_isGuard GA (some a7) v1) (Or.inl rfl) q3299 q86 (by decide) (by decide) dX4_at_7 hl.1 (Nat.le_of_ble_eq_true rfl) hf (ct_V hk ⟨by decide, by decide⟩ X (Or.inl rfl) q3299 q3296 q3298 pv_52 hy_X4_isGuard np_X4_isGuard rfl dX4_at_7) (fun q h he hX => a_out (unc_of Z.2.1 rfl) Z.2.2.2.1 he hX) (fun x7 h hf => ?kk7)
  refine AW.eq (g2 := F0 m 10 ls [.int x7]) rfl ?_
  refine AW.lift2 (fun _ _ _ _ k1 k2 => lv_if_ne (pc := 10) (tgt := 19) X.2.2.1 X.2.2.2.1 dX4_at_10 rfl k2 k1) (fun c => ?_) (fun c => ?_)
  · have hf := ite_t c hf
    refine a_aload_n (pc := 13) X dX4_at_13 rfl hl 0 rfl ?_
    refine AW.lift (fun _ _ _ _ k => lv_iconst (pc := 14) (v := (1 : Int32)) X.2.2.1 X.2.2.2.1 dX4_at_14 rfl k) ?_
    rcases dv_someS hf with ⟨hk, hf⟩ | ⟨-, hf⟩
    rotate_left
    · exact fl_none hf
    refine a_callb (pc := 15) (rs := []) (avs := [vR (some a7), vI (1 : Int32)]) Z.1 (w_X4_throwing GA (some a7) (1 : Int32)) (Or.inl rfl) q3120 q86 (by decide) (by decide) dX4_at_15 hl.1 (Nat.le_of_ble_eq_true rfl) hf (ct_V hk ⟨by decide, by decide⟩ X (Or.inl rfl) q3120 q3117 q3119 pv_30 hy_X4_throwing np_X4_throwing rfl dX4_at_15) (fun q h he hX => a_out (unc_of Z.2.1 rfl) Z.2.2.2.1 he hX) (fun x15 h hf => ?kk15)
    refine AW.eq (g2 := F0 m 18 ls [.int x15]) rfl ?_
    exact a_ireturn X Z.2.2.1 Z.2.2.2.1 dX4_at_18 hf
  · have hf := ite_f c hf
    refine a_aload_n (pc := 19) X dX4_at_19 rfl hl 0 rfl ?_
    refine a_get (pc := 20) (φ := 100) pR_t X Z.1.2.1 (gw X.1 X.2.1 q3025) (fun _ q => q) (by decide) dX4_at_20 hf (fun x20 hf => ?_)
    refine AW.lift (fun _ _ _ _ k => lv_sipush (pc := 23) (v := (182 : Int32)) X.2.2.1 X.2.2.2.1 dX4_at_23 rfl k) ?_
    refine a_iload_n (pc := 26) X dX4_at_26 rfl hl 1 rfl ?_
    refine AW.lift (fun _ _ _ _ k => lv_iadd (pc := 27) X.2.2.1 X.2.2.2.1 dX4_at_27 k) ?_
    refine a_iaload (pc := 28) X dX4_at_28 hf (fun x28 hf => ?_)
    refine AW.lift (fun _ _ _ _ k => lv_iconst (pc := 29) (v := (-1 : Int32)) X.2.2.1 X.2.2.2.1 dX4_at_29 rfl k) ?_
    refine AW.lift2 (fun _ _ _ _ k1 k2 => lv_icmp_ne (pc := 30) (tgt := 41) X.2.2.1 X.2.2.2.1 dX4_at_30 rfl k2 k1) (fun c => ?_) (fun c => ?_)
    · have hf := ite_t c hf
      refine a_aload_n (pc := 33) X dX4_at_33 rfl hl 0 rfl ?_
      refine AW.lift (fun _ _ _ _ k => lv_iconst (pc := 34) (v := (2 : Int32)) X.2.2.1 X.2.2.2.1 dX4_at_34 rfl k) ?_
      rcases dv_someS hf with ⟨hk, hf⟩ | ⟨-, hf⟩
      rotate_left
      · exact fl_none hf
      refine a_callb (pc := 35) (rs := []) (avs := [vR (some a7), vI (2 : Int32)]) Z.1 (w_X4_throwing GA (some a7) (2 : Int32)) (Or.inl rfl) q3120 q86 (by decide) (by decide) dX4_at_35 hl.1 (Nat.le_of_ble_eq_true rfl) hf (ct_V hk ⟨by decide, by decide⟩ X (Or.inl rfl) q3120 q3117 q3119 pv_30 hy_X4_throwing np_X4_throwing rfl dX4_at_35) (fun q h he hX => a_out (unc_of Z.2.1 rfl) Z.2.2.2.1 he hX) (fun x35 h hf => ?kk35)
      refine AW.eq (g2 := F0 m 38 ls [.int x35]) rfl ?_
      refine AW.lift (fun _ _ _ _ k => lv_goto (pc := 38) (tgt := 51) X.2.2.1 X.2.2.2.1 dX4_at_38 rfl k) ?_
      exact a_ireturn X Z.2.2.1 Z.2.2.2.1 dX4_at_51 hf
    · have hf := ite_f c hf
      refine a_aload_n (pc := 41) X dX4_at_41 rfl hl 0 rfl ?_
      refine a_get (pc := 42) (φ := 100) pR_t X Z.1.2.1 (gw X.1 X.2.1 q3025) (fun _ q => q) (by decide) dX4_at_42 hf (fun x42 hf => ?_)
      refine AW.lift (fun _ _ _ _ k => lv_sipush (pc := 45) (v := (182 : Int32)) X.2.2.1 X.2.2.2.1 dX4_at_45 rfl k) ?_
      refine a_iload_n (pc := 48) X dX4_at_48 rfl hl 1 rfl ?_
      refine AW.lift (fun _ _ _ _ k => lv_iadd (pc := 49) X.2.2.1 X.2.2.2.1 dX4_at_49 k) ?_
      refine a_iaload (pc := 50) X dX4_at_50 hf (fun x50 hf => ?_)
      exact a_ireturn X Z.2.2.1 Z.2.2.2.1 dX4_at_51 hf
theorem w_X1_book_j47 {r : Except Nat (Int32) × AH} (GA : GA l s0 a0 K lam) (Z : WZ l s0 a0 K p s m c cX1_book yX1_book.cls 5 b R 21 3348 meth [] (some (.int)) yX1_book) (v0 : Option Nat) (v1 : Int32) (v2 : Int32) (v3 : Int32) (v4 : Int32) (t0 : Int32)  {h : AH} {ls : Array Slot} (hl : LV ls 5 [(0, vR v0), (1, vI v1), (2, vI v2), (3, vI v3), (4, vI v4)]) (hf : f_X1_book_j47 K v0 v1 v2 v3 v4 t0 h = some r) : AW s0 K lam p l e R s m args below meth c (AQ s0 K lam below oI b r s) b h (F0 m 47 ls [.int t0]) := by
  unfold f_X1_book_j47 at hf
  have X := Z.1.1
  refine a_callb (pc := 47) (rs := []) (avs := [vI t0]) Z.1 (w_X1_checkArgument GA t0) (Or.inl rfl) q1880 q74 (by decide) (by decide) dX1_book_47 hl.1 (Nat.le_of_ble_eq_true rfl) hf (ct_S X (Or.inl rfl) q1880 q74 q1878 q1879 hy_X1_checkArgument np_X1_checkArgument rfl dX1_book_47) (fun q h he hX => a_out (unc_of Z.2.1 rfl) Z.2.2.2.1 he hX) (fun _ h hf => ?kk47)
  refine AW.eq (g2 := F0 m 50 ls []) rfl ?_
  refine a_aload_n (pc := 50) X dX1_book_50 rfl hl 0 rfl ?_
  refine a_iload_n (pc := 51) X dX1_book_51 rfl hl 1 rfl ?_
  refine a_iload_n (pc := 52) X dX1_book_52 rfl hl 2 rfl ?_
  refine a_iload_n (pc := 53) X dX1_book_53 rfl hl 3 rfl ?_
  refine a_iload (pc := 54) X dX1_book_54 hl 4 rfl ?_
  refine a_ndy (pc := 56) (rs := [vR v0]) (avs := [vI v1, vI v2, vI v3, vI v4]) Z.1 Z.2.2.2.2.2 (siG_218 GA) hfb_18 (lw_all_tbl q3550) ⟨by decide, by decide⟩ rfl rfl rfl (by decide) hl.1 (Nat.le_of_ble_eq_true rfl) (Nat.le_of_ble_eq_true rfl) rfl dX1_book_56 hf (fun x56 h hf => ?_)
  refine AW.eq (g2 := F0 m 61 ls [va_rf (some x56), va_rf v0]) rfl ?_
  obtain ⟨a61, rfl, ⟨hk, hf⟩ | ⟨-, hf⟩⟩ := dv_some hf
  rotate_left
  · exact fl_none hf
  refine a_callb (pc := 61) (rs := []) (avs := [vR (some a61), vR (some x56)]) Z.1 (w_X1_does GA (some a61) (some x56)) (Or.inr (Or.inl ⟨_, rfl⟩)) q1754 q74 (by decide) (by decide) dX1_book_61 hl.1 (Nat.le_of_ble_eq_true rfl) hf (ct_V hk ⟨by decide, by decide⟩ X (Or.inr (Or.inl ⟨_, rfl⟩)) q1754 q1751 q1753 pv_4 hy_X1_does np_X1_does rfl dX1_book_61) (fun q h he hX => a_out (unc_of Z.2.1 rfl) Z.2.2.2.1 he hX) (fun x61 h hf => ?kk61)
  refine AW.eq (g2 := F0 m 64 ls [.int x61]) rfl ?_
  exact a_ireturn X Z.2.2.1 Z.2.2.2.1 dX1_book_64 hf
theorem w_X1_book_j46 {r : Except Nat (Int32) × AH} (GA : GA l s0 a0 K lam) (Z : WZ l s0 a0 K p s m c cX1_book yX1_book.cls 5 b R 21 3348 meth [] (some (.int)) yX1_book) (v0 : Option Nat) (v1 : Int32) (v2 : Int32) (v3 : Int32) (v4 : Int32)   {h : AH} {ls : Array Slot} (hl : LV ls 5 [(0, vR v0), (1, vI v1), (2, vI v2), (3, vI v3), (4, vI v4)]) (hf : f_X1_book_j46 K v0 v1 v2 v3 v4 h = some r) : AW s0 K lam p l e R s m args below meth c (AQ s0 K lam below oI b r s) b h (F0 m 46 ls []) := by
  unfold f_X1_book_j46 at hf
  have X := Z.1.1
  refine AW.lift (fun _ _ _ _ k => lv_iconst (pc := 46) (v := (0 : Int32)) X.2.2.1 X.2.2.2.1 dX1_book_46 rfl k) ?_
  exact w_X1_book_j47 GA Z v0 v1 v2 v3 v4 (0 : Int32)  (hl.sub [0, 1, 2, 3, 4] rfl) hf
theorem np_X1_book : npar yX1_book.desc 4 := by unfold npar; decide +kernel
theorem hy_X1_book : yX1_book.cls ≠ "java/lang/invoke/MethodHandle" ∧ yX1_book.cls ≠ "java/lang/invoke/VarHandle" := by decide +kernel
theorem w_X1_book (GA : GA l s0 a0 K lam) (v0 : Option Nat) (v1 : Int32) (v2 : Int32) (v3 : Int32) (v4 : Int32) : AMet l s0 K lam yX1_book (Cond.code yX1_book cX1_book (5 : Nat) (Option.some ClassFile.FieldType.int)) 21 3348 [vR v0, vI v1, vI v2, vI v3, vI v4] oI (f_X1_book K v0 v1 v2 v3 v4) := by
  refine AMet.of GA.1 (plainFor_of_name (by decide +kernel)) (Nat.le_of_ble_eq_true rfl) ?_
  intro b r hf p e s m args below meth c X hr hlk hnm hnd ht ls hl
  have Z : WZ l s0 a0 K p s m c cX1_book yX1_book.cls 5 b { frames := 21, cells := K 0 - aX b, slots := K 1 - aW b, locals := 3348 } 21 3348 meth [] (some (.int)) yX1_book := ⟨⟨X, GA.2.1, GA.2.2.1, rfl, rfl, Nat.le_refl _, Nat.le_refl _⟩, tab_nil ht, hr, hlk, hnm, hnd⟩
  unfold f_X1_book at hf
  clear hr hlk hnm hnd ht
  refine a_iload_n (pc := 0) X dX1_book_0 rfl hl 1 rfl ?_
  refine AW.lift (fun _ _ _ _ k => lv_iconst (pc := 1) (v := (0 : Int32)) X.2.2.1 X.2.2.2.1 dX1_book_1 rfl k) ?_
  refine AW.lift (fun _ _ _ _ k => lv_sipush (pc := 2) (v := (9999 : Int32)) X.2.2.1 X.2.2.2.1 dX1_book_2 rfl k) ?_
  refine a_callb (pc := 5) (rs := []) (avs := [vI v1, vI (0 : Int32), vI (9999 : Int32)]) Z.1 (w_X1_isIn GA v1 (0 : Int32) (9999 : Int32)) (Or.inl rfl) q1812 q74 (by decide) (by decide) dX1_book_5 hl.1 (Nat.le_of_ble_eq_true rfl) hf (ct_S X (Or.inl rfl) q1812 q74 q1813 q1811 hy_X1_isIn np_X1_isIn rfl dX1_book_5) (fun q h he hX => a_out (unc_of Z.2.1 rfl) Z.2.2.2.1 he hX) (fun x5 h hf => ?kk5)
  refine AW.eq (g2 := F0 m 8 ls [.int x5]) rfl ?_
  refine AW.lift2 (fun _ _ _ _ k1 k2 => lv_if_eq (pc := 8) (tgt := 46) X.2.2.1 X.2.2.2.1 dX1_book_8 rfl k1 k2) (fun c => ?_) (fun c => ?_)
  · have hf := ite_t c hf
    exact w_X1_book_j46 GA Z v0 v1 v2 v3 v4   (hl.sub [0, 1, 2, 3, 4] rfl) hf
  · have hf := ite_f c hf
    refine a_iload_n (pc := 11) X dX1_book_11 rfl hl 2 rfl ?_
    refine AW.lift (fun _ _ _ _ k => lv_iconst (pc := 12) (v := (1 : Int32)) X.2.2.1 X.2.2.2.1 dX1_book_12 rfl k) ?_
    refine AW.lift (fun _ _ _ _ k => lv_bipush (pc := 13) (v := (6 : Int32)) X.2.2.1 X.2.2.2.1 dX1_book_13 rfl k) ?_
    refine a_callb (pc := 15) (rs := []) (avs := [vI v2, vI (1 : Int32), vI (6 : Int32)]) Z.1 (w_X1_isIn GA v2 (1 : Int32) (6 : Int32)) (Or.inl rfl) q1812 q74 (by decide) (by decide) dX1_book_15 hl.1 (Nat.le_of_ble_eq_true rfl) hf (ct_S X (Or.inl rfl) q1812 q74 q1813 q1811 hy_X1_isIn np_X1_isIn rfl dX1_book_15) (fun q h he hX => a_out (unc_of Z.2.1 rfl) Z.2.2.2.1 he hX) (fun x15 h hf => ?kk15)
    refine AW.eq (g2 := F0 m 18 ls [.int x15]) rfl ?_
    refine AW.lift2 (fun _ _ _ _ k1 k2 => lv_if_eq (pc := 18) (tgt := 46) X.2.2.1 X.2.2.2.1 dX1_book_18 rfl k1 k2) (fun c => ?_) (fun c => ?_)
    · have hf := ite_t c hf
      exact w_X1_book_j46 GA Z v0 v1 v2 v3 v4   (hl.sub [0, 1, 2, 3, 4] rfl) hf
    · have hf := ite_f c hf
      refine a_iload_n (pc := 21) X dX1_book_21 rfl hl 3 rfl ?_
      refine AW.lift (fun _ _ _ _ k => lv_bipush (pc := 22) (v := (10 : Int32)) X.2.2.1 X.2.2.2.1 dX1_book_22 rfl k) ?_
      refine AW.lift (fun _ _ _ _ k => lv_bipush (pc := 24) (v := (99 : Int32)) X.2.2.1 X.2.2.2.1 dX1_book_24 rfl k) ?_
      refine a_callb (pc := 26) (rs := []) (avs := [vI v3, vI (10 : Int32), vI (99 : Int32)]) Z.1 (w_X1_isIn GA v3 (10 : Int32) (99 : Int32)) (Or.inl rfl) q1812 q74 (by decide) (by decide) dX1_book_26 hl.1 (Nat.le_of_ble_eq_true rfl) hf (ct_S X (Or.inl rfl) q1812 q74 q1813 q1811 hy_X1_isIn np_X1_isIn rfl dX1_book_26) (fun q h he hX => a_out (unc_of Z.2.1 rfl) Z.2.2.2.1 he hX) (fun x26 h hf => ?kk26)
      refine AW.eq (g2 := F0 m 29 ls [.int x26]) rfl ?_
      refine AW.lift2 (fun _ _ _ _ k1 k2 => lv_if_eq (pc := 29) (tgt := 46) X.2.2.1 X.2.2.2.1 dX1_book_29 rfl k1 k2) (fun c => ?_) (fun c => ?_)
      · have hf := ite_t c hf
        exact w_X1_book_j46 GA Z v0 v1 v2 v3 v4   (hl.sub [0, 1, 2, 3, 4] rfl) hf
      · have hf := ite_f c hf
        refine a_iload (pc := 32) X dX1_book_32 hl 4 rfl ?_
        refine AW.lift (fun _ _ _ _ k => lv_iconst (pc := 34) (v := (0 : Int32)) X.2.2.1 X.2.2.2.1 dX1_book_34 rfl k) ?_
        refine AW.lift (fun _ _ _ _ k => lv_iconst (pc := 35) (v := (4 : Int32)) X.2.2.1 X.2.2.2.1 dX1_book_35 rfl k) ?_
        refine a_callb (pc := 36) (rs := []) (avs := [vI v4, vI (0 : Int32), vI (4 : Int32)]) Z.1 (w_X1_isIn GA v4 (0 : Int32) (4 : Int32)) (Or.inl rfl) q1812 q74 (by decide) (by decide) dX1_book_36 hl.1 (Nat.le_of_ble_eq_true rfl) hf (ct_S X (Or.inl rfl) q1812 q74 q1813 q1811 hy_X1_isIn np_X1_isIn rfl dX1_book_36) (fun q h he hX => a_out (unc_of Z.2.1 rfl) Z.2.2.2.1 he hX) (fun x36 h hf => ?kk36)
        refine AW.eq (g2 := F0 m 39 ls [.int x36]) rfl ?_
        refine AW.lift2 (fun _ _ _ _ k1 k2 => lv_if_eq (pc := 39) (tgt := 46) X.2.2.1 X.2.2.2.1 dX1_book_39 rfl k1 k2) (fun c => ?_) (fun c => ?_)
        · have hf := ite_t c hf
          exact w_X1_book_j46 GA Z v0 v1 v2 v3 v4   (hl.sub [0, 1, 2, 3, 4] rfl) hf
        · have hf := ite_f c hf
          refine AW.lift (fun _ _ _ _ k => lv_iconst (pc := 42) (v := (1 : Int32)) X.2.2.1 X.2.2.2.1 dX1_book_42 rfl k) ?_
          refine AW.lift (fun _ _ _ _ k => lv_goto (pc := 43) (tgt := 47) X.2.2.1 X.2.2.2.1 dX1_book_43 rfl k) ?_
          exact w_X1_book_j47 GA Z v0 v1 v2 v3 v4 (1 : Int32)  (hl.sub [0, 1, 2, 3, 4] rfl) hf
theorem np_X0_book : npar yX0_book.desc 6 := by unfold npar; decide +kernel
theorem hy_X0_book : yX0_book.cls ≠ "java/lang/invoke/MethodHandle" ∧ yX0_book.cls ≠ "java/lang/invoke/VarHandle" := by decide +kernel
theorem w_X0_book (GA : GA l s0 a0 K lam) (v0 : Option Nat) (v1 : Int32) (v2 : Int32) (v3 : Int32) (v4 : Int32) (v5 : Option Nat) : AMet l s0 K lam yX0_book (Cond.codeWith yX0_book cX0_book (7 : Nat) (Option.some ClassFile.FieldType.int) [((0 : Nat), (14 : Nat), (17 : Nat), (28 : Nat)), ((0 : Nat), (14 : Nat), (21 : Nat), (13 : Nat))]) 22 3372 [vR v0, vI v1, vI v2, vI v3, vI v4, vR v5] oI (f_X0_book K v0 v1 v2 v3 v4 v5) := by
  refine AMet.ofW GA.1 (plainFor_of_name (by decide +kernel)) (Nat.le_of_ble_eq_true rfl) ?_
  intro b r hf p e s m args below meth c X hr hlk hnm hnd ht ls hl
  have Z : WZ l s0 a0 K p s m c cX0_book yX0_book.cls 7 b { frames := 22, cells := K 0 - aX b, slots := K 1 - aW b, locals := 3372 } 22 3372 meth [(0, 14, 17, 28), (0, 14, 21, 13)] (some (.int)) yX0_book := ⟨⟨X, GA.2.1, GA.2.2.1, rfl, rfl, Nat.le_refl _, Nat.le_refl _⟩, ht, hr, hlk, hnm, hnd⟩
  unfold f_X0_book at hf
  clear hr hlk hnm hnd ht
  refine a_aload (pc := 0) X dX0_book_0 hl 5 rfl ?_
  refine AW.lift (fun _ _ _ _ k => lv_iconst (pc := 2) (v := (0 : Int32)) X.2.2.1 X.2.2.2.1 dX0_book_2 rfl k) ?_
  refine a_aload_n (pc := 3) X dX0_book_3 rfl hl 0 rfl ?_
  refine a_iload_n (pc := 4) X dX0_book_4 rfl hl 1 rfl ?_
  refine a_iload_n (pc := 5) X dX0_book_5 rfl hl 2 rfl ?_
  refine a_iload_n (pc := 6) X dX0_book_6 rfl hl 3 rfl ?_
  refine a_iload (pc := 7) X dX0_book_7 hl 4 rfl ?_
  obtain ⟨a9, rfl, ⟨hk, hf⟩ | ⟨-, hf⟩⟩ := dv_tsome hf
  rotate_left
  · exact fl_tnone hf
  refine a_callt (pc := 9) (rs := [vI (0 : Int32), vR v5]) (avs := [vR (some a9), vI v1, vI v2, vI v3, vI v4]) Z.1 (w_X1_book GA (some a9) v1 v2 v3 v4) (Or.inl rfl) q2396 q74 (by decide) (by decide) dX0_book_9 hl.1 (Nat.le_of_ble_eq_true rfl) hf (ct_V hk ⟨by decide, by decide⟩ X (Or.inl rfl) q2396 q2393 q2394 q2395 hy_X1_book np_X1_book rfl dX0_book_9) (fun q h hf hX => ?hx9) (fun x9 h hf => ?kk9)
  case hx9 =>
    rcases ctc_some hf with ⟨hy, hf⟩ | ⟨hn0, hf⟩
    · refine a_catchH (st := 0) (en := 14) (hp := 17) (ct := 28) (pre := []) (suf := [(0, 14, 21, 13)]) X hX Z.2.1 rfl (fun z hz => nomatch hz) (by decide) (Or.inr ⟨by decide, _, gw X.1 X.2.1 q1873, (cs_X17 GA) _ hy⟩) (AW.eq (g2 := F0 m 17 ls [va_rf (some q)]) rfl ?_)
      refine a_astore (pc := 17) X dX0_book_17 hl (by decide) (lv' := [(6, vR (some q)), (0, vR (some a9)), (1, vI v1), (2, vI v2), (3, vI v3), (4, vI v4), (5, vR v5)]) rfl (fun ls hl => ?_)
      refine AW.lift (fun _ _ _ _ k => lv_iconst (pc := 19) (v := (1 : Int32)) X.2.2.1 X.2.2.2.1 dX0_book_19 rfl k) ?_
      exact a_ireturn X Z.2.2.1 Z.2.2.2.1 dX0_book_20 hf
    · skip
      rcases ctc_some hf with ⟨hy, hf⟩ | ⟨hn1, hf⟩
      · refine a_catchH (st := 0) (en := 14) (hp := 21) (ct := 13) (pre := [(0, 14, 17, 28)]) (suf := []) X hX Z.2.1 rfl (by intro z hz; simp only [List.mem_cons, List.not_mem_nil, or_false] at hz; rcases hz with rfl <;> first | exact Or.inl (by decide) | exact Or.inr ⟨by decide, _, gw X.1 X.2.1 q1873, (nc_12_13_14_16_18_19_20_21_java_lang_IllegalArgumentException GA _ (by simpa using hn0)).2.2⟩) (by decide) (Or.inr ⟨by decide, _, gw X.1 X.2.1 q1709, (cs_X21 GA) _ hy⟩) (AW.eq (g2 := F0 m 21 ls [va_rf (some q)]) rfl ?_)
        refine a_astore (pc := 21) X dX0_book_21 hl (by decide) (lv' := [(6, vR (some q)), (0, vR (some a9)), (1, vI v1), (2, vI v2), (3, vI v3), (4, vI v4), (5, vR v5)]) rfl (fun ls hl => ?_)
        refine AW.lift (fun _ _ _ _ k => lv_iconst (pc := 23) (v := (2 : Int32)) X.2.2.1 X.2.2.2.1 dX0_book_23 rfl k) ?_
        exact a_ireturn X Z.2.2.1 Z.2.2.2.1 dX0_book_24 hf
      · skip
        exact a_outH X Z.2.1 (by intro z hz; simp only [List.mem_cons, List.not_mem_nil, or_false] at hz; rcases hz with rfl | rfl <;> first | exact Or.inl (by decide) | exact Or.inr ⟨by decide, _, gw X.1 X.2.1 q1873, (nc_12_13_14_16_18_19_20_21_java_lang_IllegalArgumentException GA _ (by simpa using hn0)).2.2⟩ | exact Or.inr ⟨by decide, _, gw X.1 X.2.1 q1709, (nc_12_13_14_16_17_18_19_20_java_lang_UnsupportedOperationException GA _ (by simpa using hn1)).2.2⟩) Z.2.2.2.1 (th_eq hf) hX
  refine AW.eq (g2 := F0 m 12 ls [.int x9, .int (0 : Int32), va_rf v5]) rfl ?_
  refine AW.lift (fun _ _ _ _ k => lv_i2l (pc := 12) X.2.2.1 X.2.2.2.1 dX0_book_12 rfl k) ?_
  refine a_lastore (pc := 13) X dX0_book_13 hf (fun h hf => ?_)
  refine AW.lift (fun _ _ _ _ k => lv_goto (pc := 14) (tgt := 25) X.2.2.1 X.2.2.2.1 dX0_book_14 rfl k) ?_
  refine AW.lift (fun _ _ _ _ k => lv_iconst (pc := 25) (v := (0 : Int32)) X.2.2.1 X.2.2.2.1 dX0_book_25 rfl k) ?_
  exact a_ireturn X Z.2.2.1 Z.2.2.2.1 dX0_book_26 hf
theorem w_X4_partiesAt_j35 {r : Except Nat (Int32) × AH} (GA : GA l s0 a0 K lam) (Z : WZ l s0 a0 K p s m c cX4_partiesAt yX4_partiesAt.cls 4 b R 1 20 meth [] (some (.int)) yX4_partiesAt) (v0 : Option Nat) (v1 : Int32) (v3 : Int32) (t0 : Int32) (t1 : Int32) (rc4 : Int32 → Int32 → AM (Int32)) (hrc4 : ∀ (v2 : Int32) (v3 : Int32) (h : AH) (ls : Array Slot), LV ls 4 [(0, vR v0), (1, vI v1), (2, vI v2), (3, vI v3)] → rc4 v2 v3 h = some r → AW s0 K lam p l e R s m args below meth c (AQ s0 K lam below oI b r s) b h (F0 m 4 ls [])) {h : AH} {ls : Array Slot} (hl : LV ls 4 [(0, vR v0), (1, vI v1), (3, vI v3)]) (hf : f_X4_partiesAt_j35 K rc4 v0 v1 v3 t0 t1 h = some r) : AW s0 K lam p l e R s m args below meth c (AQ s0 K lam below oI b r s) b h (F0 m 35 ls [.int t0, .int t1]) := by
  unfold f_X4_partiesAt_j35 at hf
  have X := Z.1.1
  refine AW.lift (fun _ _ _ _ k => lv_iadd (pc := 35) X.2.2.1 X.2.2.2.1 dX4_partiesAt_35 k) ?_
  refine a_istore_n (pc := 36) X dX4_partiesAt_36 rfl hl (by decide) (lv' := [(2, vI (t1 + t0)), (0, vR v0), (1, vI v1), (3, vI v3)]) rfl (fun ls hl => ?_)
  refine a_iinc (pc := 37) (v := (v3 + (1 : Int32))) X dX4_partiesAt_37 hl (k := 3) rfl rfl (by decide) (lv' := [(3, vI (v3 + (1 : Int32))), (2, vI (t1 + t0)), (0, vR v0), (1, vI v1)]) rfl (fun ls hl => ?_)
  refine AW.lift (fun _ _ _ _ k => lv_goto (pc := 40) (tgt := 4) X.2.2.1 X.2.2.2.1 dX4_partiesAt_40 rfl k) ?_
  exact hrc4 (t1 + t0) (v3 + (1 : Int32)) _ _ (hl.sub [2, 3, 1, 0] rfl) hf
theorem w_X4_partiesAt_b4 {r : Except Nat (Int32) × AH} (GA : GA l s0 a0 K lam) (Z : WZ l s0 a0 K p s m c cX4_partiesAt yX4_partiesAt.cls 4 b R 1 20 meth [] (some (.int)) yX4_partiesAt) (v0 : Option Nat) (v1 : Int32) (v2 : Int32) (v3 : Int32)  (rc4 : Int32 → Int32 → AM (Int32)) (hrc4 : ∀ (v2 : Int32) (v3 : Int32) (h : AH) (ls : Array Slot), LV ls 4 [(0, vR v0), (1, vI v1), (2, vI v2), (3, vI v3)] → rc4 v2 v3 h = some r → AW s0 K lam p l e R s m args below meth c (AQ s0 K lam below oI b r s) b h (F0 m 4 ls [])) {h : AH} {ls : Array Slot} (hl : LV ls 4 [(0, vR v0), (1, vI v1), (2, vI v2), (3, vI v3)]) (hf : f_X4_partiesAt_b4 K rc4 v0 v1 v2 v3 h = some r) : AW s0 K lam p l e R s m args below meth c (AQ s0 K lam below oI b r s) b h (F0 m 4 ls []) := by
  unfold f_X4_partiesAt_b4 at hf
  have X := Z.1.1
  refine a_iload_n (pc := 4) X dX4_partiesAt_4 rfl hl 3 rfl ?_
  refine a_aload_n (pc := 5) X dX4_partiesAt_5 rfl hl 0 rfl ?_
  refine a_get (pc := 6) (φ := 100) pR_t X Z.1.2.1 (gw X.1 X.2.1 q3025) (fun _ q => q) (by decide) dX4_partiesAt_6 hf (fun x6 hf => ?_)
  refine AW.lift (fun _ _ _ _ k => lv_iconst (pc := 9) (v := (4 : Int32)) X.2.2.1 X.2.2.2.1 dX4_partiesAt_9 rfl k) ?_
  refine a_iaload (pc := 10) X dX4_partiesAt_10 hf (fun x10 hf => ?_)
  refine AW.lift2 (fun _ _ _ _ k1 k2 => lv_icmp_ge (pc := 11) (tgt := 43) X.2.2.1 X.2.2.2.1 dX4_partiesAt_11 rfl k1 k2) (fun c => ?_) (fun c => ?_)
  · have hf := ite_t c hf
    refine a_iload_n (pc := 43) X dX4_partiesAt_43 rfl hl 2 rfl ?_
    exact a_ireturn X Z.2.2.1 Z.2.2.2.1 dX4_partiesAt_44 hf
  · have hf := ite_f c hf
    refine a_iload_n (pc := 14) X dX4_partiesAt_14 rfl hl 2 rfl ?_
    refine a_aload_n (pc := 15) X dX4_partiesAt_15 rfl hl 0 rfl ?_
    refine a_get (pc := 16) (φ := 100) pR_t X Z.1.2.1 (gw X.1 X.2.1 q3025) (fun _ q => q) (by decide) dX4_partiesAt_16 hf (fun x16 hf => ?_)
    refine a_iload_n (pc := 19) X dX4_partiesAt_19 rfl hl 3 rfl ?_
    refine a_callb (pc := 20) (rs := [vR x16, vI v2]) (avs := [vI v3]) Z.1 (w_X4_party GA v3) (Or.inl rfl) q3315 q86 (by decide) (by decide) dX4_partiesAt_20 hl.1 (Nat.le_of_ble_eq_true rfl) hf (ct_S X (Or.inl rfl) q3315 q86 q3313 q3314 hy_X4_party np_X4_party rfl dX4_partiesAt_20) (fun q h he hX => a_out (unc_of Z.2.1 rfl) Z.2.2.2.1 he hX) (fun x20 h hf => ?kk20)
    refine AW.eq (g2 := F0 m 23 ls [.int x20, va_rf x16, .int v2]) rfl ?_
    refine AW.lift (fun _ _ _ _ k => lv_iconst (pc := 23) (v := (2 : Int32)) X.2.2.1 X.2.2.2.1 dX4_partiesAt_23 rfl k) ?_
    refine AW.lift (fun _ _ _ _ k => lv_iadd (pc := 24) X.2.2.1 X.2.2.2.1 dX4_partiesAt_24 k) ?_
    refine a_iaload (pc := 25) X dX4_partiesAt_25 hf (fun x25 hf => ?_)
    refine a_iload_n (pc := 26) X dX4_partiesAt_26 rfl hl 1 rfl ?_
    refine AW.lift2 (fun _ _ _ _ k1 k2 => lv_icmp_ne (pc := 27) (tgt := 34) X.2.2.1 X.2.2.2.1 dX4_partiesAt_27 rfl k2 k1) (fun c => ?_) (fun c => ?_)
    · have hf := ite_t c hf
      refine AW.lift (fun _ _ _ _ k => lv_iconst (pc := 30) (v := (1 : Int32)) X.2.2.1 X.2.2.2.1 dX4_partiesAt_30 rfl k) ?_
      refine AW.lift (fun _ _ _ _ k => lv_goto (pc := 31) (tgt := 35) X.2.2.1 X.2.2.2.1 dX4_partiesAt_31 rfl k) ?_
      exact w_X4_partiesAt_j35 GA Z v0 v1 v3 (1 : Int32) v2 rc4 hrc4 (hl.sub [0, 1, 3] rfl) hf
    · have hf := ite_f c hf
      refine AW.lift (fun _ _ _ _ k => lv_iconst (pc := 34) (v := (0 : Int32)) X.2.2.1 X.2.2.2.1 dX4_partiesAt_34 rfl k) ?_
      exact w_X4_partiesAt_j35 GA Z v0 v1 v3 (0 : Int32) v2 rc4 hrc4 (hl.sub [0, 1, 3] rfl) hf
theorem w_X4_partiesAt_l4 {r : Except Nat (Int32) × AH} (GA : GA l s0 a0 K lam) (Z : WZ l s0 a0 K p s m c cX4_partiesAt yX4_partiesAt.cls 4 b R 1 20 meth [] (some (.int)) yX4_partiesAt) (v0 : Option Nat) (v1 : Int32)  : ∀ (n : Nat) (v2 : Int32) (v3 : Int32) (h : AH) (ls : Array Slot), LV ls 4 [(0, vR v0), (1, vI v1), (2, vI v2), (3, vI v3)] → f_X4_partiesAt_l4 K v0 v1 n v2 v3 h = some r → AW s0 K lam p l e R s m args below meth c (AQ s0 K lam below oI b r s) b h (F0 m 4 ls []) := by
  intro n
  induction n with
  | zero => intro v2 v3 h ls hl hf; exact fl_no (h := h) hf
  | succ n ih => intro v2 v3 h ls hl hf; exact w_X4_partiesAt_b4 GA Z v0 v1 v2 v3 (f_X4_partiesAt_l4 K v0 v1 n) ih hl hf
theorem np_X4_partiesAt : npar yX4_partiesAt.desc 1 := by unfold npar; decide +kernel
theorem hy_X4_partiesAt : yX4_partiesAt.cls ≠ "java/lang/invoke/MethodHandle" ∧ yX4_partiesAt.cls ≠ "java/lang/invoke/VarHandle" := by decide +kernel
theorem w_X4_partiesAt (GA : GA l s0 a0 K lam) (v0 : Option Nat) (v1 : Int32) : AMet l s0 K lam yX4_partiesAt (Cond.code yX4_partiesAt cX4_partiesAt (4 : Nat) (Option.some ClassFile.FieldType.int)) 1 20 [vR v0, vI v1] oI (f_X4_partiesAt K v0 v1) := by
  refine AMet.of GA.1 (plainFor_of_name (by decide +kernel)) (Nat.le_of_ble_eq_true rfl) ?_
  intro b r hf p e s m args below meth c X hr hlk hnm hnd ht ls hl
  have Z : WZ l s0 a0 K p s m c cX4_partiesAt yX4_partiesAt.cls 4 b { frames := 1, cells := K 0 - aX b, slots := K 1 - aW b, locals := 20 } 1 20 meth [] (some (.int)) yX4_partiesAt := ⟨⟨X, GA.2.1, GA.2.2.1, rfl, rfl, Nat.le_refl _, Nat.le_refl _⟩, tab_nil ht, hr, hlk, hnm, hnd⟩
  unfold f_X4_partiesAt at hf
  clear hr hlk hnm hnd ht
  refine AW.lift (fun _ _ _ _ k => lv_iconst (pc := 0) (v := (0 : Int32)) X.2.2.1 X.2.2.2.1 dX4_partiesAt_0 rfl k) ?_
  refine a_istore_n (pc := 1) X dX4_partiesAt_1 rfl hl (by decide) (lv' := [(2, vI (0 : Int32)), (0, vR v0), (1, vI v1)]) rfl (fun ls hl => ?_)
  refine AW.lift (fun _ _ _ _ k => lv_iconst (pc := 2) (v := (0 : Int32)) X.2.2.1 X.2.2.2.1 dX4_partiesAt_2 rfl k) ?_
  refine a_istore_n (pc := 3) X dX4_partiesAt_3 rfl hl (by decide) (lv' := [(3, vI (0 : Int32)), (2, vI (0 : Int32)), (0, vR v0), (1, vI v1)]) rfl (fun ls hl => ?_)
  exact w_X4_partiesAt_l4 GA Z v0 v1  FU (0 : Int32) (0 : Int32) _ _ (hl.sub [2, 3, 1, 0] rfl) hf
theorem w_X4_book_j55 {r : Except Nat (Int32) × AH} (GA : GA l s0 a0 K lam) (Z : WZ l s0 a0 K p s m c cX4_book yX4_book.cls 6 b R 2 44 meth [] (some (.int)) yX4_book) (v0 : Option Nat)   {h : AH} {ls : Array Slot} (hl : LV ls 6 [(0, vR v0)]) (hf : f_X4_book_j55 K v0 h = some r) : AW s0 K lam p l e R s m args below meth c (AQ s0 K lam below oI b r s) b h (F0 m 55 ls []) := by
  unfold f_X4_book_j55 at hf
  have X := Z.1.1
  refine a_aload_n (pc := 55) X dX4_book_55 rfl hl 0 rfl ?_
  refine AW.lift (fun _ _ _ _ k => lv_iconst (pc := 56) (v := (1 : Int32)) X.2.2.1 X.2.2.2.1 dX4_book_56 rfl k) ?_
  obtain ⟨a57, rfl, ⟨hk, hf⟩ | ⟨-, hf⟩⟩ := dv_some hf
  rotate_left
  · exact fl_none hf
  refine a_callb (pc := 57) (rs := []) (avs := [vR (some a57), vI (1 : Int32)]) Z.1 (w_X4_throwing GA (some a57) (1 : Int32)) (Or.inl rfl) q3120 q86 (by decide) (by decide) dX4_book_57 hl.1 (Nat.le_of_ble_eq_true rfl) hf (ct_V hk ⟨by decide, by decide⟩ X (Or.inl rfl) q3120 q3117 q3119 pv_30 hy_X4_throwing np_X4_throwing rfl dX4_book_57) (fun q h he hX => a_out (unc_of Z.2.1 rfl) Z.2.2.2.1 he hX) (fun x57 h hf => ?kk57)
  refine AW.eq (g2 := F0 m 60 ls [.int x57]) rfl ?_
  exact a_ireturn X Z.2.2.1 Z.2.2.2.1 dX4_book_60 hf
theorem np_X4_book : npar yX4_book.desc 4 := by unfold npar; decide +kernel
theorem hy_X4_book : yX4_book.cls ≠ "java/lang/invoke/MethodHandle" ∧ yX4_book.cls ≠ "java/lang/invoke/VarHandle" := by decide +kernel
theorem w_X4_book (GA : GA l s0 a0 K lam) (v0 : Option Nat) (v1 : Int32) (v2 : Int32) (v3 : Int32) (v4 : Int32) : AMet l s0 K lam yX4_book (Cond.code yX4_book cX4_book (6 : Nat) (Option.some ClassFile.FieldType.int)) 2 44 [vR v0, vI v1, vI v2, vI v3, vI v4] oI (f_X4_book K v0 v1 v2 v3 v4) := by
  refine AMet.of GA.1 (plainFor_of_name (by decide +kernel)) (Nat.le_of_ble_eq_true rfl) ?_
  intro b r hf p e s m args below meth c X hr hlk hnm hnd ht ls hl
  have Z : WZ l s0 a0 K p s m c cX4_book yX4_book.cls 6 b { frames := 2, cells := K 0 - aX b, slots := K 1 - aW b, locals := 44 } 2 44 meth [] (some (.int)) yX4_book := ⟨⟨X, GA.2.1, GA.2.2.1, rfl, rfl, Nat.le_refl _, Nat.le_refl _⟩, tab_nil ht, hr, hlk, hnm, hnd⟩
  unfold f_X4_book at hf
  clear hr hlk hnm hnd ht
  refine a_aload_n (pc := 0) X dX4_book_0 rfl hl 0 rfl ?_
  obtain ⟨a1, rfl, ⟨hk, hf⟩ | ⟨-, hf⟩⟩ := dv_some hf
  rotate_left
  · exact fl_none hf
  refine a_callb (pc := 1) (rs := []) (avs := [vR (some a1)]) Z.1 (w_X4_layAside GA (some a1)) (Or.inl rfl) q3112 q86 (by decide) (by decide) dX4_book_1 hl.1 (Nat.le_of_ble_eq_true rfl) hf (ct_V hk ⟨by decide, by decide⟩ X (Or.inl rfl) q3112 q3109 q3111 pv_28 hy_X4_layAside np_X4_layAside rfl dX4_book_1) (fun q h he hX => a_out (unc_of Z.2.1 rfl) Z.2.2.2.1 he hX) (fun _ h hf => ?kk1)
  refine AW.eq (g2 := F0 m 4 ls []) rfl ?_
  refine a_iload_n (pc := 4) X dX4_book_4 rfl hl 1 rfl ?_
  refine AW.lift (fun _ _ _ _ k => lv_i2l (pc := 5) X.2.2.1 X.2.2.2.1 dX4_book_5 rfl k) ?_
  refine AW.lift (fun _ _ _ _ k => lv_lconst (pc := 6) (v := (0 : Int64)) X.2.2.1 X.2.2.2.1 dX4_book_6 rfl k) ?_
  refine AW.lift (fun _ _ _ _ k => lv_ldc2 (pc := 7) X.2.2.1 X.2.2.2.1 X.2.2.2.2.1 (gw X.1 X.2.1 q3308) dX4_book_7 k) ?_
  refine a_callb (pc := 10) (rs := []) (avs := [vJ (v1.toInt64), vJ (0 : Int64), vJ (9999 : Int64)]) Z.1 (w_X4_in GA (v1.toInt64) (0 : Int64) (9999 : Int64)) (Or.inl rfl) q3142 q86 (by decide) (by decide) dX4_book_10 hl.1 (Nat.le_of_ble_eq_true rfl) hf (ct_S X (Or.inl rfl) q3142 q86 q3140 q3141 hy_X4_in np_X4_in rfl dX4_book_10) (fun q h he hX => a_out (unc_of Z.2.1 rfl) Z.2.2.2.1 he hX) (fun x10 h hf => ?kk10)
  refine AW.eq (g2 := F0 m 13 ls [.int x10]) rfl ?_
  refine AW.lift2 (fun _ _ _ _ k1 k2 => lv_if_eq (pc := 13) (tgt := 55) X.2.2.1 X.2.2.2.1 dX4_book_13 rfl k1 k2) (fun c => ?_) (fun c => ?_)
  · have hf := ite_t c hf
    exact w_X4_book_j55 GA Z (some a1)   (hl.sub [0] rfl) hf
  · have hf := ite_f c hf
    refine a_iload_n (pc := 16) X dX4_book_16 rfl hl 2 rfl ?_
    refine AW.lift (fun _ _ _ _ k => lv_i2l (pc := 17) X.2.2.1 X.2.2.2.1 dX4_book_17 rfl k) ?_
    refine AW.lift (fun _ _ _ _ k => lv_lconst (pc := 18) (v := (1 : Int64)) X.2.2.1 X.2.2.2.1 dX4_book_18 rfl k) ?_
    refine AW.lift (fun _ _ _ _ k => lv_ldc2 (pc := 19) X.2.2.1 X.2.2.2.1 X.2.2.2.2.1 (gw X.1 X.2.1 q3271) dX4_book_19 k) ?_
    refine a_callb (pc := 22) (rs := []) (avs := [vJ (v2.toInt64), vJ (1 : Int64), vJ (6 : Int64)]) Z.1 (w_X4_in GA (v2.toInt64) (1 : Int64) (6 : Int64)) (Or.inl rfl) q3142 q86 (by decide) (by decide) dX4_book_22 hl.1 (Nat.le_of_ble_eq_true rfl) hf (ct_S X (Or.inl rfl) q3142 q86 q3140 q3141 hy_X4_in np_X4_in rfl dX4_book_22) (fun q h he hX => a_out (unc_of Z.2.1 rfl) Z.2.2.2.1 he hX) (fun x22 h hf => ?kk22)
    refine AW.eq (g2 := F0 m 25 ls [.int x22]) rfl ?_
    refine AW.lift2 (fun _ _ _ _ k1 k2 => lv_if_eq (pc := 25) (tgt := 55) X.2.2.1 X.2.2.2.1 dX4_book_25 rfl k1 k2) (fun c => ?_) (fun c => ?_)
    · have hf := ite_t c hf
      exact w_X4_book_j55 GA Z (some a1)   (hl.sub [0] rfl) hf
    · have hf := ite_f c hf
      refine a_iload_n (pc := 28) X dX4_book_28 rfl hl 3 rfl ?_
      refine AW.lift (fun _ _ _ _ k => lv_i2l (pc := 29) X.2.2.1 X.2.2.2.1 dX4_book_29 rfl k) ?_
      refine AW.lift (fun _ _ _ _ k => lv_ldc2 (pc := 30) X.2.2.1 X.2.2.2.1 X.2.2.2.2.1 (gw X.1 X.2.1 q3203) dX4_book_30 k) ?_
      refine AW.lift (fun _ _ _ _ k => lv_ldc2 (pc := 33) X.2.2.1 X.2.2.2.1 X.2.2.2.2.1 (gw X.1 X.2.1 q3204) dX4_book_33 k) ?_
      refine a_callb (pc := 36) (rs := []) (avs := [vJ (v3.toInt64), vJ (10 : Int64), vJ (99 : Int64)]) Z.1 (w_X4_in GA (v3.toInt64) (10 : Int64) (99 : Int64)) (Or.inl rfl) q3142 q86 (by decide) (by decide) dX4_book_36 hl.1 (Nat.le_of_ble_eq_true rfl) hf (ct_S X (Or.inl rfl) q3142 q86 q3140 q3141 hy_X4_in np_X4_in rfl dX4_book_36) (fun q h he hX => a_out (unc_of Z.2.1 rfl) Z.2.2.2.1 he hX) (fun x36 h hf => ?kk36)
      refine AW.eq (g2 := F0 m 39 ls [.int x36]) rfl ?_
      refine AW.lift2 (fun _ _ _ _ k1 k2 => lv_if_eq (pc := 39) (tgt := 55) X.2.2.1 X.2.2.2.1 dX4_book_39 rfl k1 k2) (fun c => ?_) (fun c => ?_)
      · have hf := ite_t c hf
        exact w_X4_book_j55 GA Z (some a1)   (hl.sub [0] rfl) hf
      · have hf := ite_f c hf
        refine a_iload (pc := 42) X dX4_book_42 hl 4 rfl ?_
        refine AW.lift (fun _ _ _ _ k => lv_i2l (pc := 44) X.2.2.1 X.2.2.2.1 dX4_book_44 rfl k) ?_
        refine AW.lift (fun _ _ _ _ k => lv_lconst (pc := 45) (v := (0 : Int64)) X.2.2.1 X.2.2.2.1 dX4_book_45 rfl k) ?_
        refine AW.lift (fun _ _ _ _ k => lv_ldc2 (pc := 46) X.2.2.1 X.2.2.2.1 X.2.2.2.2.1 (gw X.1 X.2.1 q3205) dX4_book_46 k) ?_
        refine a_callb (pc := 49) (rs := []) (avs := [vJ (v4.toInt64), vJ (0 : Int64), vJ (4 : Int64)]) Z.1 (w_X4_in GA (v4.toInt64) (0 : Int64) (4 : Int64)) (Or.inl rfl) q3142 q86 (by decide) (by decide) dX4_book_49 hl.1 (Nat.le_of_ble_eq_true rfl) hf (ct_S X (Or.inl rfl) q3142 q86 q3140 q3141 hy_X4_in np_X4_in rfl dX4_book_49) (fun q h he hX => a_out (unc_of Z.2.1 rfl) Z.2.2.2.1 he hX) (fun x49 h hf => ?kk49)
        refine AW.eq (g2 := F0 m 52 ls [.int x49]) rfl ?_
        refine AW.lift2 (fun _ _ _ _ k1 k2 => lv_if_ne (pc := 52) (tgt := 61) X.2.2.1 X.2.2.2.1 dX4_book_52 rfl k2 k1) (fun c => ?_) (fun c => ?_)
        · have hf := ite_t c hf
          exact w_X4_book_j55 GA Z (some a1)   (hl.sub [0] rfl) hf
        · have hf := ite_f c hf
          refine a_aload_n (pc := 61) X dX4_book_61 rfl hl 0 rfl ?_
          refine AW.lift (fun _ _ _ _ k => lv_iconst (pc := 62) (v := (0 : Int32)) X.2.2.1 X.2.2.2.1 dX4_book_62 rfl k) ?_
          rcases dv_someS hf with ⟨hk, hf⟩ | ⟨-, hf⟩
          rotate_left
          · exact fl_none hf
          refine a_callb (pc := 63) (rs := []) (avs := [vR (some a1), vI (0 : Int32)]) Z.1 (w_X4_partiesAt GA (some a1) (0 : Int32)) (Or.inl rfl) q3312 q86 (by decide) (by decide) dX4_book_63 hl.1 (Nat.le_of_ble_eq_true rfl) hf (ct_V hk ⟨by decide, by decide⟩ X (Or.inl rfl) q3312 q3309 q3311 pv_53 hy_X4_partiesAt np_X4_partiesAt rfl dX4_book_63) (fun q h he hX => a_out (unc_of Z.2.1 rfl) Z.2.2.2.1 he hX) (fun x63 h hf => ?kk63)
          refine AW.eq (g2 := F0 m 66 ls [.int x63]) rfl ?_
          refine AW.lift (fun _ _ _ _ k => lv_bipush (pc := 66) (v := (6 : Int32)) X.2.2.1 X.2.2.2.1 dX4_book_66 rfl k) ?_
          refine AW.lift2 (fun _ _ _ _ k1 k2 => lv_icmp_ne (pc := 68) (tgt := 80) X.2.2.1 X.2.2.2.1 dX4_book_68 rfl k2 k1) (fun c => ?_) (fun c => ?_)
          · have hf := ite_t c hf
            refine a_aload_n (pc := 71) X dX4_book_71 rfl hl 0 rfl ?_
            refine AW.lift (fun _ _ _ _ k => lv_iconst (pc := 72) (v := (2 : Int32)) X.2.2.1 X.2.2.2.1 dX4_book_72 rfl k) ?_
            refine AW.lift (fun _ _ _ _ k => lv_iconst (pc := 73) (v := (1 : Int32)) X.2.2.1 X.2.2.2.1 dX4_book_73 rfl k) ?_
            refine AW.lift (fun _ _ _ _ k => lv_bipush (pc := 74) (v := (6 : Int32)) X.2.2.1 X.2.2.2.1 dX4_book_74 rfl k) ?_
            rcases dv_someS hf with ⟨hk, hf⟩ | ⟨-, hf⟩
            rotate_left
            · exact fl_none hf
            refine a_callb (pc := 76) (rs := []) (avs := [vR (some a1), vI (2 : Int32), vI (1 : Int32), vI (6 : Int32)]) Z.1 (w_X4_refuse GA (some a1) (2 : Int32) (1 : Int32) (6 : Int32)) (Or.inl rfl) q3116 q86 (by decide) (by decide) dX4_book_76 hl.1 (Nat.le_of_ble_eq_true rfl) hf (ct_V hk ⟨by decide, by decide⟩ X (Or.inl rfl) q3116 q3113 q3115 pv_29 hy_X4_refuse np_X4_refuse rfl dX4_book_76) (fun q h he hX => a_out (unc_of Z.2.1 rfl) Z.2.2.2.1 he hX) (fun x76 h hf => ?kk76)
            refine AW.eq (g2 := F0 m 79 ls [.int x76]) rfl ?_
            exact a_ireturn X Z.2.2.1 Z.2.2.2.1 dX4_book_79 hf
          · have hf := ite_f c hf
            refine a_aload_n (pc := 80) X dX4_book_80 rfl hl 0 rfl ?_
            refine a_get (pc := 81) (φ := 100) pR_t X Z.1.2.1 (gw X.1 X.2.1 q3025) (fun _ q => q) (by decide) dX4_book_81 hf (fun x81 hf => ?_)
            refine AW.lift (fun _ _ _ _ k => lv_iconst (pc := 84) (v := (4 : Int32)) X.2.2.1 X.2.2.2.1 dX4_book_84 rfl k) ?_
            refine a_iaload (pc := 85) X dX4_book_85 hf (fun x85 hf => ?_)
            refine AW.lift (fun _ _ _ _ k => lv_bipush (pc := 86) (v := (20 : Int32)) X.2.2.1 X.2.2.2.1 dX4_book_86 rfl k) ?_
            refine AW.lift2 (fun _ _ _ _ k1 k2 => lv_icmp_ne (pc := 88) (tgt := 100) X.2.2.1 X.2.2.2.1 dX4_book_88 rfl k2 k1) (fun c => ?_) (fun c => ?_)
            · have hf := ite_t c hf
              refine a_aload_n (pc := 91) X dX4_book_91 rfl hl 0 rfl ?_
              refine AW.lift (fun _ _ _ _ k => lv_iconst (pc := 92) (v := (2 : Int32)) X.2.2.1 X.2.2.2.1 dX4_book_92 rfl k) ?_
              refine AW.lift (fun _ _ _ _ k => lv_iconst (pc := 93) (v := (1 : Int32)) X.2.2.1 X.2.2.2.1 dX4_book_93 rfl k) ?_
              refine AW.lift (fun _ _ _ _ k => lv_bipush (pc := 94) (v := (20 : Int32)) X.2.2.1 X.2.2.2.1 dX4_book_94 rfl k) ?_
              rcases dv_someS hf with ⟨hk, hf⟩ | ⟨-, hf⟩
              rotate_left
              · exact fl_none hf
              refine a_callb (pc := 96) (rs := []) (avs := [vR (some a1), vI (2 : Int32), vI (1 : Int32), vI (20 : Int32)]) Z.1 (w_X4_refuse GA (some a1) (2 : Int32) (1 : Int32) (20 : Int32)) (Or.inl rfl) q3116 q86 (by decide) (by decide) dX4_book_96 hl.1 (Nat.le_of_ble_eq_true rfl) hf (ct_V hk ⟨by decide, by decide⟩ X (Or.inl rfl) q3116 q3113 q3115 pv_29 hy_X4_refuse np_X4_refuse rfl dX4_book_96) (fun q h he hX => a_out (unc_of Z.2.1 rfl) Z.2.2.2.1 he hX) (fun x96 h hf => ?kk96)
              refine AW.eq (g2 := F0 m 99 ls [.int x96]) rfl ?_
              exact a_ireturn X Z.2.2.1 Z.2.2.2.1 dX4_book_99 hf
            · have hf := ite_f c hf
              refine a_iload_n (pc := 100) X dX4_book_100 rfl hl 1 rfl ?_
              refine a_aload_n (pc := 101) X dX4_book_101 rfl hl 0 rfl ?_
              refine a_get (pc := 102) (φ := 100) pR_t X Z.1.2.1 (gw X.1 X.2.1 q3025) (fun _ q => q) (by decide) dX4_book_102 hf (fun x102 hf => ?_)
              refine AW.lift (fun _ _ _ _ k => lv_iconst (pc := 105) (v := (0 : Int32)) X.2.2.1 X.2.2.2.1 dX4_book_105 rfl k) ?_
              refine a_iaload (pc := 106) X dX4_book_106 hf (fun x106 hf => ?_)
              refine AW.lift2 (fun _ _ _ _ k1 k2 => lv_icmp_gt (pc := 107) (tgt := 124) X.2.2.1 X.2.2.2.1 dX4_book_107 rfl k1 k2) (fun c => ?_) (fun c => ?_)
              · have hf := ite_t c hf
                refine a_aload_n (pc := 124) X dX4_book_124 rfl hl 0 rfl ?_
                refine a_get (pc := 125) (φ := 100) pR_t X Z.1.2.1 (gw X.1 X.2.1 q3025) (fun _ q => q) (by decide) dX4_book_125 hf (fun x125 hf => ?_)
                refine AW.lift (fun _ _ _ _ k => lv_iconst (pc := 128) (v := (4 : Int32)) X.2.2.1 X.2.2.2.1 dX4_book_128 rfl k) ?_
                refine a_iaload (pc := 129) X dX4_book_129 hf (fun x129 hf => ?_)
                refine a_callb (pc := 130) (rs := []) (avs := [vI x129]) Z.1 (w_X4_party GA x129) (Or.inl rfl) q3315 q86 (by decide) (by decide) dX4_book_130 hl.1 (Nat.le_of_ble_eq_true rfl) hf (ct_S X (Or.inl rfl) q3315 q86 q3313 q3314 hy_X4_party np_X4_party rfl dX4_book_130) (fun q h he hX => a_out (unc_of Z.2.1 rfl) Z.2.2.2.1 he hX) (fun x130 h hf => ?kk130)
                refine AW.eq (g2 := F0 m 133 ls [.int x130]) rfl ?_
                refine a_istore (pc := 133) X dX4_book_133 hl (by decide) (lv' := [(5, vI x130), (0, vR (some a1)), (1, vI v1), (2, vI v2), (3, vI v3), (4, vI v4)]) rfl (fun ls hl => ?_)
                refine a_aload_n (pc := 135) X dX4_book_135 rfl hl 1 rfl ?_
                refine a_get (pc := 136) (φ := 100) pR_t X Z.1.2.1 (gw X.1 X.2.1 q3025) (fun _ q => q) (by decide) dX4_book_136 hf (fun x136 hf => ?_)
                refine a_iload (pc := 139) X dX4_book_139 hl 0 rfl ?_
                refine a_iload_n (pc := 141) X dX4_book_141 rfl hl 2 rfl ?_
                refine a_iastore (pc := 142) X dX4_book_142 hf (fun h hf => ?_)
                refine a_aload_n (pc := 143) X dX4_book_143 rfl hl 1 rfl ?_
                refine a_get (pc := 144) (φ := 100) pR_t X Z.1.2.1 (gw X.1 X.2.1 q3025) (fun _ q => q) (by decide) dX4_book_144 hf (fun x144 hf => ?_)
                refine a_iload (pc := 147) X dX4_book_147 hl 0 rfl ?_
                refine AW.lift (fun _ _ _ _ k => lv_iconst (pc := 149) (v := (1 : Int32)) X.2.2.1 X.2.2.2.1 dX4_book_149 rfl k) ?_
                refine AW.lift (fun _ _ _ _ k => lv_iadd (pc := 150) X.2.2.1 X.2.2.2.1 dX4_book_150 k) ?_
                refine a_iload_n (pc := 151) X dX4_book_151 rfl hl 3 rfl ?_
                refine a_iastore (pc := 152) X dX4_book_152 hf (fun h hf => ?_)
                refine a_aload_n (pc := 153) X dX4_book_153 rfl hl 1 rfl ?_
                refine a_get (pc := 154) (φ := 100) pR_t X Z.1.2.1 (gw X.1 X.2.1 q3025) (fun _ q => q) (by decide) dX4_book_154 hf (fun x154 hf => ?_)
                refine a_iload (pc := 157) X dX4_book_157 hl 0 rfl ?_
                refine AW.lift (fun _ _ _ _ k => lv_iconst (pc := 159) (v := (2 : Int32)) X.2.2.1 X.2.2.2.1 dX4_book_159 rfl k) ?_
                refine AW.lift (fun _ _ _ _ k => lv_iadd (pc := 160) X.2.2.1 X.2.2.2.1 dX4_book_160 k) ?_
                refine AW.lift (fun _ _ _ _ k => lv_iconst (pc := 161) (v := (0 : Int32)) X.2.2.1 X.2.2.2.1 dX4_book_161 rfl k) ?_
                refine a_iastore (pc := 162) X dX4_book_162 hf (fun h hf => ?_)
                refine a_aload_n (pc := 163) X dX4_book_163 rfl hl 1 rfl ?_
                refine a_get (pc := 164) (φ := 100) pR_t X Z.1.2.1 (gw X.1 X.2.1 q3025) (fun _ q => q) (by decide) dX4_book_164 hf (fun x164 hf => ?_)
                refine a_iload (pc := 167) X dX4_book_167 hl 0 rfl ?_
                refine AW.lift (fun _ _ _ _ k => lv_iconst (pc := 169) (v := (3 : Int32)) X.2.2.1 X.2.2.2.1 dX4_book_169 rfl k) ?_
                refine AW.lift (fun _ _ _ _ k => lv_iadd (pc := 170) X.2.2.1 X.2.2.2.1 dX4_book_170 k) ?_
                refine AW.lift (fun _ _ _ _ k => lv_iconst (pc := 171) (v := (0 : Int32)) X.2.2.1 X.2.2.2.1 dX4_book_171 rfl k) ?_
                refine a_iastore (pc := 172) X dX4_book_172 hf (fun h hf => ?_)
                refine a_aload_n (pc := 173) X dX4_book_173 rfl hl 1 rfl ?_
                refine a_get (pc := 174) (φ := 100) pR_t X Z.1.2.1 (gw X.1 X.2.1 q3025) (fun _ q => q) (by decide) dX4_book_174 hf (fun x174 hf => ?_)
                refine a_iload (pc := 177) X dX4_book_177 hl 0 rfl ?_
                refine AW.lift (fun _ _ _ _ k => lv_iconst (pc := 179) (v := (4 : Int32)) X.2.2.1 X.2.2.2.1 dX4_book_179 rfl k) ?_
                refine AW.lift (fun _ _ _ _ k => lv_iadd (pc := 180) X.2.2.1 X.2.2.2.1 dX4_book_180 k) ?_
                refine a_iload_n (pc := 181) X dX4_book_181 rfl hl 4 rfl ?_
                refine a_iastore (pc := 182) X dX4_book_182 hf (fun h hf => ?_)
                refine a_aload_n (pc := 183) X dX4_book_183 rfl hl 1 rfl ?_
                refine a_get (pc := 184) (φ := 100) pR_t X Z.1.2.1 (gw X.1 X.2.1 q3025) (fun _ q => q) (by decide) dX4_book_184 hf (fun x184 hf => ?_)
                refine a_iload (pc := 187) X dX4_book_187 hl 0 rfl ?_
                refine AW.lift (fun _ _ _ _ k => lv_iconst (pc := 189) (v := (5 : Int32)) X.2.2.1 X.2.2.2.1 dX4_book_189 rfl k) ?_
                refine AW.lift (fun _ _ _ _ k => lv_iadd (pc := 190) X.2.2.1 X.2.2.2.1 dX4_book_190 k) ?_
                refine a_iload (pc := 191) X dX4_book_191 hl 5 rfl ?_
                refine a_iastore (pc := 193) X dX4_book_193 hf (fun h hf => ?_)
                refine a_aload_n (pc := 194) X dX4_book_194 rfl hl 1 rfl ?_
                refine a_get (pc := 195) (φ := 100) pR_t X Z.1.2.1 (gw X.1 X.2.1 q3025) (fun _ q => q) (by decide) dX4_book_195 hf (fun x195 hf => ?_)
                refine AW.lift (fun _ _ _ _ k => lv_iconst (pc := 198) (v := (4 : Int32)) X.2.2.1 X.2.2.2.1 dX4_book_198 rfl k) ?_
                refine AW.lift (fun _ _ _ _ k => lv_dup2_11 (pc := 199) X.2.2.1 X.2.2.2.1 dX4_book_199 rfl (cat_rf _) k) ?_
                refine a_iaload (pc := 200) X dX4_book_200 hf (fun x200 hf => ?_)
                refine AW.lift (fun _ _ _ _ k => lv_iconst (pc := 201) (v := (1 : Int32)) X.2.2.1 X.2.2.2.1 dX4_book_201 rfl k) ?_
                refine AW.lift (fun _ _ _ _ k => lv_iadd (pc := 202) X.2.2.1 X.2.2.2.1 dX4_book_202 k) ?_
                refine a_iastore (pc := 203) X dX4_book_203 hf (fun h hf => ?_)
                refine a_aload_n (pc := 204) X dX4_book_204 rfl hl 1 rfl ?_
                refine a_aload_n (pc := 205) X dX4_book_205 rfl hl 1 rfl ?_
                refine a_get (pc := 206) (φ := 100) pR_t X Z.1.2.1 (gw X.1 X.2.1 q3025) (fun _ q => q) (by decide) dX4_book_206 hf (fun x206 hf => ?_)
                refine AW.lift (fun _ _ _ _ k => lv_iconst (pc := 209) (v := (4 : Int32)) X.2.2.1 X.2.2.2.1 dX4_book_209 rfl k) ?_
                refine a_iaload (pc := 210) X dX4_book_210 hf (fun x210 hf => ?_)
                refine AW.lift (fun _ _ _ _ k => lv_iconst (pc := 211) (v := (1 : Int32)) X.2.2.1 X.2.2.2.1 dX4_book_211 rfl k) ?_
                refine AW.lift (fun _ _ _ _ k => lv_isub (pc := 212) X.2.2.1 X.2.2.2.1 dX4_book_212 k) ?_
                rcases dv_someS hf with ⟨hk, hf⟩ | ⟨-, hf⟩
                rotate_left
                · exact fl_none hf
                refine a_callb (pc := 213) (rs := []) (avs := [vR (some a1), vI (x210 - (1 : Int32))]) Z.1 (w_X4_changed GA (some a1) (x210 - (1 : Int32))) (Or.inl rfl) q3127 q86 (by decide) (by decide) dX4_book_213 hl.1 (Nat.le_of_ble_eq_true rfl) hf (ct_V hk ⟨by decide, by decide⟩ X (Or.inl rfl) q3127 q3124 q3126 pv_31 hy_X4_changed np_X4_changed rfl dX4_book_213) (fun q h he hX => a_out (unc_of Z.2.1 rfl) Z.2.2.2.1 he hX) (fun x213 h hf => ?kk213)
                refine AW.eq (g2 := F0 m 216 ls [.int x213]) rfl ?_
                exact a_ireturn X Z.2.2.1 Z.2.2.2.1 dX4_book_216 hf
              · have hf := ite_f c hf
                refine a_aload_n (pc := 110) X dX4_book_110 rfl hl 0 rfl ?_
                refine AW.lift (fun _ _ _ _ k => lv_iconst (pc := 111) (v := (2 : Int32)) X.2.2.1 X.2.2.2.1 dX4_book_111 rfl k) ?_
                refine AW.lift (fun _ _ _ _ k => lv_bipush (pc := 112) (v := (12 : Int32)) X.2.2.1 X.2.2.2.1 dX4_book_112 rfl k) ?_
                refine a_aload_n (pc := 114) X dX4_book_114 rfl hl 0 rfl ?_
                refine a_get (pc := 115) (φ := 100) pR_t X Z.1.2.1 (gw X.1 X.2.1 q3025) (fun _ q => q) (by decide) dX4_book_115 hf (fun x115 hf => ?_)
                refine AW.lift (fun _ _ _ _ k => lv_iconst (pc := 118) (v := (0 : Int32)) X.2.2.1 X.2.2.2.1 dX4_book_118 rfl k) ?_
                refine a_iaload (pc := 119) X dX4_book_119 hf (fun x119 hf => ?_)
                rcases dv_someS hf with ⟨hk, hf⟩ | ⟨-, hf⟩
                rotate_left
                · exact fl_none hf
                refine a_callb (pc := 120) (rs := []) (avs := [vR (some a1), vI (2 : Int32), vI (12 : Int32), vI x119]) Z.1 (w_X4_refuse GA (some a1) (2 : Int32) (12 : Int32) x119) (Or.inl rfl) q3116 q86 (by decide) (by decide) dX4_book_120 hl.1 (Nat.le_of_ble_eq_true rfl) hf (ct_V hk ⟨by decide, by decide⟩ X (Or.inl rfl) q3116 q3113 q3115 pv_29 hy_X4_refuse np_X4_refuse rfl dX4_book_120) (fun q h he hX => a_out (unc_of Z.2.1 rfl) Z.2.2.2.1 he hX) (fun x120 h hf => ?kk120)
                refine AW.eq (g2 := F0 m 123 ls [.int x120]) rfl ?_
                exact a_ireturn X Z.2.2.1 Z.2.2.2.1 dX4_book_123 hf
end WK
