section WK
variable {l : Launch} {s0 : State} {a0 : Array Value} {K : Nat → Nat} {lam : Nat → ClassId}
variable {p : Program} {e : Env} {R : Room} {s : State} {m : MethodId} {args : Array Value} {below : List Frame} {meth : Method} {c : Code} {b : AH}
theorem w_X1_does_j56 {r : Except Nat (Int32) × AH} (GA : GA l s0 a0 K lam) (Z : WZ l s0 a0 K p s m c cX1_does yX1_does.cls 4 b R 20 3325 meth [(8, 55, 56, 25)] (some (.int)) yX1_does) (v0 : Option Nat) (t0 : Option Nat)  {h : AH} {ls : Array Slot} (hl : LV ls 4 [(0, vR v0)]) (hf : f_X1_does_j56 K v0 t0 h = some r) : AW s0 K lam p l e R s m args below meth c (AQ s0 K lam below oI b r s) b h (F0 m 56 ls [va_rf t0]) := by
  unfold f_X1_does_j56 at hf
  have X := Z.1.1
  refine a_astore_n (pc := 56) X dX1_does_56 rfl hl (by decide) (lv' := [(3, vR t0), (0, vR v0)]) rfl (fun ls hl => ?_)
  refine a_aload_n (pc := 57) X dX1_does_57 rfl hl 1 rfl ?_
  refine a_aload_n (pc := 58) X dX1_does_58 rfl hl 0 rfl ?_
  refine a_put (pc := 59) (φ := 207) X Z.1.2.1 Z.1.2.2.1 (gw X.1 X.2.1 q316) (fun _ q => q) (by decide) rfl (fits_rf _ (Or.inl ⟨_, rfl⟩)) dX1_does_59 hf (fun h hf => ?_)
  refine a_new (pc := 62) (cK := 21) (n := 6) X Z.1.2.1 Z.1.2.2.1 Z.1.2.2.2.1 Z.1.2.2.2.2.1 ⟨by decide, by decide, by decide⟩ (gw X.1 X.2.1 q1768) (gw X.1 X.2.1 q1769) (gw X.1 X.2.1 q122) dX1_does_62 hf (fun x62 h hf => ?_)
  refine AW.lift (fun _ _ _ _ k => lv_dup (pc := 65) X.2.2.1 X.2.2.2.1 dX1_does_65 (cat_rf _) k) ?_
  refine a_callb (pc := 66) (rs := [vR (some x62)]) (avs := [vR (some x62)]) Z.1 (w_J36_init GA (some x62)) (Or.inl rfl) q1779 q122 (by decide) (by decide) dX1_does_66 hl.1 (Nat.le_of_ble_eq_true rfl) hf (ct_I X q1779 q1777 q1778 rfl hy_J36_init np_J36_init rfl dX1_does_66) (fun q h he hX => a_out (unc_of Z.2.1 rfl) Z.2.2.2.1 he hX) (fun _ h hf => ?kk66)
  refine AW.eq (g2 := F0 m 69 ls [va_rf (some x62)]) rfl ?_
  exact a_athrow X dX1_does_69 hf (fun q e he hX => a_out (unc_of Z.2.1 rfl) Z.2.2.2.1 he hX)
theorem w_X1_does_j37 {r : Except Nat (Int32) × AH} (GA : GA l s0 a0 K lam) (Z : WZ l s0 a0 K p s m c cX1_does yX1_does.cls 4 b R 20 3325 meth [(8, 55, 56, 25)] (some (.int)) yX1_does) (v0 : Option Nat) (v2 : Option Nat) (v3 : Int32)   {h : AH} {ls : Array Slot} (hl : LV ls 4 [(0, vR v0), (2, vR v2), (3, vI v3)]) (hf : f_X1_does_j37 K v0 v2 v3 h = some r) : AW s0 K lam p l e R s m args below meth c (AQ s0 K lam below oI b r s) b h (F0 m 37 ls []) := by
  unfold f_X1_does_j37 at hf
  have X := Z.1.1
  refine a_aload_n (pc := 37) X dX1_does_37 rfl hl 0 rfl ?_
  refine a_get (pc := 38) (φ := 202) pR_t X Z.1.2.1 (gw X.1 X.2.1 q311) (fun _ q => q) (by decide) dX1_does_38 hf (fun x38 hf => ?_)
  refine a_aload_n (pc := 41) X dX1_does_41 rfl hl 0 rfl ?_
  refine a_get (pc := 42) (φ := 200) pR_t X Z.1.2.1 (gw X.1 X.2.1 q309) (fun _ q => q) (by decide) dX1_does_42 hf (fun x42 hf => ?_)
  obtain ⟨a45, rfl, ⟨hk, hf⟩ | ⟨-, hf⟩⟩ := dv_tsome hf
  rotate_left
  · exact fl_tnone hf
  refine a_callt (pc := 45) (rs := []) (avs := [vR (some a45), vR x42]) Z.1 (w_J2_add GA (some a45) x42) (Or.inl rfl) q834 q78 (by decide) (by decide) dX1_does_45 hl.1 (Nat.le_of_ble_eq_true rfl) hf (ct_V hk ⟨by decide, by decide⟩ X (Or.inl rfl) q834 q1767 q832 q833 hy_J2_add np_J2_add rfl dX1_does_45) (fun q h hf hX => ?hx45) (fun x45 h hf => ?kk45)
  case hx45 =>
    rcases ctc_some hf with ⟨hy, hf⟩ | ⟨hn0, hf⟩
    · refine a_catchH (st := 8) (en := 55) (hp := 56) (ct := 25) (pre := []) (suf := []) X hX Z.2.1 rfl (fun z hz => nomatch hz) (by decide) (Or.inr ⟨by decide, _, gw X.1 X.2.1 q1724, (cs_X12 GA) _ hy⟩) (AW.eq (g2 := F0 m 56 ls [va_rf (some q)]) rfl ?_)
      exact w_X1_does_j56 GA Z v0 (some q)  (hl.sub [0] rfl) hf
    · skip
      exact a_outH X Z.2.1 (by intro z hz; simp only [List.mem_cons, List.not_mem_nil, or_false] at hz; rcases hz with rfl <;> first | exact Or.inl (by decide) | exact Or.inr ⟨by decide, _, gw X.1 X.2.1 q1724, (nc_13_14_16_17_18_19_20_21_JumpHall_Refusal GA _ (by simpa using hn0)).2.2⟩) Z.2.2.2.1 (th_eq hf) hX
  refine AW.eq (g2 := F0 m 48 ls [.int x45]) rfl ?_
  refine AW.lift (fun _ _ _ _ k => lv_pop (pc := 48) X.2.2.1 X.2.2.2.1 dX1_does_48 rfl k) ?_
  refine a_aload_n (pc := 49) X dX1_does_49 rfl hl 0 rfl ?_
  refine a_aload_n (pc := 50) X dX1_does_50 rfl hl 1 rfl ?_
  refine a_put (pc := 51) (φ := 200) X Z.1.2.1 Z.1.2.2.1 (gw X.1 X.2.1 q309) (fun _ q => q) (by decide) rfl (fits_rf _ (Or.inl ⟨_, rfl⟩)) dX1_does_51 hf (fun h hf => ?_)
  refine a_iload_n (pc := 54) X dX1_does_54 rfl hl 2 rfl ?_
  exact a_ireturn X Z.2.2.1 Z.2.2.2.1 dX1_does_55 hf
theorem np_X1_does : npar yX1_does.desc 1 := by unfold npar; decide +kernel
theorem hy_X1_does : yX1_does.cls ≠ "java/lang/invoke/MethodHandle" ∧ yX1_does.cls ≠ "java/lang/invoke/VarHandle" := by decide +kernel
theorem w_X1_does (GA : GA l s0 a0 K lam) (v0 : Option Nat) (v1 : Option Nat) : AMet l s0 K lam yX1_does (Cond.codeWith yX1_does cX1_does (4 : Nat) (Option.some ClassFile.FieldType.int) [((8 : Nat), (55 : Nat), (56 : Nat), (25 : Nat))]) 20 3325 [vR v0, vR v1] oI (f_X1_does K v0 v1) := by
  refine AMet.ofW GA.1 (plainFor_of_name (by decide +kernel)) (Nat.le_of_ble_eq_true rfl) ?_
  intro b r hf p e s m args below meth c X hr hlk hnm hnd ht ls hl
  have Z : WZ l s0 a0 K p s m c cX1_does yX1_does.cls 4 b { frames := 20, cells := K 0 - aX b, slots := K 1 - aW b, locals := 3325 } 20 3325 meth [(8, 55, 56, 25)] (some (.int)) yX1_does := ⟨⟨X, GA.2.1, GA.2.2.1, rfl, rfl, Nat.le_refl _, Nat.le_refl _⟩, ht, hr, hlk, hnm, hnd⟩
  unfold f_X1_does at hf
  clear hr hlk hnm hnd ht
  refine a_aload_n (pc := 0) X dX1_does_0 rfl hl 0 rfl ?_
  refine a_get (pc := 1) (φ := 200) pR_t X Z.1.2.1 (gw X.1 X.2.1 q309) (fun _ q => q) (by decide) dX1_does_1 hf (fun x1 hf => ?_)
  obtain ⟨a4, rfl, ⟨hk, hf⟩ | ⟨-, hf⟩⟩ := dv_some hf
  rotate_left
  · exact fl_none hf
  refine a_callb (pc := 4) (rs := []) (avs := [vR (some a4)]) Z.1 (w_X2_copy GA (some a4)) (Or.inl rfl) q341 q75 (by decide) (by decide) dX1_does_4 hl.1 (Nat.le_of_ble_eq_true rfl) hf (ct_V hk ⟨by decide, by decide⟩ X (Or.inl rfl) q341 q338 q339 q340 hy_X2_copy np_X2_copy rfl dX1_does_4) (fun q h he hX => a_out (unc_of Z.2.1 rfl) Z.2.2.2.1 he hX) (fun x4 h hf => ?kk4)
  refine AW.eq (g2 := F0 m 7 ls [va_rf x4]) rfl ?_
  refine a_astore_n (pc := 7) X dX1_does_7 rfl hl (by decide) (lv' := [(2, vR x4), (0, vR v0), (1, vR v1)]) rfl (fun ls hl => ?_)
  refine a_aload_n (pc := 8) X dX1_does_8 rfl hl 2 rfl ?_
  refine a_aload_n (pc := 9) X dX1_does_9 rfl hl 0 rfl ?_
  obtain ⟨a10, rfl⟩ := dv_tref hf
  refine' a_virtT hf ?kv10 ?kw10 ?cs10
  case cs10 =>
    intro hf kk kx
    rcases dv_tsomeS hf with ⟨hk, hf⟩ | ⟨-, hf⟩
    · refine a_lamt (cl_201 (pc := 10) (rs := []) Z.1 GA hk q1756 (by decide) (by decide) hl.1 (Nat.le_of_ble_eq_true rfl) rfl dX1_does_10) hf (fun q h hf hX => kx _ _ hf hX) (fun v h hf => kk v h hf)
    rcases dv_tsomeS hf with ⟨hk, hf⟩ | ⟨-, hf⟩
    · refine a_lamt (cl_202 (pc := 10) (rs := []) Z.1 GA hk q1756 (by decide) (by decide) hl.1 (Nat.le_of_ble_eq_true rfl) rfl dX1_does_10) hf (fun q h hf hX => kx _ _ hf hX) (fun v h hf => kk v h hf)
    rcases dv_tsomeS hf with ⟨hk, hf⟩ | ⟨-, hf⟩
    · refine a_lamt (cl_204 (pc := 10) (rs := []) Z.1 GA hk q1756 (by decide) (by decide) hl.1 (Nat.le_of_ble_eq_true rfl) rfl dX1_does_10) hf (fun q h hf hX => kx _ _ hf hX) (fun v h hf => kk v h hf)
    rcases dv_tsomeS hf with ⟨hk, hf⟩ | ⟨-, hf⟩
    · refine a_lamt (cl_207 (pc := 10) (rs := []) Z.1 GA hk q1756 (by decide) (by decide) hl.1 (Nat.le_of_ble_eq_true rfl) rfl dX1_does_10) hf (fun q h hf hX => kx _ _ hf hX) (fun v h hf => kk v h hf)
    rcases dv_tsomeS hf with ⟨hk, hf⟩ | ⟨-, hf⟩
    · refine a_lamt (cl_208 (pc := 10) (rs := []) Z.1 GA hk q1756 (by decide) (by decide) hl.1 (Nat.le_of_ble_eq_true rfl) rfl dX1_does_10) hf (fun q h hf hX => kx _ _ hf hX) (fun v h hf => kk v h hf)
    rcases dv_tsomeS hf with ⟨hk, hf⟩ | ⟨-, hf⟩
    · refine a_lamt (cl_211 (pc := 10) (rs := []) Z.1 GA hk q1756 (by decide) (by decide) hl.1 (Nat.le_of_ble_eq_true rfl) rfl dX1_does_10) hf (fun q h hf hX => kx _ _ hf hX) (fun v h hf => kk v h hf)
    rcases dv_tsomeS hf with ⟨hk, hf⟩ | ⟨-, hf⟩
    · refine a_lamt (cl_212 (pc := 10) (rs := []) Z.1 GA hk q1756 (by decide) (by decide) hl.1 (Nat.le_of_ble_eq_true rfl) rfl dX1_does_10) hf (fun q h hf hX => kx _ _ hf hX) (fun v h hf => kk v h hf)
    rcases dv_tsomeS hf with ⟨hk, hf⟩ | ⟨-, hf⟩
    · refine a_lamt (cl_214 (pc := 10) (rs := []) Z.1 GA hk q1756 (by decide) (by decide) hl.1 (Nat.le_of_ble_eq_true rfl) rfl dX1_does_10) hf (fun q h hf hX => kx _ _ hf hX) (fun v h hf => kk v h hf)
    rcases dv_tsomeS hf with ⟨hk, hf⟩ | ⟨-, hf⟩
    · refine a_lamt (cl_215 (pc := 10) (rs := []) Z.1 GA hk q1756 (by decide) (by decide) hl.1 (Nat.le_of_ble_eq_true rfl) rfl dX1_does_10) hf (fun q h hf hX => kx _ _ hf hX) (fun v h hf => kk v h hf)
    rcases dv_tsomeS hf with ⟨hk, hf⟩ | ⟨-, hf⟩
    · refine a_lamt (cl_216 (pc := 10) (rs := []) Z.1 GA hk q1756 (by decide) (by decide) hl.1 (Nat.le_of_ble_eq_true rfl) rfl dX1_does_10) hf (fun q h hf hX => kx _ _ hf hX) (fun v h hf => kk v h hf)
    rcases dv_tsomeS hf with ⟨hk, hf⟩ | ⟨-, hf⟩
    · refine a_lamt (cl_217 (pc := 10) (rs := []) Z.1 GA hk q1756 (by decide) (by decide) hl.1 (Nat.le_of_ble_eq_true rfl) rfl dX1_does_10) hf (fun q h hf hX => kx _ _ hf hX) (fun v h hf => kk v h hf)
    rcases dv_tsomeS hf with ⟨hk, hf⟩ | ⟨-, hf⟩
    · refine a_lamt (cl_218 (pc := 10) (rs := []) Z.1 GA hk q1756 (by decide) (by decide) hl.1 (Nat.le_of_ble_eq_true rfl) rfl dX1_does_10) hf (fun q h hf hX => kx _ _ hf hX) (fun v h hf => kk v h hf)
    rcases dv_tsomeS hf with ⟨hk, hf⟩ | ⟨-, hf⟩
    · refine a_lamt (cl_219 (pc := 10) (rs := []) Z.1 GA hk q1756 (by decide) (by decide) hl.1 (Nat.le_of_ble_eq_true rfl) rfl dX1_does_10) hf (fun q h hf hX => kx _ _ hf hX) (fun v h hf => kk v h hf)
    rcases dv_tsomeS hf with ⟨hk, hf⟩ | ⟨-, hf⟩
    · refine a_lamt (cl_220 (pc := 10) (rs := []) Z.1 GA hk q1756 (by decide) (by decide) hl.1 (Nat.le_of_ble_eq_true rfl) rfl dX1_does_10) hf (fun q h hf hX => kx _ _ hf hX) (fun v h hf => kk v h hf)
    rcases dv_tsomeS hf with ⟨hk, hf⟩ | ⟨-, hf⟩
    · refine a_lamt (cl_225 (pc := 10) (rs := []) Z.1 GA hk q1756 (by decide) (by decide) hl.1 (Nat.le_of_ble_eq_true rfl) rfl dX1_does_10) hf (fun q h hf hX => kx _ _ hf hX) (fun v h hf => kk v h hf)
    exact fl_tnone hf
  case kw10 =>
    intro q h hf hX
    rcases ctc_some hf with ⟨hy, hf⟩ | ⟨hn0, hf⟩
    · refine a_catchH (st := 8) (en := 55) (hp := 56) (ct := 25) (pre := []) (suf := []) X hX Z.2.1 rfl (fun z hz => nomatch hz) (by decide) (Or.inr ⟨by decide, _, gw X.1 X.2.1 q1724, (cs_X12 GA) _ hy⟩) (AW.eq (g2 := F0 m 56 ls [va_rf (some q)]) rfl ?_)
      exact w_X1_does_j56 GA Z v0 (some q)  (hl.sub [1] rfl) hf
    · skip
      exact a_outH X Z.2.1 (by intro z hz; simp only [List.mem_cons, List.not_mem_nil, or_false] at hz; rcases hz with rfl <;> first | exact Or.inl (by decide) | exact Or.inr ⟨by decide, _, gw X.1 X.2.1 q1724, (nc_13_14_16_17_18_19_20_21_JumpHall_Refusal GA _ (by simpa using hn0)).2.2⟩) Z.2.2.2.1 (th_eq hf) hX
  case kv10 =>
  intro x10 h hf
  refine AW.eq (g2 := F0 m 15 ls [.int x10]) rfl ?_
  refine a_istore_n (pc := 15) X dX1_does_15 rfl hl (by decide) (lv' := [(3, vI x10), (2, vR x4), (0, vR v0), (1, vR (some a10))]) rfl (fun ls hl => ?_)
  refine a_aload_n (pc := 16) X dX1_does_16 rfl hl 2 rfl ?_
  refine a_get (pc := 17) (φ := 202) pR_t X Z.1.2.1 (gw X.1 X.2.1 q311) (fun _ q => q) (by decide) dX1_does_17 hf (fun x17 hf => ?_)
  obtain ⟨a20, rfl, ⟨hk, hf⟩ | ⟨-, hf⟩⟩ := dv_tsome hf
  rotate_left
  · exact fl_tnone hf
  refine a_callt (pc := 20) (rs := []) (avs := [vR (some a20)]) Z.1 (w_J2_size GA (some a20)) (Or.inl rfl) q1012 q78 (by decide) (by decide) dX1_does_20 hl.1 (Nat.le_of_ble_eq_true rfl) hf (ct_V hk ⟨by decide, by decide⟩ X (Or.inl rfl) q1012 q1705 q1011 q3486 hy_J2_size np_J2_size rfl dX1_does_20) (fun q h hf hX => ?hx20) (fun x20 h hf => ?kk20)
  case hx20 =>
    rcases ctc_some hf with ⟨hy, hf⟩ | ⟨hn0, hf⟩
    · refine a_catchH (st := 8) (en := 55) (hp := 56) (ct := 25) (pre := []) (suf := []) X hX Z.2.1 rfl (fun z hz => nomatch hz) (by decide) (Or.inr ⟨by decide, _, gw X.1 X.2.1 q1724, (cs_X12 GA) _ hy⟩) (AW.eq (g2 := F0 m 56 ls [va_rf (some q)]) rfl ?_)
      exact w_X1_does_j56 GA Z v0 (some q)  (hl.sub [2] rfl) hf
    · skip
      exact a_outH X Z.2.1 (by intro z hz; simp only [List.mem_cons, List.not_mem_nil, or_false] at hz; rcases hz with rfl <;> first | exact Or.inl (by decide) | exact Or.inr ⟨by decide, _, gw X.1 X.2.1 q1724, (nc_13_14_16_17_18_19_20_21_JumpHall_Refusal GA _ (by simpa using hn0)).2.2⟩) Z.2.2.2.1 (th_eq hf) hX
  refine AW.eq (g2 := F0 m 23 ls [.int x20]) rfl ?_
  refine AW.lift (fun _ _ _ _ k => lv_bipush (pc := 23) (v := (6 : Int32)) X.2.2.1 X.2.2.2.1 dX1_does_23 rfl k) ?_
  refine AW.lift2 (fun _ _ _ _ k1 k2 => lv_icmp_ne (pc := 25) (tgt := 37) X.2.2.1 X.2.2.2.1 dX1_does_25 rfl k2 k1) (fun c => ?_) (fun c => ?_)
  · have hf := ite_t c hf
    refine a_aload_n (pc := 28) X dX1_does_28 rfl hl 2 rfl ?_
    refine a_get (pc := 29) (φ := 202) pR_t X Z.1.2.1 (gw X.1 X.2.1 q311) (fun _ q => q) (by decide) dX1_does_29 hf (fun x29 hf => ?_)
    refine AW.lift (fun _ _ _ _ k => lv_iconst (pc := 32) (v := (0 : Int32)) X.2.2.1 X.2.2.2.1 dX1_does_32 rfl k) ?_
    obtain ⟨a33, rfl, ⟨hk, hf⟩ | ⟨-, hf⟩⟩ := dv_tsome hf
    rotate_left
    · exact fl_tnone hf
    refine a_callt (pc := 33) (rs := []) (avs := [vR (some a33), vI (0 : Int32)]) Z.1 (w_J2_remove GA (some a33) (0 : Int32)) (Or.inl rfl) q1762 q78 (by decide) (by decide) dX1_does_33 hl.1 (Nat.le_of_ble_eq_true rfl) hf (ct_V hk ⟨by decide, by decide⟩ X (Or.inl rfl) q1762 q1759 q1760 q1761 hy_J2_remove np_J2_remove rfl dX1_does_33) (fun q h hf hX => ?hx33) (fun x33 h hf => ?kk33)
    case hx33 =>
      rcases ctc_some hf with ⟨hy, hf⟩ | ⟨hn0, hf⟩
      · refine a_catchH (st := 8) (en := 55) (hp := 56) (ct := 25) (pre := []) (suf := []) X hX Z.2.1 rfl (fun z hz => nomatch hz) (by decide) (Or.inr ⟨by decide, _, gw X.1 X.2.1 q1724, (cs_X12 GA) _ hy⟩) (AW.eq (g2 := F0 m 56 ls [va_rf (some q)]) rfl ?_)
        exact w_X1_does_j56 GA Z v0 (some q)  (hl.sub [2] rfl) hf
      · skip
        exact a_outH X Z.2.1 (by intro z hz; simp only [List.mem_cons, List.not_mem_nil, or_false] at hz; rcases hz with rfl <;> first | exact Or.inl (by decide) | exact Or.inr ⟨by decide, _, gw X.1 X.2.1 q1724, (nc_13_14_16_17_18_19_20_21_JumpHall_Refusal GA _ (by simpa using hn0)).2.2⟩) Z.2.2.2.1 (th_eq hf) hX
    refine AW.eq (g2 := F0 m 36 ls [va_rf x33]) rfl ?_
    refine AW.lift (fun _ _ _ _ k => lv_pop (pc := 36) X.2.2.1 X.2.2.2.1 dX1_does_36 (cat_rf _) k) ?_
    exact w_X1_does_j37 GA Z v0 x4 x10   (hl.sub [2, 1, 0] rfl) hf
  · have hf := ite_f c hf
    exact w_X1_does_j37 GA Z v0 x4 x10   (hl.sub [2, 1, 0] rfl) hf
theorem np_X1_mat : npar yX1_mat.desc 0 := by unfold npar; decide +kernel
theorem hy_X1_mat : yX1_mat.cls ≠ "java/lang/invoke/MethodHandle" ∧ yX1_mat.cls ≠ "java/lang/invoke/VarHandle" := by decide +kernel
theorem w_X1_mat (GA : GA l s0 a0 K lam) (v0 : Option Nat) : AMet l s0 K lam yX1_mat (Cond.code yX1_mat cX1_mat (1 : Nat) (Option.some ClassFile.FieldType.int)) 21 3348 [vR v0] oI (f_X1_mat K v0) := by
  refine AMet.of GA.1 (plainFor_of_name (by decide +kernel)) (Nat.le_of_ble_eq_true rfl) ?_
  intro b r hf p e s m args below meth c X hr hlk hnm hnd ht ls hl
  have Z : WZ l s0 a0 K p s m c cX1_mat yX1_mat.cls 1 b { frames := 21, cells := K 0 - aX b, slots := K 1 - aW b, locals := 3348 } 21 3348 meth [] (some (.int)) yX1_mat := ⟨⟨X, GA.2.1, GA.2.2.1, rfl, rfl, Nat.le_refl _, Nat.le_refl _⟩, tab_nil ht, hr, hlk, hnm, hnd⟩
  unfold f_X1_mat at hf
  clear hr hlk hnm hnd ht
  refine a_aload_n (pc := 0) X dX1_mat_0 rfl hl 0 rfl ?_
  refine a_ndyC (pc := 1) (rs := [vR v0]) Z.1 Z.2.2.2.2.2 (siG_201 GA) (by decide) hl.1 (Nat.le_of_ble_eq_true rfl) dX1_mat_1 ?_
  refine AW.eq (g2 := F0 m 6 ls [va_rf (some (K 101)), va_rf v0]) rfl ?_
  obtain ⟨a6, rfl, ⟨hk, hf⟩ | ⟨-, hf⟩⟩ := dv_some hf
  rotate_left
  · exact fl_none hf
  refine a_callb (pc := 6) (rs := []) (avs := [vR (some a6), vR (some (K 101))]) Z.1 (w_X1_does GA (some a6) (some (K 101))) (Or.inr (Or.inl ⟨_, rfl⟩)) q1754 q74 (by decide) (by decide) dX1_mat_6 hl.1 (Nat.le_of_ble_eq_true rfl) hf (ct_V hk ⟨by decide, by decide⟩ X (Or.inr (Or.inl ⟨_, rfl⟩)) q1754 q1751 q1753 pv_4 hy_X1_does np_X1_does rfl dX1_mat_6) (fun q h he hX => a_out (unc_of Z.2.1 rfl) Z.2.2.2.1 he hX) (fun x6 h hf => ?kk6)
  refine AW.eq (g2 := F0 m 9 ls [.int x6]) rfl ?_
  exact a_ireturn X Z.2.2.1 Z.2.2.2.1 dX1_mat_9 hf
theorem np_X0_mat : npar yX0_mat.desc 2 := by unfold npar; decide +kernel
theorem hy_X0_mat : yX0_mat.cls ≠ "java/lang/invoke/MethodHandle" ∧ yX0_mat.cls ≠ "java/lang/invoke/VarHandle" := by decide +kernel
theorem w_X0_mat (GA : GA l s0 a0 K lam) (v0 : Option Nat) (v1 : Option Nat) : AMet l s0 K lam yX0_mat (Cond.codeWith yX0_mat cX0_mat (3 : Nat) (Option.some ClassFile.FieldType.int) [((0 : Nat), (8 : Nat), (11 : Nat), (13 : Nat))]) 22 3368 [vR v0, vR v1] oI (f_X0_mat K v0 v1) := by
  refine AMet.ofW GA.1 (plainFor_of_name (by decide +kernel)) (Nat.le_of_ble_eq_true rfl) ?_
  intro b r hf p e s m args below meth c X hr hlk hnm hnd ht ls hl
  have Z : WZ l s0 a0 K p s m c cX0_mat yX0_mat.cls 3 b { frames := 22, cells := K 0 - aX b, slots := K 1 - aW b, locals := 3368 } 22 3368 meth [(0, 8, 11, 13)] (some (.int)) yX0_mat := ⟨⟨X, GA.2.1, GA.2.2.1, rfl, rfl, Nat.le_refl _, Nat.le_refl _⟩, ht, hr, hlk, hnm, hnd⟩
  unfold f_X0_mat at hf
  clear hr hlk hnm hnd ht
  refine a_aload_n (pc := 0) X dX0_mat_0 rfl hl 1 rfl ?_
  refine AW.lift (fun _ _ _ _ k => lv_iconst (pc := 1) (v := (0 : Int32)) X.2.2.1 X.2.2.2.1 dX0_mat_1 rfl k) ?_
  refine a_aload_n (pc := 2) X dX0_mat_2 rfl hl 0 rfl ?_
  obtain ⟨a3, rfl, ⟨hk, hf⟩ | ⟨-, hf⟩⟩ := dv_tsome hf
  rotate_left
  · exact fl_tnone hf
  refine a_callt (pc := 3) (rs := [vI (0 : Int32), vR v1]) (avs := [vR (some a3)]) Z.1 (w_X1_mat GA (some a3)) (Or.inl rfl) q1713 q74 (by decide) (by decide) dX0_mat_3 hl.1 (Nat.le_of_ble_eq_true rfl) hf (ct_V hk ⟨by decide, by decide⟩ X (Or.inl rfl) q1713 q1710 q1711 q1712 hy_X1_mat np_X1_mat rfl dX0_mat_3) (fun q h hf hX => ?hx3) (fun x3 h hf => ?kk3)
  case hx3 =>
    rcases ctc_some hf with ⟨hy, hf⟩ | ⟨hn0, hf⟩
    · refine a_catchH (st := 0) (en := 8) (hp := 11) (ct := 13) (pre := []) (suf := []) X hX Z.2.1 rfl (fun z hz => nomatch hz) (by decide) (Or.inr ⟨by decide, _, gw X.1 X.2.1 q1709, (cs_X21 GA) _ hy⟩) (AW.eq (g2 := F0 m 11 ls [va_rf (some q)]) rfl ?_)
      refine a_astore_n (pc := 11) X dX0_mat_11 rfl hl (by decide) (lv' := [(2, vR (some q)), (0, vR (some a3)), (1, vR v1)]) rfl (fun ls hl => ?_)
      refine AW.lift (fun _ _ _ _ k => lv_iconst (pc := 12) (v := (1 : Int32)) X.2.2.1 X.2.2.2.1 dX0_mat_12 rfl k) ?_
      exact a_ireturn X Z.2.2.1 Z.2.2.2.1 dX0_mat_13 hf
    · skip
      exact a_outH X Z.2.1 (by intro z hz; simp only [List.mem_cons, List.not_mem_nil, or_false] at hz; rcases hz with rfl <;> first | exact Or.inl (by decide) | exact Or.inr ⟨by decide, _, gw X.1 X.2.1 q1709, (nc_12_13_14_16_17_18_19_20_java_lang_UnsupportedOperationException GA _ (by simpa using hn0)).2.2⟩) Z.2.2.2.1 (th_eq hf) hX
  refine AW.eq (g2 := F0 m 6 ls [.int x3, .int (0 : Int32), va_rf v1]) rfl ?_
  refine AW.lift (fun _ _ _ _ k => lv_i2l (pc := 6) X.2.2.1 X.2.2.2.1 dX0_mat_6 rfl k) ?_
  refine a_lastore (pc := 7) X dX0_mat_7 hf (fun h hf => ?_)
  refine AW.lift (fun _ _ _ _ k => lv_goto (pc := 8) (tgt := 14) X.2.2.1 X.2.2.2.1 dX0_mat_8 rfl k) ?_
  refine AW.lift (fun _ _ _ _ k => lv_iconst (pc := 14) (v := (0 : Int32)) X.2.2.1 X.2.2.2.1 dX0_mat_14 rfl k) ?_
  exact a_ireturn X Z.2.2.1 Z.2.2.2.1 dX0_mat_15 hf
theorem w_X4_layAside_b7 {r : Except Nat (Unit) × AH} (GA : GA l s0 a0 K lam) (Z : WZ l s0 a0 K p s m c cX4_layAside yX4_layAside.cls 2 b R 0 0 meth [] none yX4_layAside) (v0 : Option Nat) (v1 : Int32)  (rc7 : Int32 → AM (Unit)) (hrc7 : ∀ (v1 : Int32) (h : AH) (ls : Array Slot), LV ls 2 [(0, vR v0), (1, vI v1)] → rc7 v1 h = some r → AW s0 K lam p l e R s m args below meth c (AQ s0 K lam below oV b r s) b h (F0 m 7 ls [])) {h : AH} {ls : Array Slot} (hl : LV ls 2 [(0, vR v0), (1, vI v1)]) (hf : f_X4_layAside_b7 K rc7 v0 v1 h = some r) : AW s0 K lam p l e R s m args below meth c (AQ s0 K lam below oV b r s) b h (F0 m 7 ls []) := by
  unfold f_X4_layAside_b7 at hf
  have X := Z.1.1
  refine a_iload_n (pc := 7) X dX4_layAside_7 rfl hl 1 rfl ?_
  refine AW.lift (fun _ _ _ _ k => lv_sipush (pc := 8) (v := (306 : Int32)) X.2.2.1 X.2.2.2.1 dX4_layAside_8 rfl k) ?_
  refine AW.lift2 (fun _ _ _ _ k1 k2 => lv_icmp_ge (pc := 11) (tgt := 32) X.2.2.1 X.2.2.2.1 dX4_layAside_11 rfl k1 k2) (fun c => ?_) (fun c => ?_)
  · have hf := ite_t c hf
    exact a_return X Z.2.2.1 Z.2.2.2.1 dX4_layAside_32 hf
  · have hf := ite_f c hf
    refine a_aload_n (pc := 14) X dX4_layAside_14 rfl hl 0 rfl ?_
    refine a_get (pc := 15) (φ := 101) pR_t X Z.1.2.1 (gw X.1 X.2.1 q3026) (fun _ q => q) (by decide) dX4_layAside_15 hf (fun x15 hf => ?_)
    refine a_iload_n (pc := 18) X dX4_layAside_18 rfl hl 1 rfl ?_
    refine a_aload_n (pc := 19) X dX4_layAside_19 rfl hl 0 rfl ?_
    refine a_get (pc := 20) (φ := 100) pR_t X Z.1.2.1 (gw X.1 X.2.1 q3025) (fun _ q => q) (by decide) dX4_layAside_20 hf (fun x20 hf => ?_)
    refine a_iload_n (pc := 23) X dX4_layAside_23 rfl hl 1 rfl ?_
    refine a_iaload (pc := 24) X dX4_layAside_24 hf (fun x24 hf => ?_)
    refine a_iastore (pc := 25) X dX4_layAside_25 hf (fun h hf => ?_)
    refine a_iinc (pc := 26) (v := (v1 + (1 : Int32))) X dX4_layAside_26 hl (k := 1) rfl rfl (by decide) (lv' := [(1, vI (v1 + (1 : Int32))), (0, vR v0)]) rfl (fun ls hl => ?_)
    refine AW.lift (fun _ _ _ _ k => lv_goto (pc := 29) (tgt := 7) X.2.2.1 X.2.2.2.1 dX4_layAside_29 rfl k) ?_
    exact hrc7 (v1 + (1 : Int32)) _ _ (hl.sub [1, 0] rfl) hf
theorem w_X4_layAside_l7 {r : Except Nat (Unit) × AH} (GA : GA l s0 a0 K lam) (Z : WZ l s0 a0 K p s m c cX4_layAside yX4_layAside.cls 2 b R 0 0 meth [] none yX4_layAside) (v0 : Option Nat)  : ∀ (n : Nat) (v1 : Int32) (h : AH) (ls : Array Slot), LV ls 2 [(0, vR v0), (1, vI v1)] → f_X4_layAside_l7 K v0 n v1 h = some r → AW s0 K lam p l e R s m args below meth c (AQ s0 K lam below oV b r s) b h (F0 m 7 ls []) := by
  intro n
  induction n with
  | zero => intro v1 h ls hl hf; exact fl_no (h := h) hf
  | succ n ih => intro v1 h ls hl hf; exact w_X4_layAside_b7 GA Z v0 v1 (f_X4_layAside_l7 K v0 n) ih hl hf
theorem np_X4_layAside : npar yX4_layAside.desc 0 := by unfold npar; decide +kernel
theorem hy_X4_layAside : yX4_layAside.cls ≠ "java/lang/invoke/MethodHandle" ∧ yX4_layAside.cls ≠ "java/lang/invoke/VarHandle" := by decide +kernel
theorem w_X4_layAside (GA : GA l s0 a0 K lam) (v0 : Option Nat) : AMet l s0 K lam yX4_layAside (Cond.code yX4_layAside cX4_layAside (2 : Nat) (Option.none : Option ClassFile.FieldType)) 0 0 [vR v0] oV (f_X4_layAside K v0) := by
  refine AMet.of GA.1 (plainFor_of_name (by decide +kernel)) (Nat.le_of_ble_eq_true rfl) ?_
  intro b r hf p e s m args below meth c X hr hlk hnm hnd ht ls hl
  have Z : WZ l s0 a0 K p s m c cX4_layAside yX4_layAside.cls 2 b { frames := 0, cells := K 0 - aX b, slots := K 1 - aW b, locals := 0 } 0 0 meth [] none yX4_layAside := ⟨⟨X, GA.2.1, GA.2.2.1, rfl, rfl, Nat.le_refl _, Nat.le_refl _⟩, tab_nil ht, hr, hlk, hnm, hnd⟩
  unfold f_X4_layAside at hf
  clear hr hlk hnm hnd ht
  refine a_aload_n (pc := 0) X dX4_layAside_0 rfl hl 0 rfl ?_
  refine AW.lift (fun _ _ _ _ k => lv_iconst (pc := 1) (v := (0 : Int32)) X.2.2.1 X.2.2.2.1 dX4_layAside_1 rfl k) ?_
  refine a_put (pc := 2) (φ := 107) X Z.1.2.1 Z.1.2.2.1 (gw X.1 X.2.1 q3032) (fun _ q => q) (by decide) rfl rfl dX4_layAside_2 hf (fun h hf => ?_)
  refine AW.lift (fun _ _ _ _ k => lv_iconst (pc := 5) (v := (0 : Int32)) X.2.2.1 X.2.2.2.1 dX4_layAside_5 rfl k) ?_
  refine a_istore_n (pc := 6) X dX4_layAside_6 rfl hl (by decide) (lv' := [(1, vI (0 : Int32)), (0, vR v0)]) rfl (fun ls hl => ?_)
  exact w_X4_layAside_l7 GA Z v0  FU (0 : Int32) _ _ (hl.sub [1, 0] rfl) hf
theorem np_X4_throwing : npar yX4_throwing.desc 1 := by unfold npar; decide +kernel
theorem hy_X4_throwing : yX4_throwing.cls ≠ "java/lang/invoke/MethodHandle" ∧ yX4_throwing.cls ≠ "java/lang/invoke/VarHandle" := by decide +kernel
theorem w_X4_throwing (GA : GA l s0 a0 K lam) (v0 : Option Nat) (v1 : Int32) : AMet l s0 K lam yX4_throwing (Cond.code yX4_throwing cX4_throwing (2 : Nat) (Option.some ClassFile.FieldType.int)) 0 0 [vR v0, vI v1] oI (f_X4_throwing K v0 v1) := by
  refine AMet.of GA.1 (plainFor_of_name (by decide +kernel)) (Nat.le_of_ble_eq_true rfl) ?_
  intro b r hf p e s m args below meth c X hr hlk hnm hnd ht ls hl
  have Z : WZ l s0 a0 K p s m c cX4_throwing yX4_throwing.cls 2 b { frames := 0, cells := K 0 - aX b, slots := K 1 - aW b, locals := 0 } 0 0 meth [] (some (.int)) yX4_throwing := ⟨⟨X, GA.2.1, GA.2.2.1, rfl, rfl, Nat.le_refl _, Nat.le_refl _⟩, tab_nil ht, hr, hlk, hnm, hnd⟩
  unfold f_X4_throwing at hf
  clear hr hlk hnm hnd ht
  refine a_aload_n (pc := 0) X dX4_throwing_0 rfl hl 0 rfl ?_
  refine a_iload_n (pc := 1) X dX4_throwing_1 rfl hl 1 rfl ?_
  refine a_put (pc := 2) (φ := 107) X Z.1.2.1 Z.1.2.2.1 (gw X.1 X.2.1 q3032) (fun _ q => q) (by decide) rfl rfl dX4_throwing_2 hf (fun h hf => ?_)
  refine AW.lift (fun _ _ _ _ k => lv_iconst (pc := 5) (v := (0 : Int32)) X.2.2.1 X.2.2.2.1 dX4_throwing_5 rfl k) ?_
  exact a_ireturn X Z.2.2.1 Z.2.2.2.1 dX4_throwing_6 hf
theorem np_X4_refuse : npar yX4_refuse.desc 3 := by unfold npar; decide +kernel
theorem hy_X4_refuse : yX4_refuse.cls ≠ "java/lang/invoke/MethodHandle" ∧ yX4_refuse.cls ≠ "java/lang/invoke/VarHandle" := by decide +kernel
theorem w_X4_refuse (GA : GA l s0 a0 K lam) (v0 : Option Nat) (v1 : Int32) (v2 : Int32) (v3 : Int32) : AMet l s0 K lam yX4_refuse (Cond.code yX4_refuse cX4_refuse (4 : Nat) (Option.some ClassFile.FieldType.int)) 1 21 [vR v0, vI v1, vI v2, vI v3] oI (f_X4_refuse K v0 v1 v2 v3) := by
  refine AMet.of GA.1 (plainFor_of_name (by decide +kernel)) (Nat.le_of_ble_eq_true rfl) ?_
  intro b r hf p e s m args below meth c X hr hlk hnm hnd ht ls hl
  have Z : WZ l s0 a0 K p s m c cX4_refuse yX4_refuse.cls 4 b { frames := 1, cells := K 0 - aX b, slots := K 1 - aW b, locals := 21 } 1 21 meth [] (some (.int)) yX4_refuse := ⟨⟨X, GA.2.1, GA.2.2.1, rfl, rfl, Nat.le_refl _, Nat.le_refl _⟩, tab_nil ht, hr, hlk, hnm, hnd⟩
  unfold f_X4_refuse at hf
  clear hr hlk hnm hnd ht
  refine a_aload_n (pc := 0) X dX4_refuse_0 rfl hl 0 rfl ?_
  refine a_get (pc := 1) (φ := 108) pR_t X Z.1.2.1 (gw X.1 X.2.1 q3033) (fun _ q => q) (by decide) dX4_refuse_1 hf (fun x1 hf => ?_)
  refine AW.lift (fun _ _ _ _ k => lv_iconst (pc := 4) (v := (0 : Int32)) X.2.2.1 X.2.2.2.1 dX4_refuse_4 rfl k) ?_
  refine a_iload_n (pc := 5) X dX4_refuse_5 rfl hl 2 rfl ?_
  refine a_iastore (pc := 6) X dX4_refuse_6 hf (fun h hf => ?_)
  refine a_aload_n (pc := 7) X dX4_refuse_7 rfl hl 0 rfl ?_
  refine a_get (pc := 8) (φ := 109) pR_t X Z.1.2.1 (gw X.1 X.2.1 q3034) (fun _ q => q) (by decide) dX4_refuse_8 hf (fun x8 hf => ?_)
  refine AW.lift (fun _ _ _ _ k => lv_iconst (pc := 11) (v := (0 : Int32)) X.2.2.1 X.2.2.2.1 dX4_refuse_11 rfl k) ?_
  refine a_iload_n (pc := 12) X dX4_refuse_12 rfl hl 3 rfl ?_
  refine a_iastore (pc := 13) X dX4_refuse_13 hf (fun h hf => ?_)
  refine a_aload_n (pc := 14) X dX4_refuse_14 rfl hl 0 rfl ?_
  refine AW.lift (fun _ _ _ _ k => lv_iconst (pc := 15) (v := (1 : Int32)) X.2.2.1 X.2.2.2.1 dX4_refuse_15 rfl k) ?_
  refine a_put (pc := 16) (φ := 110) X Z.1.2.1 Z.1.2.2.1 (gw X.1 X.2.1 q3035) (fun _ q => q) (by decide) rfl rfl dX4_refuse_16 hf (fun h hf => ?_)
  refine a_aload_n (pc := 19) X dX4_refuse_19 rfl hl 0 rfl ?_
  refine a_iload_n (pc := 20) X dX4_refuse_20 rfl hl 1 rfl ?_
  obtain ⟨a21, rfl, ⟨hk, hf⟩ | ⟨-, hf⟩⟩ := dv_some hf
  rotate_left
  · exact fl_none hf
  refine a_callb (pc := 21) (rs := []) (avs := [vR (some a21), vI v1]) Z.1 (w_X4_throwing GA (some a21) v1) (Or.inl rfl) q3120 q86 (by decide) (by decide) dX4_refuse_21 hl.1 (Nat.le_of_ble_eq_true rfl) hf (ct_V hk ⟨by decide, by decide⟩ X (Or.inl rfl) q3120 q3117 q3119 pv_30 hy_X4_throwing np_X4_throwing rfl dX4_refuse_21) (fun q h he hX => a_out (unc_of Z.2.1 rfl) Z.2.2.2.1 he hX) (fun x21 h hf => ?kk21)
  refine AW.eq (g2 := F0 m 24 ls [.int x21]) rfl ?_
  exact a_ireturn X Z.2.2.1 Z.2.2.2.1 dX4_refuse_24 hf
theorem np_X4_of : npar yX4_of.desc 1 := by unfold npar; decide +kernel
theorem hy_X4_of : yX4_of.cls ≠ "java/lang/invoke/MethodHandle" ∧ yX4_of.cls ≠ "java/lang/invoke/VarHandle" := by decide +kernel
theorem w_X4_of (GA : GA l s0 a0 K lam) (v0 : Int32) : AMet l s0 K lam yX4_of (Cond.code yX4_of cX4_of (1 : Nat) (Option.some ClassFile.FieldType.int)) 0 0 [vI v0] oI (f_X4_of K v0) := by
  refine AMet.of GA.1 (plainFor_of_name (by decide +kernel)) (Nat.le_of_ble_eq_true rfl) ?_
  intro b r hf p e s m args below meth c X hr hlk hnm hnd ht ls hl
  have Z : WZ l s0 a0 K p s m c cX4_of yX4_of.cls 1 b { frames := 0, cells := K 0 - aX b, slots := K 1 - aW b, locals := 0 } 0 0 meth [] (some (.int)) yX4_of := ⟨⟨X, GA.2.1, GA.2.2.1, rfl, rfl, Nat.le_refl _, Nat.le_refl _⟩, tab_nil ht, hr, hlk, hnm, hnd⟩
  unfold f_X4_of at hf
  clear hr hlk hnm hnd ht
  refine AW.lift (fun _ _ _ _ k => lv_bipush (pc := 0) (v := (8 : Int32)) X.2.2.1 X.2.2.2.1 dX4_of_0 rfl k) ?_
  refine AW.lift (fun _ _ _ _ k => lv_bipush (pc := 2) (v := (10 : Int32)) X.2.2.1 X.2.2.2.1 dX4_of_2 rfl k) ?_
  refine a_iload_n (pc := 4) X dX4_of_4 rfl hl 0 rfl ?_
  refine AW.lift (fun _ _ _ _ k => lv_imul (pc := 5) X.2.2.1 X.2.2.2.1 dX4_of_5 k) ?_
  refine AW.lift (fun _ _ _ _ k => lv_iadd (pc := 6) X.2.2.1 X.2.2.2.1 dX4_of_6 k) ?_
  exact a_ireturn X Z.2.2.1 Z.2.2.2.1 dX4_of_7 hf
theorem w_X4_changed_j95 {r : Except Nat (Int32) × AH} (GA : GA l s0 a0 K lam) (Z : WZ l s0 a0 K p s m c cX4_changed yX4_changed.cls 3 b R 0 0 meth [] (some (.int)) yX4_changed) (v0 : Option Nat) (v1 : Int32)   {h : AH} {ls : Array Slot} (hl : LV ls 3 [(0, vR v0), (1, vI v1)]) (hf : f_X4_changed_j95 K v0 v1 h = some r) : AW s0 K lam p l e R s m args below meth c (AQ s0 K lam below oI b r s) b h (F0 m 95 ls []) := by
  unfold f_X4_changed_j95 at hf
  have X := Z.1.1
  refine a_aload_n (pc := 95) X dX4_changed_95 rfl hl 0 rfl ?_
  refine AW.lift (fun _ _ _ _ k => lv_dup (pc := 96) X.2.2.1 X.2.2.2.1 dX4_changed_96 (cat_rf _) k) ?_
  refine a_get (pc := 97) (φ := 106) pI_t X Z.1.2.1 (gw X.1 X.2.1 q3031) (fun _ q => q) (by decide) dX4_changed_97 hf (fun x97 hf => ?_)
  refine AW.lift (fun _ _ _ _ k => lv_iconst (pc := 100) (v := (1 : Int32)) X.2.2.1 X.2.2.2.1 dX4_changed_100 rfl k) ?_
  refine AW.lift (fun _ _ _ _ k => lv_iadd (pc := 101) X.2.2.1 X.2.2.2.1 dX4_changed_101 k) ?_
  refine a_put (pc := 102) (φ := 106) X Z.1.2.1 Z.1.2.2.1 (gw X.1 X.2.1 q3031) (fun _ q => q) (by decide) rfl rfl dX4_changed_102 hf (fun h hf => ?_)
  refine a_iload_n (pc := 105) X dX4_changed_105 rfl hl 1 rfl ?_
  exact a_ireturn X Z.2.2.1 Z.2.2.2.1 dX4_changed_106 hf
theorem w_X4_changed_b61 {r : Except Nat (Int32) × AH} (GA : GA l s0 a0 K lam) (Z : WZ l s0 a0 K p s m c cX4_changed yX4_changed.cls 3 b R 0 0 meth [] (some (.int)) yX4_changed) (v0 : Option Nat) (v1 : Int32) (v2 : Int32)  (rc61 : Int32 → AM (Int32)) (hrc61 : ∀ (v2 : Int32) (h : AH) (ls : Array Slot), LV ls 3 [(0, vR v0), (1, vI v1), (2, vI v2)] → rc61 v2 h = some r → AW s0 K lam p l e R s m args below meth c (AQ s0 K lam below oI b r s) b h (F0 m 61 ls [])) {h : AH} {ls : Array Slot} (hl : LV ls 3 [(0, vR v0), (1, vI v1), (2, vI v2)]) (hf : f_X4_changed_b61 K rc61 v0 v1 v2 h = some r) : AW s0 K lam p l e R s m args below meth c (AQ s0 K lam below oI b r s) b h (F0 m 61 ls []) := by
  unfold f_X4_changed_b61 at hf
  have X := Z.1.1
  refine a_iload_n (pc := 61) X dX4_changed_61 rfl hl 2 rfl ?_
  refine AW.lift (fun _ _ _ _ k => lv_sipush (pc := 62) (v := (306 : Int32)) X.2.2.1 X.2.2.2.1 dX4_changed_62 rfl k) ?_
  refine AW.lift2 (fun _ _ _ _ k1 k2 => lv_icmp_ge (pc := 65) (tgt := 95) X.2.2.1 X.2.2.2.1 dX4_changed_65 rfl k1 k2) (fun c => ?_) (fun c => ?_)
  · have hf := ite_t c hf
    exact w_X4_changed_j95 GA Z v0 v1   (hl.sub [0, 1] rfl) hf
  · have hf := ite_f c hf
    refine a_aload_n (pc := 68) X dX4_changed_68 rfl hl 0 rfl ?_
    refine a_get (pc := 69) (φ := 105) pR_t X Z.1.2.1 (gw X.1 X.2.1 q3030) (fun _ q => q) (by decide) dX4_changed_69 hf (fun x69 hf => ?_)
    refine AW.lift (fun _ _ _ _ k => lv_sipush (pc := 72) (v := (306 : Int32)) X.2.2.1 X.2.2.2.1 dX4_changed_72 rfl k) ?_
    refine a_aload_n (pc := 75) X dX4_changed_75 rfl hl 0 rfl ?_
    refine a_get (pc := 76) (φ := 106) pI_t X Z.1.2.1 (gw X.1 X.2.1 q3031) (fun _ q => q) (by decide) dX4_changed_76 hf (fun x76 hf => ?_)
    refine AW.lift (fun _ _ _ _ k => lv_imul (pc := 79) X.2.2.1 X.2.2.2.1 dX4_changed_79 k) ?_
    refine a_iload_n (pc := 80) X dX4_changed_80 rfl hl 2 rfl ?_
    refine AW.lift (fun _ _ _ _ k => lv_iadd (pc := 81) X.2.2.1 X.2.2.2.1 dX4_changed_81 k) ?_
    refine a_aload_n (pc := 82) X dX4_changed_82 rfl hl 0 rfl ?_
    refine a_get (pc := 83) (φ := 101) pR_t X Z.1.2.1 (gw X.1 X.2.1 q3026) (fun _ q => q) (by decide) dX4_changed_83 hf (fun x83 hf => ?_)
    refine a_iload_n (pc := 86) X dX4_changed_86 rfl hl 2 rfl ?_
    refine a_iaload (pc := 87) X dX4_changed_87 hf (fun x87 hf => ?_)
    refine a_iastore (pc := 88) X dX4_changed_88 hf (fun h hf => ?_)
    refine a_iinc (pc := 89) (v := (v2 + (1 : Int32))) X dX4_changed_89 hl (k := 2) rfl rfl (by decide) (lv' := [(2, vI (v2 + (1 : Int32))), (0, vR v0), (1, vI v1)]) rfl (fun ls hl => ?_)
    refine AW.lift (fun _ _ _ _ k => lv_goto (pc := 92) (tgt := 61) X.2.2.1 X.2.2.2.1 dX4_changed_92 rfl k) ?_
    exact hrc61 (v2 + (1 : Int32)) _ _ (hl.sub [1, 2, 0] rfl) hf
theorem w_X4_changed_l61 {r : Except Nat (Int32) × AH} (GA : GA l s0 a0 K lam) (Z : WZ l s0 a0 K p s m c cX4_changed yX4_changed.cls 3 b R 0 0 meth [] (some (.int)) yX4_changed) (v0 : Option Nat) (v1 : Int32)  : ∀ (n : Nat) (v2 : Int32) (h : AH) (ls : Array Slot), LV ls 3 [(0, vR v0), (1, vI v1), (2, vI v2)] → f_X4_changed_l61 K v0 v1 n v2 h = some r → AW s0 K lam p l e R s m args below meth c (AQ s0 K lam below oI b r s) b h (F0 m 61 ls []) := by
  intro n
  induction n with
  | zero => intro v2 h ls hl hf; exact fl_no (h := h) hf
  | succ n ih => intro v2 h ls hl hf; exact w_X4_changed_b61 GA Z v0 v1 v2 (f_X4_changed_l61 K v0 v1 n) ih hl hf
theorem w_X4_changed_j59 {r : Except Nat (Int32) × AH} (GA : GA l s0 a0 K lam) (Z : WZ l s0 a0 K p s m c cX4_changed yX4_changed.cls 3 b R 0 0 meth [] (some (.int)) yX4_changed) (v0 : Option Nat) (v1 : Int32)   {h : AH} {ls : Array Slot} (hl : LV ls 3 [(0, vR v0), (1, vI v1)]) (hf : f_X4_changed_j59 K v0 v1 h = some r) : AW s0 K lam p l e R s m args below meth c (AQ s0 K lam below oI b r s) b h (F0 m 59 ls []) := by
  unfold f_X4_changed_j59 at hf
  have X := Z.1.1
  refine AW.lift (fun _ _ _ _ k => lv_iconst (pc := 59) (v := (0 : Int32)) X.2.2.1 X.2.2.2.1 dX4_changed_59 rfl k) ?_
  refine a_istore_n (pc := 60) X dX4_changed_60 rfl hl (by decide) (lv' := [(2, vI (0 : Int32)), (0, vR v0), (1, vI v1)]) rfl (fun ls hl => ?_)
  exact w_X4_changed_l61 GA Z v0 v1  FU (0 : Int32) _ _ (hl.sub [1, 2, 0] rfl) hf
theorem w_X4_changed_j49 {r : Except Nat (Int32) × AH} (GA : GA l s0 a0 K lam) (Z : WZ l s0 a0 K p s m c cX4_changed yX4_changed.cls 3 b R 0 0 meth [] (some (.int)) yX4_changed) (v0 : Option Nat) (v1 : Int32)   {h : AH} {ls : Array Slot} (hl : LV ls 3 [(0, vR v0), (1, vI v1)]) (hf : f_X4_changed_j49 K v0 v1 h = some r) : AW s0 K lam p l e R s m args below meth c (AQ s0 K lam below oI b r s) b h (F0 m 49 ls []) := by
  unfold f_X4_changed_j49 at hf
  have X := Z.1.1
  refine a_aload_n (pc := 49) X dX4_changed_49 rfl hl 0 rfl ?_
  refine AW.lift (fun _ _ _ _ k => lv_dup (pc := 50) X.2.2.1 X.2.2.2.1 dX4_changed_50 (cat_rf _) k) ?_
  refine a_get (pc := 51) (φ := 106) pI_t X Z.1.2.1 (gw X.1 X.2.1 q3031) (fun _ q => q) (by decide) dX4_changed_51 hf (fun x51 hf => ?_)
  refine AW.lift (fun _ _ _ _ k => lv_iconst (pc := 54) (v := (1 : Int32)) X.2.2.1 X.2.2.2.1 dX4_changed_54 rfl k) ?_
  refine AW.lift (fun _ _ _ _ k => lv_isub (pc := 55) X.2.2.1 X.2.2.2.1 dX4_changed_55 k) ?_
  refine a_put (pc := 56) (φ := 106) X Z.1.2.1 Z.1.2.2.1 (gw X.1 X.2.1 q3031) (fun _ q => q) (by decide) rfl rfl dX4_changed_56 hf (fun h hf => ?_)
  exact w_X4_changed_j59 GA Z v0 v1   (hl.sub [0, 1] rfl) hf
theorem w_X4_changed_b20 {r : Except Nat (Int32) × AH} (GA : GA l s0 a0 K lam) (Z : WZ l s0 a0 K p s m c cX4_changed yX4_changed.cls 3 b R 0 0 meth [] (some (.int)) yX4_changed) (v0 : Option Nat) (v1 : Int32) (v2 : Int32)  (rc20 : Int32 → AM (Int32)) (hrc20 : ∀ (v2 : Int32) (h : AH) (ls : Array Slot), LV ls 3 [(0, vR v0), (1, vI v1), (2, vI v2)] → rc20 v2 h = some r → AW s0 K lam p l e R s m args below meth c (AQ s0 K lam below oI b r s) b h (F0 m 20 ls [])) {h : AH} {ls : Array Slot} (hl : LV ls 3 [(0, vR v0), (1, vI v1), (2, vI v2)]) (hf : f_X4_changed_b20 K rc20 v0 v1 v2 h = some r) : AW s0 K lam p l e R s m args below meth c (AQ s0 K lam below oI b r s) b h (F0 m 20 ls []) := by
  unfold f_X4_changed_b20 at hf
  have X := Z.1.1
  refine a_iload_n (pc := 20) X dX4_changed_20 rfl hl 2 rfl ?_
  refine AW.lift (fun _ _ _ _ k => lv_sipush (pc := 21) (v := (1530 : Int32)) X.2.2.1 X.2.2.2.1 dX4_changed_21 rfl k) ?_
  refine AW.lift2 (fun _ _ _ _ k1 k2 => lv_icmp_ge (pc := 24) (tgt := 49) X.2.2.1 X.2.2.2.1 dX4_changed_24 rfl k1 k2) (fun c => ?_) (fun c => ?_)
  · have hf := ite_t c hf
    exact w_X4_changed_j49 GA Z v0 v1   (hl.sub [0, 1] rfl) hf
  · have hf := ite_f c hf
    refine a_aload_n (pc := 27) X dX4_changed_27 rfl hl 0 rfl ?_
    refine a_get (pc := 28) (φ := 105) pR_t X Z.1.2.1 (gw X.1 X.2.1 q3030) (fun _ q => q) (by decide) dX4_changed_28 hf (fun x28 hf => ?_)
    refine a_iload_n (pc := 31) X dX4_changed_31 rfl hl 2 rfl ?_
    refine a_aload_n (pc := 32) X dX4_changed_32 rfl hl 0 rfl ?_
    refine a_get (pc := 33) (φ := 105) pR_t X Z.1.2.1 (gw X.1 X.2.1 q3030) (fun _ q => q) (by decide) dX4_changed_33 hf (fun x33 hf => ?_)
    refine a_iload_n (pc := 36) X dX4_changed_36 rfl hl 2 rfl ?_
    refine AW.lift (fun _ _ _ _ k => lv_sipush (pc := 37) (v := (306 : Int32)) X.2.2.1 X.2.2.2.1 dX4_changed_37 rfl k) ?_
    refine AW.lift (fun _ _ _ _ k => lv_iadd (pc := 40) X.2.2.1 X.2.2.2.1 dX4_changed_40 k) ?_
    refine a_iaload (pc := 41) X dX4_changed_41 hf (fun x41 hf => ?_)
    refine a_iastore (pc := 42) X dX4_changed_42 hf (fun h hf => ?_)
    refine a_iinc (pc := 43) (v := (v2 + (1 : Int32))) X dX4_changed_43 hl (k := 2) rfl rfl (by decide) (lv' := [(2, vI (v2 + (1 : Int32))), (0, vR v0), (1, vI v1)]) rfl (fun ls hl => ?_)
    refine AW.lift (fun _ _ _ _ k => lv_goto (pc := 46) (tgt := 20) X.2.2.1 X.2.2.2.1 dX4_changed_46 rfl k) ?_
    exact hrc20 (v2 + (1 : Int32)) _ _ (hl.sub [1, 2, 0] rfl) hf
theorem w_X4_changed_l20 {r : Except Nat (Int32) × AH} (GA : GA l s0 a0 K lam) (Z : WZ l s0 a0 K p s m c cX4_changed yX4_changed.cls 3 b R 0 0 meth [] (some (.int)) yX4_changed) (v0 : Option Nat) (v1 : Int32)  : ∀ (n : Nat) (v2 : Int32) (h : AH) (ls : Array Slot), LV ls 3 [(0, vR v0), (1, vI v1), (2, vI v2)] → f_X4_changed_l20 K v0 v1 n v2 h = some r → AW s0 K lam p l e R s m args below meth c (AQ s0 K lam below oI b r s) b h (F0 m 20 ls []) := by
  intro n
  induction n with
  | zero => intro v2 h ls hl hf; exact fl_no (h := h) hf
  | succ n ih => intro v2 h ls hl hf; exact w_X4_changed_b20 GA Z v0 v1 v2 (f_X4_changed_l20 K v0 v1 n) ih hl hf
theorem np_X4_changed : npar yX4_changed.desc 1 := by unfold npar; decide +kernel
theorem hy_X4_changed : yX4_changed.cls ≠ "java/lang/invoke/MethodHandle" ∧ yX4_changed.cls ≠ "java/lang/invoke/VarHandle" := by decide +kernel
theorem w_X4_changed (GA : GA l s0 a0 K lam) (v0 : Option Nat) (v1 : Int32) : AMet l s0 K lam yX4_changed (Cond.code yX4_changed cX4_changed (3 : Nat) (Option.some ClassFile.FieldType.int)) 0 0 [vR v0, vI v1] oI (f_X4_changed K v0 v1) := by
  refine AMet.of GA.1 (plainFor_of_name (by decide +kernel)) (Nat.le_of_ble_eq_true rfl) ?_
  intro b r hf p e s m args below meth c X hr hlk hnm hnd ht ls hl
  have Z : WZ l s0 a0 K p s m c cX4_changed yX4_changed.cls 3 b { frames := 0, cells := K 0 - aX b, slots := K 1 - aW b, locals := 0 } 0 0 meth [] (some (.int)) yX4_changed := ⟨⟨X, GA.2.1, GA.2.2.1, rfl, rfl, Nat.le_refl _, Nat.le_refl _⟩, tab_nil ht, hr, hlk, hnm, hnd⟩
  unfold f_X4_changed at hf
  clear hr hlk hnm hnd ht
  refine a_aload_n (pc := 0) X dX4_changed_0 rfl hl 0 rfl ?_
  refine a_get (pc := 1) (φ := 107) pI_t X Z.1.2.1 (gw X.1 X.2.1 q3032) (fun _ q => q) (by decide) dX4_changed_1 hf (fun x1 hf => ?_)
  refine AW.lift2 (fun _ _ _ _ k1 k2 => lv_if_le (pc := 4) (tgt := 9) X.2.2.1 X.2.2.2.1 dX4_changed_4 rfl k1 k2) (fun c => ?_) (fun c => ?_)
  · have hf := ite_t c hf
    refine a_aload_n (pc := 9) X dX4_changed_9 rfl hl 0 rfl ?_
    refine a_get (pc := 10) (φ := 106) pI_t X Z.1.2.1 (gw X.1 X.2.1 q3031) (fun _ q => q) (by decide) dX4_changed_10 hf (fun x10 hf => ?_)
    refine AW.lift (fun _ _ _ _ k => lv_bipush (pc := 13) (v := (6 : Int32)) X.2.2.1 X.2.2.2.1 dX4_changed_13 rfl k) ?_
    refine AW.lift2 (fun _ _ _ _ k1 k2 => lv_icmp_ne (pc := 15) (tgt := 59) X.2.2.1 X.2.2.2.1 dX4_changed_15 rfl k2 k1) (fun c => ?_) (fun c => ?_)
    · have hf := ite_t c hf
      refine AW.lift (fun _ _ _ _ k => lv_iconst (pc := 18) (v := (0 : Int32)) X.2.2.1 X.2.2.2.1 dX4_changed_18 rfl k) ?_
      refine a_istore_n (pc := 19) X dX4_changed_19 rfl hl (by decide) (lv' := [(2, vI (0 : Int32)), (0, vR v0), (1, vI v1)]) rfl (fun ls hl => ?_)
      exact w_X4_changed_l20 GA Z v0 v1  FU (0 : Int32) _ _ (hl.sub [1, 2, 0] rfl) hf
    · have hf := ite_f c hf
      exact w_X4_changed_j59 GA Z v0 v1   (hl.sub [0, 1] rfl) hf
  · have hf := ite_f c hf
    refine a_iload_n (pc := 7) X dX4_changed_7 rfl hl 1 rfl ?_
    exact a_ireturn X Z.2.2.1 Z.2.2.2.1 dX4_changed_8 hf
theorem w_X4_mat_j65 {r : Except Nat (Int32) × AH} (GA : GA l s0 a0 K lam) (Z : WZ l s0 a0 K p s m c cX4_mat yX4_mat.cls 2 b R 2 44 meth [] (some (.int)) yX4_mat) (v0 : Option Nat)   {h : AH} {ls : Array Slot} (hl : LV ls 2 [(0, vR v0)]) (hf : f_X4_mat_j65 K v0 h = some r) : AW s0 K lam p l e R s m args below meth c (AQ s0 K lam below oI b r s) b h (F0 m 65 ls []) := by
  unfold f_X4_mat_j65 at hf
  have X := Z.1.1
  refine a_aload_n (pc := 65) X dX4_mat_65 rfl hl 0 rfl ?_
  refine a_get (pc := 66) (φ := 100) pR_t X Z.1.2.1 (gw X.1 X.2.1 q3025) (fun _ q => q) (by decide) dX4_mat_66 hf (fun x66 hf => ?_)
  refine AW.lift (fun _ _ _ _ k => lv_iconst (pc := 69) (v := (1 : Int32)) X.2.2.1 X.2.2.2.1 dX4_mat_69 rfl k) ?_
  refine AW.lift (fun _ _ _ _ k => lv_dup2_11 (pc := 70) X.2.2.1 X.2.2.2.1 dX4_mat_70 rfl (cat_rf _) k) ?_
  refine a_iaload (pc := 71) X dX4_mat_71 hf (fun x71 hf => ?_)
  refine AW.lift (fun _ _ _ _ k => lv_iconst (pc := 72) (v := (1 : Int32)) X.2.2.1 X.2.2.2.1 dX4_mat_72 rfl k) ?_
  refine AW.lift (fun _ _ _ _ k => lv_iadd (pc := 73) X.2.2.1 X.2.2.2.1 dX4_mat_73 k) ?_
  refine a_iastore (pc := 74) X dX4_mat_74 hf (fun h hf => ?_)
  refine a_aload_n (pc := 75) X dX4_mat_75 rfl hl 0 rfl ?_
  refine a_aload_n (pc := 76) X dX4_mat_76 rfl hl 0 rfl ?_
  refine a_get (pc := 77) (φ := 100) pR_t X Z.1.2.1 (gw X.1 X.2.1 q3025) (fun _ q => q) (by decide) dX4_mat_77 hf (fun x77 hf => ?_)
  refine AW.lift (fun _ _ _ _ k => lv_iconst (pc := 80) (v := (1 : Int32)) X.2.2.1 X.2.2.2.1 dX4_mat_80 rfl k) ?_
  refine a_iaload (pc := 81) X dX4_mat_81 hf (fun x81 hf => ?_)
  refine AW.lift (fun _ _ _ _ k => lv_iconst (pc := 82) (v := (1 : Int32)) X.2.2.1 X.2.2.2.1 dX4_mat_82 rfl k) ?_
  refine AW.lift (fun _ _ _ _ k => lv_isub (pc := 83) X.2.2.1 X.2.2.2.1 dX4_mat_83 k) ?_
  obtain ⟨a84, rfl, ⟨hk, hf⟩ | ⟨-, hf⟩⟩ := dv_some hf
  rotate_left
  · exact fl_none hf
  refine a_callb (pc := 84) (rs := []) (avs := [vR (some a84), vI (x81 - (1 : Int32))]) Z.1 (w_X4_changed GA (some a84) (x81 - (1 : Int32))) (Or.inl rfl) q3127 q86 (by decide) (by decide) dX4_mat_84 hl.1 (Nat.le_of_ble_eq_true rfl) hf (ct_V hk ⟨by decide, by decide⟩ X (Or.inl rfl) q3127 q3124 q3126 pv_31 hy_X4_changed np_X4_changed rfl dX4_mat_84) (fun q h he hX => a_out (unc_of Z.2.1 rfl) Z.2.2.2.1 he hX) (fun x84 h hf => ?kk84)
  refine AW.eq (g2 := F0 m 87 ls [.int x84]) rfl ?_
  exact a_ireturn X Z.2.2.1 Z.2.2.2.1 dX4_mat_87 hf
theorem w_X4_mat_j58 {r : Except Nat (Int32) × AH} (GA : GA l s0 a0 K lam) (Z : WZ l s0 a0 K p s m c cX4_mat yX4_mat.cls 2 b R 2 44 meth [] (some (.int)) yX4_mat) (v0 : Option Nat) (v1 : Int32) (t0 : Int32) (t1 : Int32) (t2 : Option Nat) (rc26 : Int32 → AM (Int32)) (hrc26 : ∀ (v1 : Int32) (h : AH) (ls : Array Slot), LV ls 2 [(0, vR v0), (1, vI v1)] → rc26 v1 h = some r → AW s0 K lam p l e R s m args below meth c (AQ s0 K lam below oI b r s) b h (F0 m 26 ls [])) {h : AH} {ls : Array Slot} (hl : LV ls 2 [(0, vR v0), (1, vI v1)]) (hf : f_X4_mat_j58 K rc26 v0 v1 t0 t1 t2 h = some r) : AW s0 K lam p l e R s m args below meth c (AQ s0 K lam below oI b r s) b h (F0 m 58 ls [.int t0, .int t1, va_rf t2]) := by
  unfold f_X4_mat_j58 at hf
  have X := Z.1.1
  refine a_iastore (pc := 58) X dX4_mat_58 hf (fun h hf => ?_)
  refine a_iinc (pc := 59) (v := (v1 + (1 : Int32))) X dX4_mat_59 hl (k := 1) rfl rfl (by decide) (lv' := [(1, vI (v1 + (1 : Int32))), (0, vR v0)]) rfl (fun ls hl => ?_)
  refine AW.lift (fun _ _ _ _ k => lv_goto (pc := 62) (tgt := 26) X.2.2.1 X.2.2.2.1 dX4_mat_62 rfl k) ?_
  exact hrc26 (v1 + (1 : Int32)) _ _ (hl.sub [1, 0] rfl) hf
theorem w_X4_mat_b26 {r : Except Nat (Int32) × AH} (GA : GA l s0 a0 K lam) (Z : WZ l s0 a0 K p s m c cX4_mat yX4_mat.cls 2 b R 2 44 meth [] (some (.int)) yX4_mat) (v0 : Option Nat) (v1 : Int32)  (rc26 : Int32 → AM (Int32)) (hrc26 : ∀ (v1 : Int32) (h : AH) (ls : Array Slot), LV ls 2 [(0, vR v0), (1, vI v1)] → rc26 v1 h = some r → AW s0 K lam p l e R s m args below meth c (AQ s0 K lam below oI b r s) b h (F0 m 26 ls [])) {h : AH} {ls : Array Slot} (hl : LV ls 2 [(0, vR v0), (1, vI v1)]) (hf : f_X4_mat_b26 K rc26 v0 v1 h = some r) : AW s0 K lam p l e R s m args below meth c (AQ s0 K lam below oI b r s) b h (F0 m 26 ls []) := by
  unfold f_X4_mat_b26 at hf
  have X := Z.1.1
  refine a_iload_n (pc := 26) X dX4_mat_26 rfl hl 1 rfl ?_
  refine AW.lift (fun _ _ _ _ k => lv_bipush (pc := 27) (v := (10 : Int32)) X.2.2.1 X.2.2.2.1 dX4_mat_27 rfl k) ?_
  refine AW.lift2 (fun _ _ _ _ k1 k2 => lv_icmp_ge (pc := 29) (tgt := 65) X.2.2.1 X.2.2.2.1 dX4_mat_29 rfl k1 k2) (fun c => ?_) (fun c => ?_)
  · have hf := ite_t c hf
    exact w_X4_mat_j65 GA Z v0   (hl.sub [0] rfl) hf
  · have hf := ite_f c hf
    refine a_aload_n (pc := 32) X dX4_mat_32 rfl hl 0 rfl ?_
    refine a_get (pc := 33) (φ := 100) pR_t X Z.1.2.1 (gw X.1 X.2.1 q3025) (fun _ q => q) (by decide) dX4_mat_33 hf (fun x33 hf => ?_)
    refine a_aload_n (pc := 36) X dX4_mat_36 rfl hl 0 rfl ?_
    refine a_get (pc := 37) (φ := 100) pR_t X Z.1.2.1 (gw X.1 X.2.1 q3025) (fun _ q => q) (by decide) dX4_mat_37 hf (fun x37 hf => ?_)
    refine AW.lift (fun _ _ _ _ k => lv_iconst (pc := 40) (v := (1 : Int32)) X.2.2.1 X.2.2.2.1 dX4_mat_40 rfl k) ?_
    refine a_iaload (pc := 41) X dX4_mat_41 hf (fun x41 hf => ?_)
    refine a_callb (pc := 42) (rs := [vR x33]) (avs := [vI x41]) Z.1 (w_X4_of GA x41) (Or.inl rfl) q3123 q86 (by decide) (by decide) dX4_mat_42 hl.1 (Nat.le_of_ble_eq_true rfl) hf (ct_S X (Or.inl rfl) q3123 q86 q3121 q3122 hy_X4_of np_X4_of rfl dX4_mat_42) (fun q h he hX => a_out (unc_of Z.2.1 rfl) Z.2.2.2.1 he hX) (fun x42 h hf => ?kk42)
    refine AW.eq (g2 := F0 m 45 ls [.int x42, va_rf x33]) rfl ?_
    refine a_iload_n (pc := 45) X dX4_mat_45 rfl hl 1 rfl ?_
    refine AW.lift (fun _ _ _ _ k => lv_iadd (pc := 46) X.2.2.1 X.2.2.2.1 dX4_mat_46 k) ?_
    refine a_iload_n (pc := 47) X dX4_mat_47 rfl hl 1 rfl ?_
    refine AW.lift (fun _ _ _ _ k => lv_bipush (pc := 48) (v := (8 : Int32)) X.2.2.1 X.2.2.2.1 dX4_mat_48 rfl k) ?_
    refine AW.lift2 (fun _ _ _ _ k1 k2 => lv_icmp_ne (pc := 50) (tgt := 57) X.2.2.1 X.2.2.2.1 dX4_mat_50 rfl k2 k1) (fun c => ?_) (fun c => ?_)
    · have hf := ite_t c hf
      refine AW.lift (fun _ _ _ _ k => lv_iconst (pc := 53) (v := (1 : Int32)) X.2.2.1 X.2.2.2.1 dX4_mat_53 rfl k) ?_
      refine AW.lift (fun _ _ _ _ k => lv_goto (pc := 54) (tgt := 58) X.2.2.1 X.2.2.2.1 dX4_mat_54 rfl k) ?_
      exact w_X4_mat_j58 GA Z v0 v1 (1 : Int32) (x42 + v1) x33 rc26 hrc26 (hl.sub [0, 1] rfl) hf
    · have hf := ite_f c hf
      refine AW.lift (fun _ _ _ _ k => lv_iconst (pc := 57) (v := (0 : Int32)) X.2.2.1 X.2.2.2.1 dX4_mat_57 rfl k) ?_
      exact w_X4_mat_j58 GA Z v0 v1 (0 : Int32) (x42 + v1) x33 rc26 hrc26 (hl.sub [0, 1] rfl) hf
theorem w_X4_mat_l26 {r : Except Nat (Int32) × AH} (GA : GA l s0 a0 K lam) (Z : WZ l s0 a0 K p s m c cX4_mat yX4_mat.cls 2 b R 2 44 meth [] (some (.int)) yX4_mat) (v0 : Option Nat)  : ∀ (n : Nat) (v1 : Int32) (h : AH) (ls : Array Slot), LV ls 2 [(0, vR v0), (1, vI v1)] → f_X4_mat_l26 K v0 n v1 h = some r → AW s0 K lam p l e R s m args below meth c (AQ s0 K lam below oI b r s) b h (F0 m 26 ls []) := by
  intro n
  induction n with
  | zero => intro v1 h ls hl hf; exact fl_no (h := h) hf
  | succ n ih => intro v1 h ls hl hf; exact w_X4_mat_b26 GA Z v0 v1 (f_X4_mat_l26 K v0 n) ih hl hf
theorem np_X4_mat : npar yX4_mat.desc 0 := by unfold npar; decide +kernel
theorem hy_X4_mat : yX4_mat.cls ≠ "java/lang/invoke/MethodHandle" ∧ yX4_mat.cls ≠ "java/lang/invoke/VarHandle" := by decide +kernel
theorem w_X4_mat (GA : GA l s0 a0 K lam) (v0 : Option Nat) : AMet l s0 K lam yX4_mat (Cond.code yX4_mat cX4_mat (2 : Nat) (Option.some ClassFile.FieldType.int)) 2 44 [vR v0] oI (f_X4_mat K v0) := by
  refine AMet.of GA.1 (plainFor_of_name (by decide +kernel)) (Nat.le_of_ble_eq_true rfl) ?_
  intro b r hf p e s m args below meth c X hr hlk hnm hnd ht ls hl
  have Z : WZ l s0 a0 K p s m c cX4_mat yX4_mat.cls 2 b { frames := 2, cells := K 0 - aX b, slots := K 1 - aW b, locals := 44 } 2 44 meth [] (some (.int)) yX4_mat := ⟨⟨X, GA.2.1, GA.2.2.1, rfl, rfl, Nat.le_refl _, Nat.le_refl _⟩, tab_nil ht, hr, hlk, hnm, hnd⟩
  unfold f_X4_mat at hf
  clear hr hlk hnm hnd ht
  refine a_aload_n (pc := 0) X dX4_mat_0 rfl hl 0 rfl ?_
  obtain ⟨a1, rfl, ⟨hk, hf⟩ | ⟨-, hf⟩⟩ := dv_some hf
  rotate_left
  · exact fl_none hf
  refine a_callb (pc := 1) (rs := []) (avs := [vR (some a1)]) Z.1 (w_X4_layAside GA (some a1)) (Or.inl rfl) q3112 q86 (by decide) (by decide) dX4_mat_1 hl.1 (Nat.le_of_ble_eq_true rfl) hf (ct_V hk ⟨by decide, by decide⟩ X (Or.inl rfl) q3112 q3109 q3111 pv_28 hy_X4_layAside np_X4_layAside rfl dX4_mat_1) (fun q h he hX => a_out (unc_of Z.2.1 rfl) Z.2.2.2.1 he hX) (fun _ h hf => ?kk1)
  refine AW.eq (g2 := F0 m 4 ls []) rfl ?_
  refine a_aload_n (pc := 4) X dX4_mat_4 rfl hl 0 rfl ?_
  refine a_get (pc := 5) (φ := 100) pR_t X Z.1.2.1 (gw X.1 X.2.1 q3025) (fun _ q => q) (by decide) dX4_mat_5 hf (fun x5 hf => ?_)
  refine AW.lift (fun _ _ _ _ k => lv_iconst (pc := 8) (v := (1 : Int32)) X.2.2.1 X.2.2.2.1 dX4_mat_8 rfl k) ?_
  refine a_iaload (pc := 9) X dX4_mat_9 hf (fun x9 hf => ?_)
  refine AW.lift (fun _ _ _ _ k => lv_bipush (pc := 10) (v := (6 : Int32)) X.2.2.1 X.2.2.2.1 dX4_mat_10 rfl k) ?_
  refine AW.lift2 (fun _ _ _ _ k1 k2 => lv_icmp_ne (pc := 12) (tgt := 24) X.2.2.1 X.2.2.2.1 dX4_mat_12 rfl k2 k1) (fun c => ?_) (fun c => ?_)
  · have hf := ite_t c hf
    refine a_aload_n (pc := 15) X dX4_mat_15 rfl hl 0 rfl ?_
    refine AW.lift (fun _ _ _ _ k => lv_iconst (pc := 16) (v := (1 : Int32)) X.2.2.1 X.2.2.2.1 dX4_mat_16 rfl k) ?_
    refine AW.lift (fun _ _ _ _ k => lv_iconst (pc := 17) (v := (1 : Int32)) X.2.2.1 X.2.2.2.1 dX4_mat_17 rfl k) ?_
    refine AW.lift (fun _ _ _ _ k => lv_bipush (pc := 18) (v := (6 : Int32)) X.2.2.1 X.2.2.2.1 dX4_mat_18 rfl k) ?_
    rcases dv_someS hf with ⟨hk, hf⟩ | ⟨-, hf⟩
    rotate_left
    · exact fl_none hf
    refine a_callb (pc := 20) (rs := []) (avs := [vR (some a1), vI (1 : Int32), vI (1 : Int32), vI (6 : Int32)]) Z.1 (w_X4_refuse GA (some a1) (1 : Int32) (1 : Int32) (6 : Int32)) (Or.inl rfl) q3116 q86 (by decide) (by decide) dX4_mat_20 hl.1 (Nat.le_of_ble_eq_true rfl) hf (ct_V hk ⟨by decide, by decide⟩ X (Or.inl rfl) q3116 q3113 q3115 pv_29 hy_X4_refuse np_X4_refuse rfl dX4_mat_20) (fun q h he hX => a_out (unc_of Z.2.1 rfl) Z.2.2.2.1 he hX) (fun x20 h hf => ?kk20)
    refine AW.eq (g2 := F0 m 23 ls [.int x20]) rfl ?_
    exact a_ireturn X Z.2.2.1 Z.2.2.2.1 dX4_mat_23 hf
  · have hf := ite_f c hf
    refine AW.lift (fun _ _ _ _ k => lv_iconst (pc := 24) (v := (0 : Int32)) X.2.2.1 X.2.2.2.1 dX4_mat_24 rfl k) ?_
    refine a_istore_n (pc := 25) X dX4_mat_25 rfl hl (by decide) (lv' := [(1, vI (0 : Int32)), (0, vR (some a1))]) rfl (fun ls hl => ?_)
    exact w_X4_mat_l26 GA Z (some a1)  FU (0 : Int32) _ _ (hl.sub [1, 0] rfl) hf
theorem np_X4_thrown : npar yX4_thrown.desc 0 := by unfold npar; decide +kernel
theorem hy_X4_thrown : yX4_thrown.cls ≠ "java/lang/invoke/MethodHandle" ∧ yX4_thrown.cls ≠ "java/lang/invoke/VarHandle" := by decide +kernel
theorem w_X4_thrown (GA : GA l s0 a0 K lam) (v0 : Option Nat) : AMet l s0 K lam yX4_thrown (Cond.code yX4_thrown cX4_thrown (1 : Nat) (Option.some ClassFile.FieldType.int)) 0 0 [vR v0] oI (f_X4_thrown K v0) := by
  refine AMet.of GA.1 (plainFor_of_name (by decide +kernel)) (Nat.le_of_ble_eq_true rfl) ?_
  intro b r hf p e s m args below meth c X hr hlk hnm hnd ht ls hl
  have Z : WZ l s0 a0 K p s m c cX4_thrown yX4_thrown.cls 1 b { frames := 0, cells := K 0 - aX b, slots := K 1 - aW b, locals := 0 } 0 0 meth [] (some (.int)) yX4_thrown := ⟨⟨X, GA.2.1, GA.2.2.1, rfl, rfl, Nat.le_refl _, Nat.le_refl _⟩, tab_nil ht, hr, hlk, hnm, hnd⟩
  unfold f_X4_thrown at hf
  clear hr hlk hnm hnd ht
  refine a_aload_n (pc := 0) X dX4_thrown_0 rfl hl 0 rfl ?_
  refine a_get (pc := 1) (φ := 107) pI_t X Z.1.2.1 (gw X.1 X.2.1 q3032) (fun _ q => q) (by decide) dX4_thrown_1 hf (fun x1 hf => ?_)
  exact a_ireturn X Z.2.2.1 Z.2.2.2.1 dX4_thrown_4 hf
theorem np_J20_init_2 : npar yJ20_init_2.desc 0 := by unfold npar; decide +kernel
theorem hy_J20_init_2 : yJ20_init_2.cls ≠ "java/lang/invoke/MethodHandle" ∧ yJ20_init_2.cls ≠ "java/lang/invoke/VarHandle" := by decide +kernel
theorem w_J20_init_2 (GA : GA l s0 a0 K lam) (v0 : Option Nat) : AMet l s0 K lam yJ20_init_2 (Cond.code yJ20_init_2 cJ20_init_2 (1 : Nat) (Option.none : Option ClassFile.FieldType)) 7 380 [vR v0] oV (f_J20_init_2 K v0) := by
  refine AMet.of GA.1 (plainFor_of_name (by decide +kernel)) (Nat.le_of_ble_eq_true rfl) ?_
  intro b r hf p e s m args below meth c X hr hlk hnm hnd ht ls hl
  have Z : WZ l s0 a0 K p s m c cJ20_init_2 yJ20_init_2.cls 1 b { frames := 7, cells := K 0 - aX b, slots := K 1 - aW b, locals := 380 } 7 380 meth [] none yJ20_init_2 := ⟨⟨X, GA.2.1, GA.2.2.1, rfl, rfl, Nat.le_refl _, Nat.le_refl _⟩, tab_nil ht, hr, hlk, hnm, hnd⟩
  unfold f_J20_init_2 at hf
  clear hr hlk hnm hnd ht
  refine a_aload_n (pc := 0) X dJ20_init_2_0 rfl hl 0 rfl ?_
  obtain ⟨a1, rfl, hf⟩ := nz_some hf
  refine a_callb (pc := 1) (rs := []) (avs := [vR (some a1)]) Z.1 (w_J15_init GA (some a1)) (Or.inl rfl) q456 q97 (by decide) (by decide) dJ20_init_2_1 hl.1 (Nat.le_of_ble_eq_true rfl) hf (ct_I X q456 q1821 q455 rfl hy_J15_init np_J15_init rfl dJ20_init_2_1) (fun q h he hX => a_out (unc_of Z.2.1 rfl) Z.2.2.2.1 he hX) (fun _ h hf => ?kk1)
  refine AW.eq (g2 := F0 m 4 ls []) rfl ?_
  exact a_return X Z.2.2.1 Z.2.2.2.1 dJ20_init_2_4 hf
theorem np_X1_checkIndex : npar yX1_checkIndex.desc 1 := by unfold npar; decide +kernel
theorem hy_X1_checkIndex : yX1_checkIndex.cls ≠ "java/lang/invoke/MethodHandle" ∧ yX1_checkIndex.cls ≠ "java/lang/invoke/VarHandle" := by decide +kernel
theorem w_X1_checkIndex (GA : GA l s0 a0 K lam) (v0 : Int32) : AMet l s0 K lam yX1_checkIndex (Cond.code yX1_checkIndex cX1_checkIndex (1 : Nat) (Option.none : Option ClassFile.FieldType)) 8 400 [vI v0] oV (f_X1_checkIndex K v0) := by
  refine AMet.of GA.1 (plainFor_of_name (by decide +kernel)) (Nat.le_of_ble_eq_true rfl) ?_
  intro b r hf p e s m args below meth c X hr hlk hnm hnd ht ls hl
  have Z : WZ l s0 a0 K p s m c cX1_checkIndex yX1_checkIndex.cls 1 b { frames := 8, cells := K 0 - aX b, slots := K 1 - aW b, locals := 400 } 8 400 meth [] none yX1_checkIndex := ⟨⟨X, GA.2.1, GA.2.2.1, rfl, rfl, Nat.le_refl _, Nat.le_refl _⟩, tab_nil ht, hr, hlk, hnm, hnd⟩
  unfold f_X1_checkIndex at hf
  clear hr hlk hnm hnd ht
  refine a_iload_n (pc := 0) X dX1_checkIndex_0 rfl hl 0 rfl ?_
  refine AW.lift2 (fun _ _ _ _ k1 k2 => lv_if_ne (pc := 1) (tgt := 12) X.2.2.1 X.2.2.2.1 dX1_checkIndex_1 rfl k2 k1) (fun c => ?_) (fun c => ?_)
  · have hf := ite_t c hf
    refine a_new (pc := 4) (cK := 19) (n := 6) X Z.1.2.1 Z.1.2.2.1 Z.1.2.2.2.1 Z.1.2.2.2.2.1 ⟨by decide, by decide, by decide⟩ (gw X.1 X.2.1 q1817) (gw X.1 X.2.1 q531) (gw X.1 X.2.1 q102) dX1_checkIndex_4 hf (fun x4 h hf => ?_)
    refine AW.lift (fun _ _ _ _ k => lv_dup (pc := 7) X.2.2.1 X.2.2.2.1 dX1_checkIndex_7 (cat_rf _) k) ?_
    refine a_callb (pc := 8) (rs := [vR (some x4)]) (avs := [vR (some x4)]) Z.1 (w_J20_init_2 GA (some x4)) (Or.inl rfl) q1820 q102 (by decide) (by decide) dX1_checkIndex_8 hl.1 (Nat.le_of_ble_eq_true rfl) hf (ct_I X q1820 q1818 q1819 rfl hy_J20_init_2 np_J20_init_2 rfl dX1_checkIndex_8) (fun q h he hX => a_out (unc_of Z.2.1 rfl) Z.2.2.2.1 he hX) (fun _ h hf => ?kk8)
    refine AW.eq (g2 := F0 m 11 ls [va_rf (some x4)]) rfl ?_
    exact a_athrow X dX1_checkIndex_11 hf (fun q e he hX => a_out (unc_of Z.2.1 rfl) Z.2.2.2.1 he hX)
  · have hf := ite_f c hf
    exact a_return X Z.2.2.1 Z.2.2.2.1 dX1_checkIndex_12 hf
theorem w_X1_fix_j26 {r : Except Nat (Int32) × AH} (GA : GA l s0 a0 K lam) (Z : WZ l s0 a0 K p s m c cX1_fix yX1_fix.cls 3 b R 21 3348 meth [] (some (.int)) yX1_fix) (v0 : Option Nat) (v1 : Int32) (v2 : Int32) (t0 : Int32)  {h : AH} {ls : Array Slot} (hl : LV ls 3 [(0, vR v0), (1, vI v1), (2, vI v2)]) (hf : f_X1_fix_j26 K v0 v1 v2 t0 h = some r) : AW s0 K lam p l e R s m args below meth c (AQ s0 K lam below oI b r s) b h (F0 m 26 ls [.int t0]) := by
  unfold f_X1_fix_j26 at hf
  have X := Z.1.1
  refine a_callb (pc := 26) (rs := []) (avs := [vI t0]) Z.1 (w_X1_checkIndex GA t0) (Or.inl rfl) q1816 q74 (by decide) (by decide) dX1_fix_26 hl.1 (Nat.le_of_ble_eq_true rfl) hf (ct_S X (Or.inl rfl) q1816 q74 q1814 q1815 hy_X1_checkIndex np_X1_checkIndex rfl dX1_fix_26) (fun q h he hX => a_out (unc_of Z.2.1 rfl) Z.2.2.2.1 he hX) (fun _ h hf => ?kk26)
  refine AW.eq (g2 := F0 m 29 ls []) rfl ?_
  refine a_aload_n (pc := 29) X dX1_fix_29 rfl hl 0 rfl ?_
  refine a_iload_n (pc := 30) X dX1_fix_30 rfl hl 1 rfl ?_
  refine a_iload_n (pc := 31) X dX1_fix_31 rfl hl 2 rfl ?_
  refine a_ndy (pc := 32) (rs := [vR v0]) (avs := [vI v1, vI v2]) Z.1 Z.2.2.2.2.2 (siG_202 GA) hfb_2 (lw_all_tbl q3550) ⟨by decide, by decide⟩ rfl rfl rfl (by decide) hl.1 (Nat.le_of_ble_eq_true rfl) (Nat.le_of_ble_eq_true rfl) rfl dX1_fix_32 hf (fun x32 h hf => ?_)
  refine AW.eq (g2 := F0 m 37 ls [va_rf (some x32), va_rf v0]) rfl ?_
  obtain ⟨a37, rfl, ⟨hk, hf⟩ | ⟨-, hf⟩⟩ := dv_some hf
  rotate_left
  · exact fl_none hf
  refine a_callb (pc := 37) (rs := []) (avs := [vR (some a37), vR (some x32)]) Z.1 (w_X1_does GA (some a37) (some x32)) (Or.inr (Or.inl ⟨_, rfl⟩)) q1754 q74 (by decide) (by decide) dX1_fix_37 hl.1 (Nat.le_of_ble_eq_true rfl) hf (ct_V hk ⟨by decide, by decide⟩ X (Or.inr (Or.inl ⟨_, rfl⟩)) q1754 q1751 q1753 pv_4 hy_X1_does np_X1_does rfl dX1_fix_37) (fun q h he hX => a_out (unc_of Z.2.1 rfl) Z.2.2.2.1 he hX) (fun x37 h hf => ?kk37)
  refine AW.eq (g2 := F0 m 40 ls [.int x37]) rfl ?_
  exact a_ireturn X Z.2.2.1 Z.2.2.2.1 dX1_fix_40 hf
theorem w_X1_fix_j25 {r : Except Nat (Int32) × AH} (GA : GA l s0 a0 K lam) (Z : WZ l s0 a0 K p s m c cX1_fix yX1_fix.cls 3 b R 21 3348 meth [] (some (.int)) yX1_fix) (v0 : Option Nat) (v1 : Int32) (v2 : Int32)   {h : AH} {ls : Array Slot} (hl : LV ls 3 [(0, vR v0), (1, vI v1), (2, vI v2)]) (hf : f_X1_fix_j25 K v0 v1 v2 h = some r) : AW s0 K lam p l e R s m args below meth c (AQ s0 K lam below oI b r s) b h (F0 m 25 ls []) := by
  unfold f_X1_fix_j25 at hf
  have X := Z.1.1
  refine AW.lift (fun _ _ _ _ k => lv_iconst (pc := 25) (v := (0 : Int32)) X.2.2.1 X.2.2.2.1 dX1_fix_25 rfl k) ?_
  exact w_X1_fix_j26 GA Z v0 v1 v2 (0 : Int32)  (hl.sub [0, 1, 2] rfl) hf
theorem np_X1_fix : npar yX1_fix.desc 2 := by unfold npar; decide +kernel
theorem hy_X1_fix : yX1_fix.cls ≠ "java/lang/invoke/MethodHandle" ∧ yX1_fix.cls ≠ "java/lang/invoke/VarHandle" := by decide +kernel
theorem w_X1_fix (GA : GA l s0 a0 K lam) (v0 : Option Nat) (v1 : Int32) (v2 : Int32) : AMet l s0 K lam yX1_fix (Cond.code yX1_fix cX1_fix (3 : Nat) (Option.some ClassFile.FieldType.int)) 21 3348 [vR v0, vI v1, vI v2] oI (f_X1_fix K v0 v1 v2) := by
  refine AMet.of GA.1 (plainFor_of_name (by decide +kernel)) (Nat.le_of_ble_eq_true rfl) ?_
  intro b r hf p e s m args below meth c X hr hlk hnm hnd ht ls hl
  have Z : WZ l s0 a0 K p s m c cX1_fix yX1_fix.cls 3 b { frames := 21, cells := K 0 - aX b, slots := K 1 - aW b, locals := 3348 } 21 3348 meth [] (some (.int)) yX1_fix := ⟨⟨X, GA.2.1, GA.2.2.1, rfl, rfl, Nat.le_refl _, Nat.le_refl _⟩, tab_nil ht, hr, hlk, hnm, hnd⟩
  unfold f_X1_fix at hf
  clear hr hlk hnm hnd ht
  refine a_aload_n (pc := 0) X dX1_fix_0 rfl hl 0 rfl ?_
  refine a_get (pc := 1) (φ := 200) pR_t X Z.1.2.1 (gw X.1 X.2.1 q309) (fun _ q => q) (by decide) dX1_fix_1 hf (fun x1 hf => ?_)
  refine a_iload_n (pc := 4) X dX1_fix_4 rfl hl 1 rfl ?_
  obtain ⟨a5, rfl, ⟨hk, hf⟩ | ⟨-, hf⟩⟩ := dv_some hf
  rotate_left
  · exact fl_none hf
  refine a_callb (pc := 5) (rs := []) (avs := [vR (some a5), vI v1]) Z.1 (w_X2_isMat GA (some a5) v1) (Or.inl rfl) q1809 q75 (by decide) (by decide) dX1_fix_5 hl.1 (Nat.le_of_ble_eq_true rfl) hf (ct_V hk ⟨by decide, by decide⟩ X (Or.inl rfl) q1809 q1806 q1807 q1808 hy_X2_isMat np_X2_isMat rfl dX1_fix_5) (fun q h he hX => a_out (unc_of Z.2.1 rfl) Z.2.2.2.1 he hX) (fun x5 h hf => ?kk5)
  refine AW.eq (g2 := F0 m 8 ls [.int x5]) rfl ?_
  refine AW.lift2 (fun _ _ _ _ k1 k2 => lv_if_eq (pc := 8) (tgt := 25) X.2.2.1 X.2.2.2.1 dX1_fix_8 rfl k1 k2) (fun c => ?_) (fun c => ?_)
  · have hf := ite_t c hf
    exact w_X1_fix_j25 GA Z v0 v1 v2   (hl.sub [0, 1, 2] rfl) hf
  · have hf := ite_f c hf
    refine a_iload_n (pc := 11) X dX1_fix_11 rfl hl 2 rfl ?_
    refine AW.lift (fun _ _ _ _ k => lv_iconst (pc := 12) (v := (0 : Int32)) X.2.2.1 X.2.2.2.1 dX1_fix_12 rfl k) ?_
    refine AW.lift (fun _ _ _ _ k => lv_bipush (pc := 13) (v := (7 : Int32)) X.2.2.1 X.2.2.2.1 dX1_fix_13 rfl k) ?_
    refine a_callb (pc := 15) (rs := []) (avs := [vI v2, vI (0 : Int32), vI (7 : Int32)]) Z.1 (w_X1_isIn GA v2 (0 : Int32) (7 : Int32)) (Or.inl rfl) q1812 q74 (by decide) (by decide) dX1_fix_15 hl.1 (Nat.le_of_ble_eq_true rfl) hf (ct_S X (Or.inl rfl) q1812 q74 q1813 q1811 hy_X1_isIn np_X1_isIn rfl dX1_fix_15) (fun q h he hX => a_out (unc_of Z.2.1 rfl) Z.2.2.2.1 he hX) (fun x15 h hf => ?kk15)
    refine AW.eq (g2 := F0 m 18 ls [.int x15]) rfl ?_
    refine AW.lift2 (fun _ _ _ _ k1 k2 => lv_if_eq (pc := 18) (tgt := 25) X.2.2.1 X.2.2.2.1 dX1_fix_18 rfl k1 k2) (fun c => ?_) (fun c => ?_)
    · have hf := ite_t c hf
      exact w_X1_fix_j25 GA Z v0 v1 v2   (hl.sub [0, 1, 2] rfl) hf
    · have hf := ite_f c hf
      refine AW.lift (fun _ _ _ _ k => lv_iconst (pc := 21) (v := (1 : Int32)) X.2.2.1 X.2.2.2.1 dX1_fix_21 rfl k) ?_
      refine AW.lift (fun _ _ _ _ k => lv_goto (pc := 22) (tgt := 26) X.2.2.1 X.2.2.2.1 dX1_fix_22 rfl k) ?_
      exact w_X1_fix_j26 GA Z v0 v1 v2 (1 : Int32)  (hl.sub [0, 1, 2] rfl) hf
theorem np_X0_fix : npar yX0_fix.desc 4 := by unfold npar; decide +kernel
theorem hy_X0_fix : yX0_fix.cls ≠ "java/lang/invoke/MethodHandle" ∧ yX0_fix.cls ≠ "java/lang/invoke/VarHandle" := by decide +kernel
theorem w_X0_fix (GA : GA l s0 a0 K lam) (v0 : Option Nat) (v1 : Int32) (v2 : Int32) (v3 : Option Nat) : AMet l s0 K lam yX0_fix (Cond.codeWith yX0_fix cX0_fix (5 : Nat) (Option.some ClassFile.FieldType.int) [((0 : Nat), (10 : Nat), (13 : Nat), (19 : Nat)), ((0 : Nat), (10 : Nat), (17 : Nat), (13 : Nat))]) 22 3370 [vR v0, vI v1, vI v2, vR v3] oI (f_X0_fix K v0 v1 v2 v3) := by
  refine AMet.ofW GA.1 (plainFor_of_name (by decide +kernel)) (Nat.le_of_ble_eq_true rfl) ?_
  intro b r hf p e s m args below meth c X hr hlk hnm hnd ht ls hl
  have Z : WZ l s0 a0 K p s m c cX0_fix yX0_fix.cls 5 b { frames := 22, cells := K 0 - aX b, slots := K 1 - aW b, locals := 3370 } 22 3370 meth [(0, 10, 13, 19), (0, 10, 17, 13)] (some (.int)) yX0_fix := ⟨⟨X, GA.2.1, GA.2.2.1, rfl, rfl, Nat.le_refl _, Nat.le_refl _⟩, ht, hr, hlk, hnm, hnd⟩
  unfold f_X0_fix at hf
  clear hr hlk hnm hnd ht
  refine a_aload_n (pc := 0) X dX0_fix_0 rfl hl 3 rfl ?_
  refine AW.lift (fun _ _ _ _ k => lv_iconst (pc := 1) (v := (0 : Int32)) X.2.2.1 X.2.2.2.1 dX0_fix_1 rfl k) ?_
  refine a_aload_n (pc := 2) X dX0_fix_2 rfl hl 0 rfl ?_
  refine a_iload_n (pc := 3) X dX0_fix_3 rfl hl 1 rfl ?_
  refine a_iload_n (pc := 4) X dX0_fix_4 rfl hl 2 rfl ?_
  obtain ⟨a5, rfl, ⟨hk, hf⟩ | ⟨-, hf⟩⟩ := dv_tsome hf
  rotate_left
  · exact fl_tnone hf
  refine a_callt (pc := 5) (rs := [vI (0 : Int32), vR v3]) (avs := [vR (some a5), vI v1, vI v2]) Z.1 (w_X1_fix GA (some a5) v1 v2) (Or.inl rfl) q1805 q74 (by decide) (by decide) dX0_fix_5 hl.1 (Nat.le_of_ble_eq_true rfl) hf (ct_V hk ⟨by decide, by decide⟩ X (Or.inl rfl) q1805 q1802 q1803 q1804 hy_X1_fix np_X1_fix rfl dX0_fix_5) (fun q h hf hX => ?hx5) (fun x5 h hf => ?kk5)
  case hx5 =>
    rcases ctc_some hf with ⟨hy, hf⟩ | ⟨hn0, hf⟩
    · refine a_catchH (st := 0) (en := 10) (hp := 13) (ct := 19) (pre := []) (suf := [(0, 10, 17, 13)]) X hX Z.2.1 rfl (fun z hz => nomatch hz) (by decide) (Or.inr ⟨by decide, _, gw X.1 X.2.1 q1786, (cs_X19 GA) _ hy⟩) (AW.eq (g2 := F0 m 13 ls [va_rf (some q)]) rfl ?_)
      refine a_astore (pc := 13) X dX0_fix_13 hl (by decide) (lv' := [(4, vR (some q)), (0, vR (some a5)), (1, vI v1), (2, vI v2), (3, vR v3)]) rfl (fun ls hl => ?_)
      refine AW.lift (fun _ _ _ _ k => lv_iconst (pc := 15) (v := (1 : Int32)) X.2.2.1 X.2.2.2.1 dX0_fix_15 rfl k) ?_
      exact a_ireturn X Z.2.2.1 Z.2.2.2.1 dX0_fix_16 hf
    · skip
      rcases ctc_some hf with ⟨hy, hf⟩ | ⟨hn1, hf⟩
      · refine a_catchH (st := 0) (en := 10) (hp := 17) (ct := 13) (pre := [(0, 10, 13, 19)]) (suf := []) X hX Z.2.1 rfl (by intro z hz; simp only [List.mem_cons, List.not_mem_nil, or_false] at hz; rcases hz with rfl <;> first | exact Or.inl (by decide) | exact Or.inr ⟨by decide, _, gw X.1 X.2.1 q1786, (nc_12_13_14_16_17_18_20_21_java_lang_IndexOutOfBoundsException GA _ (by simpa using hn0)).2.2⟩) (by decide) (Or.inr ⟨by decide, _, gw X.1 X.2.1 q1709, (cs_X21 GA) _ hy⟩) (AW.eq (g2 := F0 m 17 ls [va_rf (some q)]) rfl ?_)
        refine a_astore (pc := 17) X dX0_fix_17 hl (by decide) (lv' := [(4, vR (some q)), (0, vR (some a5)), (1, vI v1), (2, vI v2), (3, vR v3)]) rfl (fun ls hl => ?_)
        refine AW.lift (fun _ _ _ _ k => lv_iconst (pc := 19) (v := (2 : Int32)) X.2.2.1 X.2.2.2.1 dX0_fix_19 rfl k) ?_
        exact a_ireturn X Z.2.2.1 Z.2.2.2.1 dX0_fix_20 hf
      · skip
        exact a_outH X Z.2.1 (by intro z hz; simp only [List.mem_cons, List.not_mem_nil, or_false] at hz; rcases hz with rfl | rfl <;> first | exact Or.inl (by decide) | exact Or.inr ⟨by decide, _, gw X.1 X.2.1 q1786, (nc_12_13_14_16_17_18_20_21_java_lang_IndexOutOfBoundsException GA _ (by simpa using hn0)).2.2⟩ | exact Or.inr ⟨by decide, _, gw X.1 X.2.1 q1709, (nc_12_13_14_16_17_18_19_20_java_lang_UnsupportedOperationException GA _ (by simpa using hn1)).2.2⟩) Z.2.2.2.1 (th_eq hf) hX
  refine AW.eq (g2 := F0 m 8 ls [.int x5, .int (0 : Int32), va_rf v3]) rfl ?_
  refine AW.lift (fun _ _ _ _ k => lv_i2l (pc := 8) X.2.2.1 X.2.2.2.1 dX0_fix_8 rfl k) ?_
  refine a_lastore (pc := 9) X dX0_fix_9 hf (fun h hf => ?_)
  refine AW.lift (fun _ _ _ _ k => lv_goto (pc := 10) (tgt := 21) X.2.2.1 X.2.2.2.1 dX0_fix_10 rfl k) ?_
  refine AW.lift (fun _ _ _ _ k => lv_iconst (pc := 21) (v := (0 : Int32)) X.2.2.1 X.2.2.2.1 dX0_fix_21 rfl k) ?_
  exact a_ireturn X Z.2.2.1 Z.2.2.2.1 dX0_fix_22 hf
theorem np_X4_in : npar yX4_in.desc 3 := by unfold npar; decide +kernel
theorem hy_X4_in : yX4_in.cls ≠ "java/lang/invoke/MethodHandle" ∧ yX4_in.cls ≠ "java/lang/invoke/VarHandle" := by decide +kernel
theorem w_X4_in (GA : GA l s0 a0 K lam) (v0 : Int64) (v2 : Int64) (v4 : Int64) : AMet l s0 K lam yX4_in (Cond.code yX4_in cX4_in (6 : Nat) (Option.some ClassFile.FieldType.boolean)) 0 0 [vJ v0, vJ v2, vJ v4] oI (f_X4_in K v0 v2 v4) := by
  refine AMet.of GA.1 (plainFor_of_name (by decide +kernel)) (Nat.le_of_ble_eq_true rfl) ?_
  intro b r hf p e s m args below meth c X hr hlk hnm hnd ht ls hl
  have Z : WZ l s0 a0 K p s m c cX4_in yX4_in.cls 6 b { frames := 0, cells := K 0 - aX b, slots := K 1 - aW b, locals := 0 } 0 0 meth [] (some (.boolean)) yX4_in := ⟨⟨X, GA.2.1, GA.2.2.1, rfl, rfl, Nat.le_refl _, Nat.le_refl _⟩, tab_nil ht, hr, hlk, hnm, hnd⟩
  unfold f_X4_in at hf
  clear hr hlk hnm hnd ht
  refine a_lload_n (pc := 0) X dX4_in_0 rfl hl 0 rfl ?_
  refine a_lload_n (pc := 1) X dX4_in_1 rfl hl 1 rfl ?_
  refine AW.lift (fun _ _ _ _ k => W.lcmp (pc := 2) X.2.2.1 X.2.2.2.1 dX4_in_2 k) ?_
  refine AW.lift2 (fun _ _ _ _ k1 k2 => lv_if_lt (pc := 3) (tgt := 17) X.2.2.1 X.2.2.2.1 dX4_in_3 rfl k1 k2) (fun c => ?_) (fun c => ?_)
  · have hf := ite_t c hf
    refine AW.lift (fun _ _ _ _ k => lv_iconst (pc := 17) (v := (0 : Int32)) X.2.2.1 X.2.2.2.1 dX4_in_17 rfl k) ?_
    exact a_zreturn X Z.2.2.1 rfl Z.2.2.2.1 dX4_in_18 hf
  · have hf := ite_f c hf
    refine a_lload_n (pc := 6) X dX4_in_6 rfl hl 0 rfl ?_
    refine a_lload (pc := 7) X dX4_in_7 hl 2 rfl ?_
    refine AW.lift (fun _ _ _ _ k => W.lcmp (pc := 9) X.2.2.1 X.2.2.2.1 dX4_in_9 k) ?_
    refine AW.lift2 (fun _ _ _ _ k1 k2 => lv_if_gt (pc := 10) (tgt := 17) X.2.2.1 X.2.2.2.1 dX4_in_10 rfl k1 k2) (fun c => ?_) (fun c => ?_)
    · have hf := ite_t c hf
      refine AW.lift (fun _ _ _ _ k => lv_iconst (pc := 17) (v := (0 : Int32)) X.2.2.1 X.2.2.2.1 dX4_in_17 rfl k) ?_
      exact a_zreturn X Z.2.2.1 rfl Z.2.2.2.1 dX4_in_18 hf
    · have hf := ite_f c hf
      refine AW.lift (fun _ _ _ _ k => lv_iconst (pc := 13) (v := (1 : Int32)) X.2.2.1 X.2.2.2.1 dX4_in_13 rfl k) ?_
      refine AW.lift (fun _ _ _ _ k => lv_goto (pc := 14) (tgt := 18) X.2.2.1 X.2.2.2.1 dX4_in_14 rfl k) ?_
      exact a_zreturn X Z.2.2.1 rfl Z.2.2.2.1 dX4_in_18 hf
theorem np_X4_isMat : npar yX4_isMat.desc 1 := by unfold npar; decide +kernel
theorem hy_X4_isMat : yX4_isMat.cls ≠ "java/lang/invoke/MethodHandle" ∧ yX4_isMat.cls ≠ "java/lang/invoke/VarHandle" := by decide +kernel
theorem w_X4_isMat (GA : GA l s0 a0 K lam) (v0 : Option Nat) (v1 : Int32) : AMet l s0 K lam yX4_isMat (Cond.code yX4_isMat cX4_isMat (2 : Nat) (Option.some ClassFile.FieldType.boolean)) 1 25 [vR v0, vI v1] oI (f_X4_isMat K v0 v1) := by
  refine AMet.of GA.1 (plainFor_of_name (by decide +kernel)) (Nat.le_of_ble_eq_true rfl) ?_
  intro b r hf p e s m args below meth c X hr hlk hnm hnd ht ls hl
  have Z : WZ l s0 a0 K p s m c cX4_isMat yX4_isMat.cls 2 b { frames := 1, cells := K 0 - aX b, slots := K 1 - aW b, locals := 25 } 1 25 meth [] (some (.boolean)) yX4_isMat := ⟨⟨X, GA.2.1, GA.2.2.1, rfl, rfl, Nat.le_refl _, Nat.le_refl _⟩, tab_nil ht, hr, hlk, hnm, hnd⟩
  unfold f_X4_isMat at hf
  clear hr hlk hnm hnd ht
  refine a_iload_n (pc := 0) X dX4_isMat_0 rfl hl 1 rfl ?_
  refine AW.lift (fun _ _ _ _ k => lv_i2l (pc := 1) X.2.2.1 X.2.2.2.1 dX4_isMat_1 rfl k) ?_
  refine AW.lift (fun _ _ _ _ k => lv_lconst (pc := 2) (v := (0 : Int64)) X.2.2.1 X.2.2.2.1 dX4_isMat_2 rfl k) ?_
  refine a_aload_n (pc := 3) X dX4_isMat_3 rfl hl 0 rfl ?_
  refine a_get (pc := 4) (φ := 100) pR_t X Z.1.2.1 (gw X.1 X.2.1 q3025) (fun _ q => q) (by decide) dX4_isMat_4 hf (fun x4 hf => ?_)
  refine AW.lift (fun _ _ _ _ k => lv_iconst (pc := 7) (v := (1 : Int32)) X.2.2.1 X.2.2.2.1 dX4_isMat_7 rfl k) ?_
  refine a_iaload (pc := 8) X dX4_isMat_8 hf (fun x8 hf => ?_)
  refine AW.lift (fun _ _ _ _ k => lv_iconst (pc := 9) (v := (1 : Int32)) X.2.2.1 X.2.2.2.1 dX4_isMat_9 rfl k) ?_
  refine AW.lift (fun _ _ _ _ k => lv_isub (pc := 10) X.2.2.1 X.2.2.2.1 dX4_isMat_10 k) ?_
  refine AW.lift (fun _ _ _ _ k => lv_i2l (pc := 11) X.2.2.1 X.2.2.2.1 dX4_isMat_11 rfl k) ?_
  refine a_callb (pc := 12) (rs := []) (avs := [vJ (v1.toInt64), vJ (0 : Int64), vJ ((x8 - (1 : Int32)).toInt64)]) Z.1 (w_X4_in GA (v1.toInt64) (0 : Int64) ((x8 - (1 : Int32)).toInt64)) (Or.inl rfl) q3142 q86 (by decide) (by decide) dX4_isMat_12 hl.1 (Nat.le_of_ble_eq_true rfl) hf (ct_S X (Or.inl rfl) q3142 q86 q3140 q3141 hy_X4_in np_X4_in rfl dX4_isMat_12) (fun q h he hX => a_out (unc_of Z.2.1 rfl) Z.2.2.2.1 he hX) (fun x12 h hf => ?kk12)
  refine AW.eq (g2 := F0 m 15 ls [.int x12]) rfl ?_
  obtain ⟨hg, hf⟩ := chk_some hf
  exact a_zreturn X Z.2.2.1 hg Z.2.2.2.1 dX4_isMat_15 hf
theorem np_X4_at0 : npar yX4_at0.desc 1 := by unfold npar; decide +kernel
theorem hy_X4_at0 : yX4_at0.cls ≠ "java/lang/invoke/MethodHandle" ∧ yX4_at0.cls ≠ "java/lang/invoke/VarHandle" := by decide +kernel
theorem w_X4_at0 (GA : GA l s0 a0 K lam) (v0 : Int32) : AMet l s0 K lam yX4_at0 (Cond.code yX4_at0 cX4_at0 (1 : Nat) (Option.some ClassFile.FieldType.int)) 0 0 [vI v0] oI (f_X4_at0 K v0) := by
  refine AMet.of GA.1 (plainFor_of_name (by decide +kernel)) (Nat.le_of_ble_eq_true rfl) ?_
  intro b r hf p e s m args below meth c X hr hlk hnm hnd ht ls hl
  have Z : WZ l s0 a0 K p s m c cX4_at0 yX4_at0.cls 1 b { frames := 0, cells := K 0 - aX b, slots := K 1 - aW b, locals := 0 } 0 0 meth [] (some (.int)) yX4_at0 := ⟨⟨X, GA.2.1, GA.2.2.1, rfl, rfl, Nat.le_refl _, Nat.le_refl _⟩, tab_nil ht, hr, hlk, hnm, hnd⟩
  unfold f_X4_at0 at hf
  clear hr hlk hnm hnd ht
  refine AW.lift (fun _ _ _ _ k => lv_bipush (pc := 0) (v := (68 : Int32)) X.2.2.1 X.2.2.2.1 dX4_at0_0 rfl k) ?_
  refine AW.lift (fun _ _ _ _ k => lv_bipush (pc := 2) (v := (7 : Int32)) X.2.2.1 X.2.2.2.1 dX4_at0_2 rfl k) ?_
  refine a_iload_n (pc := 4) X dX4_at0_4 rfl hl 0 rfl ?_
  refine AW.lift (fun _ _ _ _ k => lv_imul (pc := 5) X.2.2.1 X.2.2.2.1 dX4_at0_5 k) ?_
  refine AW.lift (fun _ _ _ _ k => lv_iadd (pc := 6) X.2.2.1 X.2.2.2.1 dX4_at0_6 k) ?_
  exact a_ireturn X Z.2.2.1 Z.2.2.2.1 dX4_at0_7 hf
theorem np_X4_isOn : npar yX4_isOn.desc 2 := by unfold npar; decide +kernel
theorem hy_X4_isOn : yX4_isOn.cls ≠ "java/lang/invoke/MethodHandle" ∧ yX4_isOn.cls ≠ "java/lang/invoke/VarHandle" := by decide +kernel
theorem w_X4_isOn (GA : GA l s0 a0 K lam) (v0 : Option Nat) (v1 : Int32) (v2 : Int32) : AMet l s0 K lam yX4_isOn (Cond.code yX4_isOn cX4_isOn (3 : Nat) (Option.some ClassFile.FieldType.boolean)) 1 20 [vR v0, vI v1, vI v2] oI (f_X4_isOn K v0 v1 v2) := by
  refine AMet.of GA.1 (plainFor_of_name (by decide +kernel)) (Nat.le_of_ble_eq_true rfl) ?_
  intro b r hf p e s m args below meth c X hr hlk hnm hnd ht ls hl
  have Z : WZ l s0 a0 K p s m c cX4_isOn yX4_isOn.cls 3 b { frames := 1, cells := K 0 - aX b, slots := K 1 - aW b, locals := 20 } 1 20 meth [] (some (.boolean)) yX4_isOn := ⟨⟨X, GA.2.1, GA.2.2.1, rfl, rfl, Nat.le_refl _, Nat.le_refl _⟩, tab_nil ht, hr, hlk, hnm, hnd⟩
  unfold f_X4_isOn at hf
  clear hr hlk hnm hnd ht
  refine a_aload_n (pc := 0) X dX4_isOn_0 rfl hl 0 rfl ?_
  refine a_get (pc := 1) (φ := 100) pR_t X Z.1.2.1 (gw X.1 X.2.1 q3025) (fun _ q => q) (by decide) dX4_isOn_1 hf (fun x1 hf => ?_)
  refine a_iload_n (pc := 4) X dX4_isOn_4 rfl hl 1 rfl ?_
  refine a_callb (pc := 5) (rs := [vR x1]) (avs := [vI v1]) Z.1 (w_X4_at0 GA v1) (Or.inl rfl) q3154 q86 (by decide) (by decide) dX4_isOn_5 hl.1 (Nat.le_of_ble_eq_true rfl) hf (ct_S X (Or.inl rfl) q3154 q86 q3152 q3153 hy_X4_at0 np_X4_at0 rfl dX4_isOn_5) (fun q h he hX => a_out (unc_of Z.2.1 rfl) Z.2.2.2.1 he hX) (fun x5 h hf => ?kk5)
  refine AW.eq (g2 := F0 m 8 ls [.int x5, va_rf x1]) rfl ?_
  refine AW.lift (fun _ _ _ _ k => lv_iconst (pc := 8) (v := (2 : Int32)) X.2.2.1 X.2.2.2.1 dX4_isOn_8 rfl k) ?_
  refine AW.lift (fun _ _ _ _ k => lv_iadd (pc := 9) X.2.2.1 X.2.2.2.1 dX4_isOn_9 k) ?_
  refine a_iaload (pc := 10) X dX4_isOn_10 hf (fun x10 hf => ?_)
  refine AW.lift (fun _ _ _ _ k => lv_iconst (pc := 11) (v := (1 : Int32)) X.2.2.1 X.2.2.2.1 dX4_isOn_11 rfl k) ?_
  refine AW.lift2 (fun _ _ _ _ k1 k2 => lv_icmp_ne (pc := 12) (tgt := 34) X.2.2.1 X.2.2.2.1 dX4_isOn_12 rfl k2 k1) (fun c => ?_) (fun c => ?_)
  · have hf := ite_t c hf
    refine a_aload_n (pc := 15) X dX4_isOn_15 rfl hl 0 rfl ?_
    refine a_get (pc := 16) (φ := 100) pR_t X Z.1.2.1 (gw X.1 X.2.1 q3025) (fun _ q => q) (by decide) dX4_isOn_16 hf (fun x16 hf => ?_)
    refine a_iload_n (pc := 19) X dX4_isOn_19 rfl hl 1 rfl ?_
    refine a_callb (pc := 20) (rs := [vR x16]) (avs := [vI v1]) Z.1 (w_X4_at0 GA v1) (Or.inl rfl) q3154 q86 (by decide) (by decide) dX4_isOn_20 hl.1 (Nat.le_of_ble_eq_true rfl) hf (ct_S X (Or.inl rfl) q3154 q86 q3152 q3153 hy_X4_at0 np_X4_at0 rfl dX4_isOn_20) (fun q h he hX => a_out (unc_of Z.2.1 rfl) Z.2.2.2.1 he hX) (fun x20 h hf => ?kk20)
    refine AW.eq (g2 := F0 m 23 ls [.int x20, va_rf x16]) rfl ?_
    refine AW.lift (fun _ _ _ _ k => lv_iconst (pc := 23) (v := (3 : Int32)) X.2.2.1 X.2.2.2.1 dX4_isOn_23 rfl k) ?_
    refine AW.lift (fun _ _ _ _ k => lv_iadd (pc := 24) X.2.2.1 X.2.2.2.1 dX4_isOn_24 k) ?_
    refine a_iaload (pc := 25) X dX4_isOn_25 hf (fun x25 hf => ?_)
    refine a_iload_n (pc := 26) X dX4_isOn_26 rfl hl 2 rfl ?_
    refine AW.lift2 (fun _ _ _ _ k1 k2 => lv_icmp_ne (pc := 27) (tgt := 34) X.2.2.1 X.2.2.2.1 dX4_isOn_27 rfl k2 k1) (fun c => ?_) (fun c => ?_)
    · have hf := ite_t c hf
      refine AW.lift (fun _ _ _ _ k => lv_iconst (pc := 30) (v := (1 : Int32)) X.2.2.1 X.2.2.2.1 dX4_isOn_30 rfl k) ?_
      refine AW.lift (fun _ _ _ _ k => lv_goto (pc := 31) (tgt := 35) X.2.2.1 X.2.2.2.1 dX4_isOn_31 rfl k) ?_
      exact a_zreturn X Z.2.2.1 rfl Z.2.2.2.1 dX4_isOn_35 hf
    · have hf := ite_f c hf
      refine AW.lift (fun _ _ _ _ k => lv_iconst (pc := 34) (v := (0 : Int32)) X.2.2.1 X.2.2.2.1 dX4_isOn_34 rfl k) ?_
      exact a_zreturn X Z.2.2.1 rfl Z.2.2.2.1 dX4_isOn_35 hf
  · have hf := ite_f c hf
    refine AW.lift (fun _ _ _ _ k => lv_iconst (pc := 34) (v := (0 : Int32)) X.2.2.1 X.2.2.2.1 dX4_isOn_34 rfl k) ?_
    exact a_zreturn X Z.2.2.1 rfl Z.2.2.2.1 dX4_isOn_35 hf
theorem w_X4_lowestOn_b2 {r : Except Nat (Int32) × AH} (GA : GA l s0 a0 K lam) (Z : WZ l s0 a0 K p s m c cX4_lowestOn yX4_lowestOn.cls 3 b R 2 42 meth [] (some (.int)) yX4_lowestOn) (v0 : Option Nat) (v1 : Int32) (v2 : Int32)  (rc2 : Int32 → AM (Int32)) (hrc2 : ∀ (v2 : Int32) (h : AH) (ls : Array Slot), LV ls 3 [(0, vR v0), (1, vI v1), (2, vI v2)] → rc2 v2 h = some r → AW s0 K lam p l e R s m args below meth c (AQ s0 K lam below oI b r s) b h (F0 m 2 ls [])) {h : AH} {ls : Array Slot} (hl : LV ls 3 [(0, vR v0), (1, vI v1), (2, vI v2)]) (hf : f_X4_lowestOn_b2 K rc2 v0 v1 v2 h = some r) : AW s0 K lam p l e R s m args below meth c (AQ s0 K lam below oI b r s) b h (F0 m 2 ls []) := by
  unfold f_X4_lowestOn_b2 at hf
  have X := Z.1.1
  refine a_iload_n (pc := 2) X dX4_lowestOn_2 rfl hl 2 rfl ?_
  refine a_aload_n (pc := 3) X dX4_lowestOn_3 rfl hl 0 rfl ?_
  refine a_get (pc := 4) (φ := 100) pR_t X Z.1.2.1 (gw X.1 X.2.1 q3025) (fun _ q => q) (by decide) dX4_lowestOn_4 hf (fun x4 hf => ?_)
  refine AW.lift (fun _ _ _ _ k => lv_iconst (pc := 7) (v := (2 : Int32)) X.2.2.1 X.2.2.2.1 dX4_lowestOn_7 rfl k) ?_
  refine a_iaload (pc := 8) X dX4_lowestOn_8 hf (fun x8 hf => ?_)
  refine AW.lift2 (fun _ _ _ _ k1 k2 => lv_icmp_ge (pc := 9) (tgt := 29) X.2.2.1 X.2.2.2.1 dX4_lowestOn_9 rfl k1 k2) (fun c => ?_) (fun c => ?_)
  · have hf := ite_t c hf
    refine AW.lift (fun _ _ _ _ k => lv_iconst (pc := 29) (v := (-1 : Int32)) X.2.2.1 X.2.2.2.1 dX4_lowestOn_29 rfl k) ?_
    exact a_ireturn X Z.2.2.1 Z.2.2.2.1 dX4_lowestOn_30 hf
  · have hf := ite_f c hf
    refine a_aload_n (pc := 12) X dX4_lowestOn_12 rfl hl 0 rfl ?_
    refine a_iload_n (pc := 13) X dX4_lowestOn_13 rfl hl 2 rfl ?_
    refine a_iload_n (pc := 14) X dX4_lowestOn_14 rfl hl 1 rfl ?_
    obtain ⟨a15, rfl, ⟨hk, hf⟩ | ⟨-, hf⟩⟩ := dv_some hf
    rotate_left
    · exact fl_none hf
    refine a_callb (pc := 15) (rs := []) (avs := [vR (some a15), vI v2, vI v1]) Z.1 (w_X4_isOn GA (some a15) v2 v1) (Or.inl rfl) q3151 q86 (by decide) (by decide) dX4_lowestOn_15 hl.1 (Nat.le_of_ble_eq_true rfl) hf (ct_V hk ⟨by decide, by decide⟩ X (Or.inl rfl) q3151 q3148 q3150 pv_35 hy_X4_isOn np_X4_isOn rfl dX4_lowestOn_15) (fun q h he hX => a_out (unc_of Z.2.1 rfl) Z.2.2.2.1 he hX) (fun x15 h hf => ?kk15)
    refine AW.eq (g2 := F0 m 18 ls [.int x15]) rfl ?_
    refine AW.lift2 (fun _ _ _ _ k1 k2 => lv_if_eq (pc := 18) (tgt := 23) X.2.2.1 X.2.2.2.1 dX4_lowestOn_18 rfl k1 k2) (fun c => ?_) (fun c => ?_)
    · have hf := ite_t c hf
      refine a_iinc (pc := 23) (v := (v2 + (1 : Int32))) X dX4_lowestOn_23 hl (k := 2) rfl rfl (by decide) (lv' := [(2, vI (v2 + (1 : Int32))), (0, vR (some a15)), (1, vI v1)]) rfl (fun ls hl => ?_)
      refine AW.lift (fun _ _ _ _ k => lv_goto (pc := 26) (tgt := 2) X.2.2.1 X.2.2.2.1 dX4_lowestOn_26 rfl k) ?_
      exact hrc2 (v2 + (1 : Int32)) _ _ (hl.sub [1, 2, 0] rfl) hf
    · have hf := ite_f c hf
      refine a_iload_n (pc := 21) X dX4_lowestOn_21 rfl hl 2 rfl ?_
      exact a_ireturn X Z.2.2.1 Z.2.2.2.1 dX4_lowestOn_22 hf
theorem w_X4_lowestOn_l2 {r : Except Nat (Int32) × AH} (GA : GA l s0 a0 K lam) (Z : WZ l s0 a0 K p s m c cX4_lowestOn yX4_lowestOn.cls 3 b R 2 42 meth [] (some (.int)) yX4_lowestOn) (v0 : Option Nat) (v1 : Int32)  : ∀ (n : Nat) (v2 : Int32) (h : AH) (ls : Array Slot), LV ls 3 [(0, vR v0), (1, vI v1), (2, vI v2)] → f_X4_lowestOn_l2 K v0 v1 n v2 h = some r → AW s0 K lam p l e R s m args below meth c (AQ s0 K lam below oI b r s) b h (F0 m 2 ls []) := by
  intro n
  induction n with
  | zero => intro v2 h ls hl hf; exact fl_no (h := h) hf
  | succ n ih => intro v2 h ls hl hf; exact w_X4_lowestOn_b2 GA Z v0 v1 v2 (f_X4_lowestOn_l2 K v0 v1 n) ih hl hf
theorem np_X4_lowestOn : npar yX4_lowestOn.desc 1 := by unfold npar; decide +kernel
theorem hy_X4_lowestOn : yX4_lowestOn.cls ≠ "java/lang/invoke/MethodHandle" ∧ yX4_lowestOn.cls ≠ "java/lang/invoke/VarHandle" := by decide +kernel
theorem w_X4_lowestOn (GA : GA l s0 a0 K lam) (v0 : Option Nat) (v1 : Int32) : AMet l s0 K lam yX4_lowestOn (Cond.code yX4_lowestOn cX4_lowestOn (3 : Nat) (Option.some ClassFile.FieldType.int)) 2 42 [vR v0, vI v1] oI (f_X4_lowestOn K v0 v1) := by
  refine AMet.of GA.1 (plainFor_of_name (by decide +kernel)) (Nat.le_of_ble_eq_true rfl) ?_
  intro b r hf p e s m args below meth c X hr hlk hnm hnd ht ls hl
  have Z : WZ l s0 a0 K p s m c cX4_lowestOn yX4_lowestOn.cls 3 b { frames := 2, cells := K 0 - aX b, slots := K 1 - aW b, locals := 42 } 2 42 meth [] (some (.int)) yX4_lowestOn := ⟨⟨X, GA.2.1, GA.2.2.1, rfl, rfl, Nat.le_refl _, Nat.le_refl _⟩, tab_nil ht, hr, hlk, hnm, hnd⟩
  unfold f_X4_lowestOn at hf
  clear hr hlk hnm hnd ht
  refine AW.lift (fun _ _ _ _ k => lv_iconst (pc := 0) (v := (0 : Int32)) X.2.2.1 X.2.2.2.1 dX4_lowestOn_0 rfl k) ?_
  refine a_istore_n (pc := 1) X dX4_lowestOn_1 rfl hl (by decide) (lv' := [(2, vI (0 : Int32)), (0, vR v0), (1, vI v1)]) rfl (fun ls hl => ?_)
  exact w_X4_lowestOn_l2 GA Z v0 v1  FU (0 : Int32) _ _ (hl.sub [1, 2, 0] rfl) hf
theorem w_X4_broken_j32 {r : Except Nat (Int32) × AH} (GA : GA l s0 a0 K lam) (Z : WZ l s0 a0 K p s m c cX4_broken yX4_broken.cls 4 b R 1 20 meth [] (some (.int)) yX4_broken) (v0 : Option Nat) (v1 : Int32) (v3 : Int32) (t0 : Int32) (t1 : Int32) (rc4 : Int32 → Int32 → AM (Int32)) (hrc4 : ∀ (v2 : Int32) (v3 : Int32) (h : AH) (ls : Array Slot), LV ls 4 [(0, vR v0), (1, vI v1), (2, vI v2), (3, vI v3)] → rc4 v2 v3 h = some r → AW s0 K lam p l e R s m args below meth c (AQ s0 K lam below oI b r s) b h (F0 m 4 ls [])) {h : AH} {ls : Array Slot} (hl : LV ls 4 [(0, vR v0), (1, vI v1), (3, vI v3)]) (hf : f_X4_broken_j32 K rc4 v0 v1 v3 t0 t1 h = some r) : AW s0 K lam p l e R s m args below meth c (AQ s0 K lam below oI b r s) b h (F0 m 32 ls [.int t0, .int t1]) := by
  unfold f_X4_broken_j32 at hf
  have X := Z.1.1
  refine AW.lift (fun _ _ _ _ k => lv_iadd (pc := 32) X.2.2.1 X.2.2.2.1 dX4_broken_32 k) ?_
  refine a_istore_n (pc := 33) X dX4_broken_33 rfl hl (by decide) (lv' := [(2, vI (t1 + t0)), (0, vR v0), (1, vI v1), (3, vI v3)]) rfl (fun ls hl => ?_)
  refine a_iinc (pc := 34) (v := (v3 + (1 : Int32))) X dX4_broken_34 hl (k := 3) rfl rfl (by decide) (lv' := [(3, vI (v3 + (1 : Int32))), (2, vI (t1 + t0)), (0, vR v0), (1, vI v1)]) rfl (fun ls hl => ?_)
  refine AW.lift (fun _ _ _ _ k => lv_goto (pc := 37) (tgt := 4) X.2.2.1 X.2.2.2.1 dX4_broken_37 rfl k) ?_
  exact hrc4 (t1 + t0) (v3 + (1 : Int32)) _ _ (hl.sub [2, 3, 1, 0] rfl) hf
theorem w_X4_broken_b4 {r : Except Nat (Int32) × AH} (GA : GA l s0 a0 K lam) (Z : WZ l s0 a0 K p s m c cX4_broken yX4_broken.cls 4 b R 1 20 meth [] (some (.int)) yX4_broken) (v0 : Option Nat) (v1 : Int32) (v2 : Int32) (v3 : Int32)  (rc4 : Int32 → Int32 → AM (Int32)) (hrc4 : ∀ (v2 : Int32) (v3 : Int32) (h : AH) (ls : Array Slot), LV ls 4 [(0, vR v0), (1, vI v1), (2, vI v2), (3, vI v3)] → rc4 v2 v3 h = some r → AW s0 K lam p l e R s m args below meth c (AQ s0 K lam below oI b r s) b h (F0 m 4 ls [])) {h : AH} {ls : Array Slot} (hl : LV ls 4 [(0, vR v0), (1, vI v1), (2, vI v2), (3, vI v3)]) (hf : f_X4_broken_b4 K rc4 v0 v1 v2 v3 h = some r) : AW s0 K lam p l e R s m args below meth c (AQ s0 K lam below oI b r s) b h (F0 m 4 ls []) := by
  unfold f_X4_broken_b4 at hf
  have X := Z.1.1
  refine a_iload_n (pc := 4) X dX4_broken_4 rfl hl 3 rfl ?_
  refine AW.lift (fun _ _ _ _ k => lv_bipush (pc := 5) (v := (8 : Int32)) X.2.2.1 X.2.2.2.1 dX4_broken_5 rfl k) ?_
  refine AW.lift2 (fun _ _ _ _ k1 k2 => lv_icmp_ge (pc := 7) (tgt := 40) X.2.2.1 X.2.2.2.1 dX4_broken_7 rfl k1 k2) (fun c => ?_) (fun c => ?_)
  · have hf := ite_t c hf
    refine a_iload_n (pc := 40) X dX4_broken_40 rfl hl 2 rfl ?_
    exact a_ireturn X Z.2.2.1 Z.2.2.2.1 dX4_broken_41 hf
  · have hf := ite_f c hf
    refine a_iload_n (pc := 10) X dX4_broken_10 rfl hl 2 rfl ?_
    refine a_aload_n (pc := 11) X dX4_broken_11 rfl hl 0 rfl ?_
    refine a_get (pc := 12) (φ := 100) pR_t X Z.1.2.1 (gw X.1 X.2.1 q3025) (fun _ q => q) (by decide) dX4_broken_12 hf (fun x12 hf => ?_)
    refine a_iload_n (pc := 15) X dX4_broken_15 rfl hl 1 rfl ?_
    refine a_callb (pc := 16) (rs := [vR x12, vI v2]) (avs := [vI v1]) Z.1 (w_X4_of GA v1) (Or.inl rfl) q3123 q86 (by decide) (by decide) dX4_broken_16 hl.1 (Nat.le_of_ble_eq_true rfl) hf (ct_S X (Or.inl rfl) q3123 q86 q3121 q3122 hy_X4_of np_X4_of rfl dX4_broken_16) (fun q h he hX => a_out (unc_of Z.2.1 rfl) Z.2.2.2.1 he hX) (fun x16 h hf => ?kk16)
    refine AW.eq (g2 := F0 m 19 ls [.int x16, va_rf x12, .int v2]) rfl ?_
    refine a_iload_n (pc := 19) X dX4_broken_19 rfl hl 3 rfl ?_
    refine AW.lift (fun _ _ _ _ k => lv_iadd (pc := 20) X.2.2.1 X.2.2.2.1 dX4_broken_20 k) ?_
    refine a_iaload (pc := 21) X dX4_broken_21 hf (fun x21 hf => ?_)
    refine AW.lift (fun _ _ _ _ k => lv_bipush (pc := 22) (v := (9 : Int32)) X.2.2.1 X.2.2.2.1 dX4_broken_22 rfl k) ?_
    refine AW.lift2 (fun _ _ _ _ k1 k2 => lv_icmp_ne (pc := 24) (tgt := 31) X.2.2.1 X.2.2.2.1 dX4_broken_24 rfl k2 k1) (fun c => ?_) (fun c => ?_)
    · have hf := ite_t c hf
      refine AW.lift (fun _ _ _ _ k => lv_iconst (pc := 27) (v := (1 : Int32)) X.2.2.1 X.2.2.2.1 dX4_broken_27 rfl k) ?_
      refine AW.lift (fun _ _ _ _ k => lv_goto (pc := 28) (tgt := 32) X.2.2.1 X.2.2.2.1 dX4_broken_28 rfl k) ?_
      exact w_X4_broken_j32 GA Z v0 v1 v3 (1 : Int32) v2 rc4 hrc4 (hl.sub [0, 1, 3] rfl) hf
    · have hf := ite_f c hf
      refine AW.lift (fun _ _ _ _ k => lv_iconst (pc := 31) (v := (0 : Int32)) X.2.2.1 X.2.2.2.1 dX4_broken_31 rfl k) ?_
      exact w_X4_broken_j32 GA Z v0 v1 v3 (0 : Int32) v2 rc4 hrc4 (hl.sub [0, 1, 3] rfl) hf
theorem w_X4_broken_l4 {r : Except Nat (Int32) × AH} (GA : GA l s0 a0 K lam) (Z : WZ l s0 a0 K p s m c cX4_broken yX4_broken.cls 4 b R 1 20 meth [] (some (.int)) yX4_broken) (v0 : Option Nat) (v1 : Int32)  : ∀ (n : Nat) (v2 : Int32) (v3 : Int32) (h : AH) (ls : Array Slot), LV ls 4 [(0, vR v0), (1, vI v1), (2, vI v2), (3, vI v3)] → f_X4_broken_l4 K v0 v1 n v2 v3 h = some r → AW s0 K lam p l e R s m args below meth c (AQ s0 K lam below oI b r s) b h (F0 m 4 ls []) := by
  intro n
  induction n with
  | zero => intro v2 v3 h ls hl hf; exact fl_no (h := h) hf
  | succ n ih => intro v2 v3 h ls hl hf; exact w_X4_broken_b4 GA Z v0 v1 v2 v3 (f_X4_broken_l4 K v0 v1 n) ih hl hf
theorem np_X4_broken : npar yX4_broken.desc 1 := by unfold npar; decide +kernel
theorem hy_X4_broken : yX4_broken.cls ≠ "java/lang/invoke/MethodHandle" ∧ yX4_broken.cls ≠ "java/lang/invoke/VarHandle" := by decide +kernel
theorem w_X4_broken (GA : GA l s0 a0 K lam) (v0 : Option Nat) (v1 : Int32) : AMet l s0 K lam yX4_broken (Cond.code yX4_broken cX4_broken (4 : Nat) (Option.some ClassFile.FieldType.int)) 1 20 [vR v0, vI v1] oI (f_X4_broken K v0 v1) := by
  refine AMet.of GA.1 (plainFor_of_name (by decide +kernel)) (Nat.le_of_ble_eq_true rfl) ?_
  intro b r hf p e s m args below meth c X hr hlk hnm hnd ht ls hl
  have Z : WZ l s0 a0 K p s m c cX4_broken yX4_broken.cls 4 b { frames := 1, cells := K 0 - aX b, slots := K 1 - aW b, locals := 20 } 1 20 meth [] (some (.int)) yX4_broken := ⟨⟨X, GA.2.1, GA.2.2.1, rfl, rfl, Nat.le_refl _, Nat.le_refl _⟩, tab_nil ht, hr, hlk, hnm, hnd⟩
  unfold f_X4_broken at hf
  clear hr hlk hnm hnd ht
  refine AW.lift (fun _ _ _ _ k => lv_iconst (pc := 0) (v := (0 : Int32)) X.2.2.1 X.2.2.2.1 dX4_broken_0 rfl k) ?_
  refine a_istore_n (pc := 1) X dX4_broken_1 rfl hl (by decide) (lv' := [(2, vI (0 : Int32)), (0, vR v0), (1, vI v1)]) rfl (fun ls hl => ?_)
  refine AW.lift (fun _ _ _ _ k => lv_iconst (pc := 2) (v := (0 : Int32)) X.2.2.1 X.2.2.2.1 dX4_broken_2 rfl k) ?_
  refine a_istore_n (pc := 3) X dX4_broken_3 rfl hl (by decide) (lv' := [(3, vI (0 : Int32)), (2, vI (0 : Int32)), (0, vR v0), (1, vI v1)]) rfl (fun ls hl => ?_)
  exact w_X4_broken_l4 GA Z v0 v1  FU (0 : Int32) (0 : Int32) _ _ (hl.sub [2, 3, 1, 0] rfl) hf
theorem np_X4_bears : npar yX4_bears.desc 1 := by unfold npar; decide +kernel
theorem hy_X4_bears : yX4_bears.cls ≠ "java/lang/invoke/MethodHandle" ∧ yX4_bears.cls ≠ "java/lang/invoke/VarHandle" := by decide +kernel
theorem w_X4_bears (GA : GA l s0 a0 K lam) (v0 : Option Nat) (v1 : Int32) : AMet l s0 K lam yX4_bears (Cond.code yX4_bears cX4_bears (2 : Nat) (Option.some ClassFile.FieldType.int)) 2 43 [vR v0, vI v1] oI (f_X4_bears K v0 v1) := by
  refine AMet.of GA.1 (plainFor_of_name (by decide +kernel)) (Nat.le_of_ble_eq_true rfl) ?_
  intro b r hf p e s m args below meth c X hr hlk hnm hnd ht ls hl
  have Z : WZ l s0 a0 K p s m c cX4_bears yX4_bears.cls 2 b { frames := 2, cells := K 0 - aX b, slots := K 1 - aW b, locals := 43 } 2 43 meth [] (some (.int)) yX4_bears := ⟨⟨X, GA.2.1, GA.2.2.1, rfl, rfl, Nat.le_refl _, Nat.le_refl _⟩, tab_nil ht, hr, hlk, hnm, hnd⟩
  unfold f_X4_bears at hf
  clear hr hlk hnm hnd ht
  refine AW.lift (fun _ _ _ _ k => lv_bipush (pc := 0) (v := (12 : Int32)) X.2.2.1 X.2.2.2.1 dX4_bears_0 rfl k) ?_
  refine AW.lift (fun _ _ _ _ k => lv_bipush (pc := 2) (v := (8 : Int32)) X.2.2.1 X.2.2.2.1 dX4_bears_2 rfl k) ?_
  refine a_aload_n (pc := 4) X dX4_bears_4 rfl hl 0 rfl ?_
  refine a_iload_n (pc := 5) X dX4_bears_5 rfl hl 1 rfl ?_
  obtain ⟨a6, rfl, ⟨hk, hf⟩ | ⟨-, hf⟩⟩ := dv_some hf
  rotate_left
  · exact fl_none hf
  refine a_callb (pc := 6) (rs := [vI (8 : Int32), vI (12 : Int32)]) (avs := [vR (some a6), vI v1]) Z.1 (w_X4_broken GA (some a6) v1) (Or.inl rfl) q3162 q86 (by decide) (by decide) dX4_bears_6 hl.1 (Nat.le_of_ble_eq_true rfl) hf (ct_V hk ⟨by decide, by decide⟩ X (Or.inl rfl) q3162 q3159 q3161 pv_37 hy_X4_broken np_X4_broken rfl dX4_bears_6) (fun q h he hX => a_out (unc_of Z.2.1 rfl) Z.2.2.2.1 he hX) (fun x6 h hf => ?kk6)
  refine AW.eq (g2 := F0 m 9 ls [.int x6, .int (8 : Int32), .int (12 : Int32)]) rfl ?_
  refine AW.lift (fun _ _ _ _ k => lv_isub (pc := 9) X.2.2.1 X.2.2.2.1 dX4_bears_9 k) ?_
  refine AW.lift (fun _ _ _ _ k => lv_imul (pc := 10) X.2.2.1 X.2.2.2.1 dX4_bears_10 k) ?_
  exact a_ireturn X Z.2.2.1 Z.2.2.2.1 dX4_bears_11 hf
theorem w_X4_fixIt_j20 {r : Except Nat (Int32) × AH} (GA : GA l s0 a0 K lam) (Z : WZ l s0 a0 K p s m c cX4_fixIt yX4_fixIt.cls 3 b R 3 64 meth [] (some (.int)) yX4_fixIt) (v0 : Option Nat)   {h : AH} {ls : Array Slot} (hl : LV ls 3 [(0, vR v0)]) (hf : f_X4_fixIt_j20 K v0 h = some r) : AW s0 K lam p l e R s m args below meth c (AQ s0 K lam below oI b r s) b h (F0 m 20 ls []) := by
  unfold f_X4_fixIt_j20 at hf
  have X := Z.1.1
  refine a_aload_n (pc := 20) X dX4_fixIt_20 rfl hl 0 rfl ?_
  refine AW.lift (fun _ _ _ _ k => lv_iconst (pc := 21) (v := (1 : Int32)) X.2.2.1 X.2.2.2.1 dX4_fixIt_21 rfl k) ?_
  obtain ⟨a22, rfl, ⟨hk, hf⟩ | ⟨-, hf⟩⟩ := dv_some hf
  rotate_left
  · exact fl_none hf
  refine a_callb (pc := 22) (rs := []) (avs := [vR (some a22), vI (1 : Int32)]) Z.1 (w_X4_throwing GA (some a22) (1 : Int32)) (Or.inl rfl) q3120 q86 (by decide) (by decide) dX4_fixIt_22 hl.1 (Nat.le_of_ble_eq_true rfl) hf (ct_V hk ⟨by decide, by decide⟩ X (Or.inl rfl) q3120 q3117 q3119 pv_30 hy_X4_throwing np_X4_throwing rfl dX4_fixIt_22) (fun q h he hX => a_out (unc_of Z.2.1 rfl) Z.2.2.2.1 he hX) (fun x22 h hf => ?kk22)
  refine AW.eq (g2 := F0 m 25 ls [.int x22]) rfl ?_
  exact a_ireturn X Z.2.2.1 Z.2.2.2.1 dX4_fixIt_25 hf
theorem np_X4_fixIt : npar yX4_fixIt.desc 2 := by unfold npar; decide +kernel
theorem hy_X4_fixIt : yX4_fixIt.cls ≠ "java/lang/invoke/MethodHandle" ∧ yX4_fixIt.cls ≠ "java/lang/invoke/VarHandle" := by decide +kernel
theorem w_X4_fixIt (GA : GA l s0 a0 K lam) (v0 : Option Nat) (v1 : Int32) (v2 : Int32) : AMet l s0 K lam yX4_fixIt (Cond.code yX4_fixIt cX4_fixIt (3 : Nat) (Option.some ClassFile.FieldType.int)) 3 64 [vR v0, vI v1, vI v2] oI (f_X4_fixIt K v0 v1 v2) := by
  refine AMet.of GA.1 (plainFor_of_name (by decide +kernel)) (Nat.le_of_ble_eq_true rfl) ?_
  intro b r hf p e s m args below meth c X hr hlk hnm hnd ht ls hl
  have Z : WZ l s0 a0 K p s m c cX4_fixIt yX4_fixIt.cls 3 b { frames := 3, cells := K 0 - aX b, slots := K 1 - aW b, locals := 64 } 3 64 meth [] (some (.int)) yX4_fixIt := ⟨⟨X, GA.2.1, GA.2.2.1, rfl, rfl, Nat.le_refl _, Nat.le_refl _⟩, tab_nil ht, hr, hlk, hnm, hnd⟩
  unfold f_X4_fixIt at hf
  clear hr hlk hnm hnd ht
  refine a_aload_n (pc := 0) X dX4_fixIt_0 rfl hl 0 rfl ?_
  refine a_iload_n (pc := 1) X dX4_fixIt_1 rfl hl 1 rfl ?_
  obtain ⟨a2, rfl, ⟨hk, hf⟩ | ⟨-, hf⟩⟩ := dv_some hf
  rotate_left
  · exact fl_none hf
  refine a_callb (pc := 2) (rs := []) (avs := [vR (some a2), vI v1]) Z.1 (w_X4_isMat GA (some a2) v1) (Or.inl rfl) q3139 q86 (by decide) (by decide) dX4_fixIt_2 hl.1 (Nat.le_of_ble_eq_true rfl) hf (ct_V hk ⟨by decide, by decide⟩ X (Or.inl rfl) q3139 q3136 q3138 pv_33 hy_X4_isMat np_X4_isMat rfl dX4_fixIt_2) (fun q h he hX => a_out (unc_of Z.2.1 rfl) Z.2.2.2.1 he hX) (fun x2 h hf => ?kk2)
  refine AW.eq (g2 := F0 m 5 ls [.int x2]) rfl ?_
  refine AW.lift2 (fun _ _ _ _ k1 k2 => lv_if_eq (pc := 5) (tgt := 20) X.2.2.1 X.2.2.2.1 dX4_fixIt_5 rfl k1 k2) (fun c => ?_) (fun c => ?_)
  · have hf := ite_t c hf
    exact w_X4_fixIt_j20 GA Z (some a2)   (hl.sub [0] rfl) hf
  · have hf := ite_f c hf
    refine a_iload_n (pc := 8) X dX4_fixIt_8 rfl hl 2 rfl ?_
    refine AW.lift (fun _ _ _ _ k => lv_i2l (pc := 9) X.2.2.1 X.2.2.2.1 dX4_fixIt_9 rfl k) ?_
    refine AW.lift (fun _ _ _ _ k => lv_lconst (pc := 10) (v := (0 : Int64)) X.2.2.1 X.2.2.2.1 dX4_fixIt_10 rfl k) ?_
    refine AW.lift (fun _ _ _ _ k => lv_ldc2 (pc := 11) X.2.2.1 X.2.2.2.1 X.2.2.2.2.1 (gw X.1 X.2.1 q3143) dX4_fixIt_11 k) ?_
    refine a_callb (pc := 14) (rs := []) (avs := [vJ (v2.toInt64), vJ (0 : Int64), vJ (7 : Int64)]) Z.1 (w_X4_in GA (v2.toInt64) (0 : Int64) (7 : Int64)) (Or.inl rfl) q3142 q86 (by decide) (by decide) dX4_fixIt_14 hl.1 (Nat.le_of_ble_eq_true rfl) hf (ct_S X (Or.inl rfl) q3142 q86 q3140 q3141 hy_X4_in np_X4_in rfl dX4_fixIt_14) (fun q h he hX => a_out (unc_of Z.2.1 rfl) Z.2.2.2.1 he hX) (fun x14 h hf => ?kk14)
    refine AW.eq (g2 := F0 m 17 ls [.int x14]) rfl ?_
    refine AW.lift2 (fun _ _ _ _ k1 k2 => lv_if_ne (pc := 17) (tgt := 26) X.2.2.1 X.2.2.2.1 dX4_fixIt_17 rfl k2 k1) (fun c => ?_) (fun c => ?_)
    · have hf := ite_t c hf
      exact w_X4_fixIt_j20 GA Z (some a2)   (hl.sub [0] rfl) hf
    · have hf := ite_f c hf
      refine a_aload_n (pc := 26) X dX4_fixIt_26 rfl hl 0 rfl ?_
      refine a_iload_n (pc := 27) X dX4_fixIt_27 rfl hl 1 rfl ?_
      rcases dv_someS hf with ⟨hk, hf⟩ | ⟨-, hf⟩
      rotate_left
      · exact fl_none hf
      refine a_callb (pc := 28) (rs := []) (avs := [vR (some a2), vI v1]) Z.1 (w_X4_lowestOn GA (some a2) v1) (Or.inl rfl) q3147 q86 (by decide) (by decide) dX4_fixIt_28 hl.1 (Nat.le_of_ble_eq_true rfl) hf (ct_V hk ⟨by decide, by decide⟩ X (Or.inl rfl) q3147 q3144 q3146 pv_34 hy_X4_lowestOn np_X4_lowestOn rfl dX4_fixIt_28) (fun q h he hX => a_out (unc_of Z.2.1 rfl) Z.2.2.2.1 he hX) (fun x28 h hf => ?kk28)
      refine AW.eq (g2 := F0 m 31 ls [.int x28]) rfl ?_
      refine AW.lift (fun _ _ _ _ k => lv_iconst (pc := 31) (v := (-1 : Int32)) X.2.2.1 X.2.2.2.1 dX4_fixIt_31 rfl k) ?_
      refine AW.lift2 (fun _ _ _ _ k1 k2 => lv_icmp_eq (pc := 32) (tgt := 48) X.2.2.1 X.2.2.2.1 dX4_fixIt_32 rfl k1 k2) (fun c => ?_) (fun c => ?_)
      · have hf := ite_t c hf
        refine a_aload_n (pc := 48) X dX4_fixIt_48 rfl hl 0 rfl ?_
        refine a_get (pc := 49) (φ := 100) pR_t X Z.1.2.1 (gw X.1 X.2.1 q3025) (fun _ q => q) (by decide) dX4_fixIt_49 hf (fun x49 hf => ?_)
        refine a_iload_n (pc := 52) X dX4_fixIt_52 rfl hl 1 rfl ?_
        refine a_callb (pc := 53) (rs := [vR x49]) (avs := [vI v1]) Z.1 (w_X4_of GA v1) (Or.inl rfl) q3123 q86 (by decide) (by decide) dX4_fixIt_53 hl.1 (Nat.le_of_ble_eq_true rfl) hf (ct_S X (Or.inl rfl) q3123 q86 q3121 q3122 hy_X4_of np_X4_of rfl dX4_fixIt_53) (fun q h he hX => a_out (unc_of Z.2.1 rfl) Z.2.2.2.1 he hX) (fun x53 h hf => ?kk53)
        refine AW.eq (g2 := F0 m 56 ls [.int x53, va_rf x49]) rfl ?_
        refine a_iload_n (pc := 56) X dX4_fixIt_56 rfl hl 2 rfl ?_
        refine AW.lift (fun _ _ _ _ k => lv_iadd (pc := 57) X.2.2.1 X.2.2.2.1 dX4_fixIt_57 k) ?_
        refine a_iaload (pc := 58) X dX4_fixIt_58 hf (fun x58 hf => ?_)
        refine AW.lift2 (fun _ _ _ _ k1 k2 => lv_if_ne (pc := 59) (tgt := 71) X.2.2.1 X.2.2.2.1 dX4_fixIt_59 rfl k2 k1) (fun c => ?_) (fun c => ?_)
        · have hf := ite_t c hf
          refine a_aload_n (pc := 62) X dX4_fixIt_62 rfl hl 0 rfl ?_
          refine AW.lift (fun _ _ _ _ k => lv_iconst (pc := 63) (v := (2 : Int32)) X.2.2.1 X.2.2.2.1 dX4_fixIt_63 rfl k) ?_
          refine AW.lift (fun _ _ _ _ k => lv_bipush (pc := 64) (v := (13 : Int32)) X.2.2.1 X.2.2.2.1 dX4_fixIt_64 rfl k) ?_
          refine a_iload_n (pc := 66) X dX4_fixIt_66 rfl hl 2 rfl ?_
          rcases dv_someS hf with ⟨hk, hf⟩ | ⟨-, hf⟩
          rotate_left
          · exact fl_none hf
          refine a_callb (pc := 67) (rs := []) (avs := [vR (some a2), vI (2 : Int32), vI (13 : Int32), vI v2]) Z.1 (w_X4_refuse GA (some a2) (2 : Int32) (13 : Int32) v2) (Or.inl rfl) q3116 q86 (by decide) (by decide) dX4_fixIt_67 hl.1 (Nat.le_of_ble_eq_true rfl) hf (ct_V hk ⟨by decide, by decide⟩ X (Or.inl rfl) q3116 q3113 q3115 pv_29 hy_X4_refuse np_X4_refuse rfl dX4_fixIt_67) (fun q h he hX => a_out (unc_of Z.2.1 rfl) Z.2.2.2.1 he hX) (fun x67 h hf => ?kk67)
          refine AW.eq (g2 := F0 m 70 ls [.int x67]) rfl ?_
          exact a_ireturn X Z.2.2.1 Z.2.2.2.1 dX4_fixIt_70 hf
        · have hf := ite_f c hf
          refine a_aload_n (pc := 71) X dX4_fixIt_71 rfl hl 0 rfl ?_
          refine a_get (pc := 72) (φ := 100) pR_t X Z.1.2.1 (gw X.1 X.2.1 q3025) (fun _ q => q) (by decide) dX4_fixIt_72 hf (fun x72 hf => ?_)
          refine a_iload_n (pc := 75) X dX4_fixIt_75 rfl hl 1 rfl ?_
          refine a_callb (pc := 76) (rs := [vR x72]) (avs := [vI v1]) Z.1 (w_X4_of GA v1) (Or.inl rfl) q3123 q86 (by decide) (by decide) dX4_fixIt_76 hl.1 (Nat.le_of_ble_eq_true rfl) hf (ct_S X (Or.inl rfl) q3123 q86 q3121 q3122 hy_X4_of np_X4_of rfl dX4_fixIt_76) (fun q h he hX => a_out (unc_of Z.2.1 rfl) Z.2.2.2.1 he hX) (fun x76 h hf => ?kk76)
          refine AW.eq (g2 := F0 m 79 ls [.int x76, va_rf x72]) rfl ?_
          refine a_iload_n (pc := 79) X dX4_fixIt_79 rfl hl 2 rfl ?_
          refine AW.lift (fun _ _ _ _ k => lv_iadd (pc := 80) X.2.2.1 X.2.2.2.1 dX4_fixIt_80 k) ?_
          refine AW.lift (fun _ _ _ _ k => lv_iconst (pc := 81) (v := (0 : Int32)) X.2.2.1 X.2.2.2.1 dX4_fixIt_81 rfl k) ?_
          refine a_iastore (pc := 82) X dX4_fixIt_82 hf (fun h hf => ?_)
          refine a_aload_n (pc := 83) X dX4_fixIt_83 rfl hl 0 rfl ?_
          refine a_get (pc := 84) (φ := 100) pR_t X Z.1.2.1 (gw X.1 X.2.1 q3025) (fun _ q => q) (by decide) dX4_fixIt_84 hf (fun x84 hf => ?_)
          refine AW.lift (fun _ _ _ _ k => lv_bipush (pc := 87) (v := (7 : Int32)) X.2.2.1 X.2.2.2.1 dX4_fixIt_87 rfl k) ?_
          refine AW.lift (fun _ _ _ _ k => lv_dup2_11 (pc := 89) X.2.2.1 X.2.2.2.1 dX4_fixIt_89 rfl (cat_rf _) k) ?_
          refine a_iaload (pc := 90) X dX4_fixIt_90 hf (fun x90 hf => ?_)
          refine AW.lift (fun _ _ _ _ k => lv_iconst (pc := 91) (v := (1 : Int32)) X.2.2.1 X.2.2.2.1 dX4_fixIt_91 rfl k) ?_
          refine AW.lift (fun _ _ _ _ k => lv_iadd (pc := 92) X.2.2.1 X.2.2.2.1 dX4_fixIt_92 k) ?_
          refine a_iastore (pc := 93) X dX4_fixIt_93 hf (fun h hf => ?_)
          refine a_aload_n (pc := 94) X dX4_fixIt_94 rfl hl 0 rfl ?_
          refine a_iload_n (pc := 95) X dX4_fixIt_95 rfl hl 1 rfl ?_
          rcases dv_someS hf with ⟨hk, hf⟩ | ⟨-, hf⟩
          rotate_left
          · exact fl_none hf
          refine a_callb (pc := 96) (rs := []) (avs := [vR (some a2), vI v1]) Z.1 (w_X4_bears GA (some a2) v1) (Or.inl rfl) q3158 q86 (by decide) (by decide) dX4_fixIt_96 hl.1 (Nat.le_of_ble_eq_true rfl) hf (ct_V hk ⟨by decide, by decide⟩ X (Or.inl rfl) q3158 q3155 q3157 pv_36 hy_X4_bears np_X4_bears rfl dX4_fixIt_96) (fun q h he hX => a_out (unc_of Z.2.1 rfl) Z.2.2.2.1 he hX) (fun x96 h hf => ?kk96)
          refine AW.eq (g2 := F0 m 99 ls [.int x96]) rfl ?_
          exact a_ireturn X Z.2.2.1 Z.2.2.2.1 dX4_fixIt_99 hf
      · have hf := ite_f c hf
        refine a_aload_n (pc := 35) X dX4_fixIt_35 rfl hl 0 rfl ?_
        refine AW.lift (fun _ _ _ _ k => lv_iconst (pc := 36) (v := (2 : Int32)) X.2.2.1 X.2.2.2.1 dX4_fixIt_36 rfl k) ?_
        refine AW.lift (fun _ _ _ _ k => lv_bipush (pc := 37) (v := (10 : Int32)) X.2.2.1 X.2.2.2.1 dX4_fixIt_37 rfl k) ?_
        refine a_aload_n (pc := 39) X dX4_fixIt_39 rfl hl 0 rfl ?_
        refine a_iload_n (pc := 40) X dX4_fixIt_40 rfl hl 1 rfl ?_
        rcases dv_someS hf with ⟨hk, hf⟩ | ⟨-, hf⟩
        rotate_left
        · exact fl_none hf
        refine a_callb (pc := 41) (rs := [vI (10 : Int32), vI (2 : Int32), vR (some a2)]) (avs := [vR (some a2), vI v1]) Z.1 (w_X4_lowestOn GA (some a2) v1) (Or.inl rfl) q3147 q86 (by decide) (by decide) dX4_fixIt_41 hl.1 (Nat.le_of_ble_eq_true rfl) hf (ct_V hk ⟨by decide, by decide⟩ X (Or.inl rfl) q3147 q3144 q3146 pv_34 hy_X4_lowestOn np_X4_lowestOn rfl dX4_fixIt_41) (fun q h he hX => a_out (unc_of Z.2.1 rfl) Z.2.2.2.1 he hX) (fun x41 h hf => ?kk41)
        refine AW.eq (g2 := F0 m 44 ls [.int x41, .int (10 : Int32), .int (2 : Int32), va_rf (some a2)]) rfl ?_
        rcases dv_someS hf with ⟨hk, hf⟩ | ⟨-, hf⟩
        rotate_left
        · exact fl_none hf
        refine a_callb (pc := 44) (rs := []) (avs := [vR (some a2), vI (2 : Int32), vI (10 : Int32), vI x41]) Z.1 (w_X4_refuse GA (some a2) (2 : Int32) (10 : Int32) x41) (Or.inl rfl) q3116 q86 (by decide) (by decide) dX4_fixIt_44 hl.1 (Nat.le_of_ble_eq_true rfl) hf (ct_V hk ⟨by decide, by decide⟩ X (Or.inl rfl) q3116 q3113 q3115 pv_29 hy_X4_refuse np_X4_refuse rfl dX4_fixIt_44) (fun q h he hX => a_out (unc_of Z.2.1 rfl) Z.2.2.2.1 he hX) (fun x44 h hf => ?kk44)
        refine AW.eq (g2 := F0 m 47 ls [.int x44]) rfl ?_
        exact a_ireturn X Z.2.2.1 Z.2.2.2.1 dX4_fixIt_47 hf
theorem np_X4_fix : npar yX4_fix.desc 2 := by unfold npar; decide +kernel
theorem hy_X4_fix : yX4_fix.cls ≠ "java/lang/invoke/MethodHandle" ∧ yX4_fix.cls ≠ "java/lang/invoke/VarHandle" := by decide +kernel
theorem w_X4_fix (GA : GA l s0 a0 K lam) (v0 : Option Nat) (v1 : Int32) (v2 : Int32) : AMet l s0 K lam yX4_fix (Cond.code yX4_fix cX4_fix (3 : Nat) (Option.some ClassFile.FieldType.int)) 4 86 [vR v0, vI v1, vI v2] oI (f_X4_fix K v0 v1 v2) := by
  refine AMet.of GA.1 (plainFor_of_name (by decide +kernel)) (Nat.le_of_ble_eq_true rfl) ?_
  intro b r hf p e s m args below meth c X hr hlk hnm hnd ht ls hl
  have Z : WZ l s0 a0 K p s m c cX4_fix yX4_fix.cls 3 b { frames := 4, cells := K 0 - aX b, slots := K 1 - aW b, locals := 86 } 4 86 meth [] (some (.int)) yX4_fix := ⟨⟨X, GA.2.1, GA.2.2.1, rfl, rfl, Nat.le_refl _, Nat.le_refl _⟩, tab_nil ht, hr, hlk, hnm, hnd⟩
  unfold f_X4_fix at hf
  clear hr hlk hnm hnd ht
  refine a_aload_n (pc := 0) X dX4_fix_0 rfl hl 0 rfl ?_
  obtain ⟨a1, rfl, ⟨hk, hf⟩ | ⟨-, hf⟩⟩ := dv_some hf
  rotate_left
  · exact fl_none hf
  refine a_callb (pc := 1) (rs := []) (avs := [vR (some a1)]) Z.1 (w_X4_layAside GA (some a1)) (Or.inl rfl) q3112 q86 (by decide) (by decide) dX4_fix_1 hl.1 (Nat.le_of_ble_eq_true rfl) hf (ct_V hk ⟨by decide, by decide⟩ X (Or.inl rfl) q3112 q3109 q3111 pv_28 hy_X4_layAside np_X4_layAside rfl dX4_fix_1) (fun q h he hX => a_out (unc_of Z.2.1 rfl) Z.2.2.2.1 he hX) (fun _ h hf => ?kk1)
  refine AW.eq (g2 := F0 m 4 ls []) rfl ?_
  refine a_aload_n (pc := 4) X dX4_fix_4 rfl hl 0 rfl ?_
  refine a_aload_n (pc := 5) X dX4_fix_5 rfl hl 0 rfl ?_
  refine a_iload_n (pc := 6) X dX4_fix_6 rfl hl 1 rfl ?_
  refine a_iload_n (pc := 7) X dX4_fix_7 rfl hl 2 rfl ?_
  rcases dv_someS hf with ⟨hk, hf⟩ | ⟨-, hf⟩
  rotate_left
  · exact fl_none hf
  refine a_callb (pc := 8) (rs := [vR (some a1)]) (avs := [vR (some a1), vI v1, vI v2]) Z.1 (w_X4_fixIt GA (some a1) v1 v2) (Or.inl rfl) q3135 q86 (by decide) (by decide) dX4_fix_8 hl.1 (Nat.le_of_ble_eq_true rfl) hf (ct_V hk ⟨by decide, by decide⟩ X (Or.inl rfl) q3135 q3132 q3134 pv_32 hy_X4_fixIt np_X4_fixIt rfl dX4_fix_8) (fun q h he hX => a_out (unc_of Z.2.1 rfl) Z.2.2.2.1 he hX) (fun x8 h hf => ?kk8)
  refine AW.eq (g2 := F0 m 11 ls [.int x8, va_rf (some a1)]) rfl ?_
  rcases dv_someS hf with ⟨hk, hf⟩ | ⟨-, hf⟩
  rotate_left
  · exact fl_none hf
  refine a_callb (pc := 11) (rs := []) (avs := [vR (some a1), vI x8]) Z.1 (w_X4_changed GA (some a1) x8) (Or.inl rfl) q3127 q86 (by decide) (by decide) dX4_fix_11 hl.1 (Nat.le_of_ble_eq_true rfl) hf (ct_V hk ⟨by decide, by decide⟩ X (Or.inl rfl) q3127 q3124 q3126 pv_31 hy_X4_changed np_X4_changed rfl dX4_fix_11) (fun q h he hX => a_out (unc_of Z.2.1 rfl) Z.2.2.2.1 he hX) (fun x11 h hf => ?kk11)
  refine AW.eq (g2 := F0 m 14 ls [.int x11]) rfl ?_
  exact a_ireturn X Z.2.2.1 Z.2.2.2.1 dX4_fix_14 hf
theorem np_X1_matAt : npar yX1_matAt.desc 1 := by unfold npar; decide +kernel
theorem hy_X1_matAt : yX1_matAt.cls ≠ "java/lang/invoke/MethodHandle" ∧ yX1_matAt.cls ≠ "java/lang/invoke/VarHandle" := by decide +kernel
theorem w_X1_matAt (GA : GA l s0 a0 K lam) (v0 : Option Nat) (v1 : Int32) : AMet l s0 K lam yX1_matAt (Cond.code yX1_matAt cX1_matAt (2 : Nat) (Option.some (ClassFile.FieldType.object "JumpHall$Mat"))) 9 420 [vR v0, vI v1] oR (f_X1_matAt K v0 v1) := by
  refine AMet.of GA.1 (plainFor_of_name (by decide +kernel)) (Nat.le_of_ble_eq_true rfl) ?_
  intro b r hf p e s m args below meth c X hr hlk hnm hnd ht ls hl
  have Z : WZ l s0 a0 K p s m c cX1_matAt yX1_matAt.cls 2 b { frames := 9, cells := K 0 - aX b, slots := K 1 - aW b, locals := 420 } 9 420 meth [] (some (.object "JumpHall$Mat")) yX1_matAt := ⟨⟨X, GA.2.1, GA.2.2.1, rfl, rfl, Nat.le_refl _, Nat.le_refl _⟩, tab_nil ht, hr, hlk, hnm, hnd⟩
  unfold f_X1_matAt at hf
  clear hr hlk hnm hnd ht
  refine a_aload_n (pc := 0) X dX1_matAt_0 rfl hl 0 rfl ?_
  refine a_get (pc := 1) (φ := 200) pR_t X Z.1.2.1 (gw X.1 X.2.1 q309) (fun _ q => q) (by decide) dX1_matAt_1 hf (fun x1 hf => ?_)
  refine a_iload_n (pc := 4) X dX1_matAt_4 rfl hl 1 rfl ?_
  obtain ⟨a5, rfl, ⟨hk, hf⟩ | ⟨-, hf⟩⟩ := dv_some hf
  rotate_left
  · exact fl_none hf
  refine a_callb (pc := 5) (rs := []) (avs := [vR (some a5), vI v1]) Z.1 (w_X2_isMat GA (some a5) v1) (Or.inl rfl) q1809 q75 (by decide) (by decide) dX1_matAt_5 hl.1 (Nat.le_of_ble_eq_true rfl) hf (ct_V hk ⟨by decide, by decide⟩ X (Or.inl rfl) q1809 q1806 q1807 q1808 hy_X2_isMat np_X2_isMat rfl dX1_matAt_5) (fun q h he hX => a_out (unc_of Z.2.1 rfl) Z.2.2.2.1 he hX) (fun x5 h hf => ?kk5)
  refine AW.eq (g2 := F0 m 8 ls [.int x5]) rfl ?_
  refine a_callb (pc := 8) (rs := []) (avs := [vI x5]) Z.1 (w_X1_checkIndex GA x5) (Or.inl rfl) q1816 q74 (by decide) (by decide) dX1_matAt_8 hl.1 (Nat.le_of_ble_eq_true rfl) hf (ct_S X (Or.inl rfl) q1816 q74 q1814 q1815 hy_X1_checkIndex np_X1_checkIndex rfl dX1_matAt_8) (fun q h he hX => a_out (unc_of Z.2.1 rfl) Z.2.2.2.1 he hX) (fun _ h hf => ?kk8)
  refine AW.eq (g2 := F0 m 11 ls []) rfl ?_
  refine a_aload_n (pc := 11) X dX1_matAt_11 rfl hl 0 rfl ?_
  refine a_get (pc := 12) (φ := 200) pR_t X Z.1.2.1 (gw X.1 X.2.1 q309) (fun _ q => q) (by decide) dX1_matAt_12 hf (fun x12 hf => ?_)
  refine a_getN (pc := 15) (φ := 300) pR_t X Z.1.2.1 (gnF X.1 X.2.1 q229) (fun _ q => q) (by decide) dX1_matAt_15 hf (fun x15 hf => ?_)
  refine a_iload_n (pc := 18) X dX1_matAt_18 rfl hl 1 rfl ?_
  obtain ⟨a19, rfl, ⟨hk, hf⟩ | ⟨-, hf⟩⟩ := dv_some hf
  rotate_left
  · exact fl_none hf
  refine a_callb (pc := 19) (rs := []) (avs := [vR (some a19), vI v1]) Z.1 (w_J2_get GA (some a19) v1) (Or.inl rfl) q505 q78 (by decide) (by decide) dX1_matAt_19 hl.1 (Nat.le_of_ble_eq_true rfl) hf (ct_V hk ⟨by decide, by decide⟩ X (Or.inl rfl) q505 q1862 q503 q3487 hy_J2_get np_J2_get rfl dX1_matAt_19) (fun q h he hX => a_out (unc_of Z.2.1 rfl) Z.2.2.2.1 he hX) (fun x19 h hf => ?kk19)
  refine AW.eq (g2 := F0 m 22 ls [va_rf x19]) rfl ?_
  refine a_checkcast (pc := 22) X (gw X.1 X.2.1 q1863) (cs_JumpHall_Mat GA) dX1_matAt_22 hf (fun hf => ?_)
  exact a_areturn X Z.2.2.1 (Or.inl ⟨_, rfl⟩) Z.2.2.2.1 dX1_matAt_25 hf
theorem np_X1_open : npar yX1_open.desc 1 := by unfold npar; decide +kernel
theorem hy_X1_open : yX1_open.cls ≠ "java/lang/invoke/MethodHandle" ∧ yX1_open.cls ≠ "java/lang/invoke/VarHandle" := by decide +kernel
theorem w_X1_open (GA : GA l s0 a0 K lam) (v0 : Option Nat) (v1 : Int32) : AMet l s0 K lam yX1_open (Cond.code yX1_open cX1_open (3 : Nat) (Option.some ClassFile.FieldType.int)) 21 3348 [vR v0, vI v1] oI (f_X1_open K v0 v1) := by
  refine AMet.of GA.1 (plainFor_of_name (by decide +kernel)) (Nat.le_of_ble_eq_true rfl) ?_
  intro b r hf p e s m args below meth c X hr hlk hnm hnd ht ls hl
  have Z : WZ l s0 a0 K p s m c cX1_open yX1_open.cls 3 b { frames := 21, cells := K 0 - aX b, slots := K 1 - aW b, locals := 3348 } 21 3348 meth [] (some (.int)) yX1_open := ⟨⟨X, GA.2.1, GA.2.2.1, rfl, rfl, Nat.le_refl _, Nat.le_refl _⟩, tab_nil ht, hr, hlk, hnm, hnd⟩
  unfold f_X1_open at hf
  clear hr hlk hnm hnd ht
  refine a_aload_n (pc := 0) X dX1_open_0 rfl hl 0 rfl ?_
  refine a_iload_n (pc := 1) X dX1_open_1 rfl hl 1 rfl ?_
  obtain ⟨a2, rfl, ⟨hk, hf⟩ | ⟨-, hf⟩⟩ := dv_some hf
  rotate_left
  · exact fl_none hf
  refine a_callb (pc := 2) (rs := []) (avs := [vR (some a2), vI v1]) Z.1 (w_X1_matAt GA (some a2) v1) (Or.inl rfl) q1861 q74 (by decide) (by decide) dX1_open_2 hl.1 (Nat.le_of_ble_eq_true rfl) hf (ct_V hk ⟨by decide, by decide⟩ X (Or.inl rfl) q1861 q1858 q1860 pv_6 hy_X1_matAt np_X1_matAt rfl dX1_open_2) (fun q h he hX => a_out (unc_of Z.2.1 rfl) Z.2.2.2.1 he hX) (fun x2 h hf => ?kk2)
  refine AW.eq (g2 := F0 m 5 ls [va_rf x2]) rfl ?_
  refine a_astore_n (pc := 5) X dX1_open_5 rfl hl (by decide) (lv' := [(2, vR x2), (0, vR (some a2)), (1, vI v1)]) rfl (fun ls hl => ?_)
  refine a_aload_n (pc := 6) X dX1_open_6 rfl hl 1 rfl ?_
  refine a_iload_n (pc := 7) X dX1_open_7 rfl hl 2 rfl ?_
  refine a_ndy (pc := 8) (rs := [vR (some a2)]) (avs := [vI v1]) Z.1 Z.2.2.2.2.2 (siG_204 GA) hfb_4 (lw_all_tbl q3550) ⟨by decide, by decide⟩ rfl rfl rfl (by decide) hl.1 (Nat.le_of_ble_eq_true rfl) (Nat.le_of_ble_eq_true rfl) rfl dX1_open_8 hf (fun x8 h hf => ?_)
  refine AW.eq (g2 := F0 m 13 ls [va_rf (some x8), va_rf (some a2)]) rfl ?_
  rcases dv_someS hf with ⟨hk, hf⟩ | ⟨-, hf⟩
  rotate_left
  · exact fl_none hf
  refine a_callb (pc := 13) (rs := []) (avs := [vR (some a2), vR (some x8)]) Z.1 (w_X1_does GA (some a2) (some x8)) (Or.inr (Or.inl ⟨_, rfl⟩)) q1754 q74 (by decide) (by decide) dX1_open_13 hl.1 (Nat.le_of_ble_eq_true rfl) hf (ct_V hk ⟨by decide, by decide⟩ X (Or.inr (Or.inl ⟨_, rfl⟩)) q1754 q1751 q1753 pv_4 hy_X1_does np_X1_does rfl dX1_open_13) (fun q h he hX => a_out (unc_of Z.2.1 rfl) Z.2.2.2.1 he hX) (fun x13 h hf => ?kk13)
  refine AW.eq (g2 := F0 m 16 ls [.int x13]) rfl ?_
  exact a_ireturn X Z.2.2.1 Z.2.2.2.1 dX1_open_16 hf
theorem np_X0_open : npar yX0_open.desc 3 := by unfold npar; decide +kernel
theorem hy_X0_open : yX0_open.cls ≠ "java/lang/invoke/MethodHandle" ∧ yX0_open.cls ≠ "java/lang/invoke/VarHandle" := by decide +kernel
theorem w_X0_open (GA : GA l s0 a0 K lam) (v0 : Option Nat) (v1 : Int32) (v2 : Option Nat) : AMet l s0 K lam yX0_open (Cond.codeWith yX0_open cX0_open (4 : Nat) (Option.some ClassFile.FieldType.int) [((0 : Nat), (9 : Nat), (12 : Nat), (19 : Nat)), ((0 : Nat), (9 : Nat), (15 : Nat), (13 : Nat))]) 22 3370 [vR v0, vI v1, vR v2] oI (f_X0_open K v0 v1 v2) := by
  refine AMet.ofW GA.1 (plainFor_of_name (by decide +kernel)) (Nat.le_of_ble_eq_true rfl) ?_
  intro b r hf p e s m args below meth c X hr hlk hnm hnd ht ls hl
  have Z : WZ l s0 a0 K p s m c cX0_open yX0_open.cls 4 b { frames := 22, cells := K 0 - aX b, slots := K 1 - aW b, locals := 3370 } 22 3370 meth [(0, 9, 12, 19), (0, 9, 15, 13)] (some (.int)) yX0_open := ⟨⟨X, GA.2.1, GA.2.2.1, rfl, rfl, Nat.le_refl _, Nat.le_refl _⟩, ht, hr, hlk, hnm, hnd⟩
  unfold f_X0_open at hf
  clear hr hlk hnm hnd ht
  refine a_aload_n (pc := 0) X dX0_open_0 rfl hl 2 rfl ?_
  refine AW.lift (fun _ _ _ _ k => lv_iconst (pc := 1) (v := (0 : Int32)) X.2.2.1 X.2.2.2.1 dX0_open_1 rfl k) ?_
  refine a_aload_n (pc := 2) X dX0_open_2 rfl hl 0 rfl ?_
  refine a_iload_n (pc := 3) X dX0_open_3 rfl hl 1 rfl ?_
  obtain ⟨a4, rfl, ⟨hk, hf⟩ | ⟨-, hf⟩⟩ := dv_tsome hf
  rotate_left
  · exact fl_tnone hf
  refine a_callt (pc := 4) (rs := [vI (0 : Int32), vR v2]) (avs := [vR (some a4), vI v1]) Z.1 (w_X1_open GA (some a4) v1) (Or.inl rfl) q1857 q74 (by decide) (by decide) dX0_open_4 hl.1 (Nat.le_of_ble_eq_true rfl) hf (ct_V hk ⟨by decide, by decide⟩ X (Or.inl rfl) q1857 q1854 q1855 q1856 hy_X1_open np_X1_open rfl dX0_open_4) (fun q h hf hX => ?hx4) (fun x4 h hf => ?kk4)
  case hx4 =>
    rcases ctc_some hf with ⟨hy, hf⟩ | ⟨hn0, hf⟩
    · refine a_catchH (st := 0) (en := 9) (hp := 12) (ct := 19) (pre := []) (suf := [(0, 9, 15, 13)]) X hX Z.2.1 rfl (fun z hz => nomatch hz) (by decide) (Or.inr ⟨by decide, _, gw X.1 X.2.1 q1786, (cs_X19 GA) _ hy⟩) (AW.eq (g2 := F0 m 12 ls [va_rf (some q)]) rfl ?_)
      refine a_astore_n (pc := 12) X dX0_open_12 rfl hl (by decide) (lv' := [(3, vR (some q)), (0, vR (some a4)), (1, vI v1), (2, vR v2)]) rfl (fun ls hl => ?_)
      refine AW.lift (fun _ _ _ _ k => lv_iconst (pc := 13) (v := (1 : Int32)) X.2.2.1 X.2.2.2.1 dX0_open_13 rfl k) ?_
      exact a_ireturn X Z.2.2.1 Z.2.2.2.1 dX0_open_14 hf
    · skip
      rcases ctc_some hf with ⟨hy, hf⟩ | ⟨hn1, hf⟩
      · refine a_catchH (st := 0) (en := 9) (hp := 15) (ct := 13) (pre := [(0, 9, 12, 19)]) (suf := []) X hX Z.2.1 rfl (by intro z hz; simp only [List.mem_cons, List.not_mem_nil, or_false] at hz; rcases hz with rfl <;> first | exact Or.inl (by decide) | exact Or.inr ⟨by decide, _, gw X.1 X.2.1 q1786, (nc_12_13_14_16_17_18_20_21_java_lang_IndexOutOfBoundsException GA _ (by simpa using hn0)).2.2⟩) (by decide) (Or.inr ⟨by decide, _, gw X.1 X.2.1 q1709, (cs_X21 GA) _ hy⟩) (AW.eq (g2 := F0 m 15 ls [va_rf (some q)]) rfl ?_)
        refine a_astore_n (pc := 15) X dX0_open_15 rfl hl (by decide) (lv' := [(3, vR (some q)), (0, vR (some a4)), (1, vI v1), (2, vR v2)]) rfl (fun ls hl => ?_)
        refine AW.lift (fun _ _ _ _ k => lv_iconst (pc := 16) (v := (2 : Int32)) X.2.2.1 X.2.2.2.1 dX0_open_16 rfl k) ?_
        exact a_ireturn X Z.2.2.1 Z.2.2.2.1 dX0_open_17 hf
      · skip
        exact a_outH X Z.2.1 (by intro z hz; simp only [List.mem_cons, List.not_mem_nil, or_false] at hz; rcases hz with rfl | rfl <;> first | exact Or.inl (by decide) | exact Or.inr ⟨by decide, _, gw X.1 X.2.1 q1786, (nc_12_13_14_16_17_18_20_21_java_lang_IndexOutOfBoundsException GA _ (by simpa using hn0)).2.2⟩ | exact Or.inr ⟨by decide, _, gw X.1 X.2.1 q1709, (nc_12_13_14_16_17_18_19_20_java_lang_UnsupportedOperationException GA _ (by simpa using hn1)).2.2⟩) Z.2.2.2.1 (th_eq hf) hX
  refine AW.eq (g2 := F0 m 7 ls [.int x4, .int (0 : Int32), va_rf v2]) rfl ?_
  refine AW.lift (fun _ _ _ _ k => lv_i2l (pc := 7) X.2.2.1 X.2.2.2.1 dX0_open_7 rfl k) ?_
  refine a_lastore (pc := 8) X dX0_open_8 hf (fun h hf => ?_)
  refine AW.lift (fun _ _ _ _ k => lv_goto (pc := 9) (tgt := 18) X.2.2.1 X.2.2.2.1 dX0_open_9 rfl k) ?_
  refine AW.lift (fun _ _ _ _ k => lv_iconst (pc := 18) (v := (0 : Int32)) X.2.2.1 X.2.2.2.1 dX0_open_18 rfl k) ?_
  exact a_ireturn X Z.2.2.1 Z.2.2.2.1 dX0_open_19 hf
end WK
