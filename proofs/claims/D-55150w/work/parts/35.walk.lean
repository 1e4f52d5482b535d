section WK
variable {l : Launch} {s0 : State} {a0 : Array Value} {K : Nat → Nat} {lam : Nat → ClassId}
variable {p : Program} {e : Env} {R : Room} {s : State} {m : MethodId} {args : Array Value} {below : List Frame} {meth : Method} {c : Code} {b : AH}
theorem w_J4_getNode_j137 {r : Except Nat (Option Nat) × AH} (GA : GA l s0 a0 K lam) (Z : WZ l s0 a0 K p s m c cJ4_getNode yJ4_getNode.cls 8 b R 2 44 meth [] (some (.object "java/util/HashMap$Node")) yJ4_getNode) (v1 : Option Nat) (v4 : Option Nat) (v6 : Int32)  (rc99 : Option Nat → AM (Option Nat)) (hrc99 : ∀ (v4 : Option Nat) (h : AH) (ls : Array Slot), LV ls 8 [(1, vR v1), (4, vR v4), (6, vI v6)] → rc99 v4 h = some r → AW s0 K lam p l e R s m args below meth c (AQ s0 K lam below oR b r s) b h (F0 m 99 ls [])) {h : AH} {ls : Array Slot} (hl : LV ls 8 [(1, vR v1), (4, vR v4), (6, vI v6)]) (hf : f_J4_getNode_j137 K rc99 v1 v4 v6 h = some r) : AW s0 K lam p l e R s m args below meth c (AQ s0 K lam below oR b r s) b h (F0 m 137 ls []) := by
  unfold f_J4_getNode_j137 at hf
  have X := Z.1.1
  refine a_aload (pc := 137) X dJ4_getNode_137 hl 1 rfl ?_
  refine a_get (pc := 139) (φ := 2903) pR_t X Z.1.2.1 (gw X.1 X.2.1 q1196) (fun _ q => q) (by decide) dJ4_getNode_139 hf (fun x139 hf => ?_)
  refine AW.lift (fun _ _ _ _ k => lv_dup (pc := 142) X.2.2.1 X.2.2.2.1 dJ4_getNode_142 (cat_rf _) k) ?_
  refine a_astore (pc := 143) X dJ4_getNode_143 hl (by decide) (lv' := [(4, vR x139), (1, vR v1), (6, vI v6)]) rfl (fun ls hl => ?_)
  refine a_ifnonnull (pc := 145) (tgt := 99) X dJ4_getNode_145 rfl (fun c => ?_) (fun c => ?_)
  · have hf := ite_f c hf
    exact hrc99 x139 _ _ (hl.sub [1, 0, 2] rfl) hf
  · have hf := ite_t c hf
    refine a_null (pc := 148) X dJ4_getNode_148 ?_
    exact a_areturn X Z.2.2.1 (Or.inl ⟨_, rfl⟩) Z.2.2.2.1 dJ4_getNode_149 hf
theorem w_J4_getNode_b99 {r : Except Nat (Option Nat) × AH} (GA : GA l s0 a0 K lam) (Z : WZ l s0 a0 K p s m c cJ4_getNode yJ4_getNode.cls 8 b R 2 44 meth [] (some (.object "java/util/HashMap$Node")) yJ4_getNode) (v1 : Option Nat) (v4 : Option Nat) (v6 : Int32)  (rc99 : Option Nat → AM (Option Nat)) (hrc99 : ∀ (v4 : Option Nat) (h : AH) (ls : Array Slot), LV ls 8 [(1, vR v1), (4, vR v4), (6, vI v6)] → rc99 v4 h = some r → AW s0 K lam p l e R s m args below meth c (AQ s0 K lam below oR b r s) b h (F0 m 99 ls [])) {h : AH} {ls : Array Slot} (hl : LV ls 8 [(1, vR v1), (4, vR v4), (6, vI v6)]) (hf : f_J4_getNode_b99 K rc99 v1 v4 v6 h = some r) : AW s0 K lam p l e R s m args below meth c (AQ s0 K lam below oR b r s) b h (F0 m 99 ls []) := by
  unfold f_J4_getNode_b99 at hf
  have X := Z.1.1
  refine a_aload (pc := 99) X dJ4_getNode_99 hl 1 rfl ?_
  refine a_get (pc := 101) (φ := 2900) pI_t X Z.1.2.1 (gw X.1 X.2.1 q1184) (fun _ q => q) (by decide) dJ4_getNode_101 hf (fun x101 hf => ?_)
  refine a_iload (pc := 104) X dJ4_getNode_104 hl 2 rfl ?_
  refine AW.lift2 (fun _ _ _ _ k1 k2 => lv_icmp_ne (pc := 106) (tgt := 137) X.2.2.1 X.2.2.2.1 dJ4_getNode_106 rfl k2 k1) (fun c => ?_) (fun c => ?_)
  · have hf := ite_t c hf
    refine a_aload (pc := 109) X dJ4_getNode_109 hl 1 rfl ?_
    refine a_get (pc := 111) (φ := 2901) pR_t X Z.1.2.1 (gw X.1 X.2.1 q1188) (fun _ q => q) (by decide) dJ4_getNode_111 hf (fun x111 hf => ?_)
    refine AW.lift (fun _ _ _ _ k => lv_dup (pc := 114) X.2.2.1 X.2.2.2.1 dJ4_getNode_114 (cat_rf _) k) ?_
    refine a_astore (pc := 115) X dJ4_getNode_115 hl (by decide) (lv' := [(7, vR x111), (1, vR v1), (4, vR v4), (6, vI v6)]) rfl (fun ls hl => ?_)
    refine a_aload_n (pc := 117) X dJ4_getNode_117 rfl hl 1 rfl ?_
    refine AW.lift2 (fun _ _ _ _ k1 k2 => lv_acmp_eq (pc := 118) (tgt := 134) X.2.2.1 X.2.2.2.1 dJ4_getNode_118 rfl k1 k2) (fun c => ?_) (fun c => ?_)
    · have hf := ite_t c hf
      refine a_aload (pc := 134) X dJ4_getNode_134 hl 2 rfl ?_
      exact a_areturn X Z.2.2.1 (Or.inl ⟨_, rfl⟩) Z.2.2.2.1 dJ4_getNode_136 hf
    · have hf := ite_f c hf
      refine a_aload_n (pc := 121) X dJ4_getNode_121 rfl hl 1 rfl ?_
      refine a_ifnull (pc := 122) (tgt := 137) X dJ4_getNode_122 rfl (fun c => ?_) (fun c => ?_)
      · have hf := ite_t c hf
        exact w_J4_getNode_j137 GA Z v1 v4 v6  rc99 hrc99 (hl.sub [1, 2, 3] rfl) hf
      · have hf := ite_f c hf
        refine a_aload_n (pc := 125) X dJ4_getNode_125 rfl hl 1 rfl ?_
        refine a_aload (pc := 126) X dJ4_getNode_126 hl 0 rfl ?_
        obtain ⟨a128, rfl⟩ := dv_ref hf
        refine' a_virt hf ?kv128 ?cs128
        case cs128 =>
          intro hf kk
          rcases dv_someS hf with ⟨hk, hf⟩ | ⟨-, hf⟩
          · refine a_callb (pc := 128) (rs := []) (avs := [vR (some a128), vR x111]) Z.1 (w_X10_equals GA (some a128) x111) (Or.inl rfl) q1611 q126 (by decide) (by decide) dJ4_getNode_128 hl.1 (Nat.le_of_ble_eq_true rfl) hf (ct_U (x := ({ cls := "java/lang/Object", name := "equals", desc := "(Ljava/lang/Object;)Z" } : MethodName)) (owner := "java/lang/Object") hk ⟨by decide, by decide⟩ X (Or.inl rfl) q1611 q1595 (q1597) (va_Decl.ofD (gf (args := args) X.1 X.2.1 q1594 rfl)) ⟨by decide, by decide⟩ q1610 q1609 (np_of (np_X10_equals)) rfl dJ4_getNode_128) (fun q h he hX => a_out (unc_of Z.2.1 rfl) Z.2.2.2.1 he hX) (fun v h hf => kk v h hf)
          rcases dv_someS hf with ⟨hk, hf⟩ | ⟨-, hf⟩
          · refine a_callb (pc := 128) (rs := []) (avs := [vR (some a128), vR x111]) Z.1 (w_J23_equals GA (some a128) x111) (Or.inl rfl) q1621 q105 (by decide) (by decide) dJ4_getNode_128 hl.1 (Nat.le_of_ble_eq_true rfl) hf (ct_U (x := ({ cls := "java/lang/Object", name := "equals", desc := "(Ljava/lang/Object;)Z" } : MethodName)) (owner := "java/lang/Object") hk ⟨by decide, by decide⟩ X (Or.inl rfl) q1621 q1595 (q1597) (va_Decl.ofD (gf (args := args) X.1 X.2.1 q1594 rfl)) ⟨by decide, by decide⟩ q1620 q1619 (np_of (np_J23_equals)) rfl dJ4_getNode_128) (fun q h he hX => a_out (unc_of Z.2.1 rfl) Z.2.2.2.1 he hX) (fun v h hf => kk v h hf)
          rcases dv_someS hf with ⟨hk, hf⟩ | ⟨-, hf⟩
          · refine a_callb (pc := 128) (rs := []) (avs := [vR (some a128), vR x111]) Z.1 (w_J7_equals GA (some a128) x111) (Or.inl rfl) q1628 q84 (by decide) (by decide) dJ4_getNode_128 hl.1 (Nat.le_of_ble_eq_true rfl) hf (ct_U (x := ({ cls := "java/lang/Object", name := "equals", desc := "(Ljava/lang/Object;)Z" } : MethodName)) (owner := "java/lang/Object") hk ⟨by decide, by decide⟩ X (Or.inl rfl) q1628 q1595 (q1597) (va_Decl.ofD (gf (args := args) X.1 X.2.1 q1594 rfl)) ⟨by decide, by decide⟩ q1627 q1626 (np_of (np_J7_equals)) rfl dJ4_getNode_128) (fun q h he hX => a_out (unc_of Z.2.1 rfl) Z.2.2.2.1 he hX) (fun v h hf => kk v h hf)
          exact fl_none hf
        case kv128 =>
        intro x128 h hf
        refine AW.eq (g2 := F0 m 131 ls [.int x128]) rfl ?_
        refine AW.lift2 (fun _ _ _ _ k1 k2 => lv_if_eq (pc := 131) (tgt := 137) X.2.2.1 X.2.2.2.1 dJ4_getNode_131 rfl k1 k2) (fun c => ?_) (fun c => ?_)
        · have hf := ite_t c hf
          exact w_J4_getNode_j137 GA Z (some a128) v4 v6  rc99 hrc99 (hl.sub [1, 2, 3] rfl) hf
        · have hf := ite_f c hf
          refine a_aload (pc := 134) X dJ4_getNode_134 hl 2 rfl ?_
          exact a_areturn X Z.2.2.1 (Or.inl ⟨_, rfl⟩) Z.2.2.2.1 dJ4_getNode_136 hf
  · have hf := ite_f c hf
    exact w_J4_getNode_j137 GA Z v1 v4 v6  rc99 hrc99 (hl.sub [0, 1, 2] rfl) hf
theorem w_J4_getNode_l99 {r : Except Nat (Option Nat) × AH} (GA : GA l s0 a0 K lam) (Z : WZ l s0 a0 K p s m c cJ4_getNode yJ4_getNode.cls 8 b R 2 44 meth [] (some (.object "java/util/HashMap$Node")) yJ4_getNode) (v1 : Option Nat) (v6 : Int32)  : ∀ (n : Nat) (v4 : Option Nat) (h : AH) (ls : Array Slot), LV ls 8 [(1, vR v1), (4, vR v4), (6, vI v6)] → f_J4_getNode_l99 K v1 v6 n v4 h = some r → AW s0 K lam p l e R s m args below meth c (AQ s0 K lam below oR b r s) b h (F0 m 99 ls []) := by
  intro n
  induction n with
  | zero => intro v4 h ls hl hf; exact fl_no (h := h) hf
  | succ n ih => intro v4 h ls hl hf; exact w_J4_getNode_b99 GA Z v1 v4 v6 (f_J4_getNode_l99 K v1 v6 n) ih hl hf
theorem w_J4_getNode_j71 {r : Except Nat (Option Nat) × AH} (GA : GA l s0 a0 K lam) (Z : WZ l s0 a0 K p s m c cJ4_getNode yJ4_getNode.cls 8 b R 2 44 meth [] (some (.object "java/util/HashMap$Node")) yJ4_getNode) (v1 : Option Nat) (v3 : Option Nat) (v6 : Int32)   {h : AH} {ls : Array Slot} (hl : LV ls 8 [(1, vR v1), (3, vR v3), (6, vI v6)]) (hf : f_J4_getNode_j71 K v1 v3 v6 h = some r) : AW s0 K lam p l e R s m args below meth c (AQ s0 K lam below oR b r s) b h (F0 m 71 ls []) := by
  unfold f_J4_getNode_j71 at hf
  have X := Z.1.1
  refine a_aload_n (pc := 71) X dJ4_getNode_71 rfl hl 1 rfl ?_
  refine a_get (pc := 72) (φ := 2903) pR_t X Z.1.2.1 (gw X.1 X.2.1 q1196) (fun _ q => q) (by decide) dJ4_getNode_72 hf (fun x72 hf => ?_)
  refine AW.lift (fun _ _ _ _ k => lv_dup (pc := 75) X.2.2.1 X.2.2.2.1 dJ4_getNode_75 (cat_rf _) k) ?_
  refine a_astore (pc := 76) X dJ4_getNode_76 hl (by decide) (lv' := [(4, vR x72), (1, vR v1), (3, vR v3), (6, vI v6)]) rfl (fun ls hl => ?_)
  refine a_ifnull (pc := 78) (tgt := 148) X dJ4_getNode_78 rfl (fun c => ?_) (fun c => ?_)
  · have hf := ite_t c hf
    refine a_null (pc := 148) X dJ4_getNode_148 ?_
    exact a_areturn X Z.2.2.1 (Or.inl ⟨_, rfl⟩) Z.2.2.2.1 dJ4_getNode_149 hf
  · have hf := ite_f c hf
    refine a_aload_n (pc := 81) X dJ4_getNode_81 rfl hl 2 rfl ?_
    refine a_instanceof (pc := 82) X (gw X.1 X.2.1 q1162) (cs_none GA) (nc_29_java_util_HashMap_TreeNode GA) dJ4_getNode_82 hf (fun x82 hf => ?_)
    refine AW.lift2 (fun _ _ _ _ k1 k2 => lv_if_eq (pc := 85) (tgt := 99) X.2.2.1 X.2.2.2.1 dJ4_getNode_85 rfl k1 k2) (fun c => ?_) (fun c => ?_)
    · have hf := ite_t c hf
      exact w_J4_getNode_l99 GA Z v1 v6  FU x72 _ _ (hl.sub [1, 0, 3] rfl) hf
    · have hf := ite_f c hf
      refine a_aload_n (pc := 88) X dJ4_getNode_88 rfl hl 2 rfl ?_
      refine a_checkcast (pc := 89) X (gw X.1 X.2.1 q1162) (cs_java_util_HashMap_TreeNode GA) dJ4_getNode_89 hf (fun hf => ?_)
      refine a_iload (pc := 92) X dJ4_getNode_92 hl 3 rfl ?_
      refine a_aload_n (pc := 94) X dJ4_getNode_94 rfl hl 1 rfl ?_
      exact fl_no hf
theorem np_J4_getNode : npar yJ4_getNode.desc 1 := by unfold npar; decide +kernel
theorem hy_J4_getNode : yJ4_getNode.cls ≠ "java/lang/invoke/MethodHandle" ∧ yJ4_getNode.cls ≠ "java/lang/invoke/VarHandle" := by decide +kernel
theorem w_J4_getNode (GA : GA l s0 a0 K lam) (v0 : Option Nat) (v1 : Option Nat) : AMet l s0 K lam yJ4_getNode (Cond.code yJ4_getNode cJ4_getNode (8 : Nat) (Option.some (ClassFile.FieldType.object "java/util/HashMap$Node"))) 2 44 [vR v0, vR v1] oR (f_J4_getNode K v0 v1) := by
  refine AMet.of GA.1 (plainFor_of_name (by decide +kernel)) (Nat.le_of_ble_eq_true rfl) ?_
  intro b r hf p e s m args below meth c X hr hlk hnm hnd ht ls hl
  have Z : WZ l s0 a0 K p s m c cJ4_getNode yJ4_getNode.cls 8 b { frames := 2, cells := K 0 - aX b, slots := K 1 - aW b, locals := 44 } 2 44 meth [] (some (.object "java/util/HashMap$Node")) yJ4_getNode := ⟨⟨X, GA.2.1, GA.2.2.1, rfl, rfl, Nat.le_refl _, Nat.le_refl _⟩, tab_nil ht, hr, hlk, hnm, hnd⟩
  unfold f_J4_getNode at hf
  clear hr hlk hnm hnd ht
  refine a_aload_n (pc := 0) X dJ4_getNode_0 rfl hl 0 rfl ?_
  refine a_get (pc := 1) (φ := 2800) pR_t X Z.1.2.1 (gw X.1 X.2.1 q198) (fun _ q => q) (by decide) dJ4_getNode_1 hf (fun x1 hf => ?_)
  refine AW.lift (fun _ _ _ _ k => lv_dup (pc := 4) X.2.2.1 X.2.2.2.1 dJ4_getNode_4 (cat_rf _) k) ?_
  refine a_astore_n (pc := 5) X dJ4_getNode_5 rfl hl (by decide) (lv' := [(2, vR x1), (0, vR v0), (1, vR v1)]) rfl (fun ls hl => ?_)
  refine a_ifnull (pc := 6) (tgt := 148) X dJ4_getNode_6 rfl (fun c => ?_) (fun c => ?_)
  · have hf := ite_t c hf
    refine a_null (pc := 148) X dJ4_getNode_148 ?_
    exact a_areturn X Z.2.2.1 (Or.inl ⟨_, rfl⟩) Z.2.2.2.1 dJ4_getNode_149 hf
  · have hf := ite_f c hf
    refine a_aload_n (pc := 9) X dJ4_getNode_9 rfl hl 0 rfl ?_
    refine a_arraylength (pc := 10) X dJ4_getNode_10 hf (fun x10 hf => ?_)
    refine AW.lift (fun _ _ _ _ k => lv_dup (pc := 11) X.2.2.1 X.2.2.2.1 dJ4_getNode_11 rfl k) ?_
    refine a_istore (pc := 12) X dJ4_getNode_12 hl (by decide) (lv' := [(5, vI x10), (2, vR x1), (0, vR v0), (1, vR v1)]) rfl (fun ls hl => ?_)
    refine AW.lift2 (fun _ _ _ _ k1 k2 => lv_if_le (pc := 14) (tgt := 148) X.2.2.1 X.2.2.2.1 dJ4_getNode_14 rfl k1 k2) (fun c => ?_) (fun c => ?_)
    · have hf := ite_t c hf
      refine a_null (pc := 148) X dJ4_getNode_148 ?_
      exact a_areturn X Z.2.2.1 (Or.inl ⟨_, rfl⟩) Z.2.2.2.1 dJ4_getNode_149 hf
    · have hf := ite_f c hf
      refine a_aload_n (pc := 17) X dJ4_getNode_17 rfl hl 1 rfl ?_
      refine a_iload (pc := 18) X dJ4_getNode_18 hl 0 rfl ?_
      refine AW.lift (fun _ _ _ _ k => lv_iconst (pc := 20) (v := (1 : Int32)) X.2.2.1 X.2.2.2.1 dJ4_getNode_20 rfl k) ?_
      refine AW.lift (fun _ _ _ _ k => lv_isub (pc := 21) X.2.2.1 X.2.2.2.1 dJ4_getNode_21 k) ?_
      refine a_aload_n (pc := 22) X dJ4_getNode_22 rfl hl 3 rfl ?_
      refine a_callb (pc := 23) (rs := [vI (x10 - (1 : Int32)), vR x1]) (avs := [vR v1]) Z.1 (w_J4_hash GA v1) (Or.inl rfl) q1489 q81 (by decide) (by decide) dJ4_getNode_23 hl.1 (Nat.le_of_ble_eq_true rfl) hf (ct_S X (Or.inl rfl) q1489 q81 q1487 q1488 hy_J4_hash np_J4_hash rfl dJ4_getNode_23) (fun q h he hX => a_out (unc_of Z.2.1 rfl) Z.2.2.2.1 he hX) (fun x23 h hf => ?kk23)
      refine AW.eq (g2 := F0 m 26 ls [.int x23, .int (x10 - (1 : Int32)), va_rf x1]) rfl ?_
      refine AW.lift (fun _ _ _ _ k => lv_dup (pc := 26) X.2.2.1 X.2.2.2.1 dJ4_getNode_26 rfl k) ?_
      refine a_istore (pc := 27) X dJ4_getNode_27 hl (by decide) (lv' := [(6, vI x23), (5, vI x10), (2, vR x1), (0, vR v0), (1, vR v1)]) rfl (fun ls hl => ?_)
      refine AW.lift (fun _ _ _ _ k => lv_iand (pc := 29) X.2.2.1 X.2.2.2.1 dJ4_getNode_29 k) ?_
      refine a_aaload (pc := 30) (t := 1007) (by decide) rfl X dJ4_getNode_30 hf (fun x30 hf => ?_)
      refine AW.lift (fun _ _ _ _ k => lv_dup (pc := 31) X.2.2.1 X.2.2.2.1 dJ4_getNode_31 (cat_rf _) k) ?_
      refine a_astore_n (pc := 32) X dJ4_getNode_32 rfl hl (by decide) (lv' := [(3, vR x30), (6, vI x23), (5, vI x10), (2, vR x1), (0, vR v0), (1, vR v1)]) rfl (fun ls hl => ?_)
      refine a_ifnull (pc := 33) (tgt := 148) X dJ4_getNode_33 rfl (fun c => ?_) (fun c => ?_)
      · have hf := ite_t c hf
        refine a_null (pc := 148) X dJ4_getNode_148 ?_
        exact a_areturn X Z.2.2.1 (Or.inl ⟨_, rfl⟩) Z.2.2.2.1 dJ4_getNode_149 hf
      · have hf := ite_f c hf
        refine a_aload_n (pc := 36) X dJ4_getNode_36 rfl hl 0 rfl ?_
        refine a_get (pc := 37) (φ := 2900) pI_t X Z.1.2.1 (gw X.1 X.2.1 q1184) (fun _ q => q) (by decide) dJ4_getNode_37 hf (fun x37 hf => ?_)
        refine a_iload (pc := 40) X dJ4_getNode_40 hl 1 rfl ?_
        refine AW.lift2 (fun _ _ _ _ k1 k2 => lv_icmp_ne (pc := 42) (tgt := 71) X.2.2.1 X.2.2.2.1 dJ4_getNode_42 rfl k2 k1) (fun c => ?_) (fun c => ?_)
        · have hf := ite_t c hf
          refine a_aload_n (pc := 45) X dJ4_getNode_45 rfl hl 0 rfl ?_
          refine a_get (pc := 46) (φ := 2901) pR_t X Z.1.2.1 (gw X.1 X.2.1 q1188) (fun _ q => q) (by decide) dJ4_getNode_46 hf (fun x46 hf => ?_)
          refine AW.lift (fun _ _ _ _ k => lv_dup (pc := 49) X.2.2.1 X.2.2.2.1 dJ4_getNode_49 (cat_rf _) k) ?_
          refine a_astore (pc := 50) X dJ4_getNode_50 hl (by decide) (lv' := [(7, vR x46), (3, vR x30), (6, vI x23), (5, vI x10), (2, vR x1), (0, vR v0), (1, vR v1)]) rfl (fun ls hl => ?_)
          refine a_aload_n (pc := 52) X dJ4_getNode_52 rfl hl 6 rfl ?_
          refine AW.lift2 (fun _ _ _ _ k1 k2 => lv_acmp_eq (pc := 53) (tgt := 69) X.2.2.1 X.2.2.2.1 dJ4_getNode_53 rfl k1 k2) (fun c => ?_) (fun c => ?_)
          · have hf := ite_t c hf
            refine a_aload_n (pc := 69) X dJ4_getNode_69 rfl hl 1 rfl ?_
            exact a_areturn X Z.2.2.1 (Or.inl ⟨_, rfl⟩) Z.2.2.2.1 dJ4_getNode_70 hf
          · have hf := ite_f c hf
            refine a_aload_n (pc := 56) X dJ4_getNode_56 rfl hl 6 rfl ?_
            refine a_ifnull (pc := 57) (tgt := 71) X dJ4_getNode_57 rfl (fun c => ?_) (fun c => ?_)
            · have hf := ite_t c hf
              exact w_J4_getNode_j71 GA Z v1 x30 x23   (hl.sub [6, 1, 2] rfl) hf
            · have hf := ite_f c hf
              refine a_aload_n (pc := 60) X dJ4_getNode_60 rfl hl 6 rfl ?_
              refine a_aload (pc := 61) X dJ4_getNode_61 hl 0 rfl ?_
              obtain ⟨a63, rfl⟩ := dv_ref hf
              refine' a_virt hf ?kv63 ?cs63
              case cs63 =>
                intro hf kk
                rcases dv_someS hf with ⟨hk, hf⟩ | ⟨-, hf⟩
                · refine a_callb (pc := 63) (rs := []) (avs := [vR (some a63), vR x46]) Z.1 (w_X10_equals GA (some a63) x46) (Or.inl rfl) q1611 q126 (by decide) (by decide) dJ4_getNode_63 hl.1 (Nat.le_of_ble_eq_true rfl) hf (ct_U (x := ({ cls := "java/lang/Object", name := "equals", desc := "(Ljava/lang/Object;)Z" } : MethodName)) (owner := "java/lang/Object") hk ⟨by decide, by decide⟩ X (Or.inl rfl) q1611 q1595 (q1597) (va_Decl.ofD (gf (args := args) X.1 X.2.1 q1594 rfl)) ⟨by decide, by decide⟩ q1610 q1609 (np_of (np_X10_equals)) rfl dJ4_getNode_63) (fun q h he hX => a_out (unc_of Z.2.1 rfl) Z.2.2.2.1 he hX) (fun v h hf => kk v h hf)
                rcases dv_someS hf with ⟨hk, hf⟩ | ⟨-, hf⟩
                · refine a_callb (pc := 63) (rs := []) (avs := [vR (some a63), vR x46]) Z.1 (w_J23_equals GA (some a63) x46) (Or.inl rfl) q1621 q105 (by decide) (by decide) dJ4_getNode_63 hl.1 (Nat.le_of_ble_eq_true rfl) hf (ct_U (x := ({ cls := "java/lang/Object", name := "equals", desc := "(Ljava/lang/Object;)Z" } : MethodName)) (owner := "java/lang/Object") hk ⟨by decide, by decide⟩ X (Or.inl rfl) q1621 q1595 (q1597) (va_Decl.ofD (gf (args := args) X.1 X.2.1 q1594 rfl)) ⟨by decide, by decide⟩ q1620 q1619 (np_of (np_J23_equals)) rfl dJ4_getNode_63) (fun q h he hX => a_out (unc_of Z.2.1 rfl) Z.2.2.2.1 he hX) (fun v h hf => kk v h hf)
                rcases dv_someS hf with ⟨hk, hf⟩ | ⟨-, hf⟩
                · refine a_callb (pc := 63) (rs := []) (avs := [vR (some a63), vR x46]) Z.1 (w_J7_equals GA (some a63) x46) (Or.inl rfl) q1628 q84 (by decide) (by decide) dJ4_getNode_63 hl.1 (Nat.le_of_ble_eq_true rfl) hf (ct_U (x := ({ cls := "java/lang/Object", name := "equals", desc := "(Ljava/lang/Object;)Z" } : MethodName)) (owner := "java/lang/Object") hk ⟨by decide, by decide⟩ X (Or.inl rfl) q1628 q1595 (q1597) (va_Decl.ofD (gf (args := args) X.1 X.2.1 q1594 rfl)) ⟨by decide, by decide⟩ q1627 q1626 (np_of (np_J7_equals)) rfl dJ4_getNode_63) (fun q h he hX => a_out (unc_of Z.2.1 rfl) Z.2.2.2.1 he hX) (fun v h hf => kk v h hf)
                exact fl_none hf
              case kv63 =>
              intro x63 h hf
              refine AW.eq (g2 := F0 m 66 ls [.int x63]) rfl ?_
              refine AW.lift2 (fun _ _ _ _ k1 k2 => lv_if_eq (pc := 66) (tgt := 71) X.2.2.1 X.2.2.2.1 dJ4_getNode_66 rfl k1 k2) (fun c => ?_) (fun c => ?_)
              · have hf := ite_t c hf
                exact w_J4_getNode_j71 GA Z (some a63) x30 x23   (hl.sub [6, 1, 2] rfl) hf
              · have hf := ite_f c hf
                refine a_aload_n (pc := 69) X dJ4_getNode_69 rfl hl 1 rfl ?_
                exact a_areturn X Z.2.2.1 (Or.inl ⟨_, rfl⟩) Z.2.2.2.1 dJ4_getNode_70 hf
        · have hf := ite_f c hf
          exact w_J4_getNode_j71 GA Z v1 x30 x23   (hl.sub [5, 0, 1] rfl) hf
theorem np_J4_containsKey : npar yJ4_containsKey.desc 1 := by unfold npar; decide +kernel
theorem hy_J4_containsKey : yJ4_containsKey.cls ≠ "java/lang/invoke/MethodHandle" ∧ yJ4_containsKey.cls ≠ "java/lang/invoke/VarHandle" := by decide +kernel
theorem w_J4_containsKey (GA : GA l s0 a0 K lam) (v0 : Option Nat) (v1 : Option Nat) : AMet l s0 K lam yJ4_containsKey (Cond.code yJ4_containsKey cJ4_containsKey (2 : Nat) (Option.some ClassFile.FieldType.boolean)) 3 71 [vR v0, vR v1] oI (f_J4_containsKey K v0 v1) := by
  refine AMet.of GA.1 (plainFor_of_name (by decide +kernel)) (Nat.le_of_ble_eq_true rfl) ?_
  intro b r hf p e s m args below meth c X hr hlk hnm hnd ht ls hl
  have Z : WZ l s0 a0 K p s m c cJ4_containsKey yJ4_containsKey.cls 2 b { frames := 3, cells := K 0 - aX b, slots := K 1 - aW b, locals := 71 } 3 71 meth [] (some (.boolean)) yJ4_containsKey := ⟨⟨X, GA.2.1, GA.2.2.1, rfl, rfl, Nat.le_refl _, Nat.le_refl _⟩, tab_nil ht, hr, hlk, hnm, hnd⟩
  unfold f_J4_containsKey at hf
  clear hr hlk hnm hnd ht
  refine a_aload_n (pc := 0) X dJ4_containsKey_0 rfl hl 0 rfl ?_
  refine a_aload_n (pc := 1) X dJ4_containsKey_1 rfl hl 1 rfl ?_
  obtain ⟨a2, rfl, ⟨hk, hf⟩ | ⟨-, hf⟩⟩ := dv_some hf
  rotate_left
  · exact fl_none hf
  refine a_callb (pc := 2) (rs := []) (avs := [vR (some a2), vR v1]) Z.1 (w_J4_getNode GA (some a2) v1) (Or.inl rfl) q2257 q81 (by decide) (by decide) dJ4_containsKey_2 hl.1 (Nat.le_of_ble_eq_true rfl) hf (ct_V hk ⟨by decide, by decide⟩ X (Or.inl rfl) q2257 q2254 q2255 q2256 hy_J4_getNode np_J4_getNode rfl dJ4_containsKey_2) (fun q h he hX => a_out (unc_of Z.2.1 rfl) Z.2.2.2.1 he hX) (fun x2 h hf => ?kk2)
  refine AW.eq (g2 := F0 m 5 ls [va_rf x2]) rfl ?_
  refine a_ifnull (pc := 5) (tgt := 12) X dJ4_containsKey_5 rfl (fun c => ?_) (fun c => ?_)
  · have hf := ite_t c hf
    refine AW.lift (fun _ _ _ _ k => lv_iconst (pc := 12) (v := (0 : Int32)) X.2.2.1 X.2.2.2.1 dJ4_containsKey_12 rfl k) ?_
    exact a_zreturn X Z.2.2.1 rfl Z.2.2.2.1 dJ4_containsKey_13 hf
  · have hf := ite_f c hf
    refine AW.lift (fun _ _ _ _ k => lv_iconst (pc := 8) (v := (1 : Int32)) X.2.2.1 X.2.2.2.1 dJ4_containsKey_8 rfl k) ?_
    refine AW.lift (fun _ _ _ _ k => lv_goto (pc := 9) (tgt := 13) X.2.2.1 X.2.2.2.1 dJ4_containsKey_9 rfl k) ?_
    exact a_zreturn X Z.2.2.1 rfl Z.2.2.2.1 dJ4_containsKey_13 hf
theorem np_J4_get : npar yJ4_get.desc 1 := by unfold npar; decide +kernel
theorem hy_J4_get : yJ4_get.cls ≠ "java/lang/invoke/MethodHandle" ∧ yJ4_get.cls ≠ "java/lang/invoke/VarHandle" := by decide +kernel
theorem w_J4_get (GA : GA l s0 a0 K lam) (v0 : Option Nat) (v1 : Option Nat) : AMet l s0 K lam yJ4_get (Cond.code yJ4_get cJ4_get (3 : Nat) (Option.some (ClassFile.FieldType.object "java/lang/Object"))) 3 71 [vR v0, vR v1] oR (f_J4_get K v0 v1) := by
  refine AMet.of GA.1 (plainFor_of_name (by decide +kernel)) (Nat.le_of_ble_eq_true rfl) ?_
  intro b r hf p e s m args below meth c X hr hlk hnm hnd ht ls hl
  have Z : WZ l s0 a0 K p s m c cJ4_get yJ4_get.cls 3 b { frames := 3, cells := K 0 - aX b, slots := K 1 - aW b, locals := 71 } 3 71 meth [] (some (.object "java/lang/Object")) yJ4_get := ⟨⟨X, GA.2.1, GA.2.2.1, rfl, rfl, Nat.le_refl _, Nat.le_refl _⟩, tab_nil ht, hr, hlk, hnm, hnd⟩
  unfold f_J4_get at hf
  clear hr hlk hnm hnd ht
  refine a_aload_n (pc := 0) X dJ4_get_0 rfl hl 0 rfl ?_
  refine a_aload_n (pc := 1) X dJ4_get_1 rfl hl 1 rfl ?_
  obtain ⟨a2, rfl, ⟨hk, hf⟩ | ⟨-, hf⟩⟩ := dv_some hf
  rotate_left
  · exact fl_none hf
  refine a_callb (pc := 2) (rs := []) (avs := [vR (some a2), vR v1]) Z.1 (w_J4_getNode GA (some a2) v1) (Or.inl rfl) q2257 q81 (by decide) (by decide) dJ4_get_2 hl.1 (Nat.le_of_ble_eq_true rfl) hf (ct_V hk ⟨by decide, by decide⟩ X (Or.inl rfl) q2257 q2254 q2255 q2256 hy_J4_getNode np_J4_getNode rfl dJ4_get_2) (fun q h he hX => a_out (unc_of Z.2.1 rfl) Z.2.2.2.1 he hX) (fun x2 h hf => ?kk2)
  refine AW.eq (g2 := F0 m 5 ls [va_rf x2]) rfl ?_
  refine AW.lift (fun _ _ _ _ k => lv_dup (pc := 5) X.2.2.1 X.2.2.2.1 dJ4_get_5 (cat_rf _) k) ?_
  refine a_astore_n (pc := 6) X dJ4_get_6 rfl hl (by decide) (lv' := [(2, vR x2), (0, vR (some a2)), (1, vR v1)]) rfl (fun ls hl => ?_)
  refine a_ifnonnull (pc := 7) (tgt := 14) X dJ4_get_7 rfl (fun c => ?_) (fun c => ?_)
  · have hf := ite_f c hf
    refine a_aload_n (pc := 14) X dJ4_get_14 rfl hl 0 rfl ?_
    refine a_get (pc := 15) (φ := 2902) pR_t X Z.1.2.1 (gw X.1 X.2.1 q1190) (fun _ q => q) (by decide) dJ4_get_15 hf (fun x15 hf => ?_)
    exact a_areturn X Z.2.2.1 (Or.inl ⟨_, rfl⟩) Z.2.2.2.1 dJ4_get_18 hf
  · have hf := ite_t c hf
    refine a_null (pc := 10) X dJ4_get_10 ?_
    refine AW.lift (fun _ _ _ _ k => lv_goto (pc := 11) (tgt := 18) X.2.2.1 X.2.2.2.1 dJ4_get_11 rfl k) ?_
    exact a_areturn X Z.2.2.1 (Or.inl ⟨_, rfl⟩) Z.2.2.2.1 dJ4_get_18 hf
theorem np_X3_of : npar yX3_of.desc 1 := by unfold npar; decide +kernel
theorem hy_X3_of : yX3_of.cls ≠ "java/lang/invoke/MethodHandle" ∧ yX3_of.cls ≠ "java/lang/invoke/VarHandle" := by decide +kernel
theorem w_X3_of (GA : GA l s0 a0 K lam) (v0 : Option Nat) (v1 : Option Nat) : AMet l s0 K lam yX3_of (Cond.code yX3_of cX3_of (2 : Nat) (Option.some ClassFile.FieldType.int)) 4 93 [vR v0, vR v1] oI (f_X3_of K v0 v1) := by
  refine AMet.of GA.1 (plainFor_of_name (by decide +kernel)) (Nat.le_of_ble_eq_true rfl) ?_
  intro b r hf p e s m args below meth c X hr hlk hnm hnd ht ls hl
  have Z : WZ l s0 a0 K p s m c cX3_of yX3_of.cls 2 b { frames := 4, cells := K 0 - aX b, slots := K 1 - aW b, locals := 93 } 4 93 meth [] (some (.int)) yX3_of := ⟨⟨X, GA.2.1, GA.2.2.1, rfl, rfl, Nat.le_refl _, Nat.le_refl _⟩, tab_nil ht, hr, hlk, hnm, hnd⟩
  unfold f_X3_of at hf
  clear hr hlk hnm hnd ht
  refine a_aload_n (pc := 0) X dX3_of_0 rfl hl 0 rfl ?_
  refine a_get (pc := 1) (φ := 700) pR_t X Z.1.2.1 (gw X.1 X.2.1 q224) (fun _ q => q) (by decide) dX3_of_1 hf (fun x1 hf => ?_)
  refine a_aload_n (pc := 4) X dX3_of_4 rfl hl 1 rfl ?_
  obtain ⟨a5, rfl, ⟨hk, hf⟩ | ⟨-, hf⟩⟩ := dv_some hf
  rotate_left
  · exact fl_none hf
  refine a_callb (pc := 5) (rs := []) (avs := [vR (some a5), vR v1]) Z.1 (w_J4_containsKey GA (some a5) v1) (Or.inl rfl) q2253 q81 (by decide) (by decide) dX3_of_5 hl.1 (Nat.le_of_ble_eq_true rfl) hf (ct_V hk ⟨by decide, by decide⟩ X (Or.inl rfl) q2253 q2250 q2251 q2252 hy_J4_containsKey np_J4_containsKey rfl dX3_of_5) (fun q h he hX => a_out (unc_of Z.2.1 rfl) Z.2.2.2.1 he hX) (fun x5 h hf => ?kk5)
  refine AW.eq (g2 := F0 m 8 ls [.int x5]) rfl ?_
  refine AW.lift2 (fun _ _ _ _ k1 k2 => lv_if_eq (pc := 8) (tgt := 28) X.2.2.1 X.2.2.2.1 dX3_of_8 rfl k1 k2) (fun c => ?_) (fun c => ?_)
  · have hf := ite_t c hf
    refine AW.lift (fun _ _ _ _ k => lv_iconst (pc := 28) (v := (0 : Int32)) X.2.2.1 X.2.2.2.1 dX3_of_28 rfl k) ?_
    exact a_ireturn X Z.2.2.1 Z.2.2.2.1 dX3_of_29 hf
  · have hf := ite_f c hf
    refine a_aload_n (pc := 11) X dX3_of_11 rfl hl 0 rfl ?_
    refine a_get (pc := 12) (φ := 700) pR_t X Z.1.2.1 (gw X.1 X.2.1 q224) (fun _ q => q) (by decide) dX3_of_12 hf (fun x12 hf => ?_)
    refine a_aload_n (pc := 15) X dX3_of_15 rfl hl 1 rfl ?_
    obtain ⟨a16, rfl, ⟨hk, hf⟩ | ⟨-, hf⟩⟩ := dv_some hf
    rotate_left
    · exact fl_none hf
    refine a_callb (pc := 16) (rs := []) (avs := [vR (some a16), vR v1]) Z.1 (w_J4_get GA (some a16) v1) (Or.inl rfl) q2265 q81 (by decide) (by decide) dX3_of_16 hl.1 (Nat.le_of_ble_eq_true rfl) hf (ct_V hk ⟨by decide, by decide⟩ X (Or.inl rfl) q2265 q2262 q2263 q2264 hy_J4_get np_J4_get rfl dX3_of_16) (fun q h he hX => a_out (unc_of Z.2.1 rfl) Z.2.2.2.1 he hX) (fun x16 h hf => ?kk16)
    refine AW.eq (g2 := F0 m 19 ls [va_rf x16]) rfl ?_
    refine a_checkcast (pc := 19) X (gw X.1 X.2.1 q2266) (cs_java_lang_Integer GA) dX3_of_19 hf (fun hf => ?_)
    obtain ⟨a22, rfl, ⟨hk, hf⟩ | ⟨-, hf⟩⟩ := dv_some hf
    rotate_left
    · exact fl_none hf
    refine a_callb (pc := 22) (rs := []) (avs := [vR (some a22)]) Z.1 (w_J23_intValue GA (some a22)) (Or.inl rfl) q1625 q105 (by decide) (by decide) dX3_of_22 hl.1 (Nat.le_of_ble_eq_true rfl) hf (ct_V hk ⟨by decide, by decide⟩ X (Or.inl rfl) q1625 q2267 q1623 q1624 hy_J23_intValue np_J23_intValue rfl dX3_of_22) (fun q h he hX => a_out (unc_of Z.2.1 rfl) Z.2.2.2.1 he hX) (fun x22 h hf => ?kk22)
    refine AW.eq (g2 := F0 m 25 ls [.int x22]) rfl ?_
    refine AW.lift (fun _ _ _ _ k => lv_goto (pc := 25) (tgt := 29) X.2.2.1 X.2.2.2.1 dX3_of_25 rfl k) ?_
    exact a_ireturn X Z.2.2.1 Z.2.2.2.1 dX3_of_29 hf
theorem np_J4_put : npar yJ4_put.desc 2 := by unfold npar; decide +kernel
theorem hy_J4_put : yJ4_put.cls ≠ "java/lang/invoke/MethodHandle" ∧ yJ4_put.cls ≠ "java/lang/invoke/VarHandle" := by decide +kernel
theorem w_J4_put (GA : GA l s0 a0 K lam) (v0 : Option Nat) (v1 : Option Nat) (v2 : Option Nat) : AMet l s0 K lam yJ4_put (Cond.code yJ4_put cJ4_put (3 : Nat) (Option.some (ClassFile.FieldType.object "java/lang/Object"))) 4 100 [vR v0, vR v1, vR v2] oR (f_J4_put K v0 v1 v2) := by
  refine AMet.of GA.1 (plainFor_of_name (by decide +kernel)) (Nat.le_of_ble_eq_true rfl) ?_
  intro b r hf p e s m args below meth c X hr hlk hnm hnd ht ls hl
  have Z : WZ l s0 a0 K p s m c cJ4_put yJ4_put.cls 3 b { frames := 4, cells := K 0 - aX b, slots := K 1 - aW b, locals := 100 } 4 100 meth [] (some (.object "java/lang/Object")) yJ4_put := ⟨⟨X, GA.2.1, GA.2.2.1, rfl, rfl, Nat.le_refl _, Nat.le_refl _⟩, tab_nil ht, hr, hlk, hnm, hnd⟩
  unfold f_J4_put at hf
  clear hr hlk hnm hnd ht
  refine a_aload_n (pc := 0) X dJ4_put_0 rfl hl 0 rfl ?_
  refine a_aload_n (pc := 1) X dJ4_put_1 rfl hl 1 rfl ?_
  refine a_callb (pc := 2) (rs := [vR v0]) (avs := [vR v1]) Z.1 (w_J4_hash GA v1) (Or.inl rfl) q1489 q81 (by decide) (by decide) dJ4_put_2 hl.1 (Nat.le_of_ble_eq_true rfl) hf (ct_S X (Or.inl rfl) q1489 q81 q1487 q1488 hy_J4_hash np_J4_hash rfl dJ4_put_2) (fun q h he hX => a_out (unc_of Z.2.1 rfl) Z.2.2.2.1 he hX) (fun x2 h hf => ?kk2)
  refine AW.eq (g2 := F0 m 5 ls [.int x2, va_rf v0]) rfl ?_
  refine a_aload_n (pc := 5) X dJ4_put_5 rfl hl 1 rfl ?_
  refine a_aload_n (pc := 6) X dJ4_put_6 rfl hl 2 rfl ?_
  refine AW.lift (fun _ _ _ _ k => lv_iconst (pc := 7) (v := (0 : Int32)) X.2.2.1 X.2.2.2.1 dJ4_put_7 rfl k) ?_
  refine AW.lift (fun _ _ _ _ k => lv_iconst (pc := 8) (v := (1 : Int32)) X.2.2.1 X.2.2.2.1 dJ4_put_8 rfl k) ?_
  obtain ⟨a9, rfl, ⟨hk, hf⟩ | ⟨-, hf⟩⟩ := dv_some hf
  rotate_left
  · exact fl_none hf
  refine a_callb (pc := 9) (rs := []) (avs := [vR (some a9), vI x2, vR v1, vR v2, vI (0 : Int32), vI (1 : Int32)]) Z.1 (w_J4_putVal GA (some a9) x2 v1 v2 (0 : Int32) (1 : Int32)) (Or.inl rfl) q1589 q81 (by decide) (by decide) dJ4_put_9 hl.1 (Nat.le_of_ble_eq_true rfl) hf (ct_V hk ⟨by decide, by decide⟩ X (Or.inl rfl) q1589 q1586 q1587 q1588 hy_J4_putVal np_J4_putVal rfl dJ4_put_9) (fun q h he hX => a_out (unc_of Z.2.1 rfl) Z.2.2.2.1 he hX) (fun x9 h hf => ?kk9)
  refine AW.eq (g2 := F0 m 12 ls [va_rf x9]) rfl ?_
  exact a_areturn X Z.2.2.1 (Or.inl ⟨_, rfl⟩) Z.2.2.2.1 dJ4_put_12 hf
theorem np_X3_puts : npar yX3_puts.desc 2 := by unfold npar; decide +kernel
theorem hy_X3_puts : yX3_puts.cls ≠ "java/lang/invoke/MethodHandle" ∧ yX3_puts.cls ≠ "java/lang/invoke/VarHandle" := by decide +kernel
theorem w_X3_puts (GA : GA l s0 a0 K lam) (v0 : Option Nat) (v1 : Option Nat) (v2 : Int32) : AMet l s0 K lam yX3_puts (Cond.code yX3_puts cX3_puts (5 : Nat) (Option.some ClassFile.FieldType.int)) 5 122 [vR v0, vR v1, vI v2] oI (f_X3_puts K v0 v1 v2) := by
  refine AMet.of GA.1 (plainFor_of_name (by decide +kernel)) (Nat.le_of_ble_eq_true rfl) ?_
  intro b r hf p e s m args below meth c X hr hlk hnm hnd ht ls hl
  have Z : WZ l s0 a0 K p s m c cX3_puts yX3_puts.cls 5 b { frames := 5, cells := K 0 - aX b, slots := K 1 - aW b, locals := 122 } 5 122 meth [] (some (.int)) yX3_puts := ⟨⟨X, GA.2.1, GA.2.2.1, rfl, rfl, Nat.le_refl _, Nat.le_refl _⟩, tab_nil ht, hr, hlk, hnm, hnd⟩
  unfold f_X3_puts at hf
  clear hr hlk hnm hnd ht
  refine AW.lift (fun _ _ _ _ k => lv_bipush (pc := 0) (v := (99 : Int32)) X.2.2.1 X.2.2.2.1 dX3_puts_0 rfl k) ?_
  refine a_aload_n (pc := 2) X dX3_puts_2 rfl hl 0 rfl ?_
  refine a_aload_n (pc := 3) X dX3_puts_3 rfl hl 1 rfl ?_
  obtain ⟨a4, rfl, ⟨hk, hf⟩ | ⟨-, hf⟩⟩ := dv_some hf
  rotate_left
  · exact fl_none hf
  refine a_callb (pc := 4) (rs := [vI (99 : Int32)]) (avs := [vR (some a4), vR v1]) Z.1 (w_X3_of GA (some a4) v1) (Or.inl rfl) q2249 q79 (by decide) (by decide) dX3_puts_4 hl.1 (Nat.le_of_ble_eq_true rfl) hf (ct_V hk ⟨by decide, by decide⟩ X (Or.inl rfl) q2249 q2246 q2247 q2248 hy_X3_of np_X3_of rfl dX3_puts_4) (fun q h he hX => a_out (unc_of Z.2.1 rfl) Z.2.2.2.1 he hX) (fun x4 h hf => ?kk4)
  refine AW.eq (g2 := F0 m 7 ls [.int x4, .int (99 : Int32)]) rfl ?_
  refine a_iload_n (pc := 7) X dX3_puts_7 rfl hl 2 rfl ?_
  refine AW.lift (fun _ _ _ _ k => lv_iadd (pc := 8) X.2.2.1 X.2.2.2.1 dX3_puts_8 k) ?_
  refine AW.lift_c Z.1 (fun _ _ _ _ hc hs k => va_mmin (pc := 9) X.2.2.1 X.2.2.2.1 (X.2.2.2.2.2.trans hl.1.symm) X.2.2.2.2.1 (gw X.1 X.2.1 q2268) (gw X.1 X.2.1 q583) (gw X.1 X.2.1 q93) (gw X.1 X.2.1 q584) (Nat.le_trans (by decide) Z.1.2.2.2.2.2.1) (cat_le (rs := []) (Nat.le_of_ble_eq_true rfl) Z.1.2.2.2.2.2.2) hc hs dX3_puts_9 k) ?_
  refine AW.eq (g2 := F0 m 12 ls [.int (if (x4 + v2) < (99 : Int32) then (x4 + v2) else (99 : Int32))]) rfl ?_
  refine a_istore_n (pc := 12) X dX3_puts_12 rfl hl (by decide) (lv' := [(3, vI (if (x4 + v2) < (99 : Int32) then (x4 + v2) else (99 : Int32))), (0, vR (some a4)), (1, vR v1), (2, vI v2)]) rfl (fun ls hl => ?_)
  refine a_aload_n (pc := 13) X dX3_puts_13 rfl hl 1 rfl ?_
  refine a_get (pc := 14) (φ := 700) pR_t X Z.1.2.1 (gw X.1 X.2.1 q224) (fun _ q => q) (by decide) dX3_puts_14 hf (fun x14 hf => ?_)
  refine a_aload_n (pc := 17) X dX3_puts_17 rfl hl 2 rfl ?_
  refine a_iload_n (pc := 18) X dX3_puts_18 rfl hl 0 rfl ?_
  refine a_callb (pc := 19) (rs := [vR v1, vR x14]) (avs := [vI (if (x4 + v2) < (99 : Int32) then (x4 + v2) else (99 : Int32))]) Z.1 (w_J23_valueOf GA (if (x4 + v2) < (99 : Int32) then (x4 + v2) else (99 : Int32))) (Or.inl rfl) q1918 q105 (by decide) (by decide) dX3_puts_19 hl.1 (Nat.le_of_ble_eq_true rfl) hf (ct_S X (Or.inl rfl) q1918 q105 q2269 q1917 hy_J23_valueOf np_J23_valueOf rfl dX3_puts_19) (fun q h he hX => a_out (unc_of Z.2.1 rfl) Z.2.2.2.1 he hX) (fun x19 h hf => ?kk19)
  refine AW.eq (g2 := F0 m 22 ls [va_rf x19, va_rf v1, va_rf x14]) rfl ?_
  obtain ⟨a22, rfl, ⟨hk, hf⟩ | ⟨-, hf⟩⟩ := dv_some hf
  rotate_left
  · exact fl_none hf
  refine a_callb (pc := 22) (rs := []) (avs := [vR (some a22), vR v1, vR x19]) Z.1 (w_J4_put GA (some a22) v1 x19) (Or.inl rfl) q2273 q81 (by decide) (by decide) dX3_puts_22 hl.1 (Nat.le_of_ble_eq_true rfl) hf (ct_V hk ⟨by decide, by decide⟩ X (Or.inl rfl) q2273 q2270 q2271 q2272 hy_J4_put np_J4_put rfl dX3_puts_22) (fun q h he hX => a_out (unc_of Z.2.1 rfl) Z.2.2.2.1 he hX) (fun x22 h hf => ?kk22)
  refine AW.eq (g2 := F0 m 25 ls [va_rf x22]) rfl ?_
  refine a_checkcast (pc := 25) X (gw X.1 X.2.1 q2266) (cs_java_lang_Integer GA) dX3_puts_25 hf (fun hf => ?_)
  refine a_astore (pc := 28) X dX3_puts_28 hl (by decide) (lv' := [(4, vR x22), (3, vI (if (x4 + v2) < (99 : Int32) then (x4 + v2) else (99 : Int32))), (0, vR (some a4)), (1, vR v1), (2, vI v2)]) rfl (fun ls hl => ?_)
  refine a_iload_n (pc := 30) X dX3_puts_30 rfl hl 1 rfl ?_
  exact a_ireturn X Z.2.2.1 Z.2.2.2.1 dX3_puts_31 hf
theorem np_X1_lambda_stock_8 : npar yX1_lambda_stock_8.desc 4 := by unfold npar; decide +kernel
theorem hy_X1_lambda_stock_8 : yX1_lambda_stock_8.cls ≠ "java/lang/invoke/MethodHandle" ∧ yX1_lambda_stock_8.cls ≠ "java/lang/invoke/VarHandle" := by decide +kernel
theorem w_X1_lambda_stock_8 (GA : GA l s0 a0 K lam) (v0 : Int32) (v1 : Int32) (v2 : Int32) (v3 : Option Nat) : AMet l s0 K lam yX1_lambda_stock_8 (Cond.code yX1_lambda_stock_8 cX1_lambda_stock_8 (4 : Nat) (Option.some ClassFile.FieldType.int)) 6 146 [vI v0, vI v1, vI v2, vR v3] oI (f_X1_lambda_stock_8 K v0 v1 v2 v3) := by
  refine AMet.of GA.1 (plainFor_of_name (by decide +kernel)) (Nat.le_of_ble_eq_true rfl) ?_
  intro b r hf p e s m args below meth c X hr hlk hnm hnd ht ls hl
  have Z : WZ l s0 a0 K p s m c cX1_lambda_stock_8 yX1_lambda_stock_8.cls 4 b { frames := 6, cells := K 0 - aX b, slots := K 1 - aW b, locals := 146 } 6 146 meth [] (some (.int)) yX1_lambda_stock_8 := ⟨⟨X, GA.2.1, GA.2.2.1, rfl, rfl, Nat.le_refl _, Nat.le_refl _⟩, tab_nil ht, hr, hlk, hnm, hnd⟩
  unfold f_X1_lambda_stock_8 at hf
  clear hr hlk hnm hnd ht
  refine a_aload_n (pc := 0) X dX1_lambda_stock_8_0 rfl hl 3 rfl ?_
  refine a_getN (pc := 1) (φ := 304) pR_t X Z.1.2.1 (gnF X.1 X.2.1 q237) (fun _ q => q) (by decide) dX1_lambda_stock_8_1 hf (fun x1 hf => ?_)
  refine a_new (pc := 4) (cK := 8) (n := 2) X Z.1.2.1 Z.1.2.2.1 Z.1.2.2.2.1 Z.1.2.2.2.2.1 ⟨by decide, by decide, by decide⟩ (gw X.1 X.2.1 q2228) (gw X.1 X.2.1 q2229) (gw X.1 X.2.1 q126) dX1_lambda_stock_8_4 hf (fun x4 h hf => ?_)
  refine AW.lift (fun _ _ _ _ k => lv_dup (pc := 7) X.2.2.1 X.2.2.2.1 dX1_lambda_stock_8_7 (cat_rf _) k) ?_
  refine a_iload_n (pc := 8) X dX1_lambda_stock_8_8 rfl hl 0 rfl ?_
  refine a_iload_n (pc := 9) X dX1_lambda_stock_8_9 rfl hl 1 rfl ?_
  refine a_callb (pc := 10) (rs := [vR (some x4), vR x1]) (avs := [vR (some x4), vI v0, vI v1]) Z.1 (w_X10_init GA (some x4) v0 v1) (Or.inl rfl) q2232 q126 (by decide) (by decide) dX1_lambda_stock_8_10 hl.1 (Nat.le_of_ble_eq_true rfl) hf (ct_I X q2232 q2230 q2231 rfl hy_X10_init np_X10_init rfl dX1_lambda_stock_8_10) (fun q h he hX => a_out (unc_of Z.2.1 rfl) Z.2.2.2.1 he hX) (fun _ h hf => ?kk10)
  refine AW.eq (g2 := F0 m 13 ls [va_rf (some x4), va_rf x1]) rfl ?_
  refine a_iload_n (pc := 13) X dX1_lambda_stock_8_13 rfl hl 2 rfl ?_
  obtain ⟨a14, rfl, ⟨hk, hf⟩ | ⟨-, hf⟩⟩ := dv_some hf
  rotate_left
  · exact fl_none hf
  refine a_callb (pc := 14) (rs := []) (avs := [vR (some a14), vR (some x4), vI v2]) Z.1 (w_X3_puts GA (some a14) (some x4) v2) (Or.inl rfl) q2245 q79 (by decide) (by decide) dX1_lambda_stock_8_14 hl.1 (Nat.le_of_ble_eq_true rfl) hf (ct_V hk ⟨by decide, by decide⟩ X (Or.inl rfl) q2245 q2242 q2243 q2244 hy_X3_puts np_X3_puts rfl dX1_lambda_stock_8_14) (fun q h he hX => a_out (unc_of Z.2.1 rfl) Z.2.2.2.1 he hX) (fun x14 h hf => ?kk14)
  refine AW.eq (g2 := F0 m 17 ls [.int x14]) rfl ?_
  exact a_ireturn X Z.2.2.1 Z.2.2.2.1 dX1_lambda_stock_8_17 hf
theorem cl_214 {Q : State → Prop} {h : AH} {cc : ByteArray} {own : String} {nL pc : Nat} {ls : Array Slot} {st : List Value} {F Lo idx cnt a : Nat} {v : Option Nat} {rs : List TV} (X : WX l s0 a0 K p s m c cc own nL b R F Lo) (GA : GA l s0 a0 K lam) (hk : aK h a = 214) (hlink : Cond.methodLink own idx ({ cls := "JumpHall$Deed", name := "in", desc := "(LJumpHall$Hall;)I" } : MethodName) ∈ lw_all) (hF : 8 ≤ F) (hLo : 198 ≤ Lo) (hsz : ls.size = nL) (hW8 : (rs.map tcat).sum ≤ 8) (hst : st = va_rf v :: .ref a :: rs.map tvv) (hdg : decode cc pc = .ok (.invokeinterface idx cnt, 5)) : LC s0 K lam p l e R s m args below meth c Q b h pc ls (rs.map tvv) st (c_lam214 K (some a) v) := by
  intro r1 hf kk kx
  unfold c_lam214 at hf
  obtain ⟨a0, c0, e0, -, hp0, hf⟩ := gL_some hf
  cases e0
  obtain ⟨a1, c1, e1, -, hp1, hf⟩ := gL_some hf
  cases e1
  obtain ⟨a2, c2, e2, -, hp2, hf⟩ := gL_some hf
  cases e2
  refine lam_core (caps := [vI c0, vI c1, vI c2]) (arg := vR v) (f := f_X1_lambda_stock_8 K c0 c1 c2 v) (x := ⟨"JumpHall", "stock", "(III)I"⟩) (fs := [17, 19, 21]) (ig := .invokestatic 29) X (siG_214 GA) hfb_14 (lw_all_tbl q3550) ⟨by decide, by decide⟩ rfl hk (y := yX1_lambda_stock_8) (by decide +kernel) hy_X1_lambda_stock_8 (by decide +kernel) ⟨by decide, by decide⟩ hlink (gf X.1.1 X.1.2.1 q1758 rfl) (gf X.1.1 X.1.2.1 q1757 rfl) (by decide +kernel) (by unfold npar; decide +kernel) (w_X1_lambda_stock_8 GA c0 c1 c2 v) (Or.inl rfl) q2227 q74 (fun _ _ => rfl) rfl (fun j v hj => by
    rcases j with _ | _ | _ | j
    · exact (Option.some.inj hj : vI c0 = v) ▸ pI_t hp0
    · exact (Option.some.inj hj : vI c1 = v) ▸ pI_t hp1
    · exact (Option.some.inj hj : vI c2 = v) ▸ pI_t hp2
    · exact absurd hj (by simp)) ⟨(fun j i hj => by
    rcases j with _ | _ | _ | j
    · obtain rfl : 17 = i := Option.some.inj hj
      exact ⟨by decide +kernel, by decide +kernel⟩
    · obtain rfl : 19 = i := Option.some.inj hj
      exact ⟨by decide +kernel, by decide +kernel⟩
    · obtain rfl : 21 = i := Option.some.inj hj
      exact ⟨by decide +kernel, by decide +kernel⟩
    · exact absurd hj (by simp)), by decide +kernel, by decide +kernel, by decide +kernel⟩ ⟨rfl, by cases v <;> rfl⟩ hF hLo hsz hW8 hst hdg (lam_stat GA.1 q2226 q74 hy_X1_lambda_stock_8 np_X1_lambda_stock_8 (Or.inl rfl) q2227 (by decide +kernel)) r1 hf kk kx
theorem w_X3_ofSize_j75 {r : Except Nat (Int32) × AH} (GA : GA l s0 a0 K lam) (Z : WZ l s0 a0 K p s m c cX3_ofSize yX3_ofSize.cls 5 b R 11 462 meth [] (some (.int)) yX3_ofSize) (v1 : Int32) (v3 : Option Nat) (t0 : Int32) (t1 : Int32) (rc15 : Int32 → AM (Int32)) (hrc15 : ∀ (v2 : Int32) (h : AH) (ls : Array Slot), LV ls 5 [(1, vI v1), (2, vI v2), (3, vR v3)] → rc15 v2 h = some r → AW s0 K lam p l e R s m args below meth c (AQ s0 K lam below oI b r s) b h (F0 m 15 ls [])) {h : AH} {ls : Array Slot} (hl : LV ls 5 [(1, vI v1), (3, vR v3)]) (hf : f_X3_ofSize_j75 K rc15 v1 v3 t0 t1 h = some r) : AW s0 K lam p l e R s m args below meth c (AQ s0 K lam below oI b r s) b h (F0 m 75 ls [.int t0, .int t1]) := by
  unfold f_X3_ofSize_j75 at hf
  have X := Z.1.1
  refine AW.lift (fun _ _ _ _ k => lv_iadd (pc := 75) X.2.2.1 X.2.2.2.1 dX3_ofSize_75 k) ?_
  refine a_istore_n (pc := 76) X dX3_ofSize_76 rfl hl (by decide) (lv' := [(2, vI (t1 + t0)), (1, vI v1), (3, vR v3)]) rfl (fun ls hl => ?_)
  refine AW.lift (fun _ _ _ _ k => lv_goto (pc := 77) (tgt := 15) X.2.2.1 X.2.2.2.1 dX3_ofSize_77 rfl k) ?_
  exact hrc15 (t1 + t0) _ _ (hl.sub [1, 0, 2] rfl) hf
theorem w_X3_ofSize_j58 {r : Except Nat (Int32) × AH} (GA : GA l s0 a0 K lam) (Z : WZ l s0 a0 K p s m c cX3_ofSize yX3_ofSize.cls 5 b R 11 462 meth [] (some (.int)) yX3_ofSize) (v1 : Int32) (v3 : Option Nat) (v4 : Option Nat) (t0 : Int32) (rc15 : Int32 → AM (Int32)) (hrc15 : ∀ (v2 : Int32) (h : AH) (ls : Array Slot), LV ls 5 [(1, vI v1), (2, vI v2), (3, vR v3)] → rc15 v2 h = some r → AW s0 K lam p l e R s m args below meth c (AQ s0 K lam below oI b r s) b h (F0 m 15 ls [])) {h : AH} {ls : Array Slot} (hl : LV ls 5 [(1, vI v1), (3, vR v3), (4, vR v4)]) (hf : f_X3_ofSize_j58 K rc15 v1 v3 v4 t0 h = some r) : AW s0 K lam p l e R s m args below meth c (AQ s0 K lam below oI b r s) b h (F0 m 58 ls [.int t0]) := by
  unfold f_X3_ofSize_j58 at hf
  have X := Z.1.1
  refine a_aload (pc := 58) X dX3_ofSize_58 hl 2 rfl ?_
  obtain ⟨a60, rfl, ⟨hk, hf⟩ | ⟨-, hf⟩⟩ := dv_some hf
  rotate_left
  · exact fl_none hf
  refine a_callb (pc := 60) (rs := [vI t0]) (avs := [vR (some a60)]) Z.1 (w_J29_getValue GA (some a60)) (Or.inl rfl) q1484 q114 (by decide) (by decide) dX3_ofSize_60 hl.1 (Nat.le_of_ble_eq_true rfl) hf (ct_F (x := ({ cls := "java/util/Map$Entry", name := "getValue", desc := "()Ljava/lang/Object;" } : MethodName)) hk ⟨by decide, by decide⟩ X (Or.inl rfl) q1484 q2306 (gf X.1 X.2.1 q1479 rfl) (gf X.1 X.2.1 q1478 rfl) (gf X.1 X.2.1 q1483 rfl) (gf X.1 X.2.1 q1481 rfl) (gf X.1 X.2.1 q1467 rfl) q1482 q1480 ⟨by decide, by decide⟩ np_J29_getValue rfl dX3_ofSize_60) (fun q h he hX => a_out (unc_of Z.2.1 rfl) Z.2.2.2.1 he hX) (fun x60 h hf => ?kk60)
  refine AW.eq (g2 := F0 m 65 ls [va_rf x60, .int t0]) rfl ?_
  refine a_checkcast (pc := 65) X (gw X.1 X.2.1 q2266) (cs_java_lang_Integer GA) dX3_ofSize_65 hf (fun hf => ?_)
  obtain ⟨a68, rfl, ⟨hk, hf⟩ | ⟨-, hf⟩⟩ := dv_some hf
  rotate_left
  · exact fl_none hf
  refine a_callb (pc := 68) (rs := [vI t0]) (avs := [vR (some a68)]) Z.1 (w_J23_intValue GA (some a68)) (Or.inl rfl) q1625 q105 (by decide) (by decide) dX3_ofSize_68 hl.1 (Nat.le_of_ble_eq_true rfl) hf (ct_V hk ⟨by decide, by decide⟩ X (Or.inl rfl) q1625 q2267 q1623 q1624 hy_J23_intValue np_J23_intValue rfl dX3_ofSize_68) (fun q h he hX => a_out (unc_of Z.2.1 rfl) Z.2.2.2.1 he hX) (fun x68 h hf => ?kk68)
  refine AW.eq (g2 := F0 m 71 ls [.int x68, .int t0]) rfl ?_
  refine AW.lift (fun _ _ _ _ k => lv_goto (pc := 71) (tgt := 75) X.2.2.1 X.2.2.2.1 dX3_ofSize_71 rfl k) ?_
  exact w_X3_ofSize_j75 GA Z v1 v3 x68 t0 rc15 hrc15 (hl.sub [0, 1] rfl) hf
theorem w_X3_ofSize_b15 {r : Except Nat (Int32) × AH} (GA : GA l s0 a0 K lam) (Z : WZ l s0 a0 K p s m c cX3_ofSize yX3_ofSize.cls 5 b R 11 462 meth [] (some (.int)) yX3_ofSize) (v1 : Int32) (v2 : Int32) (v3 : Option Nat)  (rc15 : Int32 → AM (Int32)) (hrc15 : ∀ (v2 : Int32) (h : AH) (ls : Array Slot), LV ls 5 [(1, vI v1), (2, vI v2), (3, vR v3)] → rc15 v2 h = some r → AW s0 K lam p l e R s m args below meth c (AQ s0 K lam below oI b r s) b h (F0 m 15 ls [])) {h : AH} {ls : Array Slot} (hl : LV ls 5 [(1, vI v1), (2, vI v2), (3, vR v3)]) (hf : f_X3_ofSize_b15 K rc15 v1 v2 v3 h = some r) : AW s0 K lam p l e R s m args below meth c (AQ s0 K lam below oI b r s) b h (F0 m 15 ls []) := by
  unfold f_X3_ofSize_b15 at hf
  have X := Z.1.1
  refine a_aload_n (pc := 15) X dX3_ofSize_15 rfl hl 2 rfl ?_
  obtain ⟨a16, rfl, ⟨hk, hf⟩ | ⟨-, hf⟩⟩ := dv_some hf
  rotate_left
  · exact fl_none hf
  refine a_callb (pc := 16) (rs := []) (avs := [vR (some a16)]) Z.1 (w_J25_hasNext GA (some a16)) (Or.inl rfl) q382 q109 (by decide) (by decide) dX3_ofSize_16 hl.1 (Nat.le_of_ble_eq_true rfl) hf (ct_F (x := ({ cls := "java/util/Iterator", name := "hasNext", desc := "()Z" } : MethodName)) hk ⟨by decide, by decide⟩ X (Or.inl rfl) q382 q2298 (gf X.1 X.2.1 q370 rfl) (gf X.1 X.2.1 q369 rfl) (gf X.1 X.2.1 q381 rfl) (gf X.1 X.2.1 q379 rfl) (gf X.1 X.2.1 q377 rfl) q380 q378 ⟨by decide, by decide⟩ np_J25_hasNext rfl dX3_ofSize_16) (fun q h he hX => a_out (unc_of Z.2.1 rfl) Z.2.2.2.1 he hX) (fun x16 h hf => ?kk16)
  refine AW.eq (g2 := F0 m 21 ls [.int x16]) rfl ?_
  refine AW.lift2 (fun _ _ _ _ k1 k2 => lv_if_eq (pc := 21) (tgt := 80) X.2.2.1 X.2.2.2.1 dX3_ofSize_21 rfl k1 k2) (fun c => ?_) (fun c => ?_)
  · have hf := ite_t c hf
    refine a_iload_n (pc := 80) X dX3_ofSize_80 rfl hl 1 rfl ?_
    exact a_ireturn X Z.2.2.1 Z.2.2.2.1 dX3_ofSize_81 hf
  · have hf := ite_f c hf
    refine a_aload_n (pc := 24) X dX3_ofSize_24 rfl hl 2 rfl ?_
    rcases dv_someS hf with ⟨hk, hf⟩ | ⟨-, hf⟩
    rotate_left
    · exact fl_none hf
    refine a_callb (pc := 25) (rs := []) (avs := [vR (some a16)]) Z.1 (w_J26_next GA (some a16)) (Or.inl rfl) q478 q110 (by decide) (by decide) dX3_ofSize_25 hl.1 (Nat.le_of_ble_eq_true rfl) hf (ct_F (x := ({ cls := "java/util/Iterator", name := "next", desc := "()Ljava/lang/Object;" } : MethodName)) hk ⟨by decide, by decide⟩ X (Or.inl rfl) q478 q2300 (gf X.1 X.2.1 q392 rfl) (gf X.1 X.2.1 q391 rfl) (gf X.1 X.2.1 q477 rfl) (gf X.1 X.2.1 q475 rfl) (gf X.1 X.2.1 q377 rfl) q476 q474 ⟨by decide, by decide⟩ np_J26_next rfl dX3_ofSize_25) (fun q h he hX => a_out (unc_of Z.2.1 rfl) Z.2.2.2.1 he hX) (fun x25 h hf => ?kk25)
    refine AW.eq (g2 := F0 m 30 ls [va_rf x25]) rfl ?_
    refine a_checkcast (pc := 30) X (gw X.1 X.2.1 q2301) (cs_java_util_Map_Entry GA) dX3_ofSize_30 hf (fun hf => ?_)
    refine a_astore (pc := 33) X dX3_ofSize_33 hl (by decide) (lv' := [(4, vR x25), (1, vI v1), (2, vI v2), (3, vR (some a16))]) rfl (fun ls hl => ?_)
    refine a_iload_n (pc := 35) X dX3_ofSize_35 rfl hl 2 rfl ?_
    refine a_iload_n (pc := 36) X dX3_ofSize_36 rfl hl 1 rfl ?_
    refine AW.lift (fun _ _ _ _ k => lv_iconst (pc := 37) (v := (-1 : Int32)) X.2.2.1 X.2.2.2.1 dX3_ofSize_37 rfl k) ?_
    refine AW.lift2 (fun _ _ _ _ k1 k2 => lv_icmp_eq (pc := 38) (tgt := 58) X.2.2.1 X.2.2.2.1 dX3_ofSize_38 rfl k1 k2) (fun c => ?_) (fun c => ?_)
    · have hf := ite_t c hf
      exact w_X3_ofSize_j58 GA Z v1 (some a16) x25 v2 rc15 hrc15 (hl.sub [1, 3, 0] rfl) hf
    · have hf := ite_f c hf
      refine a_aload (pc := 41) X dX3_ofSize_41 hl 0 rfl ?_
      obtain ⟨a43, rfl, ⟨hk, hf⟩ | ⟨-, hf⟩⟩ := dv_some hf
      rotate_left
      · exact fl_none hf
      refine a_callb (pc := 43) (rs := [vI v2]) (avs := [vR (some a43)]) Z.1 (w_J29_getKey GA (some a43)) (Or.inl rfl) q1472 q114 (by decide) (by decide) dX3_ofSize_43 hl.1 (Nat.le_of_ble_eq_true rfl) hf (ct_F (x := ({ cls := "java/util/Map$Entry", name := "getKey", desc := "()Ljava/lang/Object;" } : MethodName)) hk ⟨by decide, by decide⟩ X (Or.inl rfl) q1472 q2303 (gf X.1 X.2.1 q1466 rfl) (gf X.1 X.2.1 q1465 rfl) (gf X.1 X.2.1 q1471 rfl) (gf X.1 X.2.1 q1469 rfl) (gf X.1 X.2.1 q1467 rfl) q1470 q1468 ⟨by decide, by decide⟩ np_J29_getKey rfl dX3_ofSize_43) (fun q h he hX => a_out (unc_of Z.2.1 rfl) Z.2.2.2.1 he hX) (fun x43 h hf => ?kk43)
      refine AW.eq (g2 := F0 m 48 ls [va_rf x43, .int v2]) rfl ?_
      refine a_checkcast (pc := 48) X (gw X.1 X.2.1 q2304) (cs_JumpHall_Socks GA) dX3_ofSize_48 hf (fun hf => ?_)
      refine a_getN (pc := 51) (φ := 800) pI_t X Z.1.2.1 (gnF X.1 X.2.1 q2235) (fun _ q => q) (by decide) dX3_ofSize_51 hf (fun x51 hf => ?_)
      refine a_iload_n (pc := 54) X dX3_ofSize_54 rfl hl 1 rfl ?_
      refine AW.lift2 (fun _ _ _ _ k1 k2 => lv_icmp_ne (pc := 55) (tgt := 74) X.2.2.1 X.2.2.2.1 dX3_ofSize_55 rfl k2 k1) (fun c => ?_) (fun c => ?_)
      · have hf := ite_t c hf
        exact w_X3_ofSize_j58 GA Z v1 (some a16) (some a43) v2 rc15 hrc15 (hl.sub [1, 3, 0] rfl) hf
      · have hf := ite_f c hf
        refine AW.lift (fun _ _ _ _ k => lv_iconst (pc := 74) (v := (0 : Int32)) X.2.2.1 X.2.2.2.1 dX3_ofSize_74 rfl k) ?_
        exact w_X3_ofSize_j75 GA Z v1 (some a16) (0 : Int32) v2 rc15 hrc15 (hl.sub [1, 3] rfl) hf
theorem w_X3_ofSize_l15 {r : Except Nat (Int32) × AH} (GA : GA l s0 a0 K lam) (Z : WZ l s0 a0 K p s m c cX3_ofSize yX3_ofSize.cls 5 b R 11 462 meth [] (some (.int)) yX3_ofSize) (v1 : Int32) (v3 : Option Nat)  : ∀ (n : Nat) (v2 : Int32) (h : AH) (ls : Array Slot), LV ls 5 [(1, vI v1), (2, vI v2), (3, vR v3)] → f_X3_ofSize_l15 K v1 v3 n v2 h = some r → AW s0 K lam p l e R s m args below meth c (AQ s0 K lam below oI b r s) b h (F0 m 15 ls []) := by
  intro n
  induction n with
  | zero => intro v2 h ls hl hf; exact fl_no (h := h) hf
  | succ n ih => intro v2 h ls hl hf; exact w_X3_ofSize_b15 GA Z v1 v2 v3 (f_X3_ofSize_l15 K v1 v3 n) ih hl hf
theorem np_X3_ofSize : npar yX3_ofSize.desc 1 := by unfold npar; decide +kernel
theorem hy_X3_ofSize : yX3_ofSize.cls ≠ "java/lang/invoke/MethodHandle" ∧ yX3_ofSize.cls ≠ "java/lang/invoke/VarHandle" := by decide +kernel
theorem w_X3_ofSize (GA : GA l s0 a0 K lam) (v0 : Option Nat) (v1 : Int32) : AMet l s0 K lam yX3_ofSize (Cond.code yX3_ofSize cX3_ofSize (5 : Nat) (Option.some ClassFile.FieldType.int)) 11 462 [vR v0, vI v1] oI (f_X3_ofSize K v0 v1) := by
  refine AMet.of GA.1 (plainFor_of_name (by decide +kernel)) (Nat.le_of_ble_eq_true rfl) ?_
  intro b r hf p e s m args below meth c X hr hlk hnm hnd ht ls hl
  have Z : WZ l s0 a0 K p s m c cX3_ofSize yX3_ofSize.cls 5 b { frames := 11, cells := K 0 - aX b, slots := K 1 - aW b, locals := 462 } 11 462 meth [] (some (.int)) yX3_ofSize := ⟨⟨X, GA.2.1, GA.2.2.1, rfl, rfl, Nat.le_refl _, Nat.le_refl _⟩, tab_nil ht, hr, hlk, hnm, hnd⟩
  unfold f_X3_ofSize at hf
  clear hr hlk hnm hnd ht
  refine AW.lift (fun _ _ _ _ k => lv_iconst (pc := 0) (v := (0 : Int32)) X.2.2.1 X.2.2.2.1 dX3_ofSize_0 rfl k) ?_
  refine a_istore_n (pc := 1) X dX3_ofSize_1 rfl hl (by decide) (lv' := [(2, vI (0 : Int32)), (0, vR v0), (1, vI v1)]) rfl (fun ls hl => ?_)
  refine a_aload_n (pc := 2) X dX3_ofSize_2 rfl hl 1 rfl ?_
  refine a_get (pc := 3) (φ := 700) pR_t X Z.1.2.1 (gw X.1 X.2.1 q224) (fun _ q => q) (by decide) dX3_ofSize_3 hf (fun x3 hf => ?_)
  obtain ⟨a6, rfl, ⟨hk, hf⟩ | ⟨-, hf⟩⟩ := dv_some hf
  rotate_left
  · exact fl_none hf
  refine a_callb (pc := 6) (rs := []) (avs := [vR (some a6)]) Z.1 (w_J4_entrySet GA (some a6)) (Or.inl rfl) q1436 q81 (by decide) (by decide) dX3_ofSize_6 hl.1 (Nat.le_of_ble_eq_true rfl) hf (ct_V hk ⟨by decide, by decide⟩ X (Or.inl rfl) q1436 q2294 q1434 q3488 hy_J4_entrySet np_J4_entrySet rfl dX3_ofSize_6) (fun q h he hX => a_out (unc_of Z.2.1 rfl) Z.2.2.2.1 he hX) (fun x6 h hf => ?kk6)
  refine AW.eq (g2 := F0 m 9 ls [va_rf x6]) rfl ?_
  obtain ⟨a9, rfl, ⟨hk, hf⟩ | ⟨-, hf⟩⟩ := dv_some hf
  rotate_left
  · exact fl_none hf
  refine a_callb (pc := 9) (rs := []) (avs := [vR (some a9)]) Z.1 (w_J35_iterator GA (some a9)) (Or.inl rfl) q1022 q121 (by decide) (by decide) dX3_ofSize_9 hl.1 (Nat.le_of_ble_eq_true rfl) hf (ct_F (x := ({ cls := "java/util/Set", name := "iterator", desc := "()Ljava/util/Iterator;" } : MethodName)) hk ⟨by decide, by decide⟩ X (Or.inl rfl) q1022 q2296 (gf X.1 X.2.1 q1453 rfl) (gf X.1 X.2.1 q1452 rfl) (gf X.1 X.2.1 q1457 rfl) (gf X.1 X.2.1 q1456 rfl) (gf X.1 X.2.1 q1454 rfl) q1021 q1455 ⟨by decide, by decide⟩ np_J35_iterator rfl dX3_ofSize_9) (fun q h he hX => a_out (unc_of Z.2.1 rfl) Z.2.2.2.1 he hX) (fun x9 h hf => ?kk9)
  refine AW.eq (g2 := F0 m 14 ls [va_rf x9]) rfl ?_
  refine a_astore_n (pc := 14) X dX3_ofSize_14 rfl hl (by decide) (lv' := [(3, vR x9), (2, vI (0 : Int32)), (0, vR v0), (1, vI v1)]) rfl (fun ls hl => ?_)
  exact w_X3_ofSize_l15 GA Z v1 x9  FU (0 : Int32) _ _ (hl.sub [3, 1, 0] rfl) hf
theorem w_X2_sell_j68 {r : Except Nat (Int32) × AH} (GA : GA l s0 a0 K lam) (Z : WZ l s0 a0 K p s m c cX2_sell yX2_sell.cls 7 b R 12 486 meth [] (some (.int)) yX2_sell) (v0 : Option Nat) (v2 : Int32) (v3 : Option Nat) (v4 : Option Nat) (t0 : Int32)  {h : AH} {ls : Array Slot} (hl : LV ls 7 [(0, vR v0), (2, vI v2), (3, vR v3), (4, vR v4)]) (hf : f_X2_sell_j68 K v0 v2 v3 v4 t0 h = some r) : AW s0 K lam p l e R s m args below meth c (AQ s0 K lam below oI b r s) b h (F0 m 68 ls [.int t0]) := by
  unfold f_X2_sell_j68 at hf
  have X := Z.1.1
  refine AW.lift (fun _ _ _ _ k => lv_bipush (pc := 68) (v := (8 : Int32)) X.2.2.1 X.2.2.2.1 dX2_sell_68 rfl k) ?_
  refine a_aload_n (pc := 70) X dX2_sell_70 rfl hl 0 rfl ?_
  refine a_get (pc := 71) (φ := 304) pR_t X Z.1.2.1 (gw X.1 X.2.1 q236) (fun _ q => q) (by decide) dX2_sell_71 hf (fun x71 hf => ?_)
  refine a_aload_n (pc := 74) X dX2_sell_74 rfl hl 2 rfl ?_
  refine a_getN (pc := 75) (φ := 502) pI_t X Z.1.2.1 (gnF X.1 X.2.1 q917) (fun _ q => q) (by decide) dX2_sell_75 hf (fun x75 hf => ?_)
  obtain ⟨a78, rfl, ⟨hk, hf⟩ | ⟨-, hf⟩⟩ := dv_some hf
  rotate_left
  · exact fl_none hf
  refine a_callb (pc := 78) (rs := [vI (8 : Int32), vI t0]) (avs := [vR (some a78), vI x75]) Z.1 (w_X3_ofSize GA (some a78) x75) (Or.inl rfl) q2293 q79 (by decide) (by decide) dX2_sell_78 hl.1 (Nat.le_of_ble_eq_true rfl) hf (ct_V hk ⟨by decide, by decide⟩ X (Or.inl rfl) q2293 q2290 q2291 q2292 hy_X3_ofSize np_X3_ofSize rfl dX2_sell_78) (fun q h he hX => a_out (unc_of Z.2.1 rfl) Z.2.2.2.1 he hX) (fun x78 h hf => ?kk78)
  refine AW.eq (g2 := F0 m 81 ls [.int x78, .int (8 : Int32), .int t0]) rfl ?_
  refine a_callb (pc := 81) (rs := []) (avs := [vI t0, vI (8 : Int32), vI x78]) Z.1 (w_X1_refuse GA t0 (8 : Int32) x78) (Or.inl rfl) q1723 q74 (by decide) (by decide) dX2_sell_81 hl.1 (Nat.le_of_ble_eq_true rfl) hf (ct_SN X (Or.inl rfl) q1723 q74 q1721 q1722 hy_X1_refuse np_X1_refuse rfl dX2_sell_81) (fun q h he hX => a_out (unc_of Z.2.1 rfl) Z.2.2.2.1 he hX) (fun _ h hf => ?kk81)
  refine AW.eq (g2 := F0 m 84 ls []) rfl ?_
  refine a_aload_n (pc := 84) X dX2_sell_84 rfl hl 0 rfl ?_
  refine a_get (pc := 85) (φ := 304) pR_t X Z.1.2.1 (gw X.1 X.2.1 q236) (fun _ q => q) (by decide) dX2_sell_85 hf (fun x85 hf => ?_)
  refine a_aload (pc := 88) X dX2_sell_88 hl 3 rfl ?_
  refine AW.lift (fun _ _ _ _ k => lv_iconst (pc := 90) (v := (-1 : Int32)) X.2.2.1 X.2.2.2.1 dX2_sell_90 rfl k) ?_
  obtain ⟨a91, rfl, ⟨hk, hf⟩ | ⟨-, hf⟩⟩ := dv_some hf
  rotate_left
  · exact fl_none hf
  refine a_callb (pc := 91) (rs := []) (avs := [vR (some a91), vR v4, vI (-1 : Int32)]) Z.1 (w_X3_puts GA (some a91) v4 (-1 : Int32)) (Or.inl rfl) q2245 q79 (by decide) (by decide) dX2_sell_91 hl.1 (Nat.le_of_ble_eq_true rfl) hf (ct_V hk ⟨by decide, by decide⟩ X (Or.inl rfl) q2245 q2307 q2243 q2244 hy_X3_puts np_X3_puts rfl dX2_sell_91) (fun q h he hX => a_out (unc_of Z.2.1 rfl) Z.2.2.2.1 he hX) (fun x91 h hf => ?kk91)
  refine AW.eq (g2 := F0 m 94 ls [.int x91]) rfl ?_
  refine a_istore (pc := 94) X dX2_sell_94 hl (by decide) (lv' := [(5, vI x91), (0, vR v0), (2, vI v2), (3, vR v3), (4, vR v4)]) rfl (fun ls hl => ?_)
  refine a_aload_n (pc := 96) X dX2_sell_96 rfl hl 1 rfl ?_
  refine a_get (pc := 97) (φ := 305) pR_t X Z.1.2.1 (gw X.1 X.2.1 q238) (fun _ q => q) (by decide) dX2_sell_97 hf (fun x97 hf => ?_)
  refine a_aload (pc := 100) X dX2_sell_100 hl 4 rfl ?_
  refine AW.lift (fun _ _ _ _ k => lv_iconst (pc := 102) (v := (1 : Int32)) X.2.2.1 X.2.2.2.1 dX2_sell_102 rfl k) ?_
  obtain ⟨a103, rfl, ⟨hk, hf⟩ | ⟨-, hf⟩⟩ := dv_some hf
  rotate_left
  · exact fl_none hf
  refine a_callb (pc := 103) (rs := []) (avs := [vR (some a103), vR v4, vI (1 : Int32)]) Z.1 (w_X3_puts GA (some a103) v4 (1 : Int32)) (Or.inl rfl) q2245 q79 (by decide) (by decide) dX2_sell_103 hl.1 (Nat.le_of_ble_eq_true rfl) hf (ct_V hk ⟨by decide, by decide⟩ X (Or.inl rfl) q2245 q2307 q2243 q2244 hy_X3_puts np_X3_puts rfl dX2_sell_103) (fun q h he hX => a_out (unc_of Z.2.1 rfl) Z.2.2.2.1 he hX) (fun x103 h hf => ?kk103)
  refine AW.eq (g2 := F0 m 106 ls [.int x103]) rfl ?_
  refine a_istore (pc := 106) X dX2_sell_106 hl (by decide) (lv' := [(6, vI x103), (5, vI x91), (0, vR v0), (2, vI v2), (3, vR v3), (4, vR v4)]) rfl (fun ls hl => ?_)
  refine a_aload_n (pc := 108) X dX2_sell_108 rfl hl 4 rfl ?_
  refine a_iload_n (pc := 109) X dX2_sell_109 rfl hl 3 rfl ?_
  refine a_putN (pc := 110) (φ := 506) X Z.1.2.1 Z.1.2.2.1 (gnF X.1 X.2.1 q928) (fun _ q => q) (by decide) rfl rfl dX2_sell_110 hf (fun h hf => ?_)
  refine a_aload_n (pc := 113) X dX2_sell_113 rfl hl 2 rfl ?_
  refine AW.lift (fun _ _ _ _ k => lv_dup (pc := 114) X.2.2.1 X.2.2.2.1 dX2_sell_114 (cat_rf _) k) ?_
  refine a_get (pc := 115) (φ := 306) pI_t X Z.1.2.1 (gw X.1 X.2.1 q240) (fun _ q => q) (by decide) dX2_sell_115 hf (fun x115 hf => ?_)
  refine AW.lift (fun _ _ _ _ k => lv_iconst (pc := 118) (v := (1 : Int32)) X.2.2.1 X.2.2.2.1 dX2_sell_118 rfl k) ?_
  refine AW.lift (fun _ _ _ _ k => lv_iadd (pc := 119) X.2.2.1 X.2.2.2.1 dX2_sell_119 k) ?_
  refine a_put (pc := 120) (φ := 306) X Z.1.2.1 Z.1.2.2.1 (gw X.1 X.2.1 q240) (fun _ q => q) (by decide) rfl rfl dX2_sell_120 hf (fun h hf => ?_)
  refine a_aload_n (pc := 123) X dX2_sell_123 rfl hl 2 rfl ?_
  refine AW.lift (fun _ _ _ _ k => lv_dup (pc := 124) X.2.2.1 X.2.2.2.1 dX2_sell_124 (cat_rf _) k) ?_
  refine a_get (pc := 125) (φ := 307) pI_t X Z.1.2.1 (gw X.1 X.2.1 q242) (fun _ q => q) (by decide) dX2_sell_125 hf (fun x125 hf => ?_)
  refine AW.lift (fun _ _ _ _ k => lv_iconst (pc := 128) (v := (2 : Int32)) X.2.2.1 X.2.2.2.1 dX2_sell_128 rfl k) ?_
  refine AW.lift (fun _ _ _ _ k => lv_iadd (pc := 129) X.2.2.1 X.2.2.2.1 dX2_sell_129 k) ?_
  refine a_put (pc := 130) (φ := 307) X Z.1.2.1 Z.1.2.2.1 (gw X.1 X.2.1 q242) (fun _ q => q) (by decide) rfl rfl dX2_sell_130 hf (fun h hf => ?_)
  refine a_aload_n (pc := 133) X dX2_sell_133 rfl hl 2 rfl ?_
  refine a_get (pc := 134) (φ := 307) pI_t X Z.1.2.1 (gw X.1 X.2.1 q242) (fun _ q => q) (by decide) dX2_sell_134 hf (fun x134 hf => ?_)
  exact a_ireturn X Z.2.2.1 Z.2.2.2.1 dX2_sell_137 hf
theorem np_X2_sell : npar yX2_sell.desc 2 := by unfold npar; decide +kernel
theorem hy_X2_sell : yX2_sell.cls ≠ "java/lang/invoke/MethodHandle" ∧ yX2_sell.cls ≠ "java/lang/invoke/VarHandle" := by decide +kernel
theorem w_X2_sell (GA : GA l s0 a0 K lam) (v0 : Option Nat) (v1 : Int32) (v2 : Int32) : AMet l s0 K lam yX2_sell (Cond.code yX2_sell cX2_sell (7 : Nat) (Option.some ClassFile.FieldType.int)) 12 486 [vR v0, vI v1, vI v2] oI (f_X2_sell K v0 v1 v2) := by
  refine AMet.of GA.1 (plainFor_of_name (by decide +kernel)) (Nat.le_of_ble_eq_true rfl) ?_
  intro b r hf p e s m args below meth c X hr hlk hnm hnd ht ls hl
  have Z : WZ l s0 a0 K p s m c cX2_sell yX2_sell.cls 7 b { frames := 12, cells := K 0 - aX b, slots := K 1 - aW b, locals := 486 } 12 486 meth [] (some (.int)) yX2_sell := ⟨⟨X, GA.2.1, GA.2.2.1, rfl, rfl, Nat.le_refl _, Nat.le_refl _⟩, tab_nil ht, hr, hlk, hnm, hnd⟩
  unfold f_X2_sell at hf
  clear hr hlk hnm hnd ht
  refine a_aload_n (pc := 0) X dX2_sell_0 rfl hl 0 rfl ?_
  refine a_get (pc := 1) (φ := 301) pR_t X Z.1.2.1 (gw X.1 X.2.1 q230) (fun _ q => q) (by decide) dX2_sell_1 hf (fun x1 hf => ?_)
  refine a_iload_n (pc := 4) X dX2_sell_4 rfl hl 1 rfl ?_
  obtain ⟨a5, rfl, ⟨hk, hf⟩ | ⟨-, hf⟩⟩ := dv_some hf
  rotate_left
  · exact fl_none hf
  refine a_callb (pc := 5) (rs := []) (avs := [vR (some a5), vI v1]) Z.1 (w_J2_get GA (some a5) v1) (Or.inl rfl) q505 q78 (by decide) (by decide) dX2_sell_5 hl.1 (Nat.le_of_ble_eq_true rfl) hf (ct_V hk ⟨by decide, by decide⟩ X (Or.inl rfl) q505 q1828 q503 q3487 hy_J2_get np_J2_get rfl dX2_sell_5) (fun q h he hX => a_out (unc_of Z.2.1 rfl) Z.2.2.2.1 he hX) (fun x5 h hf => ?kk5)
  refine AW.eq (g2 := F0 m 8 ls [va_rf x5]) rfl ?_
  refine a_checkcast (pc := 8) X (gw X.1 X.2.1 q899) (cs_JumpHall_Jumper GA) dX2_sell_8 hf (fun hf => ?_)
  refine a_astore_n (pc := 11) X dX2_sell_11 rfl hl (by decide) (lv' := [(3, vR x5), (0, vR v0), (1, vI v1), (2, vI v2)]) rfl (fun ls hl => ?_)
  refine a_new (pc := 12) (cK := 8) (n := 2) X Z.1.2.1 Z.1.2.2.1 Z.1.2.2.2.1 Z.1.2.2.2.2.1 ⟨by decide, by decide, by decide⟩ (gw X.1 X.2.1 q2287) (gw X.1 X.2.1 q2229) (gw X.1 X.2.1 q126) dX2_sell_12 hf (fun x12 h hf => ?_)
  refine AW.lift (fun _ _ _ _ k => lv_dup (pc := 15) X.2.2.1 X.2.2.2.1 dX2_sell_15 (cat_rf _) k) ?_
  refine a_aload_n (pc := 16) X dX2_sell_16 rfl hl 0 rfl ?_
  refine a_getN (pc := 17) (φ := 502) pI_t X Z.1.2.1 (gnF X.1 X.2.1 q917) (fun _ q => q) (by decide) dX2_sell_17 hf (fun x17 hf => ?_)
  refine a_iload_n (pc := 20) X dX2_sell_20 rfl hl 3 rfl ?_
  refine a_callb (pc := 21) (rs := [vR (some x12)]) (avs := [vR (some x12), vI x17, vI v2]) Z.1 (w_X10_init GA (some x12) x17 v2) (Or.inl rfl) q2232 q126 (by decide) (by decide) dX2_sell_21 hl.1 (Nat.le_of_ble_eq_true rfl) hf (ct_I X q2232 q2288 q2231 rfl hy_X10_init np_X10_init rfl dX2_sell_21) (fun q h he hX => a_out (unc_of Z.2.1 rfl) Z.2.2.2.1 he hX) (fun _ h hf => ?kk21)
  refine AW.eq (g2 := F0 m 24 ls [va_rf (some x12)]) rfl ?_
  refine a_astore (pc := 24) X dX2_sell_24 hl (by decide) (lv' := [(4, vR (some x12)), (3, vR x5), (0, vR v0), (1, vI v1), (2, vI v2)]) rfl (fun ls hl => ?_)
  refine a_aload_n (pc := 26) X dX2_sell_26 rfl hl 1 rfl ?_
  obtain ⟨a27, rfl, ⟨hk, hf⟩ | ⟨-, hf⟩⟩ := dv_some hf
  rotate_left
  · exact fl_none hf
  refine a_callb (pc := 27) (rs := []) (avs := [vR (some a27)]) Z.1 (w_X8_isGone GA (some a27)) (Or.inl rfl) q2215 q107 (by decide) (by decide) dX2_sell_27 hl.1 (Nat.le_of_ble_eq_true rfl) hf (ct_V hk ⟨by decide, by decide⟩ X (Or.inl rfl) q2215 q2212 q2213 q2214 hy_X8_isGone np_X8_isGone rfl dX2_sell_27) (fun q h he hX => a_out (unc_of Z.2.1 rfl) Z.2.2.2.1 he hX) (fun x27 h hf => ?kk27)
  refine AW.eq (g2 := F0 m 30 ls [.int x27]) rfl ?_
  refine AW.lift (fun _ _ _ _ k => lv_iconst (pc := 30) (v := (2 : Int32)) X.2.2.1 X.2.2.2.1 dX2_sell_30 rfl k) ?_
  refine a_aload_n (pc := 31) X dX2_sell_31 rfl hl 1 rfl ?_
  refine a_getN (pc := 32) (φ := 504) pI_t X Z.1.2.1 (gnF X.1 X.2.1 q922) (fun _ q => q) (by decide) dX2_sell_32 hf (fun x32 hf => ?_)
  refine a_callb (pc := 35) (rs := []) (avs := [vI x27, vI (2 : Int32), vI x32]) Z.1 (w_X1_refuse GA x27 (2 : Int32) x32) (Or.inl rfl) q1723 q74 (by decide) (by decide) dX2_sell_35 hl.1 (Nat.le_of_ble_eq_true rfl) hf (ct_SN X (Or.inl rfl) q1723 q74 q1721 q1722 hy_X1_refuse np_X1_refuse rfl dX2_sell_35) (fun q h he hX => a_out (unc_of Z.2.1 rfl) Z.2.2.2.1 he hX) (fun _ h hf => ?kk35)
  refine AW.eq (g2 := F0 m 38 ls []) rfl ?_
  refine a_aload_n (pc := 38) X dX2_sell_38 rfl hl 1 rfl ?_
  rcases dv_someS hf with ⟨hk, hf⟩ | ⟨-, hf⟩
  rotate_left
  · exact fl_none hf
  refine a_callb (pc := 39) (rs := []) (avs := [vR (some a27)]) Z.1 (w_X8_hasSocks GA (some a27)) (Or.inl rfl) q2031 q107 (by decide) (by decide) dX2_sell_39 hl.1 (Nat.le_of_ble_eq_true rfl) hf (ct_V hk ⟨by decide, by decide⟩ X (Or.inl rfl) q2031 q2028 q2029 q2030 hy_X8_hasSocks np_X8_hasSocks rfl dX2_sell_39) (fun q h he hX => a_out (unc_of Z.2.1 rfl) Z.2.2.2.1 he hX) (fun x39 h hf => ?kk39)
  refine AW.eq (g2 := F0 m 42 ls [.int x39]) rfl ?_
  refine AW.lift (fun _ _ _ _ k => lv_bipush (pc := 42) (v := (9 : Int32)) X.2.2.1 X.2.2.2.1 dX2_sell_42 rfl k) ?_
  refine a_aload_n (pc := 44) X dX2_sell_44 rfl hl 1 rfl ?_
  refine a_getN (pc := 45) (φ := 506) pI_t X Z.1.2.1 (gnF X.1 X.2.1 q928) (fun _ q => q) (by decide) dX2_sell_45 hf (fun x45 hf => ?_)
  refine a_callb (pc := 48) (rs := []) (avs := [vI x39, vI (9 : Int32), vI x45]) Z.1 (w_X1_refuse GA x39 (9 : Int32) x45) (Or.inl rfl) q1723 q74 (by decide) (by decide) dX2_sell_48 hl.1 (Nat.le_of_ble_eq_true rfl) hf (ct_SN X (Or.inl rfl) q1723 q74 q1721 q1722 hy_X1_refuse np_X1_refuse rfl dX2_sell_48) (fun q h he hX => a_out (unc_of Z.2.1 rfl) Z.2.2.2.1 he hX) (fun _ h hf => ?kk48)
  refine AW.eq (g2 := F0 m 51 ls []) rfl ?_
  refine a_aload_n (pc := 51) X dX2_sell_51 rfl hl 2 rfl ?_
  refine a_get (pc := 52) (φ := 304) pR_t X Z.1.2.1 (gw X.1 X.2.1 q236) (fun _ q => q) (by decide) dX2_sell_52 hf (fun x52 hf => ?_)
  refine a_aload (pc := 55) X dX2_sell_55 hl 0 rfl ?_
  obtain ⟨a57, rfl, ⟨hk, hf⟩ | ⟨-, hf⟩⟩ := dv_some hf
  rotate_left
  · exact fl_none hf
  refine a_callb (pc := 57) (rs := []) (avs := [vR (some a57), vR (some x12)]) Z.1 (w_X3_of GA (some a57) (some x12)) (Or.inl rfl) q2249 q79 (by decide) (by decide) dX2_sell_57 hl.1 (Nat.le_of_ble_eq_true rfl) hf (ct_V hk ⟨by decide, by decide⟩ X (Or.inl rfl) q2249 q2289 q2247 q2248 hy_X3_of np_X3_of rfl dX2_sell_57) (fun q h he hX => a_out (unc_of Z.2.1 rfl) Z.2.2.2.1 he hX) (fun x57 h hf => ?kk57)
  refine AW.eq (g2 := F0 m 60 ls [.int x57]) rfl ?_
  refine AW.lift2 (fun _ _ _ _ k1 k2 => lv_if_ne (pc := 60) (tgt := 67) X.2.2.1 X.2.2.2.1 dX2_sell_60 rfl k2 k1) (fun c => ?_) (fun c => ?_)
  · have hf := ite_t c hf
    refine AW.lift (fun _ _ _ _ k => lv_iconst (pc := 63) (v := (1 : Int32)) X.2.2.1 X.2.2.2.1 dX2_sell_63 rfl k) ?_
    refine AW.lift (fun _ _ _ _ k => lv_goto (pc := 64) (tgt := 68) X.2.2.1 X.2.2.2.1 dX2_sell_64 rfl k) ?_
    exact w_X2_sell_j68 GA Z v0 v2 (some a27) (some x12) (1 : Int32)  (hl.sub [2, 4, 1, 0] rfl) hf
  · have hf := ite_f c hf
    refine AW.lift (fun _ _ _ _ k => lv_iconst (pc := 67) (v := (0 : Int32)) X.2.2.1 X.2.2.2.1 dX2_sell_67 rfl k) ?_
    exact w_X2_sell_j68 GA Z v0 v2 (some a27) (some x12) (0 : Int32)  (hl.sub [2, 4, 1, 0] rfl) hf
theorem np_X1_lambda_sell_9 : npar yX1_lambda_sell_9.desc 3 := by unfold npar; decide +kernel
theorem hy_X1_lambda_sell_9 : yX1_lambda_sell_9.cls ≠ "java/lang/invoke/MethodHandle" ∧ yX1_lambda_sell_9.cls ≠ "java/lang/invoke/VarHandle" := by decide +kernel
theorem w_X1_lambda_sell_9 (GA : GA l s0 a0 K lam) (v0 : Int32) (v1 : Int32) (v2 : Option Nat) : AMet l s0 K lam yX1_lambda_sell_9 (Cond.code yX1_lambda_sell_9 cX1_lambda_sell_9 (3 : Nat) (Option.some ClassFile.FieldType.int)) 13 512 [vI v0, vI v1, vR v2] oI (f_X1_lambda_sell_9 K v0 v1 v2) := by
  refine AMet.of GA.1 (plainFor_of_name (by decide +kernel)) (Nat.le_of_ble_eq_true rfl) ?_
  intro b r hf p e s m args below meth c X hr hlk hnm hnd ht ls hl
  have Z : WZ l s0 a0 K p s m c cX1_lambda_sell_9 yX1_lambda_sell_9.cls 3 b { frames := 13, cells := K 0 - aX b, slots := K 1 - aW b, locals := 512 } 13 512 meth [] (some (.int)) yX1_lambda_sell_9 := ⟨⟨X, GA.2.1, GA.2.2.1, rfl, rfl, Nat.le_refl _, Nat.le_refl _⟩, tab_nil ht, hr, hlk, hnm, hnd⟩
  unfold f_X1_lambda_sell_9 at hf
  clear hr hlk hnm hnd ht
  refine a_aload_n (pc := 0) X dX1_lambda_sell_9_0 rfl hl 2 rfl ?_
  refine a_iload_n (pc := 1) X dX1_lambda_sell_9_1 rfl hl 0 rfl ?_
  refine a_iload_n (pc := 2) X dX1_lambda_sell_9_2 rfl hl 1 rfl ?_
  obtain ⟨a3, rfl, ⟨hk, hf⟩ | ⟨-, hf⟩⟩ := dv_some hf
  rotate_left
  · exact fl_none hf
  refine a_callb (pc := 3) (rs := []) (avs := [vR (some a3), vI v0, vI v1]) Z.1 (w_X2_sell GA (some a3) v0 v1) (Or.inl rfl) q2286 q75 (by decide) (by decide) dX1_lambda_sell_9_3 hl.1 (Nat.le_of_ble_eq_true rfl) hf (ct_V hk ⟨by decide, by decide⟩ X (Or.inl rfl) q2286 q2283 q2284 q2285 hy_X2_sell np_X2_sell rfl dX1_lambda_sell_9_3) (fun q h he hX => a_out (unc_of Z.2.1 rfl) Z.2.2.2.1 he hX) (fun x3 h hf => ?kk3)
  refine AW.eq (g2 := F0 m 6 ls [.int x3]) rfl ?_
  exact a_ireturn X Z.2.2.1 Z.2.2.2.1 dX1_lambda_sell_9_6 hf
theorem cl_215 {Q : State → Prop} {h : AH} {cc : ByteArray} {own : String} {nL pc : Nat} {ls : Array Slot} {st : List Value} {F Lo idx cnt a : Nat} {v : Option Nat} {rs : List TV} (X : WX l s0 a0 K p s m c cc own nL b R F Lo) (GA : GA l s0 a0 K lam) (hk : aK h a = 215) (hlink : Cond.methodLink own idx ({ cls := "JumpHall$Deed", name := "in", desc := "(LJumpHall$Hall;)I" } : MethodName) ∈ lw_all) (hF : 15 ≤ F) (hLo : 563 ≤ Lo) (hsz : ls.size = nL) (hW8 : (rs.map tcat).sum ≤ 8) (hst : st = va_rf v :: .ref a :: rs.map tvv) (hdg : decode cc pc = .ok (.invokeinterface idx cnt, 5)) : LC s0 K lam p l e R s m args below meth c Q b h pc ls (rs.map tvv) st (c_lam215 K (some a) v) := by
  intro r1 hf kk kx
  unfold c_lam215 at hf
  obtain ⟨a0, c0, e0, -, hp0, hf⟩ := gL_some hf
  cases e0
  obtain ⟨a1, c1, e1, -, hp1, hf⟩ := gL_some hf
  cases e1
  refine lam_core (caps := [vI c0, vI c1]) (arg := vR v) (f := f_X1_lambda_sell_9 K c0 c1 v) (x := ⟨"JumpHall", "sell", "(II)I"⟩) (fs := [16, 18]) (ig := .invokestatic 26) X (siG_215 GA) hfb_15 (lw_all_tbl q3550) ⟨by decide, by decide⟩ rfl hk (y := yX1_lambda_sell_9) (by decide +kernel) hy_X1_lambda_sell_9 (by decide +kernel) ⟨by decide, by decide⟩ hlink (gf X.1.1 X.1.2.1 q1758 rfl) (gf X.1.1 X.1.2.1 q1757 rfl) (by decide +kernel) (by unfold npar; decide +kernel) (w_X1_lambda_sell_9 GA c0 c1 v) (Or.inl rfl) q2282 q74 (fun _ _ => rfl) rfl (fun j v hj => by
    rcases j with _ | _ | j
    · exact (Option.some.inj hj : vI c0 = v) ▸ pI_t hp0
    · exact (Option.some.inj hj : vI c1 = v) ▸ pI_t hp1
    · exact absurd hj (by simp)) ⟨(fun j i hj => by
    rcases j with _ | _ | j
    · obtain rfl : 16 = i := Option.some.inj hj
      exact ⟨by decide +kernel, by decide +kernel⟩
    · obtain rfl : 18 = i := Option.some.inj hj
      exact ⟨by decide +kernel, by decide +kernel⟩
    · exact absurd hj (by simp)), by decide +kernel, by decide +kernel, by decide +kernel⟩ ⟨rfl, by cases v <;> rfl⟩ hF hLo hsz hW8 hst hdg (lam_stat GA.1 q2281 q74 hy_X1_lambda_sell_9 np_X1_lambda_sell_9 (Or.inl rfl) q2282 (by decide +kernel)) r1 hf kk kx
theorem w_X2_addGuard_j16 {r : Except Nat (Int32) × AH} (GA : GA l s0 a0 K lam) (Z : WZ l s0 a0 K p s m c cX2_addGuard yX2_addGuard.cls 1 b R 9 426 meth [] (some (.int)) yX2_addGuard) (v0 : Option Nat) (t0 : Int32)  {h : AH} {ls : Array Slot} (hl : LV ls 1 [(0, vR v0)]) (hf : f_X2_addGuard_j16 K v0 t0 h = some r) : AW s0 K lam p l e R s m args below meth c (AQ s0 K lam below oI b r s) b h (F0 m 16 ls [.int t0]) := by
  unfold f_X2_addGuard_j16 at hf
  have X := Z.1.1
  refine AW.lift (fun _ _ _ _ k => lv_iconst (pc := 16) (v := (1 : Int32)) X.2.2.1 X.2.2.2.1 dX2_addGuard_16 rfl k) ?_
  refine AW.lift (fun _ _ _ _ k => lv_iconst (pc := 17) (v := (4 : Int32)) X.2.2.1 X.2.2.2.1 dX2_addGuard_17 rfl k) ?_
  refine a_callb (pc := 18) (rs := []) (avs := [vI t0, vI (1 : Int32), vI (4 : Int32)]) Z.1 (w_X1_refuse GA t0 (1 : Int32) (4 : Int32)) (Or.inl rfl) q1723 q74 (by decide) (by decide) dX2_addGuard_18 hl.1 (Nat.le_of_ble_eq_true rfl) hf (ct_SN X (Or.inl rfl) q1723 q74 q1721 q1722 hy_X1_refuse np_X1_refuse rfl dX2_addGuard_18) (fun q h he hX => a_out (unc_of Z.2.1 rfl) Z.2.2.2.1 he hX) (fun _ h hf => ?kk18)
  refine AW.eq (g2 := F0 m 21 ls []) rfl ?_
  refine a_aload_n (pc := 21) X dX2_addGuard_21 rfl hl 0 rfl ?_
  refine a_get (pc := 22) (φ := 303) pR_t X Z.1.2.1 (gw X.1 X.2.1 q234) (fun _ q => q) (by decide) dX2_addGuard_22 hf (fun x22 hf => ?_)
  refine AW.lift (fun _ _ _ _ k => lv_iconst (pc := 25) (v := (-1 : Int32)) X.2.2.1 X.2.2.2.1 dX2_addGuard_25 rfl k) ?_
  refine a_callb (pc := 26) (rs := [vR x22]) (avs := [vI (-1 : Int32)]) Z.1 (w_J23_valueOf GA (-1 : Int32)) (Or.inl rfl) q1918 q105 (by decide) (by decide) dX2_addGuard_26 hl.1 (Nat.le_of_ble_eq_true rfl) hf (ct_S X (Or.inl rfl) q1918 q105 q1916 q1917 hy_J23_valueOf np_J23_valueOf rfl dX2_addGuard_26) (fun q h he hX => a_out (unc_of Z.2.1 rfl) Z.2.2.2.1 he hX) (fun x26 h hf => ?kk26)
  refine AW.eq (g2 := F0 m 29 ls [va_rf x26, va_rf x22]) rfl ?_
  obtain ⟨a29, rfl, ⟨hk, hf⟩ | ⟨-, hf⟩⟩ := dv_some hf
  rotate_left
  · exact fl_none hf
  refine a_callb (pc := 29) (rs := []) (avs := [vR (some a29), vR x26]) Z.1 (w_J2_add GA (some a29) x26) (Or.inl rfl) q834 q78 (by decide) (by decide) dX2_addGuard_29 hl.1 (Nat.le_of_ble_eq_true rfl) hf (ct_V hk ⟨by decide, by decide⟩ X (Or.inl rfl) q834 q831 q832 q833 hy_J2_add np_J2_add rfl dX2_addGuard_29) (fun q h he hX => a_out (unc_of Z.2.1 rfl) Z.2.2.2.1 he hX) (fun x29 h hf => ?kk29)
  refine AW.eq (g2 := F0 m 32 ls [.int x29]) rfl ?_
  refine AW.lift (fun _ _ _ _ k => lv_pop (pc := 32) X.2.2.1 X.2.2.2.1 dX2_addGuard_32 rfl k) ?_
  refine a_aload_n (pc := 33) X dX2_addGuard_33 rfl hl 0 rfl ?_
  refine a_get (pc := 34) (φ := 303) pR_t X Z.1.2.1 (gw X.1 X.2.1 q234) (fun _ q => q) (by decide) dX2_addGuard_34 hf (fun x34 hf => ?_)
  obtain ⟨a37, rfl, ⟨hk, hf⟩ | ⟨-, hf⟩⟩ := dv_some hf
  rotate_left
  · exact fl_none hf
  refine a_callb (pc := 37) (rs := []) (avs := [vR (some a37)]) Z.1 (w_J2_size GA (some a37)) (Or.inl rfl) q1012 q78 (by decide) (by decide) dX2_addGuard_37 hl.1 (Nat.le_of_ble_eq_true rfl) hf (ct_V hk ⟨by decide, by decide⟩ X (Or.inl rfl) q1012 q1720 q1011 q3486 hy_J2_size np_J2_size rfl dX2_addGuard_37) (fun q h he hX => a_out (unc_of Z.2.1 rfl) Z.2.2.2.1 he hX) (fun x37 h hf => ?kk37)
  refine AW.eq (g2 := F0 m 40 ls [.int x37]) rfl ?_
  refine AW.lift (fun _ _ _ _ k => lv_iconst (pc := 40) (v := (1 : Int32)) X.2.2.1 X.2.2.2.1 dX2_addGuard_40 rfl k) ?_
  refine AW.lift (fun _ _ _ _ k => lv_isub (pc := 41) X.2.2.1 X.2.2.2.1 dX2_addGuard_41 k) ?_
  exact a_ireturn X Z.2.2.1 Z.2.2.2.1 dX2_addGuard_42 hf
theorem np_X2_addGuard : npar yX2_addGuard.desc 0 := by unfold npar; decide +kernel
theorem hy_X2_addGuard : yX2_addGuard.cls ≠ "java/lang/invoke/MethodHandle" ∧ yX2_addGuard.cls ≠ "java/lang/invoke/VarHandle" := by decide +kernel
theorem w_X2_addGuard (GA : GA l s0 a0 K lam) (v0 : Option Nat) : AMet l s0 K lam yX2_addGuard (Cond.code yX2_addGuard cX2_addGuard (1 : Nat) (Option.some ClassFile.FieldType.int)) 9 426 [vR v0] oI (f_X2_addGuard K v0) := by
  refine AMet.of GA.1 (plainFor_of_name (by decide +kernel)) (Nat.le_of_ble_eq_true rfl) ?_
  intro b r hf p e s m args below meth c X hr hlk hnm hnd ht ls hl
  have Z : WZ l s0 a0 K p s m c cX2_addGuard yX2_addGuard.cls 1 b { frames := 9, cells := K 0 - aX b, slots := K 1 - aW b, locals := 426 } 9 426 meth [] (some (.int)) yX2_addGuard := ⟨⟨X, GA.2.1, GA.2.2.1, rfl, rfl, Nat.le_refl _, Nat.le_refl _⟩, tab_nil ht, hr, hlk, hnm, hnd⟩
  unfold f_X2_addGuard at hf
  clear hr hlk hnm hnd ht
  refine a_aload_n (pc := 0) X dX2_addGuard_0 rfl hl 0 rfl ?_
  refine a_get (pc := 1) (φ := 303) pR_t X Z.1.2.1 (gw X.1 X.2.1 q234) (fun _ q => q) (by decide) dX2_addGuard_1 hf (fun x1 hf => ?_)
  obtain ⟨a4, rfl, ⟨hk, hf⟩ | ⟨-, hf⟩⟩ := dv_some hf
  rotate_left
  · exact fl_none hf
  refine a_callb (pc := 4) (rs := []) (avs := [vR (some a4)]) Z.1 (w_J2_size GA (some a4)) (Or.inl rfl) q1012 q78 (by decide) (by decide) dX2_addGuard_4 hl.1 (Nat.le_of_ble_eq_true rfl) hf (ct_V hk ⟨by decide, by decide⟩ X (Or.inl rfl) q1012 q1720 q1011 q3486 hy_J2_size np_J2_size rfl dX2_addGuard_4) (fun q h he hX => a_out (unc_of Z.2.1 rfl) Z.2.2.2.1 he hX) (fun x4 h hf => ?kk4)
  refine AW.eq (g2 := F0 m 7 ls [.int x4]) rfl ?_
  refine AW.lift (fun _ _ _ _ k => lv_iconst (pc := 7) (v := (4 : Int32)) X.2.2.1 X.2.2.2.1 dX2_addGuard_7 rfl k) ?_
  refine AW.lift2 (fun _ _ _ _ k1 k2 => lv_icmp_ne (pc := 8) (tgt := 15) X.2.2.1 X.2.2.2.1 dX2_addGuard_8 rfl k2 k1) (fun c => ?_) (fun c => ?_)
  · have hf := ite_t c hf
    refine AW.lift (fun _ _ _ _ k => lv_iconst (pc := 11) (v := (1 : Int32)) X.2.2.1 X.2.2.2.1 dX2_addGuard_11 rfl k) ?_
    refine AW.lift (fun _ _ _ _ k => lv_goto (pc := 12) (tgt := 16) X.2.2.1 X.2.2.2.1 dX2_addGuard_12 rfl k) ?_
    exact w_X2_addGuard_j16 GA Z v0 (1 : Int32)  (hl.sub [0] rfl) hf
  · have hf := ite_f c hf
    refine AW.lift (fun _ _ _ _ k => lv_iconst (pc := 15) (v := (0 : Int32)) X.2.2.1 X.2.2.2.1 dX2_addGuard_15 rfl k) ?_
    exact w_X2_addGuard_j16 GA Z v0 (0 : Int32)  (hl.sub [0] rfl) hf
theorem np_X1_lambda_guard_10 : npar yX1_lambda_guard_10.desc 1 := by unfold npar; decide +kernel
theorem hy_X1_lambda_guard_10 : yX1_lambda_guard_10.cls ≠ "java/lang/invoke/MethodHandle" ∧ yX1_lambda_guard_10.cls ≠ "java/lang/invoke/VarHandle" := by decide +kernel
theorem w_X1_lambda_guard_10 (GA : GA l s0 a0 K lam) (v0 : Option Nat) : AMet l s0 K lam yX1_lambda_guard_10 (Cond.code yX1_lambda_guard_10 cX1_lambda_guard_10 (1 : Nat) (Option.some ClassFile.FieldType.int)) 10 446 [vR v0] oI (f_X1_lambda_guard_10 K v0) := by
  refine AMet.of GA.1 (plainFor_of_name (by decide +kernel)) (Nat.le_of_ble_eq_true rfl) ?_
  intro b r hf p e s m args below meth c X hr hlk hnm hnd ht ls hl
  have Z : WZ l s0 a0 K p s m c cX1_lambda_guard_10 yX1_lambda_guard_10.cls 1 b { frames := 10, cells := K 0 - aX b, slots := K 1 - aW b, locals := 446 } 10 446 meth [] (some (.int)) yX1_lambda_guard_10 := ⟨⟨X, GA.2.1, GA.2.2.1, rfl, rfl, Nat.le_refl _, Nat.le_refl _⟩, tab_nil ht, hr, hlk, hnm, hnd⟩
  unfold f_X1_lambda_guard_10 at hf
  clear hr hlk hnm hnd ht
  refine a_aload_n (pc := 0) X dX1_lambda_guard_10_0 rfl hl 0 rfl ?_
  obtain ⟨a1, rfl, ⟨hk, hf⟩ | ⟨-, hf⟩⟩ := dv_some hf
  rotate_left
  · exact fl_none hf
  refine a_callb (pc := 1) (rs := []) (avs := [vR (some a1)]) Z.1 (w_X2_addGuard GA (some a1)) (Or.inl rfl) q2358 q75 (by decide) (by decide) dX1_lambda_guard_10_1 hl.1 (Nat.le_of_ble_eq_true rfl) hf (ct_V hk ⟨by decide, by decide⟩ X (Or.inl rfl) q2358 q2355 q2356 q2357 hy_X2_addGuard np_X2_addGuard rfl dX1_lambda_guard_10_1) (fun q h he hX => a_out (unc_of Z.2.1 rfl) Z.2.2.2.1 he hX) (fun x1 h hf => ?kk1)
  refine AW.eq (g2 := F0 m 4 ls [.int x1]) rfl ?_
  exact a_ireturn X Z.2.2.1 Z.2.2.2.1 dX1_lambda_guard_10_4 hf
theorem cl_216 {Q : State → Prop} {h : AH} {cc : ByteArray} {own : String} {nL pc : Nat} {ls : Array Slot} {st : List Value} {F Lo idx cnt a : Nat} {v : Option Nat} {rs : List TV} (X : WX l s0 a0 K p s m c cc own nL b R F Lo) (GA : GA l s0 a0 K lam) (hk : aK h a = 216) (hlink : Cond.methodLink own idx ({ cls := "JumpHall$Deed", name := "in", desc := "(LJumpHall$Hall;)I" } : MethodName) ∈ lw_all) (hF : 12 ≤ F) (hLo : 495 ≤ Lo) (hsz : ls.size = nL) (hW8 : (rs.map tcat).sum ≤ 8) (hst : st = va_rf v :: .ref a :: rs.map tvv) (hdg : decode cc pc = .ok (.invokeinterface idx cnt, 5)) : LC s0 K lam p l e R s m args below meth c Q b h pc ls (rs.map tvv) st (c_lam216 K (some a) v) := by
  intro r1 hf kk kx
  unfold c_lam216 at hf
  refine lam_core (caps := []) (arg := vR v) (f := f_X1_lambda_guard_10 K  v) (x := ⟨"JumpHall", "guard", "()I"⟩) (fs := []) (ig := .invokestatic 17) X (siG_216 GA) hfb_16 (lw_all_tbl q3550) ⟨by decide, by decide⟩ rfl hk (y := yX1_lambda_guard_10) (by decide +kernel) hy_X1_lambda_guard_10 (by decide +kernel) ⟨by decide, by decide⟩ hlink (gf X.1.1 X.1.2.1 q1758 rfl) (gf X.1.1 X.1.2.1 q1757 rfl) (by decide +kernel) (by unfold npar; decide +kernel) (w_X1_lambda_guard_10 GA  v) (Or.inl rfl) q2354 q74 (fun _ _ => rfl) rfl (fun j v hj => absurd hj (by simp)) ⟨(fun j i hj => absurd hj (by simp)), by decide +kernel, by decide +kernel, by decide +kernel⟩ ⟨rfl, by cases v <;> rfl⟩ hF hLo hsz hW8 hst hdg (lam_stat GA.1 q2353 q74 hy_X1_lambda_guard_10 np_X1_lambda_guard_10 (Or.inl rfl) q2354 (by decide +kernel)) r1 hf kk kx
theorem np_J2_set : npar yJ2_set.desc 2 := by unfold npar; decide +kernel
theorem hy_J2_set : yJ2_set.cls ≠ "java/lang/invoke/MethodHandle" ∧ yJ2_set.cls ≠ "java/lang/invoke/VarHandle" := by decide +kernel
theorem w_J2_set (GA : GA l s0 a0 K lam) (v0 : Option Nat) (v1 : Int32) (v2 : Option Nat) : AMet l s0 K lam yJ2_set (Cond.code yJ2_set cJ2_set (4 : Nat) (Option.some (ClassFile.FieldType.object "java/lang/Object"))) 2 43 [vR v0, vI v1, vR v2] oR (f_J2_set K v0 v1 v2) := by
  refine AMet.of GA.1 (plainFor_of_name (by decide +kernel)) (Nat.le_of_ble_eq_true rfl) ?_
  intro b r hf p e s m args below meth c X hr hlk hnm hnd ht ls hl
  have Z : WZ l s0 a0 K p s m c cJ2_set yJ2_set.cls 4 b { frames := 2, cells := K 0 - aX b, slots := K 1 - aW b, locals := 43 } 2 43 meth [] (some (.object "java/lang/Object")) yJ2_set := ⟨⟨X, GA.2.1, GA.2.2.1, rfl, rfl, Nat.le_refl _, Nat.le_refl _⟩, tab_nil ht, hr, hlk, hnm, hnd⟩
  unfold f_J2_set at hf
  clear hr hlk hnm hnd ht
  refine a_iload_n (pc := 0) X dJ2_set_0 rfl hl 1 rfl ?_
  refine a_aload_n (pc := 1) X dJ2_set_1 rfl hl 0 rfl ?_
  refine a_get (pc := 2) (φ := 2501) pI_t X Z.1.2.1 (gw X.1 X.2.1 q169) (fun _ q => q) (by decide) dJ2_set_2 hf (fun x2 hf => ?_)
  refine a_callb (pc := 5) (rs := []) (avs := [vI v1, vI x2]) Z.1 (w_J17_checkIndex GA v1 x2) (Or.inl rfl) q508 q99 (by decide) (by decide) dJ2_set_5 hl.1 (Nat.le_of_ble_eq_true rfl) hf (ct_S X (Or.inl rfl) q508 q99 q506 q507 hy_J17_checkIndex np_J17_checkIndex rfl dJ2_set_5) (fun q h he hX => a_out (unc_of Z.2.1 rfl) Z.2.2.2.1 he hX) (fun x5 h hf => ?kk5)
  refine AW.eq (g2 := F0 m 8 ls [.int x5]) rfl ?_
  refine AW.lift (fun _ _ _ _ k => lv_pop (pc := 8) X.2.2.1 X.2.2.2.1 dJ2_set_8 rfl k) ?_
  refine a_aload_n (pc := 9) X dJ2_set_9 rfl hl 0 rfl ?_
  refine a_iload_n (pc := 10) X dJ2_set_10 rfl hl 1 rfl ?_
  obtain ⟨a11, rfl, ⟨hk, hf⟩ | ⟨-, hf⟩⟩ := dv_some hf
  rotate_left
  · exact fl_none hf
  refine a_callb (pc := 11) (rs := []) (avs := [vR (some a11), vI v1]) Z.1 (w_J2_elementData GA (some a11) v1) (Or.inl rfl) q515 q78 (by decide) (by decide) dJ2_set_11 hl.1 (Nat.le_of_ble_eq_true rfl) hf (ct_V hk ⟨by decide, by decide⟩ X (Or.inl rfl) q515 q512 q513 q514 hy_J2_elementData np_J2_elementData rfl dJ2_set_11) (fun q h he hX => a_out (unc_of Z.2.1 rfl) Z.2.2.2.1 he hX) (fun x11 h hf => ?kk11)
  refine AW.eq (g2 := F0 m 14 ls [va_rf x11]) rfl ?_
  refine a_astore_n (pc := 14) X dJ2_set_14 rfl hl (by decide) (lv' := [(3, vR x11), (0, vR (some a11)), (1, vI v1), (2, vR v2)]) rfl (fun ls hl => ?_)
  refine a_aload_n (pc := 15) X dJ2_set_15 rfl hl 1 rfl ?_
  refine a_get (pc := 16) (φ := 2500) pR_t X Z.1.2.1 (gw X.1 X.2.1 q166) (fun _ q => q) (by decide) dJ2_set_16 hf (fun x16 hf => ?_)
  refine a_iload_n (pc := 19) X dJ2_set_19 rfl hl 2 rfl ?_
  refine a_aload_n (pc := 20) X dJ2_set_20 rfl hl 3 rfl ?_
  refine a_aastore (pc := 21) (t := 1006) (C := "java/lang/Object") (by decide) rfl X (cs_java_lang_Object GA) dJ2_set_21 hf (fun h hf => ?_)
  refine a_aload_n (pc := 22) X dJ2_set_22 rfl hl 0 rfl ?_
  exact a_areturn X Z.2.2.1 (Or.inl ⟨_, rfl⟩) Z.2.2.2.1 dJ2_set_23 hf
theorem w_X2_place_j28 {r : Except Nat (Int32) × AH} (GA : GA l s0 a0 K lam) (Z : WZ l s0 a0 K p s m c cX2_place yX2_place.cls 5 b R 5 111 meth [] (some (.int)) yX2_place) (v0 : Option Nat) (v1 : Int32) (v2 : Int32) (v3 : Int32)   {h : AH} {ls : Array Slot} (hl : LV ls 5 [(0, vR v0), (1, vI v1), (2, vI v2), (3, vI v3)]) (hf : f_X2_place_j28 K v0 v1 v2 v3 h = some r) : AW s0 K lam p l e R s m args below meth c (AQ s0 K lam below oI b r s) b h (F0 m 28 ls []) := by
  unfold f_X2_place_j28 at hf
  have X := Z.1.1
  refine a_aload_n (pc := 28) X dX2_place_28 rfl hl 0 rfl ?_
  refine a_get (pc := 29) (φ := 303) pR_t X Z.1.2.1 (gw X.1 X.2.1 q234) (fun _ q => q) (by decide) dX2_place_29 hf (fun x29 hf => ?_)
  refine a_iload_n (pc := 32) X dX2_place_32 rfl hl 1 rfl ?_
  refine a_iload_n (pc := 33) X dX2_place_33 rfl hl 2 rfl ?_
  refine a_callb (pc := 34) (rs := [vI v1, vR x29]) (avs := [vI v2]) Z.1 (w_J23_valueOf GA v2) (Or.inl rfl) q1918 q105 (by decide) (by decide) dX2_place_34 hl.1 (Nat.le_of_ble_eq_true rfl) hf (ct_S X (Or.inl rfl) q1918 q105 q1916 q1917 hy_J23_valueOf np_J23_valueOf rfl dX2_place_34) (fun q h he hX => a_out (unc_of Z.2.1 rfl) Z.2.2.2.1 he hX) (fun x34 h hf => ?kk34)
  refine AW.eq (g2 := F0 m 37 ls [va_rf x34, .int v1, va_rf x29]) rfl ?_
  obtain ⟨a37, rfl, ⟨hk, hf⟩ | ⟨-, hf⟩⟩ := dv_some hf
  rotate_left
  · exact fl_none hf
  refine a_callb (pc := 37) (rs := []) (avs := [vR (some a37), vI v1, vR x34]) Z.1 (w_J2_set GA (some a37) v1 x34) (Or.inl rfl) q2379 q78 (by decide) (by decide) dX2_place_37 hl.1 (Nat.le_of_ble_eq_true rfl) hf (ct_V hk ⟨by decide, by decide⟩ X (Or.inl rfl) q2379 q2376 q2377 q2378 hy_J2_set np_J2_set rfl dX2_place_37) (fun q h he hX => a_out (unc_of Z.2.1 rfl) Z.2.2.2.1 he hX) (fun x37 h hf => ?kk37)
  refine AW.eq (g2 := F0 m 40 ls [va_rf x37]) rfl ?_
  refine a_checkcast (pc := 40) X (gw X.1 X.2.1 q2380) (cs_java_lang_Integer GA) dX2_place_40 hf (fun hf => ?_)
  refine a_astore (pc := 43) X dX2_place_43 hl (by decide) (lv' := [(4, vR x37), (0, vR v0), (1, vI v1), (2, vI v2), (3, vI v3)]) rfl (fun ls hl => ?_)
  refine a_iload_n (pc := 45) X dX2_place_45 rfl hl 4 rfl ?_
  exact a_ireturn X Z.2.2.1 Z.2.2.2.1 dX2_place_46 hf
theorem np_X2_place : npar yX2_place.desc 2 := by unfold npar; decide +kernel
theorem hy_X2_place : yX2_place.cls ≠ "java/lang/invoke/MethodHandle" ∧ yX2_place.cls ≠ "java/lang/invoke/VarHandle" := by decide +kernel
theorem w_X2_place (GA : GA l s0 a0 K lam) (v0 : Option Nat) (v1 : Int32) (v2 : Int32) : AMet l s0 K lam yX2_place (Cond.code yX2_place cX2_place (5 : Nat) (Option.some ClassFile.FieldType.int)) 5 111 [vR v0, vI v1, vI v2] oI (f_X2_place K v0 v1 v2) := by
  refine AMet.of GA.1 (plainFor_of_name (by decide +kernel)) (Nat.le_of_ble_eq_true rfl) ?_
  intro b r hf p e s m args below meth c X hr hlk hnm hnd ht ls hl
  have Z : WZ l s0 a0 K p s m c cX2_place yX2_place.cls 5 b { frames := 5, cells := K 0 - aX b, slots := K 1 - aW b, locals := 111 } 5 111 meth [] (some (.int)) yX2_place := ⟨⟨X, GA.2.1, GA.2.2.1, rfl, rfl, Nat.le_refl _, Nat.le_refl _⟩, tab_nil ht, hr, hlk, hnm, hnd⟩
  unfold f_X2_place at hf
  clear hr hlk hnm hnd ht
  refine a_aload_n (pc := 0) X dX2_place_0 rfl hl 0 rfl ?_
  refine a_iload_n (pc := 1) X dX2_place_1 rfl hl 2 rfl ?_
  obtain ⟨a2, rfl, ⟨hk, hf⟩ | ⟨-, hf⟩⟩ := dv_some hf
  rotate_left
  · exact fl_none hf
  refine a_callb (pc := 2) (rs := []) (avs := [vR (some a2), vI v2]) Z.1 (w_X2_guardAt GA (some a2) v2) (Or.inl rfl) q1915 q75 (by decide) (by decide) dX2_place_2 hl.1 (Nat.le_of_ble_eq_true rfl) hf (ct_V hk ⟨by decide, by decide⟩ X (Or.inl rfl) q1915 q2170 q1913 q1914 hy_X2_guardAt np_X2_guardAt rfl dX2_place_2) (fun q h he hX => a_out (unc_of Z.2.1 rfl) Z.2.2.2.1 he hX) (fun x2 h hf => ?kk2)
  refine AW.eq (g2 := F0 m 5 ls [.int x2]) rfl ?_
  refine a_istore_n (pc := 5) X dX2_place_5 rfl hl (by decide) (lv' := [(3, vI x2), (0, vR (some a2)), (1, vI v1), (2, vI v2)]) rfl (fun ls hl => ?_)
  refine a_iload_n (pc := 6) X dX2_place_6 rfl hl 0 rfl ?_
  refine AW.lift (fun _ _ _ _ k => lv_iconst (pc := 7) (v := (-1 : Int32)) X.2.2.1 X.2.2.2.1 dX2_place_7 rfl k) ?_
  refine AW.lift2 (fun _ _ _ _ k1 k2 => lv_icmp_eq (pc := 8) (tgt := 28) X.2.2.1 X.2.2.2.1 dX2_place_8 rfl k1 k2) (fun c => ?_) (fun c => ?_)
  · have hf := ite_t c hf
    exact w_X2_place_j28 GA Z (some a2) v1 v2 x2   (hl.sub [1, 2, 3, 0] rfl) hf
  · have hf := ite_f c hf
    refine a_aload_n (pc := 11) X dX2_place_11 rfl hl 1 rfl ?_
    refine a_get (pc := 12) (φ := 303) pR_t X Z.1.2.1 (gw X.1 X.2.1 q234) (fun _ q => q) (by decide) dX2_place_12 hf (fun x12 hf => ?_)
    refine a_iload_n (pc := 15) X dX2_place_15 rfl hl 0 rfl ?_
    refine AW.lift (fun _ _ _ _ k => lv_iconst (pc := 16) (v := (-1 : Int32)) X.2.2.1 X.2.2.2.1 dX2_place_16 rfl k) ?_
    refine a_callb (pc := 17) (rs := [vI x2, vR x12]) (avs := [vI (-1 : Int32)]) Z.1 (w_J23_valueOf GA (-1 : Int32)) (Or.inl rfl) q1918 q105 (by decide) (by decide) dX2_place_17 hl.1 (Nat.le_of_ble_eq_true rfl) hf (ct_S X (Or.inl rfl) q1918 q105 q1916 q1917 hy_J23_valueOf np_J23_valueOf rfl dX2_place_17) (fun q h he hX => a_out (unc_of Z.2.1 rfl) Z.2.2.2.1 he hX) (fun x17 h hf => ?kk17)
    refine AW.eq (g2 := F0 m 20 ls [va_rf x17, .int x2, va_rf x12]) rfl ?_
    obtain ⟨a20, rfl, ⟨hk, hf⟩ | ⟨-, hf⟩⟩ := dv_some hf
    rotate_left
    · exact fl_none hf
    refine a_callb (pc := 20) (rs := []) (avs := [vR (some a20), vI x2, vR x17]) Z.1 (w_J2_set GA (some a20) x2 x17) (Or.inl rfl) q2379 q78 (by decide) (by decide) dX2_place_20 hl.1 (Nat.le_of_ble_eq_true rfl) hf (ct_V hk ⟨by decide, by decide⟩ X (Or.inl rfl) q2379 q2376 q2377 q2378 hy_J2_set np_J2_set rfl dX2_place_20) (fun q h he hX => a_out (unc_of Z.2.1 rfl) Z.2.2.2.1 he hX) (fun x20 h hf => ?kk20)
    refine AW.eq (g2 := F0 m 23 ls [va_rf x20]) rfl ?_
    refine a_checkcast (pc := 23) X (gw X.1 X.2.1 q2380) (cs_java_lang_Integer GA) dX2_place_23 hf (fun hf => ?_)
    refine a_astore (pc := 26) X dX2_place_26 hl (by decide) (lv' := [(4, vR x20), (3, vI x2), (0, vR (some a2)), (1, vI v1), (2, vI v2)]) rfl (fun ls hl => ?_)
    exact w_X2_place_j28 GA Z (some a2) v1 v2 x2   (hl.sub [2, 3, 4, 1] rfl) hf
theorem np_X1_lambda_place_11 : npar yX1_lambda_place_11.desc 3 := by unfold npar; decide +kernel
theorem hy_X1_lambda_place_11 : yX1_lambda_place_11.cls ≠ "java/lang/invoke/MethodHandle" ∧ yX1_lambda_place_11.cls ≠ "java/lang/invoke/VarHandle" := by decide +kernel
theorem w_X1_lambda_place_11 (GA : GA l s0 a0 K lam) (v0 : Int32) (v1 : Int32) (v2 : Option Nat) : AMet l s0 K lam yX1_lambda_place_11 (Cond.code yX1_lambda_place_11 cX1_lambda_place_11 (3 : Nat) (Option.some ClassFile.FieldType.int)) 6 135 [vI v0, vI v1, vR v2] oI (f_X1_lambda_place_11 K v0 v1 v2) := by
  refine AMet.of GA.1 (plainFor_of_name (by decide +kernel)) (Nat.le_of_ble_eq_true rfl) ?_
  intro b r hf p e s m args below meth c X hr hlk hnm hnd ht ls hl
  have Z : WZ l s0 a0 K p s m c cX1_lambda_place_11 yX1_lambda_place_11.cls 3 b { frames := 6, cells := K 0 - aX b, slots := K 1 - aW b, locals := 135 } 6 135 meth [] (some (.int)) yX1_lambda_place_11 := ⟨⟨X, GA.2.1, GA.2.2.1, rfl, rfl, Nat.le_refl _, Nat.le_refl _⟩, tab_nil ht, hr, hlk, hnm, hnd⟩
  unfold f_X1_lambda_place_11 at hf
  clear hr hlk hnm hnd ht
  refine a_aload_n (pc := 0) X dX1_lambda_place_11_0 rfl hl 2 rfl ?_
  refine a_iload_n (pc := 1) X dX1_lambda_place_11_1 rfl hl 0 rfl ?_
  refine a_iload_n (pc := 2) X dX1_lambda_place_11_2 rfl hl 1 rfl ?_
  obtain ⟨a3, rfl, ⟨hk, hf⟩ | ⟨-, hf⟩⟩ := dv_some hf
  rotate_left
  · exact fl_none hf
  refine a_callb (pc := 3) (rs := []) (avs := [vR (some a3), vI v0, vI v1]) Z.1 (w_X2_place GA (some a3) v0 v1) (Or.inl rfl) q2375 q75 (by decide) (by decide) dX1_lambda_place_11_3 hl.1 (Nat.le_of_ble_eq_true rfl) hf (ct_V hk ⟨by decide, by decide⟩ X (Or.inl rfl) q2375 q2372 q2373 q2374 hy_X2_place np_X2_place rfl dX1_lambda_place_11_3) (fun q h he hX => a_out (unc_of Z.2.1 rfl) Z.2.2.2.1 he hX) (fun x3 h hf => ?kk3)
  refine AW.eq (g2 := F0 m 6 ls [.int x3]) rfl ?_
  exact a_ireturn X Z.2.2.1 Z.2.2.2.1 dX1_lambda_place_11_6 hf
theorem cl_217 {Q : State → Prop} {h : AH} {cc : ByteArray} {own : String} {nL pc : Nat} {ls : Array Slot} {st : List Value} {F Lo idx cnt a : Nat} {v : Option Nat} {rs : List TV} (X : WX l s0 a0 K p s m c cc own nL b R F Lo) (GA : GA l s0 a0 K lam) (hk : aK h a = 217) (hlink : Cond.methodLink own idx ({ cls := "JumpHall$Deed", name := "in", desc := "(LJumpHall$Hall;)I" } : MethodName) ∈ lw_all) (hF : 8 ≤ F) (hLo : 186 ≤ Lo) (hsz : ls.size = nL) (hW8 : (rs.map tcat).sum ≤ 8) (hst : st = va_rf v :: .ref a :: rs.map tvv) (hdg : decode cc pc = .ok (.invokeinterface idx cnt, 5)) : LC s0 K lam p l e R s m args below meth c Q b h pc ls (rs.map tvv) st (c_lam217 K (some a) v) := by
  intro r1 hf kk kx
  unfold c_lam217 at hf
  obtain ⟨a0, c0, e0, -, hp0, hf⟩ := gL_some hf
  cases e0
  obtain ⟨a1, c1, e1, -, hp1, hf⟩ := gL_some hf
  cases e1
  refine lam_core (caps := [vI c0, vI c1]) (arg := vR v) (f := f_X1_lambda_place_11 K c0 c1 v) (x := ⟨"JumpHall", "place", "(II)I"⟩) (fs := [16, 18]) (ig := .invokestatic 26) X (siG_217 GA) hfb_17 (lw_all_tbl q3550) ⟨by decide, by decide⟩ rfl hk (y := yX1_lambda_place_11) (by decide +kernel) hy_X1_lambda_place_11 (by decide +kernel) ⟨by decide, by decide⟩ hlink (gf X.1.1 X.1.2.1 q1758 rfl) (gf X.1.1 X.1.2.1 q1757 rfl) (by decide +kernel) (by unfold npar; decide +kernel) (w_X1_lambda_place_11 GA c0 c1 v) (Or.inl rfl) q2371 q74 (fun _ _ => rfl) rfl (fun j v hj => by
    rcases j with _ | _ | j
    · exact (Option.some.inj hj : vI c0 = v) ▸ pI_t hp0
    · exact (Option.some.inj hj : vI c1 = v) ▸ pI_t hp1
    · exact absurd hj (by simp)) ⟨(fun j i hj => by
    rcases j with _ | _ | j
    · obtain rfl : 16 = i := Option.some.inj hj
      exact ⟨by decide +kernel, by decide +kernel⟩
    · obtain rfl : 18 = i := Option.some.inj hj
      exact ⟨by decide +kernel, by decide +kernel⟩
    · exact absurd hj (by simp)), by decide +kernel, by decide +kernel, by decide +kernel⟩ ⟨rfl, by cases v <;> rfl⟩ hF hLo hsz hW8 hst hdg (lam_stat GA.1 q2370 q74 hy_X1_lambda_place_11 np_X1_lambda_place_11 (Or.inl rfl) q2371 (by decide +kernel)) r1 hf kk kx
theorem w_X2_partiesIn_j45 {r : Except Nat (Int32) × AH} (GA : GA l s0 a0 K lam) (Z : WZ l s0 a0 K p s m c cX2_partiesIn yX2_partiesIn.cls 5 b R 9 422 meth [] (some (.int)) yX2_partiesIn) (v1 : Int32) (v3 : Option Nat) (t0 : Int32) (t1 : Int32) (rc10 : Int32 → AM (Int32)) (hrc10 : ∀ (v2 : Int32) (h : AH) (ls : Array Slot), LV ls 5 [(1, vI v1), (2, vI v2), (3, vR v3)] → rc10 v2 h = some r → AW s0 K lam p l e R s m args below meth c (AQ s0 K lam below oI b r s) b h (F0 m 10 ls [])) {h : AH} {ls : Array Slot} (hl : LV ls 5 [(1, vI v1), (3, vR v3)]) (hf : f_X2_partiesIn_j45 K rc10 v1 v3 t0 t1 h = some r) : AW s0 K lam p l e R s m args below meth c (AQ s0 K lam below oI b r s) b h (F0 m 45 ls [.int t0, .int t1]) := by
  unfold f_X2_partiesIn_j45 at hf
  have X := Z.1.1
  refine AW.lift (fun _ _ _ _ k => lv_iadd (pc := 45) X.2.2.1 X.2.2.2.1 dX2_partiesIn_45 k) ?_
  refine a_istore_n (pc := 46) X dX2_partiesIn_46 rfl hl (by decide) (lv' := [(2, vI (t1 + t0)), (1, vI v1), (3, vR v3)]) rfl (fun ls hl => ?_)
  refine AW.lift (fun _ _ _ _ k => lv_goto (pc := 47) (tgt := 10) X.2.2.1 X.2.2.2.1 dX2_partiesIn_47 rfl k) ?_
  exact hrc10 (t1 + t0) _ _ (hl.sub [1, 0, 2] rfl) hf
theorem w_X2_partiesIn_b10 {r : Except Nat (Int32) × AH} (GA : GA l s0 a0 K lam) (Z : WZ l s0 a0 K p s m c cX2_partiesIn yX2_partiesIn.cls 5 b R 9 422 meth [] (some (.int)) yX2_partiesIn) (v1 : Int32) (v2 : Int32) (v3 : Option Nat)  (rc10 : Int32 → AM (Int32)) (hrc10 : ∀ (v2 : Int32) (h : AH) (ls : Array Slot), LV ls 5 [(1, vI v1), (2, vI v2), (3, vR v3)] → rc10 v2 h = some r → AW s0 K lam p l e R s m args below meth c (AQ s0 K lam below oI b r s) b h (F0 m 10 ls [])) {h : AH} {ls : Array Slot} (hl : LV ls 5 [(1, vI v1), (2, vI v2), (3, vR v3)]) (hf : f_X2_partiesIn_b10 K rc10 v1 v2 v3 h = some r) : AW s0 K lam p l e R s m args below meth c (AQ s0 K lam below oI b r s) b h (F0 m 10 ls []) := by
  unfold f_X2_partiesIn_b10 at hf
  have X := Z.1.1
  refine a_aload_n (pc := 10) X dX2_partiesIn_10 rfl hl 2 rfl ?_
  obtain ⟨a11, rfl, ⟨hk, hf⟩ | ⟨-, hf⟩⟩ := dv_some hf
  rotate_left
  · exact fl_none hf
  refine a_callb (pc := 11) (rs := []) (avs := [vR (some a11)]) Z.1 (w_J14_hasNext GA (some a11)) (Or.inl rfl) q376 q96 (by decide) (by decide) dX2_partiesIn_11 hl.1 (Nat.le_of_ble_eq_true rfl) hf (ct_F (x := ({ cls := "java/util/Iterator", name := "hasNext", desc := "()Z" } : MethodName)) hk ⟨by decide, by decide⟩ X (Or.inl rfl) q376 q368 (gf X.1 X.2.1 q370 rfl) (gf X.1 X.2.1 q369 rfl) (gf X.1 X.2.1 q375 rfl) (gf X.1 X.2.1 q373 rfl) (gf X.1 X.2.1 q371 rfl) q374 q372 ⟨by decide, by decide⟩ np_J14_hasNext rfl dX2_partiesIn_11) (fun q h he hX => a_out (unc_of Z.2.1 rfl) Z.2.2.2.1 he hX) (fun x11 h hf => ?kk11)
  refine AW.eq (g2 := F0 m 16 ls [.int x11]) rfl ?_
  refine AW.lift2 (fun _ _ _ _ k1 k2 => lv_if_eq (pc := 16) (tgt := 50) X.2.2.1 X.2.2.2.1 dX2_partiesIn_16 rfl k1 k2) (fun c => ?_) (fun c => ?_)
  · have hf := ite_t c hf
    refine a_iload_n (pc := 50) X dX2_partiesIn_50 rfl hl 1 rfl ?_
    exact a_ireturn X Z.2.2.1 Z.2.2.2.1 dX2_partiesIn_51 hf
  · have hf := ite_f c hf
    refine a_aload_n (pc := 19) X dX2_partiesIn_19 rfl hl 2 rfl ?_
    rcases dv_someS hf with ⟨hk, hf⟩ | ⟨-, hf⟩
    rotate_left
    · exact fl_none hf
    refine a_callb (pc := 20) (rs := []) (avs := [vR (some a11)]) Z.1 (w_J14_next GA (some a11)) (Or.inl rfl) q397 q96 (by decide) (by decide) dX2_partiesIn_20 hl.1 (Nat.le_of_ble_eq_true rfl) hf (ct_F (x := ({ cls := "java/util/Iterator", name := "next", desc := "()Ljava/lang/Object;" } : MethodName)) hk ⟨by decide, by decide⟩ X (Or.inl rfl) q397 q390 (gf X.1 X.2.1 q392 rfl) (gf X.1 X.2.1 q391 rfl) (gf X.1 X.2.1 q396 rfl) (gf X.1 X.2.1 q394 rfl) (gf X.1 X.2.1 q371 rfl) q395 q393 ⟨by decide, by decide⟩ np_J14_next rfl dX2_partiesIn_20) (fun q h he hX => a_out (unc_of Z.2.1 rfl) Z.2.2.2.1 he hX) (fun x20 h hf => ?kk20)
    refine AW.eq (g2 := F0 m 25 ls [va_rf x20]) rfl ?_
    refine a_checkcast (pc := 25) X (gw X.1 X.2.1 q950) (cs_JumpHall_Party GA) dX2_partiesIn_25 hf (fun hf => ?_)
    refine a_astore (pc := 28) X dX2_partiesIn_28 hl (by decide) (lv' := [(4, vR x20), (1, vI v1), (2, vI v2), (3, vR (some a11))]) rfl (fun ls hl => ?_)
    refine a_iload_n (pc := 30) X dX2_partiesIn_30 rfl hl 2 rfl ?_
    refine a_aload (pc := 31) X dX2_partiesIn_31 hl 0 rfl ?_
    refine a_getN (pc := 33) (φ := 604) pI_t X Z.1.2.1 (gnF X.1 X.2.1 q972) (fun _ q => q) (by decide) dX2_partiesIn_33 hf (fun x33 hf => ?_)
    refine a_iload_n (pc := 36) X dX2_partiesIn_36 rfl hl 1 rfl ?_
    refine AW.lift2 (fun _ _ _ _ k1 k2 => lv_icmp_ne (pc := 37) (tgt := 44) X.2.2.1 X.2.2.2.1 dX2_partiesIn_37 rfl k2 k1) (fun c => ?_) (fun c => ?_)
    · have hf := ite_t c hf
      refine AW.lift (fun _ _ _ _ k => lv_iconst (pc := 40) (v := (1 : Int32)) X.2.2.1 X.2.2.2.1 dX2_partiesIn_40 rfl k) ?_
      refine AW.lift (fun _ _ _ _ k => lv_goto (pc := 41) (tgt := 45) X.2.2.1 X.2.2.2.1 dX2_partiesIn_41 rfl k) ?_
      exact w_X2_partiesIn_j45 GA Z v1 (some a11) (1 : Int32) v2 rc10 hrc10 (hl.sub [1, 3] rfl) hf
    · have hf := ite_f c hf
      refine AW.lift (fun _ _ _ _ k => lv_iconst (pc := 44) (v := (0 : Int32)) X.2.2.1 X.2.2.2.1 dX2_partiesIn_44 rfl k) ?_
      exact w_X2_partiesIn_j45 GA Z v1 (some a11) (0 : Int32) v2 rc10 hrc10 (hl.sub [1, 3] rfl) hf
theorem w_X2_partiesIn_l10 {r : Except Nat (Int32) × AH} (GA : GA l s0 a0 K lam) (Z : WZ l s0 a0 K p s m c cX2_partiesIn yX2_partiesIn.cls 5 b R 9 422 meth [] (some (.int)) yX2_partiesIn) (v1 : Int32) (v3 : Option Nat)  : ∀ (n : Nat) (v2 : Int32) (h : AH) (ls : Array Slot), LV ls 5 [(1, vI v1), (2, vI v2), (3, vR v3)] → f_X2_partiesIn_l10 K v1 v3 n v2 h = some r → AW s0 K lam p l e R s m args below meth c (AQ s0 K lam below oI b r s) b h (F0 m 10 ls []) := by
  intro n
  induction n with
  | zero => intro v2 h ls hl hf; exact fl_no (h := h) hf
  | succ n ih => intro v2 h ls hl hf; exact w_X2_partiesIn_b10 GA Z v1 v2 v3 (f_X2_partiesIn_l10 K v1 v3 n) ih hl hf
theorem np_X2_partiesIn : npar yX2_partiesIn.desc 1 := by unfold npar; decide +kernel
theorem hy_X2_partiesIn : yX2_partiesIn.cls ≠ "java/lang/invoke/MethodHandle" ∧ yX2_partiesIn.cls ≠ "java/lang/invoke/VarHandle" := by decide +kernel
theorem w_X2_partiesIn (GA : GA l s0 a0 K lam) (v0 : Option Nat) (v1 : Int32) : AMet l s0 K lam yX2_partiesIn (Cond.code yX2_partiesIn cX2_partiesIn (5 : Nat) (Option.some ClassFile.FieldType.int)) 9 422 [vR v0, vI v1] oI (f_X2_partiesIn K v0 v1) := by
  refine AMet.of GA.1 (plainFor_of_name (by decide +kernel)) (Nat.le_of_ble_eq_true rfl) ?_
  intro b r hf p e s m args below meth c X hr hlk hnm hnd ht ls hl
  have Z : WZ l s0 a0 K p s m c cX2_partiesIn yX2_partiesIn.cls 5 b { frames := 9, cells := K 0 - aX b, slots := K 1 - aW b, locals := 422 } 9 422 meth [] (some (.int)) yX2_partiesIn := ⟨⟨X, GA.2.1, GA.2.2.1, rfl, rfl, Nat.le_refl _, Nat.le_refl _⟩, tab_nil ht, hr, hlk, hnm, hnd⟩
  unfold f_X2_partiesIn at hf
  clear hr hlk hnm hnd ht
  refine AW.lift (fun _ _ _ _ k => lv_iconst (pc := 0) (v := (0 : Int32)) X.2.2.1 X.2.2.2.1 dX2_partiesIn_0 rfl k) ?_
  refine a_istore_n (pc := 1) X dX2_partiesIn_1 rfl hl (by decide) (lv' := [(2, vI (0 : Int32)), (0, vR v0), (1, vI v1)]) rfl (fun ls hl => ?_)
  refine a_aload_n (pc := 2) X dX2_partiesIn_2 rfl hl 1 rfl ?_
  refine a_get (pc := 3) (φ := 302) pR_t X Z.1.2.1 (gw X.1 X.2.1 q232) (fun _ q => q) (by decide) dX2_partiesIn_3 hf (fun x3 hf => ?_)
  obtain ⟨a6, rfl, ⟨hk, hf⟩ | ⟨-, hf⟩⟩ := dv_some hf
  rotate_left
  · exact fl_none hf
  refine a_callb (pc := 6) (rs := []) (avs := [vR (some a6)]) Z.1 (w_J2_iterator GA (some a6)) (Or.inl rfl) q347 q78 (by decide) (by decide) dX2_partiesIn_6 hl.1 (Nat.le_of_ble_eq_true rfl) hf (ct_V hk ⟨by decide, by decide⟩ X (Or.inl rfl) q347 q344 q345 q346 hy_J2_iterator np_J2_iterator rfl dX2_partiesIn_6) (fun q h he hX => a_out (unc_of Z.2.1 rfl) Z.2.2.2.1 he hX) (fun x6 h hf => ?kk6)
  refine AW.eq (g2 := F0 m 9 ls [va_rf x6]) rfl ?_
  refine a_astore_n (pc := 9) X dX2_partiesIn_9 rfl hl (by decide) (lv' := [(3, vR x6), (2, vI (0 : Int32)), (0, vR v0), (1, vI v1)]) rfl (fun ls hl => ?_)
  exact w_X2_partiesIn_l10 GA Z v1 x6  FU (0 : Int32) _ _ (hl.sub [3, 1, 0] rfl) hf
theorem w_X2_book_j57 {r : Except Nat (Int32) × AH} (GA : GA l s0 a0 K lam) (Z : WZ l s0 a0 K p s m c cX2_book yX2_book.cls 5 b R 10 446 meth [] (some (.int)) yX2_book) (v0 : Option Nat) (v1 : Int32) (v2 : Int32) (v3 : Int32) (v4 : Int32) (t0 : Int32)  {h : AH} {ls : Array Slot} (hl : LV ls 5 [(0, vR v0), (1, vI v1), (2, vI v2), (3, vI v3), (4, vI v4)]) (hf : f_X2_book_j57 K v0 v1 v2 v3 v4 t0 h = some r) : AW s0 K lam p l e R s m args below meth c (AQ s0 K lam below oI b r s) b h (F0 m 57 ls [.int t0]) := by
  unfold f_X2_book_j57 at hf
  have X := Z.1.1
  refine AW.lift (fun _ _ _ _ k => lv_bipush (pc := 57) (v := (12 : Int32)) X.2.2.1 X.2.2.2.1 dX2_book_57 rfl k) ?_
  refine a_aload_n (pc := 59) X dX2_book_59 rfl hl 0 rfl ?_
  refine a_get (pc := 60) (φ := 310) pI_t X Z.1.2.1 (gw X.1 X.2.1 q248) (fun _ q => q) (by decide) dX2_book_60 hf (fun x60 hf => ?_)
  refine a_callb (pc := 63) (rs := []) (avs := [vI t0, vI (12 : Int32), vI x60]) Z.1 (w_X1_refuse GA t0 (12 : Int32) x60) (Or.inl rfl) q1723 q74 (by decide) (by decide) dX2_book_63 hl.1 (Nat.le_of_ble_eq_true rfl) hf (ct_SN X (Or.inl rfl) q1723 q74 q1721 q1722 hy_X1_refuse np_X1_refuse rfl dX2_book_63) (fun q h he hX => a_out (unc_of Z.2.1 rfl) Z.2.2.2.1 he hX) (fun _ h hf => ?kk63)
  refine AW.eq (g2 := F0 m 66 ls []) rfl ?_
  refine a_aload_n (pc := 66) X dX2_book_66 rfl hl 0 rfl ?_
  refine a_get (pc := 67) (φ := 302) pR_t X Z.1.2.1 (gw X.1 X.2.1 q232) (fun _ q => q) (by decide) dX2_book_67 hf (fun x67 hf => ?_)
  refine a_new (pc := 70) (cK := 6) (n := 6) X Z.1.2.1 Z.1.2.2.1 Z.1.2.2.2.1 Z.1.2.2.2.2.1 ⟨by decide, by decide, by decide⟩ (gw X.1 X.2.1 q950) (gw X.1 X.2.1 q956) (gw X.1 X.2.1 q108) dX2_book_70 hf (fun x70 h hf => ?_)
  refine AW.lift (fun _ _ _ _ k => lv_dup (pc := 73) X.2.2.1 X.2.2.2.1 dX2_book_73 (cat_rf _) k) ?_
  refine a_iload_n (pc := 74) X dX2_book_74 rfl hl 1 rfl ?_
  refine a_iload_n (pc := 75) X dX2_book_75 rfl hl 2 rfl ?_
  refine a_iload_n (pc := 76) X dX2_book_76 rfl hl 3 rfl ?_
  refine a_iload (pc := 77) X dX2_book_77 hl 4 rfl ?_
  refine a_callb (pc := 79) (rs := [vR (some x70), vR x67]) (avs := [vR (some x70), vI v1, vI v2, vI v3, vI v4]) Z.1 (w_X9_init GA (some x70) v1 v2 v3 v4) (Or.inl rfl) q959 q108 (by decide) (by decide) dX2_book_79 hl.1 (Nat.le_of_ble_eq_true rfl) hf (ct_I X q959 q2407 q958 rfl hy_X9_init np_X9_init rfl dX2_book_79) (fun q h he hX => a_out (unc_of Z.2.1 rfl) Z.2.2.2.1 he hX) (fun _ h hf => ?kk79)
  refine AW.eq (g2 := F0 m 82 ls [va_rf (some x70), va_rf x67]) rfl ?_
  obtain ⟨a82, rfl, ⟨hk, hf⟩ | ⟨-, hf⟩⟩ := dv_some hf
  rotate_left
  · exact fl_none hf
  refine a_callb (pc := 82) (rs := []) (avs := [vR (some a82), vR (some x70)]) Z.1 (w_J2_add GA (some a82) (some x70)) (Or.inl rfl) q834 q78 (by decide) (by decide) dX2_book_82 hl.1 (Nat.le_of_ble_eq_true rfl) hf (ct_V hk ⟨by decide, by decide⟩ X (Or.inl rfl) q834 q831 q832 q833 hy_J2_add np_J2_add rfl dX2_book_82) (fun q h he hX => a_out (unc_of Z.2.1 rfl) Z.2.2.2.1 he hX) (fun x82 h hf => ?kk82)
  refine AW.eq (g2 := F0 m 85 ls [.int x82]) rfl ?_
  refine AW.lift (fun _ _ _ _ k => lv_pop (pc := 85) X.2.2.1 X.2.2.2.1 dX2_book_85 rfl k) ?_
  refine a_aload_n (pc := 86) X dX2_book_86 rfl hl 0 rfl ?_
  refine a_get (pc := 87) (φ := 302) pR_t X Z.1.2.1 (gw X.1 X.2.1 q232) (fun _ q => q) (by decide) dX2_book_87 hf (fun x87 hf => ?_)
  obtain ⟨a90, rfl, ⟨hk, hf⟩ | ⟨-, hf⟩⟩ := dv_some hf
  rotate_left
  · exact fl_none hf
  refine a_callb (pc := 90) (rs := []) (avs := [vR (some a90)]) Z.1 (w_J2_size GA (some a90)) (Or.inl rfl) q1012 q78 (by decide) (by decide) dX2_book_90 hl.1 (Nat.le_of_ble_eq_true rfl) hf (ct_V hk ⟨by decide, by decide⟩ X (Or.inl rfl) q1012 q1720 q1011 q3486 hy_J2_size np_J2_size rfl dX2_book_90) (fun q h he hX => a_out (unc_of Z.2.1 rfl) Z.2.2.2.1 he hX) (fun x90 h hf => ?kk90)
  refine AW.eq (g2 := F0 m 93 ls [.int x90]) rfl ?_
  refine AW.lift (fun _ _ _ _ k => lv_iconst (pc := 93) (v := (1 : Int32)) X.2.2.1 X.2.2.2.1 dX2_book_93 rfl k) ?_
  refine AW.lift (fun _ _ _ _ k => lv_isub (pc := 94) X.2.2.1 X.2.2.2.1 dX2_book_94 k) ?_
  exact a_ireturn X Z.2.2.1 Z.2.2.2.1 dX2_book_95 hf
theorem w_X2_book_j38 {r : Except Nat (Int32) × AH} (GA : GA l s0 a0 K lam) (Z : WZ l s0 a0 K p s m c cX2_book yX2_book.cls 5 b R 10 446 meth [] (some (.int)) yX2_book) (v0 : Option Nat) (v1 : Int32) (v2 : Int32) (v3 : Int32) (v4 : Int32) (t0 : Int32)  {h : AH} {ls : Array Slot} (hl : LV ls 5 [(0, vR v0), (1, vI v1), (2, vI v2), (3, vI v3), (4, vI v4)]) (hf : f_X2_book_j38 K v0 v1 v2 v3 v4 t0 h = some r) : AW s0 K lam p l e R s m args below meth c (AQ s0 K lam below oI b r s) b h (F0 m 38 ls [.int t0]) := by
  unfold f_X2_book_j38 at hf
  have X := Z.1.1
  refine AW.lift (fun _ _ _ _ k => lv_iconst (pc := 38) (v := (1 : Int32)) X.2.2.1 X.2.2.2.1 dX2_book_38 rfl k) ?_
  refine AW.lift (fun _ _ _ _ k => lv_bipush (pc := 39) (v := (20 : Int32)) X.2.2.1 X.2.2.2.1 dX2_book_39 rfl k) ?_
  refine a_callb (pc := 41) (rs := []) (avs := [vI t0, vI (1 : Int32), vI (20 : Int32)]) Z.1 (w_X1_refuse GA t0 (1 : Int32) (20 : Int32)) (Or.inl rfl) q1723 q74 (by decide) (by decide) dX2_book_41 hl.1 (Nat.le_of_ble_eq_true rfl) hf (ct_SN X (Or.inl rfl) q1723 q74 q1721 q1722 hy_X1_refuse np_X1_refuse rfl dX2_book_41) (fun q h he hX => a_out (unc_of Z.2.1 rfl) Z.2.2.2.1 he hX) (fun _ h hf => ?kk41)
  refine AW.eq (g2 := F0 m 44 ls []) rfl ?_
  refine a_iload_n (pc := 44) X dX2_book_44 rfl hl 1 rfl ?_
  refine a_aload_n (pc := 45) X dX2_book_45 rfl hl 0 rfl ?_
  refine a_get (pc := 46) (φ := 310) pI_t X Z.1.2.1 (gw X.1 X.2.1 q248) (fun _ q => q) (by decide) dX2_book_46 hf (fun x46 hf => ?_)
  refine AW.lift2 (fun _ _ _ _ k1 k2 => lv_icmp_gt (pc := 49) (tgt := 56) X.2.2.1 X.2.2.2.1 dX2_book_49 rfl k1 k2) (fun c => ?_) (fun c => ?_)
  · have hf := ite_t c hf
    refine AW.lift (fun _ _ _ _ k => lv_iconst (pc := 56) (v := (0 : Int32)) X.2.2.1 X.2.2.2.1 dX2_book_56 rfl k) ?_
    exact w_X2_book_j57 GA Z v0 v1 v2 v3 v4 (0 : Int32)  (hl.sub [0, 1, 2, 3, 4] rfl) hf
  · have hf := ite_f c hf
    refine AW.lift (fun _ _ _ _ k => lv_iconst (pc := 52) (v := (1 : Int32)) X.2.2.1 X.2.2.2.1 dX2_book_52 rfl k) ?_
    refine AW.lift (fun _ _ _ _ k => lv_goto (pc := 53) (tgt := 57) X.2.2.1 X.2.2.2.1 dX2_book_53 rfl k) ?_
    exact w_X2_book_j57 GA Z v0 v1 v2 v3 v4 (1 : Int32)  (hl.sub [0, 1, 2, 3, 4] rfl) hf
theorem w_X2_book_j15 {r : Except Nat (Int32) × AH} (GA : GA l s0 a0 K lam) (Z : WZ l s0 a0 K p s m c cX2_book yX2_book.cls 5 b R 10 446 meth [] (some (.int)) yX2_book) (v0 : Option Nat) (v1 : Int32) (v2 : Int32) (v3 : Int32) (v4 : Int32) (t0 : Int32)  {h : AH} {ls : Array Slot} (hl : LV ls 5 [(0, vR v0), (1, vI v1), (2, vI v2), (3, vI v3), (4, vI v4)]) (hf : f_X2_book_j15 K v0 v1 v2 v3 v4 t0 h = some r) : AW s0 K lam p l e R s m args below meth c (AQ s0 K lam below oI b r s) b h (F0 m 15 ls [.int t0]) := by
  unfold f_X2_book_j15 at hf
  have X := Z.1.1
  refine AW.lift (fun _ _ _ _ k => lv_iconst (pc := 15) (v := (1 : Int32)) X.2.2.1 X.2.2.2.1 dX2_book_15 rfl k) ?_
  refine AW.lift (fun _ _ _ _ k => lv_bipush (pc := 16) (v := (6 : Int32)) X.2.2.1 X.2.2.2.1 dX2_book_16 rfl k) ?_
  refine a_callb (pc := 18) (rs := []) (avs := [vI t0, vI (1 : Int32), vI (6 : Int32)]) Z.1 (w_X1_refuse GA t0 (1 : Int32) (6 : Int32)) (Or.inl rfl) q1723 q74 (by decide) (by decide) dX2_book_18 hl.1 (Nat.le_of_ble_eq_true rfl) hf (ct_SN X (Or.inl rfl) q1723 q74 q1721 q1722 hy_X1_refuse np_X1_refuse rfl dX2_book_18) (fun q h he hX => a_out (unc_of Z.2.1 rfl) Z.2.2.2.1 he hX) (fun _ h hf => ?kk18)
  refine AW.eq (g2 := F0 m 21 ls []) rfl ?_
  refine a_aload_n (pc := 21) X dX2_book_21 rfl hl 0 rfl ?_
  refine a_get (pc := 22) (φ := 302) pR_t X Z.1.2.1 (gw X.1 X.2.1 q232) (fun _ q => q) (by decide) dX2_book_22 hf (fun x22 hf => ?_)
  obtain ⟨a25, rfl, ⟨hk, hf⟩ | ⟨-, hf⟩⟩ := dv_some hf
  rotate_left
  · exact fl_none hf
  refine a_callb (pc := 25) (rs := []) (avs := [vR (some a25)]) Z.1 (w_J2_size GA (some a25)) (Or.inl rfl) q1012 q78 (by decide) (by decide) dX2_book_25 hl.1 (Nat.le_of_ble_eq_true rfl) hf (ct_V hk ⟨by decide, by decide⟩ X (Or.inl rfl) q1012 q1720 q1011 q3486 hy_J2_size np_J2_size rfl dX2_book_25) (fun q h he hX => a_out (unc_of Z.2.1 rfl) Z.2.2.2.1 he hX) (fun x25 h hf => ?kk25)
  refine AW.eq (g2 := F0 m 28 ls [.int x25]) rfl ?_
  refine AW.lift (fun _ _ _ _ k => lv_bipush (pc := 28) (v := (20 : Int32)) X.2.2.1 X.2.2.2.1 dX2_book_28 rfl k) ?_
  refine AW.lift2 (fun _ _ _ _ k1 k2 => lv_icmp_ne (pc := 30) (tgt := 37) X.2.2.1 X.2.2.2.1 dX2_book_30 rfl k2 k1) (fun c => ?_) (fun c => ?_)
  · have hf := ite_t c hf
    refine AW.lift (fun _ _ _ _ k => lv_iconst (pc := 33) (v := (1 : Int32)) X.2.2.1 X.2.2.2.1 dX2_book_33 rfl k) ?_
    refine AW.lift (fun _ _ _ _ k => lv_goto (pc := 34) (tgt := 38) X.2.2.1 X.2.2.2.1 dX2_book_34 rfl k) ?_
    exact w_X2_book_j38 GA Z v0 v1 v2 v3 v4 (1 : Int32)  (hl.sub [0, 1, 2, 3, 4] rfl) hf
  · have hf := ite_f c hf
    refine AW.lift (fun _ _ _ _ k => lv_iconst (pc := 37) (v := (0 : Int32)) X.2.2.1 X.2.2.2.1 dX2_book_37 rfl k) ?_
    exact w_X2_book_j38 GA Z v0 v1 v2 v3 v4 (0 : Int32)  (hl.sub [0, 1, 2, 3, 4] rfl) hf
theorem np_X2_book : npar yX2_book.desc 4 := by unfold npar; decide +kernel
theorem hy_X2_book : yX2_book.cls ≠ "java/lang/invoke/MethodHandle" ∧ yX2_book.cls ≠ "java/lang/invoke/VarHandle" := by decide +kernel
theorem w_X2_book (GA : GA l s0 a0 K lam) (v0 : Option Nat) (v1 : Int32) (v2 : Int32) (v3 : Int32) (v4 : Int32) : AMet l s0 K lam yX2_book (Cond.code yX2_book cX2_book (5 : Nat) (Option.some ClassFile.FieldType.int)) 10 446 [vR v0, vI v1, vI v2, vI v3, vI v4] oI (f_X2_book K v0 v1 v2 v3 v4) := by
  refine AMet.of GA.1 (plainFor_of_name (by decide +kernel)) (Nat.le_of_ble_eq_true rfl) ?_
  intro b r hf p e s m args below meth c X hr hlk hnm hnd ht ls hl
  have Z : WZ l s0 a0 K p s m c cX2_book yX2_book.cls 5 b { frames := 10, cells := K 0 - aX b, slots := K 1 - aW b, locals := 446 } 10 446 meth [] (some (.int)) yX2_book := ⟨⟨X, GA.2.1, GA.2.2.1, rfl, rfl, Nat.le_refl _, Nat.le_refl _⟩, tab_nil ht, hr, hlk, hnm, hnd⟩
  unfold f_X2_book at hf
  clear hr hlk hnm hnd ht
  refine a_aload_n (pc := 0) X dX2_book_0 rfl hl 0 rfl ?_
  refine AW.lift (fun _ _ _ _ k => lv_iconst (pc := 1) (v := (0 : Int32)) X.2.2.1 X.2.2.2.1 dX2_book_1 rfl k) ?_
  obtain ⟨a2, rfl, ⟨hk, hf⟩ | ⟨-, hf⟩⟩ := dv_some hf
  rotate_left
  · exact fl_none hf
  refine a_callb (pc := 2) (rs := []) (avs := [vR (some a2), vI (0 : Int32)]) Z.1 (w_X2_partiesIn GA (some a2) (0 : Int32)) (Or.inl rfl) q2406 q75 (by decide) (by decide) dX2_book_2 hl.1 (Nat.le_of_ble_eq_true rfl) hf (ct_V hk ⟨by decide, by decide⟩ X (Or.inl rfl) q2406 q2403 q2404 q2405 hy_X2_partiesIn np_X2_partiesIn rfl dX2_book_2) (fun q h he hX => a_out (unc_of Z.2.1 rfl) Z.2.2.2.1 he hX) (fun x2 h hf => ?kk2)
  refine AW.eq (g2 := F0 m 5 ls [.int x2]) rfl ?_
  refine AW.lift (fun _ _ _ _ k => lv_bipush (pc := 5) (v := (6 : Int32)) X.2.2.1 X.2.2.2.1 dX2_book_5 rfl k) ?_
  refine AW.lift2 (fun _ _ _ _ k1 k2 => lv_icmp_ne (pc := 7) (tgt := 14) X.2.2.1 X.2.2.2.1 dX2_book_7 rfl k2 k1) (fun c => ?_) (fun c => ?_)
  · have hf := ite_t c hf
    refine AW.lift (fun _ _ _ _ k => lv_iconst (pc := 10) (v := (1 : Int32)) X.2.2.1 X.2.2.2.1 dX2_book_10 rfl k) ?_
    refine AW.lift (fun _ _ _ _ k => lv_goto (pc := 11) (tgt := 15) X.2.2.1 X.2.2.2.1 dX2_book_11 rfl k) ?_
    exact w_X2_book_j15 GA Z (some a2) v1 v2 v3 v4 (1 : Int32)  (hl.sub [0, 1, 2, 3, 4] rfl) hf
  · have hf := ite_f c hf
    refine AW.lift (fun _ _ _ _ k => lv_iconst (pc := 14) (v := (0 : Int32)) X.2.2.1 X.2.2.2.1 dX2_book_14 rfl k) ?_
    exact w_X2_book_j15 GA Z (some a2) v1 v2 v3 v4 (0 : Int32)  (hl.sub [0, 1, 2, 3, 4] rfl) hf
theorem np_X1_lambda_book_12 : npar yX1_lambda_book_12.desc 5 := by unfold npar; decide +kernel
theorem hy_X1_lambda_book_12 : yX1_lambda_book_12.cls ≠ "java/lang/invoke/MethodHandle" ∧ yX1_lambda_book_12.cls ≠ "java/lang/invoke/VarHandle" := by decide +kernel
theorem w_X1_lambda_book_12 (GA : GA l s0 a0 K lam) (v0 : Int32) (v1 : Int32) (v2 : Int32) (v3 : Int32) (v4 : Option Nat) : AMet l s0 K lam yX1_lambda_book_12 (Cond.code yX1_lambda_book_12 cX1_lambda_book_12 (5 : Nat) (Option.some ClassFile.FieldType.int)) 11 470 [vI v0, vI v1, vI v2, vI v3, vR v4] oI (f_X1_lambda_book_12 K v0 v1 v2 v3 v4) := by
  refine AMet.of GA.1 (plainFor_of_name (by decide +kernel)) (Nat.le_of_ble_eq_true rfl) ?_
  intro b r hf p e s m args below meth c X hr hlk hnm hnd ht ls hl
  have Z : WZ l s0 a0 K p s m c cX1_lambda_book_12 yX1_lambda_book_12.cls 5 b { frames := 11, cells := K 0 - aX b, slots := K 1 - aW b, locals := 470 } 11 470 meth [] (some (.int)) yX1_lambda_book_12 := ⟨⟨X, GA.2.1, GA.2.2.1, rfl, rfl, Nat.le_refl _, Nat.le_refl _⟩, tab_nil ht, hr, hlk, hnm, hnd⟩
  unfold f_X1_lambda_book_12 at hf
  clear hr hlk hnm hnd ht
  refine a_aload (pc := 0) X dX1_lambda_book_12_0 hl 4 rfl ?_
  refine a_iload_n (pc := 2) X dX1_lambda_book_12_2 rfl hl 0 rfl ?_
  refine a_iload_n (pc := 3) X dX1_lambda_book_12_3 rfl hl 1 rfl ?_
  refine a_iload_n (pc := 4) X dX1_lambda_book_12_4 rfl hl 2 rfl ?_
  refine a_iload_n (pc := 5) X dX1_lambda_book_12_5 rfl hl 3 rfl ?_
  obtain ⟨a6, rfl, ⟨hk, hf⟩ | ⟨-, hf⟩⟩ := dv_some hf
  rotate_left
  · exact fl_none hf
  refine a_callb (pc := 6) (rs := []) (avs := [vR (some a6), vI v0, vI v1, vI v2, vI v3]) Z.1 (w_X2_book GA (some a6) v0 v1 v2 v3) (Or.inl rfl) q2402 q75 (by decide) (by decide) dX1_lambda_book_12_6 hl.1 (Nat.le_of_ble_eq_true rfl) hf (ct_V hk ⟨by decide, by decide⟩ X (Or.inl rfl) q2402 q2399 q2400 q2401 hy_X2_book np_X2_book rfl dX1_lambda_book_12_6) (fun q h he hX => a_out (unc_of Z.2.1 rfl) Z.2.2.2.1 he hX) (fun x6 h hf => ?kk6)
  refine AW.eq (g2 := F0 m 9 ls [.int x6]) rfl ?_
  exact a_ireturn X Z.2.2.1 Z.2.2.2.1 dX1_lambda_book_12_9 hf
theorem cl_218 {Q : State → Prop} {h : AH} {cc : ByteArray} {own : String} {nL pc : Nat} {ls : Array Slot} {st : List Value} {F Lo idx cnt a : Nat} {v : Option Nat} {rs : List TV} (X : WX l s0 a0 K p s m c cc own nL b R F Lo) (GA : GA l s0 a0 K lam) (hk : aK h a = 218) (hlink : Cond.methodLink own idx ({ cls := "JumpHall$Deed", name := "in", desc := "(LJumpHall$Hall;)I" } : MethodName) ∈ lw_all) (hF : 13 ≤ F) (hLo : 523 ≤ Lo) (hsz : ls.size = nL) (hW8 : (rs.map tcat).sum ≤ 8) (hst : st = va_rf v :: .ref a :: rs.map tvv) (hdg : decode cc pc = .ok (.invokeinterface idx cnt, 5)) : LC s0 K lam p l e R s m args below meth c Q b h pc ls (rs.map tvv) st (c_lam218 K (some a) v) := by
  intro r1 hf kk kx
  unfold c_lam218 at hf
  obtain ⟨a0, c0, e0, -, hp0, hf⟩ := gL_some hf
  cases e0
  obtain ⟨a1, c1, e1, -, hp1, hf⟩ := gL_some hf
  cases e1
  obtain ⟨a2, c2, e2, -, hp2, hf⟩ := gL_some hf
  cases e2
  obtain ⟨a3, c3, e3, -, hp3, hf⟩ := gL_some hf
  cases e3
  refine lam_core (caps := [vI c0, vI c1, vI c2, vI c3]) (arg := vR v) (f := f_X1_lambda_book_12 K c0 c1 c2 c3 v) (x := ⟨"JumpHall", "book", "(IIII)I"⟩) (fs := [18, 20, 22, 24]) (ig := .invokestatic 32) X (siG_218 GA) hfb_18 (lw_all_tbl q3550) ⟨by decide, by decide⟩ rfl hk (y := yX1_lambda_book_12) (by decide +kernel) hy_X1_lambda_book_12 (by decide +kernel) ⟨by decide, by decide⟩ hlink (gf X.1.1 X.1.2.1 q1758 rfl) (gf X.1.1 X.1.2.1 q1757 rfl) (by decide +kernel) (by unfold npar; decide +kernel) (w_X1_lambda_book_12 GA c0 c1 c2 c3 v) (Or.inl rfl) q2398 q74 (fun _ _ => rfl) rfl (fun j v hj => by
    rcases j with _ | _ | _ | _ | j
    · exact (Option.some.inj hj : vI c0 = v) ▸ pI_t hp0
    · exact (Option.some.inj hj : vI c1 = v) ▸ pI_t hp1
    · exact (Option.some.inj hj : vI c2 = v) ▸ pI_t hp2
    · exact (Option.some.inj hj : vI c3 = v) ▸ pI_t hp3
    · exact absurd hj (by simp)) ⟨(fun j i hj => by
    rcases j with _ | _ | _ | _ | j
    · obtain rfl : 18 = i := Option.some.inj hj
      exact ⟨by decide +kernel, by decide +kernel⟩
    · obtain rfl : 20 = i := Option.some.inj hj
      exact ⟨by decide +kernel, by decide +kernel⟩
    · obtain rfl : 22 = i := Option.some.inj hj
      exact ⟨by decide +kernel, by decide +kernel⟩
    · obtain rfl : 24 = i := Option.some.inj hj
      exact ⟨by decide +kernel, by decide +kernel⟩
    · exact absurd hj (by simp)), by decide +kernel, by decide +kernel, by decide +kernel⟩ ⟨rfl, by cases v <;> rfl⟩ hF hLo hsz hW8 hst hdg (lam_stat GA.1 q2397 q74 hy_X1_lambda_book_12 np_X1_lambda_book_12 (Or.inl rfl) q2398 (by decide +kernel)) r1 hf kk kx
theorem np_X9_isBooked : npar yX9_isBooked.desc 0 := by unfold npar; decide +kernel
theorem hy_X9_isBooked : yX9_isBooked.cls ≠ "java/lang/invoke/MethodHandle" ∧ yX9_isBooked.cls ≠ "java/lang/invoke/VarHandle" := by decide +kernel
theorem w_X9_isBooked (GA : GA l s0 a0 K lam) (v0 : Option Nat) : AMet l s0 K lam yX9_isBooked (Cond.code yX9_isBooked cX9_isBooked (1 : Nat) (Option.some ClassFile.FieldType.boolean)) 0 0 [vR v0] oI (f_X9_isBooked K v0) := by
  refine AMet.of GA.1 (plainFor_of_name (by decide +kernel)) (Nat.le_of_ble_eq_true rfl) ?_
  intro b r hf p e s m args below meth c X hr hlk hnm hnd ht ls hl
  have Z : WZ l s0 a0 K p s m c cX9_isBooked yX9_isBooked.cls 1 b { frames := 0, cells := K 0 - aX b, slots := K 1 - aW b, locals := 0 } 0 0 meth [] (some (.boolean)) yX9_isBooked := ⟨⟨X, GA.2.1, GA.2.2.1, rfl, rfl, Nat.le_refl _, Nat.le_refl _⟩, tab_nil ht, hr, hlk, hnm, hnd⟩
  unfold f_X9_isBooked at hf
  clear hr hlk hnm hnd ht
  refine a_aload_n (pc := 0) X dX9_isBooked_0 rfl hl 0 rfl ?_
  refine a_get (pc := 1) (φ := 604) pI_t X Z.1.2.1 (gw X.1 X.2.1 q971) (fun _ q => q) (by decide) dX9_isBooked_1 hf (fun x1 hf => ?_)
  refine AW.lift2 (fun _ _ _ _ k1 k2 => lv_if_ne (pc := 4) (tgt := 11) X.2.2.1 X.2.2.2.1 dX9_isBooked_4 rfl k2 k1) (fun c => ?_) (fun c => ?_)
  · have hf := ite_t c hf
    refine AW.lift (fun _ _ _ _ k => lv_iconst (pc := 7) (v := (1 : Int32)) X.2.2.1 X.2.2.2.1 dX9_isBooked_7 rfl k) ?_
    refine AW.lift (fun _ _ _ _ k => lv_goto (pc := 8) (tgt := 12) X.2.2.1 X.2.2.2.1 dX9_isBooked_8 rfl k) ?_
    exact a_zreturn X Z.2.2.1 rfl Z.2.2.2.1 dX9_isBooked_12 hf
  · have hf := ite_f c hf
    refine AW.lift (fun _ _ _ _ k => lv_iconst (pc := 11) (v := (0 : Int32)) X.2.2.1 X.2.2.2.1 dX9_isBooked_11 rfl k) ?_
    exact a_zreturn X Z.2.2.1 rfl Z.2.2.2.1 dX9_isBooked_12 hf
end WK
