section WK
variable {l : Launch} {s0 : State} {a0 : Array Value} {K : Nat → Nat} {lam : Nat → ClassId}
variable {p : Program} {e : Env} {R : Room} {s : State} {m : MethodId} {args : Array Value} {below : List Frame} {meth : Method} {c : Code} {b : AH}
theorem w_X4_read_j201 {r : Except Nat (Int32) × AH} (GA : GA l s0 a0 K lam) (Z : WZ l s0 a0 K p s m c cX4_read yX4_read.cls 5 b R 7 157 meth [] (some (.int)) yX4_read) (v0 : Option Nat)   {h : AH} {ls : Array Slot} (hl : LV ls 5 [(0, vR v0)]) (hf : f_X4_read_j201 K v0 h = some r) : AW s0 K lam p l e R s m args below meth c (AQ s0 K lam below oI b r s) b h (F0 m 201 ls []) := by
  unfold f_X4_read_j201 at hf
  have X := Z.1.1
  refine a_aload_n (pc := 201) X dX4_read_201 rfl hl 0 rfl ?_
  refine a_aload_n (pc := 202) X dX4_read_202 rfl hl 0 rfl ?_
  refine a_get (pc := 203) (φ := 121) pI_t X Z.1.2.1 (gw X.1 X.2.1 q3046) (fun _ q => q) (by decide) dX4_read_203 hf (fun x203 hf => ?_)
  obtain ⟨a206, rfl, ⟨hk, hf⟩ | ⟨-, hf⟩⟩ := dv_some hf
  rotate_left
  · exact fl_none hf
  refine a_callb (pc := 206) (rs := []) (avs := [vR (some a206), vI x203]) Z.1 (w_X4_changed GA (some a206) x203) (Or.inl rfl) q3127 q86 (by decide) (by decide) dX4_read_206 hl.1 (Nat.le_of_ble_eq_true rfl) hf (ct_V hk ⟨by decide, by decide⟩ X (Or.inl rfl) q3127 q3124 q3126 pv_31 hy_X4_changed np_X4_changed rfl dX4_read_206) (fun q h he hX => a_out (unc_of Z.2.1 rfl) Z.2.2.2.1 he hX) (fun x206 h hf => ?kk206)
  refine AW.eq (g2 := F0 m 209 ls [.int x206]) rfl ?_
  exact a_ireturn X Z.2.2.1 Z.2.2.2.1 dX4_read_209 hf
theorem w_X4_read_j188 {r : Except Nat (Int32) × AH} (GA : GA l s0 a0 K lam) (Z : WZ l s0 a0 K p s m c cX4_read yX4_read.cls 5 b R 7 157 meth [] (some (.int)) yX4_read) (v0 : Option Nat) (v2 : Int32) (v3 : Int32)   {h : AH} {ls : Array Slot} (hl : LV ls 5 [(0, vR v0), (2, vI v2), (3, vI v3)]) (hf : f_X4_read_j188 K v0 v2 v3 h = some r) : AW s0 K lam p l e R s m args below meth c (AQ s0 K lam below oI b r s) b h (F0 m 188 ls []) := by
  unfold f_X4_read_j188 at hf
  have X := Z.1.1
  refine a_aload_n (pc := 188) X dX4_read_188 rfl hl 0 rfl ?_
  refine a_iload_n (pc := 189) X dX4_read_189 rfl hl 1 rfl ?_
  refine a_iload_n (pc := 190) X dX4_read_190 rfl hl 2 rfl ?_
  obtain ⟨a191, rfl, ⟨hk, hf⟩ | ⟨-, hf⟩⟩ := dv_some hf
  rotate_left
  · exact fl_none hf
  refine a_callb (pc := 191) (rs := []) (avs := [vR (some a191), vI v2, vI v3]) Z.1 (w_X4_refusesAll GA (some a191) v2 v3) (Or.inl rfl) q3448 q86 (by decide) (by decide) dX4_read_191 hl.1 (Nat.le_of_ble_eq_true rfl) hf (ct_V hk ⟨by decide, by decide⟩ X (Or.inl rfl) q3448 q3445 q3447 pv_72 hy_X4_refusesAll np_X4_refusesAll rfl dX4_read_191) (fun q h he hX => a_out (unc_of Z.2.1 rfl) Z.2.2.2.1 he hX) (fun x191 h hf => ?kk191)
  refine AW.eq (g2 := F0 m 194 ls [.int x191]) rfl ?_
  exact a_ireturn X Z.2.2.1 Z.2.2.2.1 dX4_read_194 hf
theorem w_X4_read_b160 {r : Except Nat (Int32) × AH} (GA : GA l s0 a0 K lam) (Z : WZ l s0 a0 K p s m c cX4_read yX4_read.cls 5 b R 7 157 meth [] (some (.int)) yX4_read) (v0 : Option Nat) (v2 : Int32) (v3 : Int32) (v4 : Int32)  (rc160 : Int32 → AM (Int32)) (hrc160 : ∀ (v4 : Int32) (h : AH) (ls : Array Slot), LV ls 5 [(0, vR v0), (2, vI v2), (3, vI v3), (4, vI v4)] → rc160 v4 h = some r → AW s0 K lam p l e R s m args below meth c (AQ s0 K lam below oI b r s) b h (F0 m 160 ls [])) {h : AH} {ls : Array Slot} (hl : LV ls 5 [(0, vR v0), (2, vI v2), (3, vI v3), (4, vI v4)]) (hf : f_X4_read_b160 K rc160 v0 v2 v3 v4 h = some r) : AW s0 K lam p l e R s m args below meth c (AQ s0 K lam below oI b r s) b h (F0 m 160 ls []) := by
  unfold f_X4_read_b160 at hf
  have X := Z.1.1
  refine a_iload (pc := 160) X dX4_read_160 hl 3 rfl ?_
  refine AW.lift (fun _ _ _ _ k => lv_sipush (pc := 162) (v := (306 : Int32)) X.2.2.1 X.2.2.2.1 dX4_read_162 rfl k) ?_
  refine AW.lift2 (fun _ _ _ _ k1 k2 => lv_icmp_ge (pc := 165) (tgt := 188) X.2.2.1 X.2.2.2.1 dX4_read_165 rfl k1 k2) (fun c => ?_) (fun c => ?_)
  · have hf := ite_t c hf
    exact w_X4_read_j188 GA Z v0 v2 v3   (hl.sub [0, 1, 2] rfl) hf
  · have hf := ite_f c hf
    refine a_aload_n (pc := 168) X dX4_read_168 rfl hl 0 rfl ?_
    refine a_get (pc := 169) (φ := 100) pR_t X Z.1.2.1 (gw X.1 X.2.1 q3025) (fun _ q => q) (by decide) dX4_read_169 hf (fun x169 hf => ?_)
    refine a_iload (pc := 172) X dX4_read_172 hl 3 rfl ?_
    refine a_aload_n (pc := 174) X dX4_read_174 rfl hl 0 rfl ?_
    refine a_get (pc := 175) (φ := 101) pR_t X Z.1.2.1 (gw X.1 X.2.1 q3026) (fun _ q => q) (by decide) dX4_read_175 hf (fun x175 hf => ?_)
    refine a_iload (pc := 178) X dX4_read_178 hl 3 rfl ?_
    refine a_iaload (pc := 180) X dX4_read_180 hf (fun x180 hf => ?_)
    refine a_iastore (pc := 181) X dX4_read_181 hf (fun h hf => ?_)
    refine a_iinc (pc := 182) (v := (v4 + (1 : Int32))) X dX4_read_182 hl (k := 3) rfl rfl (by decide) (lv' := [(4, vI (v4 + (1 : Int32))), (0, vR v0), (2, vI v2), (3, vI v3)]) rfl (fun ls hl => ?_)
    refine AW.lift (fun _ _ _ _ k => lv_goto (pc := 185) (tgt := 160) X.2.2.1 X.2.2.2.1 dX4_read_185 rfl k) ?_
    exact hrc160 (v4 + (1 : Int32)) _ _ (hl.sub [1, 2, 3, 0] rfl) hf
theorem w_X4_read_l160 {r : Except Nat (Int32) × AH} (GA : GA l s0 a0 K lam) (Z : WZ l s0 a0 K p s m c cX4_read yX4_read.cls 5 b R 7 157 meth [] (some (.int)) yX4_read) (v0 : Option Nat) (v2 : Int32) (v3 : Int32)  : ∀ (n : Nat) (v4 : Int32) (h : AH) (ls : Array Slot), LV ls 5 [(0, vR v0), (2, vI v2), (3, vI v3), (4, vI v4)] → f_X4_read_l160 K v0 v2 v3 n v4 h = some r → AW s0 K lam p l e R s m args below meth c (AQ s0 K lam below oI b r s) b h (F0 m 160 ls []) := by
  intro n
  induction n with
  | zero => intro v4 h ls hl hf; exact fl_no (h := h) hf
  | succ n ih => intro v4 h ls hl hf; exact w_X4_read_b160 GA Z v0 v2 v3 v4 (f_X4_read_l160 K v0 v2 v3 n) ih hl hf
theorem w_X4_read_j156 {r : Except Nat (Int32) × AH} (GA : GA l s0 a0 K lam) (Z : WZ l s0 a0 K p s m c cX4_read yX4_read.cls 5 b R 7 157 meth [] (some (.int)) yX4_read) (v0 : Option Nat) (v2 : Int32) (t0 : Int32)  {h : AH} {ls : Array Slot} (hl : LV ls 5 [(0, vR v0), (2, vI v2)]) (hf : f_X4_read_j156 K v0 v2 t0 h = some r) : AW s0 K lam p l e R s m args below meth c (AQ s0 K lam below oI b r s) b h (F0 m 156 ls [.int t0]) := by
  unfold f_X4_read_j156 at hf
  have X := Z.1.1
  refine a_istore_n (pc := 156) X dX4_read_156 rfl hl (by decide) (lv' := [(3, vI t0), (0, vR v0), (2, vI v2)]) rfl (fun ls hl => ?_)
  refine AW.lift (fun _ _ _ _ k => lv_iconst (pc := 157) (v := (0 : Int32)) X.2.2.1 X.2.2.2.1 dX4_read_157 rfl k) ?_
  refine a_istore (pc := 158) X dX4_read_158 hl (by decide) (lv' := [(4, vI (0 : Int32)), (3, vI t0), (0, vR v0), (2, vI v2)]) rfl (fun ls hl => ?_)
  exact w_X4_read_l160 GA Z v0 v2 t0  FU (0 : Int32) _ _ (hl.sub [2, 3, 1, 0] rfl) hf
theorem w_X4_read_j133 {r : Except Nat (Int32) × AH} (GA : GA l s0 a0 K lam) (Z : WZ l s0 a0 K p s m c cX4_read yX4_read.cls 5 b R 7 157 meth [] (some (.int)) yX4_read) (v0 : Option Nat) (v2 : Int32)   {h : AH} {ls : Array Slot} (hl : LV ls 5 [(0, vR v0), (2, vI v2)]) (hf : f_X4_read_j133 K v0 v2 h = some r) : AW s0 K lam p l e R s m args below meth c (AQ s0 K lam below oI b r s) b h (F0 m 133 ls []) := by
  unfold f_X4_read_j133 at hf
  have X := Z.1.1
  refine a_aload_n (pc := 133) X dX4_read_133 rfl hl 0 rfl ?_
  refine a_get (pc := 134) (φ := 107) pI_t X Z.1.2.1 (gw X.1 X.2.1 q3032) (fun _ q => q) (by decide) dX4_read_134 hf (fun x134 hf => ?_)
  refine a_aload_n (pc := 137) X dX4_read_137 rfl hl 0 rfl ?_
  refine a_get (pc := 138) (φ := 120) pR_t X Z.1.2.1 (gw X.1 X.2.1 q3045) (fun _ q => q) (by decide) dX4_read_138 hf (fun x138 hf => ?_)
  refine AW.lift (fun _ _ _ _ k => lv_iconst (pc := 141) (v := (3 : Int32)) X.2.2.1 X.2.2.2.1 dX4_read_141 rfl k) ?_
  refine a_iload_n (pc := 142) X dX4_read_142 rfl hl 1 rfl ?_
  refine AW.lift (fun _ _ _ _ k => lv_imul (pc := 143) X.2.2.1 X.2.2.2.1 dX4_read_143 k) ?_
  refine a_iaload (pc := 144) X dX4_read_144 hf (fun x144 hf => ?_)
  refine a_callb (pc := 145) (rs := [vI x134]) (avs := [vI x144]) Z.1 (w_X4_refusedAt GA x144) (Or.inl rfl) q3444 q86 (by decide) (by decide) dX4_read_145 hl.1 (Nat.le_of_ble_eq_true rfl) hf (ct_S X (Or.inl rfl) q3444 q86 q3442 q3443 hy_X4_refusedAt np_X4_refusedAt rfl dX4_read_145) (fun q h he hX => a_out (unc_of Z.2.1 rfl) Z.2.2.2.1 he hX) (fun x145 h hf => ?kk145)
  refine AW.eq (g2 := F0 m 148 ls [.int x145, .int x134]) rfl ?_
  refine AW.lift2 (fun _ _ _ _ k1 k2 => lv_icmp_ne (pc := 148) (tgt := 155) X.2.2.1 X.2.2.2.1 dX4_read_148 rfl k2 k1) (fun c => ?_) (fun c => ?_)
  · have hf := ite_t c hf
    refine AW.lift (fun _ _ _ _ k => lv_iconst (pc := 151) (v := (1 : Int32)) X.2.2.1 X.2.2.2.1 dX4_read_151 rfl k) ?_
    refine AW.lift (fun _ _ _ _ k => lv_goto (pc := 152) (tgt := 156) X.2.2.1 X.2.2.2.1 dX4_read_152 rfl k) ?_
    exact w_X4_read_j156 GA Z v0 v2 (1 : Int32)  (hl.sub [0, 1] rfl) hf
  · have hf := ite_f c hf
    refine AW.lift (fun _ _ _ _ k => lv_iconst (pc := 155) (v := (0 : Int32)) X.2.2.1 X.2.2.2.1 dX4_read_155 rfl k) ?_
    exact w_X4_read_j156 GA Z v0 v2 (0 : Int32)  (hl.sub [0, 1] rfl) hf
theorem w_X4_read_b110 {r : Except Nat (Int32) × AH} (GA : GA l s0 a0 K lam) (Z : WZ l s0 a0 K p s m c cX4_read yX4_read.cls 5 b R 7 157 meth [] (some (.int)) yX4_read) (v0 : Option Nat) (v2 : Int32)  (rc110 : Int32 → AM (Int32)) (hrc110 : ∀ (v2 : Int32) (h : AH) (ls : Array Slot), LV ls 5 [(0, vR v0), (2, vI v2)] → rc110 v2 h = some r → AW s0 K lam p l e R s m args below meth c (AQ s0 K lam below oI b r s) b h (F0 m 110 ls [])) {h : AH} {ls : Array Slot} (hl : LV ls 5 [(0, vR v0), (2, vI v2)]) (hf : f_X4_read_b110 K rc110 v0 v2 h = some r) : AW s0 K lam p l e R s m args below meth c (AQ s0 K lam below oI b r s) b h (F0 m 110 ls []) := by
  unfold f_X4_read_b110 at hf
  have X := Z.1.1
  refine a_iload_n (pc := 110) X dX4_read_110 rfl hl 1 rfl ?_
  refine a_aload_n (pc := 111) X dX4_read_111 rfl hl 0 rfl ?_
  refine a_get (pc := 112) (φ := 121) pI_t X Z.1.2.1 (gw X.1 X.2.1 q3046) (fun _ q => q) (by decide) dX4_read_112 hf (fun x112 hf => ?_)
  refine AW.lift2 (fun _ _ _ _ k1 k2 => lv_icmp_ge (pc := 115) (tgt := 201) X.2.2.1 X.2.2.2.1 dX4_read_115 rfl k1 k2) (fun c => ?_) (fun c => ?_)
  · have hf := ite_t c hf
    exact w_X4_read_j201 GA Z v0   (hl.sub [0] rfl) hf
  · have hf := ite_f c hf
    refine a_aload_n (pc := 118) X dX4_read_118 rfl hl 0 rfl ?_
    refine AW.lift (fun _ _ _ _ k => lv_iconst (pc := 119) (v := (3 : Int32)) X.2.2.1 X.2.2.2.1 dX4_read_119 rfl k) ?_
    refine a_iload_n (pc := 120) X dX4_read_120 rfl hl 1 rfl ?_
    refine AW.lift (fun _ _ _ _ k => lv_imul (pc := 121) X.2.2.1 X.2.2.2.1 dX4_read_121 k) ?_
    obtain ⟨a122, rfl, ⟨hk, hf⟩ | ⟨-, hf⟩⟩ := dv_some hf
    rotate_left
    · exact fl_none hf
    refine a_callb (pc := 122) (rs := []) (avs := [vR (some a122), vI ((3 : Int32) * v2)]) Z.1 (w_X4_does GA (some a122) ((3 : Int32) * v2)) (Or.inl rfl) q3441 q86 (by decide) (by decide) dX4_read_122 hl.1 (Nat.le_of_ble_eq_true rfl) hf (ct_V hk ⟨by decide, by decide⟩ X (Or.inl rfl) q3441 q3438 q3440 pv_71 hy_X4_does np_X4_does rfl dX4_read_122) (fun q h he hX => a_out (unc_of Z.2.1 rfl) Z.2.2.2.1 he hX) (fun x122 h hf => ?kk122)
    refine AW.eq (g2 := F0 m 125 ls [.int x122]) rfl ?_
    refine AW.lift (fun _ _ _ _ k => lv_pop (pc := 125) X.2.2.1 X.2.2.2.1 dX4_read_125 rfl k) ?_
    refine a_aload_n (pc := 126) X dX4_read_126 rfl hl 0 rfl ?_
    refine a_get (pc := 127) (φ := 107) pI_t X Z.1.2.1 (gw X.1 X.2.1 q3032) (fun _ q => q) (by decide) dX4_read_127 hf (fun x127 hf => ?_)
    refine AW.lift2 (fun _ _ _ _ k1 k2 => lv_if_le (pc := 130) (tgt := 195) X.2.2.1 X.2.2.2.1 dX4_read_130 rfl k1 k2) (fun c => ?_) (fun c => ?_)
    · have hf := ite_t c hf
      refine a_iinc (pc := 195) (v := (v2 + (1 : Int32))) X dX4_read_195 hl (k := 1) rfl rfl (by decide) (lv' := [(2, vI (v2 + (1 : Int32))), (0, vR (some a122))]) rfl (fun ls hl => ?_)
      refine AW.lift (fun _ _ _ _ k => lv_goto (pc := 198) (tgt := 110) X.2.2.1 X.2.2.2.1 dX4_read_198 rfl k) ?_
      exact hrc110 (v2 + (1 : Int32)) _ _ (hl.sub [1, 0] rfl) hf
    · have hf := ite_f c hf
      exact w_X4_read_j133 GA Z (some a122) v2   (hl.sub [0, 1] rfl) hf
theorem w_X4_read_l110 {r : Except Nat (Int32) × AH} (GA : GA l s0 a0 K lam) (Z : WZ l s0 a0 K p s m c cX4_read yX4_read.cls 5 b R 7 157 meth [] (some (.int)) yX4_read) (v0 : Option Nat)  : ∀ (n : Nat) (v2 : Int32) (h : AH) (ls : Array Slot), LV ls 5 [(0, vR v0), (2, vI v2)] → f_X4_read_l110 K v0 n v2 h = some r → AW s0 K lam p l e R s m args below meth c (AQ s0 K lam below oI b r s) b h (F0 m 110 ls []) := by
  intro n
  induction n with
  | zero => intro v2 h ls hl hf; exact fl_no (h := h) hf
  | succ n ih => intro v2 h ls hl hf; exact w_X4_read_b110 GA Z v0 v2 (f_X4_read_l110 K v0 n) ih hl hf
theorem w_X4_read_j83 {r : Except Nat (Int32) × AH} (GA : GA l s0 a0 K lam) (Z : WZ l s0 a0 K p s m c cX4_read yX4_read.cls 5 b R 7 157 meth [] (some (.int)) yX4_read) (v0 : Option Nat)   {h : AH} {ls : Array Slot} (hl : LV ls 5 [(0, vR v0)]) (hf : f_X4_read_j83 K v0 h = some r) : AW s0 K lam p l e R s m args below meth c (AQ s0 K lam below oI b r s) b h (F0 m 83 ls []) := by
  unfold f_X4_read_j83 at hf
  have X := Z.1.1
  refine a_aload_n (pc := 83) X dX4_read_83 rfl hl 0 rfl ?_
  obtain ⟨a84, rfl, ⟨hk, hf⟩ | ⟨-, hf⟩⟩ := dv_some hf
  rotate_left
  · exact fl_none hf
  refine a_callb (pc := 84) (rs := []) (avs := [vR (some a84)]) Z.1 (w_X4_layAside GA (some a84)) (Or.inl rfl) q3112 q86 (by decide) (by decide) dX4_read_84 hl.1 (Nat.le_of_ble_eq_true rfl) hf (ct_V hk ⟨by decide, by decide⟩ X (Or.inl rfl) q3112 q3109 q3111 pv_28 hy_X4_layAside np_X4_layAside rfl dX4_read_84) (fun q h he hX => a_out (unc_of Z.2.1 rfl) Z.2.2.2.1 he hX) (fun _ h hf => ?kk84)
  refine AW.eq (g2 := F0 m 87 ls []) rfl ?_
  refine a_aload_n (pc := 87) X dX4_read_87 rfl hl 0 rfl ?_
  refine a_get (pc := 88) (φ := 124) pI_t X Z.1.2.1 (gw X.1 X.2.1 q3049) (fun _ q => q) (by decide) dX4_read_88 hf (fun x88 hf => ?_)
  refine AW.lift2 (fun _ _ _ _ k1 k2 => lv_if_eq (pc := 91) (tgt := 108) X.2.2.1 X.2.2.2.1 dX4_read_91 rfl k1 k2) (fun c => ?_) (fun c => ?_)
  · have hf := ite_t c hf
    refine AW.lift (fun _ _ _ _ k => lv_iconst (pc := 108) (v := (0 : Int32)) X.2.2.1 X.2.2.2.1 dX4_read_108 rfl k) ?_
    refine a_istore_n (pc := 109) X dX4_read_109 rfl hl (by decide) (lv' := [(2, vI (0 : Int32)), (0, vR (some a84))]) rfl (fun ls hl => ?_)
    exact w_X4_read_l110 GA Z (some a84)  FU (0 : Int32) _ _ (hl.sub [1, 0] rfl) hf
  · have hf := ite_f c hf
    refine a_aload_n (pc := 94) X dX4_read_94 rfl hl 0 rfl ?_
    refine a_aload_n (pc := 95) X dX4_read_95 rfl hl 0 rfl ?_
    refine a_get (pc := 96) (φ := 122) pI_t X Z.1.2.1 (gw X.1 X.2.1 q3047) (fun _ q => q) (by decide) dX4_read_96 hf (fun x96 hf => ?_)
    refine a_put (pc := 99) (φ := 111) X Z.1.2.1 Z.1.2.2.1 (gw X.1 X.2.1 q3036) (fun _ q => q) (by decide) rfl rfl dX4_read_99 hf (fun h hf => ?_)
    refine a_aload_n (pc := 102) X dX4_read_102 rfl hl 0 rfl ?_
    refine AW.lift (fun _ _ _ _ k => lv_iconst (pc := 103) (v := (1 : Int32)) X.2.2.1 X.2.2.2.1 dX4_read_103 rfl k) ?_
    rcases dv_someS hf with ⟨hk, hf⟩ | ⟨-, hf⟩
    rotate_left
    · exact fl_none hf
    refine a_callb (pc := 104) (rs := []) (avs := [vR (some a84), vI (1 : Int32)]) Z.1 (w_X4_throwing GA (some a84) (1 : Int32)) (Or.inl rfl) q3120 q86 (by decide) (by decide) dX4_read_104 hl.1 (Nat.le_of_ble_eq_true rfl) hf (ct_V hk ⟨by decide, by decide⟩ X (Or.inl rfl) q3120 q3117 q3119 pv_30 hy_X4_throwing np_X4_throwing rfl dX4_read_104) (fun q h he hX => a_out (unc_of Z.2.1 rfl) Z.2.2.2.1 he hX) (fun x104 h hf => ?kk104)
    refine AW.eq (g2 := F0 m 107 ls [.int x104]) rfl ?_
    exact a_ireturn X Z.2.2.1 Z.2.2.2.1 dX4_read_107 hf
theorem w_X4_read_j79 {r : Except Nat (Int32) × AH} (GA : GA l s0 a0 K lam) (Z : WZ l s0 a0 K p s m c cX4_read yX4_read.cls 5 b R 7 157 meth [] (some (.int)) yX4_read) (v0 : Option Nat) (t0 : Int32) (rc25 : Int32 → AM (Int32)) (hrc25 : ∀ (v1 : Int32) (h : AH) (ls : Array Slot), LV ls 5 [(0, vR v0), (1, vI v1)] → rc25 v1 h = some r → AW s0 K lam p l e R s m args below meth c (AQ s0 K lam below oI b r s) b h (F0 m 25 ls [])) {h : AH} {ls : Array Slot} (hl : LV ls 5 [(0, vR v0)]) (hf : f_X4_read_j79 K rc25 v0 t0 h = some r) : AW s0 K lam p l e R s m args below meth c (AQ s0 K lam below oI b r s) b h (F0 m 79 ls [.int t0]) := by
  unfold f_X4_read_j79 at hf
  have X := Z.1.1
  refine a_istore_n (pc := 79) X dX4_read_79 rfl hl (by decide) (lv' := [(1, vI t0), (0, vR v0)]) rfl (fun ls hl => ?_)
  refine AW.lift (fun _ _ _ _ k => lv_goto (pc := 80) (tgt := 25) X.2.2.1 X.2.2.2.1 dX4_read_80 rfl k) ?_
  exact hrc25 t0 _ _ (hl.sub [1, 0] rfl) hf
theorem w_X4_read_j56 {r : Except Nat (Int32) × AH} (GA : GA l s0 a0 K lam) (Z : WZ l s0 a0 K p s m c cX4_read yX4_read.cls 5 b R 7 157 meth [] (some (.int)) yX4_read) (v0 : Option Nat) (t0 : Int32) (rc25 : Int32 → AM (Int32)) (hrc25 : ∀ (v1 : Int32) (h : AH) (ls : Array Slot), LV ls 5 [(0, vR v0), (1, vI v1)] → rc25 v1 h = some r → AW s0 K lam p l e R s m args below meth c (AQ s0 K lam below oI b r s) b h (F0 m 25 ls [])) {h : AH} {ls : Array Slot} (hl : LV ls 5 [(0, vR v0)]) (hf : f_X4_read_j56 K rc25 v0 t0 h = some r) : AW s0 K lam p l e R s m args below meth c (AQ s0 K lam below oI b r s) b h (F0 m 56 ls [.int t0]) := by
  unfold f_X4_read_j56 at hf
  have X := Z.1.1
  refine a_istore_n (pc := 56) X dX4_read_56 rfl hl (by decide) (lv' := [(1, vI t0), (0, vR v0)]) rfl (fun ls hl => ?_)
  refine a_iload_n (pc := 57) X dX4_read_57 rfl hl 0 rfl ?_
  refine AW.lift2 (fun _ _ _ _ k1 k2 => lv_if_eq (pc := 58) (tgt := 25) X.2.2.1 X.2.2.2.1 dX4_read_58 rfl k1 k2) (fun c => ?_) (fun c => ?_)
  · have hf := ite_t c hf
    exact hrc25 t0 _ _ (hl.sub [1, 0] rfl) hf
  · have hf := ite_f c hf
    refine a_aload_n (pc := 61) X dX4_read_61 rfl hl 1 rfl ?_
    refine AW.lift (fun _ _ _ _ k => lv_bipush (pc := 62) (v := (59 : Int32)) X.2.2.1 X.2.2.2.1 dX4_read_62 rfl k) ?_
    obtain ⟨a64, rfl, ⟨hk, hf⟩ | ⟨-, hf⟩⟩ := dv_some hf
    rotate_left
    · exact fl_none hf
    refine a_callb (pc := 64) (rs := []) (avs := [vR (some a64), vI (59 : Int32)]) Z.1 (w_X4_expects GA (some a64) (59 : Int32)) (Or.inl rfl) q3427 q86 (by decide) (by decide) dX4_read_64 hl.1 (Nat.le_of_ble_eq_true rfl) hf (ct_V hk ⟨by decide, by decide⟩ X (Or.inl rfl) q3427 q3424 q3426 pv_68 hy_X4_expects np_X4_expects rfl dX4_read_64) (fun q h he hX => a_out (unc_of Z.2.1 rfl) Z.2.2.2.1 he hX) (fun _ h hf => ?kk64)
    refine AW.eq (g2 := F0 m 67 ls []) rfl ?_
    refine a_aload_n (pc := 67) X dX4_read_67 rfl hl 1 rfl ?_
    refine a_get (pc := 68) (φ := 124) pI_t X Z.1.2.1 (gw X.1 X.2.1 q3049) (fun _ q => q) (by decide) dX4_read_68 hf (fun x68 hf => ?_)
    refine AW.lift2 (fun _ _ _ _ k1 k2 => lv_if_ne (pc := 71) (tgt := 78) X.2.2.1 X.2.2.2.1 dX4_read_71 rfl k2 k1) (fun c => ?_) (fun c => ?_)
    · have hf := ite_t c hf
      refine AW.lift (fun _ _ _ _ k => lv_iconst (pc := 74) (v := (1 : Int32)) X.2.2.1 X.2.2.2.1 dX4_read_74 rfl k) ?_
      refine AW.lift (fun _ _ _ _ k => lv_goto (pc := 75) (tgt := 79) X.2.2.1 X.2.2.2.1 dX4_read_75 rfl k) ?_
      exact w_X4_read_j79 GA Z (some a64) (1 : Int32) rc25 hrc25 (hl.sub [1] rfl) hf
    · have hf := ite_f c hf
      refine AW.lift (fun _ _ _ _ k => lv_iconst (pc := 78) (v := (0 : Int32)) X.2.2.1 X.2.2.2.1 dX4_read_78 rfl k) ?_
      exact w_X4_read_j79 GA Z (some a64) (0 : Int32) rc25 hrc25 (hl.sub [1] rfl) hf
theorem w_X4_read_j55 {r : Except Nat (Int32) × AH} (GA : GA l s0 a0 K lam) (Z : WZ l s0 a0 K p s m c cX4_read yX4_read.cls 5 b R 7 157 meth [] (some (.int)) yX4_read) (v0 : Option Nat)  (rc25 : Int32 → AM (Int32)) (hrc25 : ∀ (v1 : Int32) (h : AH) (ls : Array Slot), LV ls 5 [(0, vR v0), (1, vI v1)] → rc25 v1 h = some r → AW s0 K lam p l e R s m args below meth c (AQ s0 K lam below oI b r s) b h (F0 m 25 ls [])) {h : AH} {ls : Array Slot} (hl : LV ls 5 [(0, vR v0)]) (hf : f_X4_read_j55 K rc25 v0 h = some r) : AW s0 K lam p l e R s m args below meth c (AQ s0 K lam below oI b r s) b h (F0 m 55 ls []) := by
  unfold f_X4_read_j55 at hf
  have X := Z.1.1
  refine AW.lift (fun _ _ _ _ k => lv_iconst (pc := 55) (v := (0 : Int32)) X.2.2.1 X.2.2.2.1 dX4_read_55 rfl k) ?_
  exact w_X4_read_j56 GA Z v0 (0 : Int32) rc25 hrc25 (hl.sub [0] rfl) hf
theorem w_X4_read_b25 {r : Except Nat (Int32) × AH} (GA : GA l s0 a0 K lam) (Z : WZ l s0 a0 K p s m c cX4_read yX4_read.cls 5 b R 7 157 meth [] (some (.int)) yX4_read) (v0 : Option Nat) (v1 : Int32)  (rc25 : Int32 → AM (Int32)) (hrc25 : ∀ (v1 : Int32) (h : AH) (ls : Array Slot), LV ls 5 [(0, vR v0), (1, vI v1)] → rc25 v1 h = some r → AW s0 K lam p l e R s m args below meth c (AQ s0 K lam below oI b r s) b h (F0 m 25 ls [])) {h : AH} {ls : Array Slot} (hl : LV ls 5 [(0, vR v0), (1, vI v1)]) (hf : f_X4_read_b25 K rc25 v0 v1 h = some r) : AW s0 K lam p l e R s m args below meth c (AQ s0 K lam below oI b r s) b h (F0 m 25 ls []) := by
  unfold f_X4_read_b25 at hf
  have X := Z.1.1
  refine a_iload_n (pc := 25) X dX4_read_25 rfl hl 1 rfl ?_
  refine AW.lift2 (fun _ _ _ _ k1 k2 => lv_if_eq (pc := 26) (tgt := 83) X.2.2.1 X.2.2.2.1 dX4_read_26 rfl k1 k2) (fun c => ?_) (fun c => ?_)
  · have hf := ite_t c hf
    exact w_X4_read_j83 GA Z v0   (hl.sub [0] rfl) hf
  · have hf := ite_f c hf
    refine a_aload_n (pc := 29) X dX4_read_29 rfl hl 0 rfl ?_
    obtain ⟨a30, rfl, ⟨hk, hf⟩ | ⟨-, hf⟩⟩ := dv_some hf
    rotate_left
    · exact fl_none hf
    refine a_callb (pc := 30) (rs := []) (avs := [vR (some a30)]) Z.1 (w_X4_readCommand GA (some a30)) (Or.inl rfl) q3415 q86 (by decide) (by decide) dX4_read_30 hl.1 (Nat.le_of_ble_eq_true rfl) hf (ct_V hk ⟨by decide, by decide⟩ X (Or.inl rfl) q3415 q3412 q3414 pv_65 hy_X4_readCommand np_X4_readCommand rfl dX4_read_30) (fun q h he hX => a_out (unc_of Z.2.1 rfl) Z.2.2.2.1 he hX) (fun _ h hf => ?kk30)
    refine AW.eq (g2 := F0 m 33 ls []) rfl ?_
    refine a_aload_n (pc := 33) X dX4_read_33 rfl hl 0 rfl ?_
    refine a_get (pc := 34) (φ := 124) pI_t X Z.1.2.1 (gw X.1 X.2.1 q3049) (fun _ q => q) (by decide) dX4_read_34 hf (fun x34 hf => ?_)
    refine AW.lift2 (fun _ _ _ _ k1 k2 => lv_if_ne (pc := 37) (tgt := 55) X.2.2.1 X.2.2.2.1 dX4_read_37 rfl k2 k1) (fun c => ?_) (fun c => ?_)
    · have hf := ite_t c hf
      refine a_aload_n (pc := 40) X dX4_read_40 rfl hl 0 rfl ?_
      refine a_get (pc := 41) (φ := 122) pI_t X Z.1.2.1 (gw X.1 X.2.1 q3047) (fun _ q => q) (by decide) dX4_read_41 hf (fun x41 hf => ?_)
      refine a_aload_n (pc := 44) X dX4_read_44 rfl hl 0 rfl ?_
      refine a_get (pc := 45) (φ := 123) pI_t X Z.1.2.1 (gw X.1 X.2.1 q3048) (fun _ q => q) (by decide) dX4_read_45 hf (fun x45 hf => ?_)
      refine AW.lift2 (fun _ _ _ _ k1 k2 => lv_icmp_ge (pc := 48) (tgt := 55) X.2.2.1 X.2.2.2.1 dX4_read_48 rfl k1 k2) (fun c => ?_) (fun c => ?_)
      · have hf := ite_t c hf
        exact w_X4_read_j55 GA Z (some a30)  rc25 hrc25 (hl.sub [0] rfl) hf
      · have hf := ite_f c hf
        refine AW.lift (fun _ _ _ _ k => lv_iconst (pc := 51) (v := (1 : Int32)) X.2.2.1 X.2.2.2.1 dX4_read_51 rfl k) ?_
        refine AW.lift (fun _ _ _ _ k => lv_goto (pc := 52) (tgt := 56) X.2.2.1 X.2.2.2.1 dX4_read_52 rfl k) ?_
        exact w_X4_read_j56 GA Z (some a30) (1 : Int32) rc25 hrc25 (hl.sub [0] rfl) hf
    · have hf := ite_f c hf
      exact w_X4_read_j55 GA Z (some a30)  rc25 hrc25 (hl.sub [0] rfl) hf
theorem w_X4_read_l25 {r : Except Nat (Int32) × AH} (GA : GA l s0 a0 K lam) (Z : WZ l s0 a0 K p s m c cX4_read yX4_read.cls 5 b R 7 157 meth [] (some (.int)) yX4_read) (v0 : Option Nat)  : ∀ (n : Nat) (v1 : Int32) (h : AH) (ls : Array Slot), LV ls 5 [(0, vR v0), (1, vI v1)] → f_X4_read_l25 K v0 n v1 h = some r → AW s0 K lam p l e R s m args below meth c (AQ s0 K lam below oI b r s) b h (F0 m 25 ls []) := by
  intro n
  induction n with
  | zero => intro v1 h ls hl hf; exact fl_no (h := h) hf
  | succ n ih => intro v1 h ls hl hf; exact w_X4_read_b25 GA Z v0 v1 (f_X4_read_l25 K v0 n) ih hl hf
theorem np_X4_read : npar yX4_read.desc 0 := by unfold npar; decide +kernel
theorem hy_X4_read : yX4_read.cls ≠ "java/lang/invoke/MethodHandle" ∧ yX4_read.cls ≠ "java/lang/invoke/VarHandle" := by decide +kernel
theorem w_X4_read (GA : GA l s0 a0 K lam) (v0 : Option Nat) : AMet l s0 K lam yX4_read (Cond.code yX4_read cX4_read (5 : Nat) (Option.some ClassFile.FieldType.int)) 7 157 [vR v0] oI (f_X4_read K v0) := by
  refine AMet.of GA.1 (plainFor_of_name (by decide +kernel)) (Nat.le_of_ble_eq_true rfl) ?_
  intro b r hf p e s m args below meth c X hr hlk hnm hnd ht ls hl
  have Z : WZ l s0 a0 K p s m c cX4_read yX4_read.cls 5 b { frames := 7, cells := K 0 - aX b, slots := K 1 - aW b, locals := 157 } 7 157 meth [] (some (.int)) yX4_read := ⟨⟨X, GA.2.1, GA.2.2.1, rfl, rfl, Nat.le_refl _, Nat.le_refl _⟩, tab_nil ht, hr, hlk, hnm, hnd⟩
  unfold f_X4_read at hf
  clear hr hlk hnm hnd ht
  refine a_aload_n (pc := 0) X dX4_read_0 rfl hl 0 rfl ?_
  refine a_aload_n (pc := 1) X dX4_read_1 rfl hl 0 rfl ?_
  refine a_get (pc := 2) (φ := 113) pI_t X Z.1.2.1 (gw X.1 X.2.1 q3038) (fun _ q => q) (by decide) dX4_read_2 hf (fun x2 hf => ?_)
  refine a_put (pc := 5) (φ := 123) X Z.1.2.1 Z.1.2.2.1 (gw X.1 X.2.1 q3048) (fun _ q => q) (by decide) rfl rfl dX4_read_5 hf (fun h hf => ?_)
  refine a_aload_n (pc := 8) X dX4_read_8 rfl hl 0 rfl ?_
  refine AW.lift (fun _ _ _ _ k => lv_iconst (pc := 9) (v := (0 : Int32)) X.2.2.1 X.2.2.2.1 dX4_read_9 rfl k) ?_
  refine a_put (pc := 10) (φ := 113) X Z.1.2.1 Z.1.2.2.1 (gw X.1 X.2.1 q3038) (fun _ q => q) (by decide) rfl rfl dX4_read_10 hf (fun h hf => ?_)
  refine a_aload_n (pc := 13) X dX4_read_13 rfl hl 0 rfl ?_
  refine AW.lift (fun _ _ _ _ k => lv_iconst (pc := 14) (v := (0 : Int32)) X.2.2.1 X.2.2.2.1 dX4_read_14 rfl k) ?_
  refine a_put (pc := 15) (φ := 122) X Z.1.2.1 Z.1.2.2.1 (gw X.1 X.2.1 q3047) (fun _ q => q) (by decide) rfl rfl dX4_read_15 hf (fun h hf => ?_)
  refine a_aload_n (pc := 18) X dX4_read_18 rfl hl 0 rfl ?_
  refine AW.lift (fun _ _ _ _ k => lv_iconst (pc := 19) (v := (0 : Int32)) X.2.2.1 X.2.2.2.1 dX4_read_19 rfl k) ?_
  refine a_put (pc := 20) (φ := 121) X Z.1.2.1 Z.1.2.2.1 (gw X.1 X.2.1 q3046) (fun _ q => q) (by decide) rfl rfl dX4_read_20 hf (fun h hf => ?_)
  refine AW.lift (fun _ _ _ _ k => lv_iconst (pc := 23) (v := (1 : Int32)) X.2.2.1 X.2.2.2.1 dX4_read_23 rfl k) ?_
  refine a_istore_n (pc := 24) X dX4_read_24 rfl hl (by decide) (lv' := [(1, vI (1 : Int32)), (0, vR v0)]) rfl (fun ls hl => ?_)
  exact w_X4_read_l25 GA Z v0  FU (1 : Int32) _ _ (hl.sub [1, 0] rfl) hf
theorem w_X1_errorPosition_j12 {r : Except Nat (Int32) × AH} (GA : GA l s0 a0 K lam) (Z : WZ l s0 a0 K p s m c cX1_errorPosition yX1_errorPosition.cls 1 b R 9 420 meth [] (some (.int)) yX1_errorPosition) (v0 : Option Nat) (t0 : Int32)  {h : AH} {ls : Array Slot} (hl : LV ls 1 [(0, vR v0)]) (hf : f_X1_errorPosition_j12 K v0 t0 h = some r) : AW s0 K lam p l e R s m args below meth c (AQ s0 K lam below oI b r s) b h (F0 m 12 ls [.int t0]) := by
  unfold f_X1_errorPosition_j12 at hf
  have X := Z.1.1
  refine a_callb (pc := 12) (rs := []) (avs := [vI t0]) Z.1 (w_X1_checkElement GA t0) (Or.inl rfl) q1968 q74 (by decide) (by decide) dX1_errorPosition_12 hl.1 (Nat.le_of_ble_eq_true rfl) hf (ct_S X (Or.inl rfl) q1968 q74 q1966 q1967 hy_X1_checkElement np_X1_checkElement rfl dX1_errorPosition_12) (fun q h he hX => a_out (unc_of Z.2.1 rfl) Z.2.2.2.1 he hX) (fun _ h hf => ?kk12)
  refine AW.eq (g2 := F0 m 15 ls []) rfl ?_
  refine a_aload_n (pc := 15) X dX1_errorPosition_15 rfl hl 0 rfl ?_
  refine a_get (pc := 16) (φ := 206) pR_t X Z.1.2.1 (gw X.1 X.2.1 q315) (fun _ q => q) (by decide) dX1_errorPosition_16 hf (fun x16 hf => ?_)
  refine a_getN (pc := 19) (φ := 1400) pI_t X Z.1.2.1 (gnF X.1 X.2.1 q2850) (fun _ q => q) (by decide) dX1_errorPosition_19 hf (fun x19 hf => ?_)
  exact a_ireturn X Z.2.2.1 Z.2.2.2.1 dX1_errorPosition_22 hf
theorem np_X1_errorPosition : npar yX1_errorPosition.desc 0 := by unfold npar; decide +kernel
theorem hy_X1_errorPosition : yX1_errorPosition.cls ≠ "java/lang/invoke/MethodHandle" ∧ yX1_errorPosition.cls ≠ "java/lang/invoke/VarHandle" := by decide +kernel
theorem w_X1_errorPosition (GA : GA l s0 a0 K lam) (v0 : Option Nat) : AMet l s0 K lam yX1_errorPosition (Cond.code yX1_errorPosition cX1_errorPosition (1 : Nat) (Option.some ClassFile.FieldType.int)) 9 420 [vR v0] oI (f_X1_errorPosition K v0) := by
  refine AMet.of GA.1 (plainFor_of_name (by decide +kernel)) (Nat.le_of_ble_eq_true rfl) ?_
  intro b r hf p e s m args below meth c X hr hlk hnm hnd ht ls hl
  have Z : WZ l s0 a0 K p s m c cX1_errorPosition yX1_errorPosition.cls 1 b { frames := 9, cells := K 0 - aX b, slots := K 1 - aW b, locals := 420 } 9 420 meth [] (some (.int)) yX1_errorPosition := ⟨⟨X, GA.2.1, GA.2.2.1, rfl, rfl, Nat.le_refl _, Nat.le_refl _⟩, tab_nil ht, hr, hlk, hnm, hnd⟩
  unfold f_X1_errorPosition at hf
  clear hr hlk hnm hnd ht
  refine a_aload_n (pc := 0) X dX1_errorPosition_0 rfl hl 0 rfl ?_
  refine a_get (pc := 1) (φ := 206) pR_t X Z.1.2.1 (gw X.1 X.2.1 q315) (fun _ q => q) (by decide) dX1_errorPosition_1 hf (fun x1 hf => ?_)
  refine a_ifnull (pc := 4) (tgt := 11) X dX1_errorPosition_4 rfl (fun c => ?_) (fun c => ?_)
  · have hf := ite_t c hf
    refine AW.lift (fun _ _ _ _ k => lv_iconst (pc := 11) (v := (0 : Int32)) X.2.2.1 X.2.2.2.1 dX1_errorPosition_11 rfl k) ?_
    exact w_X1_errorPosition_j12 GA Z v0 (0 : Int32)  (hl.sub [0] rfl) hf
  · have hf := ite_f c hf
    refine AW.lift (fun _ _ _ _ k => lv_iconst (pc := 7) (v := (1 : Int32)) X.2.2.1 X.2.2.2.1 dX1_errorPosition_7 rfl k) ?_
    refine AW.lift (fun _ _ _ _ k => lv_goto (pc := 8) (tgt := 12) X.2.2.1 X.2.2.2.1 dX1_errorPosition_8 rfl k) ?_
    exact w_X1_errorPosition_j12 GA Z v0 (1 : Int32)  (hl.sub [0] rfl) hf
theorem np_X0_errorPosition : npar yX0_errorPosition.desc 2 := by unfold npar; decide +kernel
theorem hy_X0_errorPosition : yX0_errorPosition.cls ≠ "java/lang/invoke/MethodHandle" ∧ yX0_errorPosition.cls ≠ "java/lang/invoke/VarHandle" := by decide +kernel
theorem w_X0_errorPosition (GA : GA l s0 a0 K lam) (v0 : Option Nat) (v1 : Option Nat) : AMet l s0 K lam yX0_errorPosition (Cond.codeWith yX0_errorPosition cX0_errorPosition (3 : Nat) (Option.some ClassFile.FieldType.int) [((0 : Nat), (8 : Nat), (11 : Nat), (39 : Nat))]) 10 440 [vR v0, vR v1] oI (f_X0_errorPosition K v0 v1) := by
  refine AMet.ofW GA.1 (plainFor_of_name (by decide +kernel)) (Nat.le_of_ble_eq_true rfl) ?_
  intro b r hf p e s m args below meth c X hr hlk hnm hnd ht ls hl
  have Z : WZ l s0 a0 K p s m c cX0_errorPosition yX0_errorPosition.cls 3 b { frames := 10, cells := K 0 - aX b, slots := K 1 - aW b, locals := 440 } 10 440 meth [(0, 8, 11, 39)] (some (.int)) yX0_errorPosition := ⟨⟨X, GA.2.1, GA.2.2.1, rfl, rfl, Nat.le_refl _, Nat.le_refl _⟩, ht, hr, hlk, hnm, hnd⟩
  unfold f_X0_errorPosition at hf
  clear hr hlk hnm hnd ht
  refine a_aload_n (pc := 0) X dX0_errorPosition_0 rfl hl 1 rfl ?_
  refine AW.lift (fun _ _ _ _ k => lv_iconst (pc := 1) (v := (0 : Int32)) X.2.2.1 X.2.2.2.1 dX0_errorPosition_1 rfl k) ?_
  refine a_aload_n (pc := 2) X dX0_errorPosition_2 rfl hl 0 rfl ?_
  obtain ⟨a3, rfl, ⟨hk, hf⟩ | ⟨-, hf⟩⟩ := dv_tsome hf
  rotate_left
  · exact fl_tnone hf
  refine a_callt (pc := 3) (rs := [vI (0 : Int32), vR v1]) (avs := [vR (some a3)]) Z.1 (w_X1_errorPosition GA (some a3)) (Or.inl rfl) q2971 q74 (by decide) (by decide) dX0_errorPosition_3 hl.1 (Nat.le_of_ble_eq_true rfl) hf (ct_V hk ⟨by decide, by decide⟩ X (Or.inl rfl) q2971 q2968 q2969 q2970 hy_X1_errorPosition np_X1_errorPosition rfl dX0_errorPosition_3) (fun q h hf hX => ?hx3) (fun x3 h hf => ?kk3)
  case hx3 =>
    rcases ctc_some hf with ⟨hy, hf⟩ | ⟨hn0, hf⟩
    · refine a_catchH (st := 0) (en := 8) (hp := 11) (ct := 39) (pre := []) (suf := []) X hX Z.2.1 rfl (fun z hz => nomatch hz) (by decide) (Or.inr ⟨by decide, _, gw X.1 X.2.1 q1961, (cs_X20 GA) _ hy⟩) (AW.eq (g2 := F0 m 11 ls [va_rf (some q)]) rfl ?_)
      refine a_astore_n (pc := 11) X dX0_errorPosition_11 rfl hl (by decide) (lv' := [(2, vR (some q)), (0, vR (some a3)), (1, vR v1)]) rfl (fun ls hl => ?_)
      refine AW.lift (fun _ _ _ _ k => lv_iconst (pc := 12) (v := (1 : Int32)) X.2.2.1 X.2.2.2.1 dX0_errorPosition_12 rfl k) ?_
      exact a_ireturn X Z.2.2.1 Z.2.2.2.1 dX0_errorPosition_13 hf
    · skip
      exact a_outH X Z.2.1 (by intro z hz; simp only [List.mem_cons, List.not_mem_nil, or_false] at hz; rcases hz with rfl <;> first | exact Or.inl (by decide) | exact Or.inr ⟨by decide, _, gw X.1 X.2.1 q1961, (nc_12_13_14_16_17_18_19_21_java_util_NoSuchElementException GA _ (by simpa using hn0)).2.2⟩) Z.2.2.2.1 (th_eq hf) hX
  refine AW.eq (g2 := F0 m 6 ls [.int x3, .int (0 : Int32), va_rf v1]) rfl ?_
  refine AW.lift (fun _ _ _ _ k => lv_i2l (pc := 6) X.2.2.1 X.2.2.2.1 dX0_errorPosition_6 rfl k) ?_
  refine a_lastore (pc := 7) X dX0_errorPosition_7 hf (fun h hf => ?_)
  refine AW.lift (fun _ _ _ _ k => lv_goto (pc := 8) (tgt := 14) X.2.2.1 X.2.2.2.1 dX0_errorPosition_8 rfl k) ?_
  refine AW.lift (fun _ _ _ _ k => lv_iconst (pc := 14) (v := (0 : Int32)) X.2.2.1 X.2.2.2.1 dX0_errorPosition_14 rfl k) ?_
  exact a_ireturn X Z.2.2.1 Z.2.2.2.1 dX0_errorPosition_15 hf
theorem np_X4_errorPosition : npar yX4_errorPosition.desc 0 := by unfold npar; decide +kernel
theorem hy_X4_errorPosition : yX4_errorPosition.cls ≠ "java/lang/invoke/MethodHandle" ∧ yX4_errorPosition.cls ≠ "java/lang/invoke/VarHandle" := by decide +kernel
theorem w_X4_errorPosition (GA : GA l s0 a0 K lam) (v0 : Option Nat) : AMet l s0 K lam yX4_errorPosition (Cond.code yX4_errorPosition cX4_errorPosition (1 : Nat) (Option.some ClassFile.FieldType.int)) 1 21 [vR v0] oI (f_X4_errorPosition K v0) := by
  refine AMet.of GA.1 (plainFor_of_name (by decide +kernel)) (Nat.le_of_ble_eq_true rfl) ?_
  intro b r hf p e s m args below meth c X hr hlk hnm hnd ht ls hl
  have Z : WZ l s0 a0 K p s m c cX4_errorPosition yX4_errorPosition.cls 1 b { frames := 1, cells := K 0 - aX b, slots := K 1 - aW b, locals := 21 } 1 21 meth [] (some (.int)) yX4_errorPosition := ⟨⟨X, GA.2.1, GA.2.2.1, rfl, rfl, Nat.le_refl _, Nat.le_refl _⟩, tab_nil ht, hr, hlk, hnm, hnd⟩
  unfold f_X4_errorPosition at hf
  clear hr hlk hnm hnd ht
  refine a_aload_n (pc := 0) X dX4_errorPosition_0 rfl hl 0 rfl ?_
  refine AW.lift (fun _ _ _ _ k => lv_iconst (pc := 1) (v := (0 : Int32)) X.2.2.1 X.2.2.2.1 dX4_errorPosition_1 rfl k) ?_
  refine a_put (pc := 2) (φ := 107) X Z.1.2.1 Z.1.2.2.1 (gw X.1 X.2.1 q3032) (fun _ q => q) (by decide) rfl rfl dX4_errorPosition_2 hf (fun h hf => ?_)
  refine a_aload_n (pc := 5) X dX4_errorPosition_5 rfl hl 0 rfl ?_
  refine a_get (pc := 6) (φ := 111) pI_t X Z.1.2.1 (gw X.1 X.2.1 q3036) (fun _ q => q) (by decide) dX4_errorPosition_6 hf (fun x6 hf => ?_)
  refine AW.lift (fun _ _ _ _ k => lv_iconst (pc := 9) (v := (-1 : Int32)) X.2.2.1 X.2.2.2.1 dX4_errorPosition_9 rfl k) ?_
  refine AW.lift2 (fun _ _ _ _ k1 k2 => lv_icmp_ne (pc := 10) (tgt := 21) X.2.2.1 X.2.2.2.1 dX4_errorPosition_10 rfl k2 k1) (fun c => ?_) (fun c => ?_)
  · have hf := ite_t c hf
    refine a_aload_n (pc := 13) X dX4_errorPosition_13 rfl hl 0 rfl ?_
    refine AW.lift (fun _ _ _ _ k => lv_iconst (pc := 14) (v := (1 : Int32)) X.2.2.1 X.2.2.2.1 dX4_errorPosition_14 rfl k) ?_
    obtain ⟨a15, rfl, ⟨hk, hf⟩ | ⟨-, hf⟩⟩ := dv_some hf
    rotate_left
    · exact fl_none hf
    refine a_callb (pc := 15) (rs := []) (avs := [vR (some a15), vI (1 : Int32)]) Z.1 (w_X4_throwing GA (some a15) (1 : Int32)) (Or.inl rfl) q3120 q86 (by decide) (by decide) dX4_errorPosition_15 hl.1 (Nat.le_of_ble_eq_true rfl) hf (ct_V hk ⟨by decide, by decide⟩ X (Or.inl rfl) q3120 q3117 q3119 pv_30 hy_X4_throwing np_X4_throwing rfl dX4_errorPosition_15) (fun q h he hX => a_out (unc_of Z.2.1 rfl) Z.2.2.2.1 he hX) (fun x15 h hf => ?kk15)
    refine AW.eq (g2 := F0 m 18 ls [.int x15]) rfl ?_
    refine AW.lift (fun _ _ _ _ k => lv_goto (pc := 18) (tgt := 25) X.2.2.1 X.2.2.2.1 dX4_errorPosition_18 rfl k) ?_
    exact a_ireturn X Z.2.2.1 Z.2.2.2.1 dX4_errorPosition_25 hf
  · have hf := ite_f c hf
    refine a_aload_n (pc := 21) X dX4_errorPosition_21 rfl hl 0 rfl ?_
    refine a_get (pc := 22) (φ := 111) pI_t X Z.1.2.1 (gw X.1 X.2.1 q3036) (fun _ q => q) (by decide) dX4_errorPosition_22 hf (fun x22 hf => ?_)
    exact a_ireturn X Z.2.2.1 Z.2.2.2.1 dX4_errorPosition_25 hf
theorem w_X1_undo_j15 {r : Except Nat (Int32) × AH} (GA : GA l s0 a0 K lam) (Z : WZ l s0 a0 K p s m c cX1_undo yX1_undo.cls 1 b R 9 420 meth [] (some (.int)) yX1_undo) (v0 : Option Nat) (t0 : Int32)  {h : AH} {ls : Array Slot} (hl : LV ls 1 [(0, vR v0)]) (hf : f_X1_undo_j15 K v0 t0 h = some r) : AW s0 K lam p l e R s m args below meth c (AQ s0 K lam below oI b r s) b h (F0 m 15 ls [.int t0]) := by
  unfold f_X1_undo_j15 at hf
  have X := Z.1.1
  refine a_callb (pc := 15) (rs := []) (avs := [vI t0]) Z.1 (w_X1_checkElement GA t0) (Or.inl rfl) q1968 q74 (by decide) (by decide) dX1_undo_15 hl.1 (Nat.le_of_ble_eq_true rfl) hf (ct_S X (Or.inl rfl) q1968 q74 q1966 q1967 hy_X1_checkElement np_X1_checkElement rfl dX1_undo_15) (fun q h he hX => a_out (unc_of Z.2.1 rfl) Z.2.2.2.1 he hX) (fun _ h hf => ?kk15)
  refine AW.eq (g2 := F0 m 18 ls []) rfl ?_
  refine a_aload_n (pc := 18) X dX1_undo_18 rfl hl 0 rfl ?_
  refine a_aload_n (pc := 19) X dX1_undo_19 rfl hl 0 rfl ?_
  refine a_get (pc := 20) (φ := 202) pR_t X Z.1.2.1 (gw X.1 X.2.1 q311) (fun _ q => q) (by decide) dX1_undo_20 hf (fun x20 hf => ?_)
  refine a_aload_n (pc := 23) X dX1_undo_23 rfl hl 0 rfl ?_
  refine a_get (pc := 24) (φ := 202) pR_t X Z.1.2.1 (gw X.1 X.2.1 q311) (fun _ q => q) (by decide) dX1_undo_24 hf (fun x24 hf => ?_)
  obtain ⟨a27, rfl, ⟨hk, hf⟩ | ⟨-, hf⟩⟩ := dv_some hf
  rotate_left
  · exact fl_none hf
  refine a_callb (pc := 27) (rs := [vR x20, vR v0]) (avs := [vR (some a27)]) Z.1 (w_J2_size GA (some a27)) (Or.inl rfl) q1012 q78 (by decide) (by decide) dX1_undo_27 hl.1 (Nat.le_of_ble_eq_true rfl) hf (ct_V hk ⟨by decide, by decide⟩ X (Or.inl rfl) q1012 q1705 q1011 q3486 hy_J2_size np_J2_size rfl dX1_undo_27) (fun q h he hX => a_out (unc_of Z.2.1 rfl) Z.2.2.2.1 he hX) (fun x27 h hf => ?kk27)
  refine AW.eq (g2 := F0 m 30 ls [.int x27, va_rf x20, va_rf v0]) rfl ?_
  refine AW.lift (fun _ _ _ _ k => lv_iconst (pc := 30) (v := (1 : Int32)) X.2.2.1 X.2.2.2.1 dX1_undo_30 rfl k) ?_
  refine AW.lift (fun _ _ _ _ k => lv_isub (pc := 31) X.2.2.1 X.2.2.2.1 dX1_undo_31 k) ?_
  obtain ⟨a32, rfl, ⟨hk, hf⟩ | ⟨-, hf⟩⟩ := dv_some hf
  rotate_left
  · exact fl_none hf
  refine a_callb (pc := 32) (rs := [vR v0]) (avs := [vR (some a32), vI (x27 - (1 : Int32))]) Z.1 (w_J2_remove GA (some a32) (x27 - (1 : Int32))) (Or.inl rfl) q1762 q78 (by decide) (by decide) dX1_undo_32 hl.1 (Nat.le_of_ble_eq_true rfl) hf (ct_V hk ⟨by decide, by decide⟩ X (Or.inl rfl) q1762 q1759 q1760 q1761 hy_J2_remove np_J2_remove rfl dX1_undo_32) (fun q h he hX => a_out (unc_of Z.2.1 rfl) Z.2.2.2.1 he hX) (fun x32 h hf => ?kk32)
  refine AW.eq (g2 := F0 m 35 ls [va_rf x32, va_rf v0]) rfl ?_
  refine a_checkcast (pc := 35) X (gw X.1 X.2.1 q146) (cs_JumpHall_Hall GA) dX1_undo_35 hf (fun hf => ?_)
  refine a_put (pc := 38) (φ := 200) X Z.1.2.1 Z.1.2.2.1 (gw X.1 X.2.1 q309) (fun _ q => q) (by decide) rfl (fits_rf _ (Or.inl ⟨_, rfl⟩)) dX1_undo_38 hf (fun h hf => ?_)
  refine a_aload_n (pc := 41) X dX1_undo_41 rfl hl 0 rfl ?_
  refine a_get (pc := 42) (φ := 202) pR_t X Z.1.2.1 (gw X.1 X.2.1 q311) (fun _ q => q) (by decide) dX1_undo_42 hf (fun x42 hf => ?_)
  obtain ⟨a45, rfl, ⟨hk, hf⟩ | ⟨-, hf⟩⟩ := dv_some hf
  rotate_left
  · exact fl_none hf
  refine a_callb (pc := 45) (rs := []) (avs := [vR (some a45)]) Z.1 (w_J2_size GA (some a45)) (Or.inl rfl) q1012 q78 (by decide) (by decide) dX1_undo_45 hl.1 (Nat.le_of_ble_eq_true rfl) hf (ct_V hk ⟨by decide, by decide⟩ X (Or.inl rfl) q1012 q1705 q1011 q3486 hy_J2_size np_J2_size rfl dX1_undo_45) (fun q h he hX => a_out (unc_of Z.2.1 rfl) Z.2.2.2.1 he hX) (fun x45 h hf => ?kk45)
  refine AW.eq (g2 := F0 m 48 ls [.int x45]) rfl ?_
  exact a_ireturn X Z.2.2.1 Z.2.2.2.1 dX1_undo_48 hf
theorem np_X1_undo : npar yX1_undo.desc 0 := by unfold npar; decide +kernel
theorem hy_X1_undo : yX1_undo.cls ≠ "java/lang/invoke/MethodHandle" ∧ yX1_undo.cls ≠ "java/lang/invoke/VarHandle" := by decide +kernel
theorem w_X1_undo (GA : GA l s0 a0 K lam) (v0 : Option Nat) : AMet l s0 K lam yX1_undo (Cond.code yX1_undo cX1_undo (1 : Nat) (Option.some ClassFile.FieldType.int)) 9 420 [vR v0] oI (f_X1_undo K v0) := by
  refine AMet.of GA.1 (plainFor_of_name (by decide +kernel)) (Nat.le_of_ble_eq_true rfl) ?_
  intro b r hf p e s m args below meth c X hr hlk hnm hnd ht ls hl
  have Z : WZ l s0 a0 K p s m c cX1_undo yX1_undo.cls 1 b { frames := 9, cells := K 0 - aX b, slots := K 1 - aW b, locals := 420 } 9 420 meth [] (some (.int)) yX1_undo := ⟨⟨X, GA.2.1, GA.2.2.1, rfl, rfl, Nat.le_refl _, Nat.le_refl _⟩, tab_nil ht, hr, hlk, hnm, hnd⟩
  unfold f_X1_undo at hf
  clear hr hlk hnm hnd ht
  refine a_aload_n (pc := 0) X dX1_undo_0 rfl hl 0 rfl ?_
  refine a_get (pc := 1) (φ := 202) pR_t X Z.1.2.1 (gw X.1 X.2.1 q311) (fun _ q => q) (by decide) dX1_undo_1 hf (fun x1 hf => ?_)
  obtain ⟨a4, rfl, ⟨hk, hf⟩ | ⟨-, hf⟩⟩ := dv_some hf
  rotate_left
  · exact fl_none hf
  refine a_callb (pc := 4) (rs := []) (avs := [vR (some a4)]) Z.1 (w_J2_size GA (some a4)) (Or.inl rfl) q1012 q78 (by decide) (by decide) dX1_undo_4 hl.1 (Nat.le_of_ble_eq_true rfl) hf (ct_V hk ⟨by decide, by decide⟩ X (Or.inl rfl) q1012 q1705 q1011 q3486 hy_J2_size np_J2_size rfl dX1_undo_4) (fun q h he hX => a_out (unc_of Z.2.1 rfl) Z.2.2.2.1 he hX) (fun x4 h hf => ?kk4)
  refine AW.eq (g2 := F0 m 7 ls [.int x4]) rfl ?_
  refine AW.lift2 (fun _ _ _ _ k1 k2 => lv_if_le (pc := 7) (tgt := 14) X.2.2.1 X.2.2.2.1 dX1_undo_7 rfl k1 k2) (fun c => ?_) (fun c => ?_)
  · have hf := ite_t c hf
    refine AW.lift (fun _ _ _ _ k => lv_iconst (pc := 14) (v := (0 : Int32)) X.2.2.1 X.2.2.2.1 dX1_undo_14 rfl k) ?_
    exact w_X1_undo_j15 GA Z v0 (0 : Int32)  (hl.sub [0] rfl) hf
  · have hf := ite_f c hf
    refine AW.lift (fun _ _ _ _ k => lv_iconst (pc := 10) (v := (1 : Int32)) X.2.2.1 X.2.2.2.1 dX1_undo_10 rfl k) ?_
    refine AW.lift (fun _ _ _ _ k => lv_goto (pc := 11) (tgt := 15) X.2.2.1 X.2.2.2.1 dX1_undo_11 rfl k) ?_
    exact w_X1_undo_j15 GA Z v0 (1 : Int32)  (hl.sub [0] rfl) hf
theorem np_X0_undo : npar yX0_undo.desc 2 := by unfold npar; decide +kernel
theorem hy_X0_undo : yX0_undo.cls ≠ "java/lang/invoke/MethodHandle" ∧ yX0_undo.cls ≠ "java/lang/invoke/VarHandle" := by decide +kernel
theorem w_X0_undo (GA : GA l s0 a0 K lam) (v0 : Option Nat) (v1 : Option Nat) : AMet l s0 K lam yX0_undo (Cond.codeWith yX0_undo cX0_undo (3 : Nat) (Option.some ClassFile.FieldType.int) [((0 : Nat), (8 : Nat), (11 : Nat), (39 : Nat))]) 10 440 [vR v0, vR v1] oI (f_X0_undo K v0 v1) := by
  refine AMet.ofW GA.1 (plainFor_of_name (by decide +kernel)) (Nat.le_of_ble_eq_true rfl) ?_
  intro b r hf p e s m args below meth c X hr hlk hnm hnd ht ls hl
  have Z : WZ l s0 a0 K p s m c cX0_undo yX0_undo.cls 3 b { frames := 10, cells := K 0 - aX b, slots := K 1 - aW b, locals := 440 } 10 440 meth [(0, 8, 11, 39)] (some (.int)) yX0_undo := ⟨⟨X, GA.2.1, GA.2.2.1, rfl, rfl, Nat.le_refl _, Nat.le_refl _⟩, ht, hr, hlk, hnm, hnd⟩
  unfold f_X0_undo at hf
  clear hr hlk hnm hnd ht
  refine a_aload_n (pc := 0) X dX0_undo_0 rfl hl 1 rfl ?_
  refine AW.lift (fun _ _ _ _ k => lv_iconst (pc := 1) (v := (0 : Int32)) X.2.2.1 X.2.2.2.1 dX0_undo_1 rfl k) ?_
  refine a_aload_n (pc := 2) X dX0_undo_2 rfl hl 0 rfl ?_
  obtain ⟨a3, rfl, ⟨hk, hf⟩ | ⟨-, hf⟩⟩ := dv_tsome hf
  rotate_left
  · exact fl_tnone hf
  refine a_callt (pc := 3) (rs := [vI (0 : Int32), vR v1]) (avs := [vR (some a3)]) Z.1 (w_X1_undo GA (some a3)) (Or.inl rfl) q3007 q74 (by decide) (by decide) dX0_undo_3 hl.1 (Nat.le_of_ble_eq_true rfl) hf (ct_V hk ⟨by decide, by decide⟩ X (Or.inl rfl) q3007 q3004 q3005 q3006 hy_X1_undo np_X1_undo rfl dX0_undo_3) (fun q h hf hX => ?hx3) (fun x3 h hf => ?kk3)
  case hx3 =>
    rcases ctc_some hf with ⟨hy, hf⟩ | ⟨hn0, hf⟩
    · refine a_catchH (st := 0) (en := 8) (hp := 11) (ct := 39) (pre := []) (suf := []) X hX Z.2.1 rfl (fun z hz => nomatch hz) (by decide) (Or.inr ⟨by decide, _, gw X.1 X.2.1 q1961, (cs_X20 GA) _ hy⟩) (AW.eq (g2 := F0 m 11 ls [va_rf (some q)]) rfl ?_)
      refine a_astore_n (pc := 11) X dX0_undo_11 rfl hl (by decide) (lv' := [(2, vR (some q)), (0, vR (some a3)), (1, vR v1)]) rfl (fun ls hl => ?_)
      refine AW.lift (fun _ _ _ _ k => lv_iconst (pc := 12) (v := (1 : Int32)) X.2.2.1 X.2.2.2.1 dX0_undo_12 rfl k) ?_
      exact a_ireturn X Z.2.2.1 Z.2.2.2.1 dX0_undo_13 hf
    · skip
      exact a_outH X Z.2.1 (by intro z hz; simp only [List.mem_cons, List.not_mem_nil, or_false] at hz; rcases hz with rfl <;> first | exact Or.inl (by decide) | exact Or.inr ⟨by decide, _, gw X.1 X.2.1 q1961, (nc_12_13_14_16_17_18_19_21_java_util_NoSuchElementException GA _ (by simpa using hn0)).2.2⟩) Z.2.2.2.1 (th_eq hf) hX
  refine AW.eq (g2 := F0 m 6 ls [.int x3, .int (0 : Int32), va_rf v1]) rfl ?_
  refine AW.lift (fun _ _ _ _ k => lv_i2l (pc := 6) X.2.2.1 X.2.2.2.1 dX0_undo_6 rfl k) ?_
  refine a_lastore (pc := 7) X dX0_undo_7 hf (fun h hf => ?_)
  refine AW.lift (fun _ _ _ _ k => lv_goto (pc := 8) (tgt := 14) X.2.2.1 X.2.2.2.1 dX0_undo_8 rfl k) ?_
  refine AW.lift (fun _ _ _ _ k => lv_iconst (pc := 14) (v := (0 : Int32)) X.2.2.1 X.2.2.2.1 dX0_undo_14 rfl k) ?_
  exact a_ireturn X Z.2.2.1 Z.2.2.2.1 dX0_undo_15 hf
theorem w_X4_undo_j64 {r : Except Nat (Int32) × AH} (GA : GA l s0 a0 K lam) (Z : WZ l s0 a0 K p s m c cX4_undo yX4_undo.cls 2 b R 1 21 meth [] (some (.int)) yX4_undo) (v0 : Option Nat)   {h : AH} {ls : Array Slot} (hl : LV ls 2 [(0, vR v0)]) (hf : f_X4_undo_j64 K v0 h = some r) : AW s0 K lam p l e R s m args below meth c (AQ s0 K lam below oI b r s) b h (F0 m 64 ls []) := by
  unfold f_X4_undo_j64 at hf
  have X := Z.1.1
  refine a_aload_n (pc := 64) X dX4_undo_64 rfl hl 0 rfl ?_
  refine a_get (pc := 65) (φ := 106) pI_t X Z.1.2.1 (gw X.1 X.2.1 q3031) (fun _ q => q) (by decide) dX4_undo_65 hf (fun x65 hf => ?_)
  exact a_ireturn X Z.2.2.1 Z.2.2.2.1 dX4_undo_68 hf
theorem w_X4_undo_b30 {r : Except Nat (Int32) × AH} (GA : GA l s0 a0 K lam) (Z : WZ l s0 a0 K p s m c cX4_undo yX4_undo.cls 2 b R 1 21 meth [] (some (.int)) yX4_undo) (v0 : Option Nat) (v1 : Int32)  (rc30 : Int32 → AM (Int32)) (hrc30 : ∀ (v1 : Int32) (h : AH) (ls : Array Slot), LV ls 2 [(0, vR v0), (1, vI v1)] → rc30 v1 h = some r → AW s0 K lam p l e R s m args below meth c (AQ s0 K lam below oI b r s) b h (F0 m 30 ls [])) {h : AH} {ls : Array Slot} (hl : LV ls 2 [(0, vR v0), (1, vI v1)]) (hf : f_X4_undo_b30 K rc30 v0 v1 h = some r) : AW s0 K lam p l e R s m args below meth c (AQ s0 K lam below oI b r s) b h (F0 m 30 ls []) := by
  unfold f_X4_undo_b30 at hf
  have X := Z.1.1
  refine a_iload_n (pc := 30) X dX4_undo_30 rfl hl 1 rfl ?_
  refine AW.lift (fun _ _ _ _ k => lv_sipush (pc := 31) (v := (306 : Int32)) X.2.2.1 X.2.2.2.1 dX4_undo_31 rfl k) ?_
  refine AW.lift2 (fun _ _ _ _ k1 k2 => lv_icmp_ge (pc := 34) (tgt := 64) X.2.2.1 X.2.2.2.1 dX4_undo_34 rfl k1 k2) (fun c => ?_) (fun c => ?_)
  · have hf := ite_t c hf
    exact w_X4_undo_j64 GA Z v0   (hl.sub [0] rfl) hf
  · have hf := ite_f c hf
    refine a_aload_n (pc := 37) X dX4_undo_37 rfl hl 0 rfl ?_
    refine a_get (pc := 38) (φ := 100) pR_t X Z.1.2.1 (gw X.1 X.2.1 q3025) (fun _ q => q) (by decide) dX4_undo_38 hf (fun x38 hf => ?_)
    refine a_iload_n (pc := 41) X dX4_undo_41 rfl hl 1 rfl ?_
    refine a_aload_n (pc := 42) X dX4_undo_42 rfl hl 0 rfl ?_
    refine a_get (pc := 43) (φ := 105) pR_t X Z.1.2.1 (gw X.1 X.2.1 q3030) (fun _ q => q) (by decide) dX4_undo_43 hf (fun x43 hf => ?_)
    refine AW.lift (fun _ _ _ _ k => lv_sipush (pc := 46) (v := (306 : Int32)) X.2.2.1 X.2.2.2.1 dX4_undo_46 rfl k) ?_
    refine a_aload_n (pc := 49) X dX4_undo_49 rfl hl 0 rfl ?_
    refine a_get (pc := 50) (φ := 106) pI_t X Z.1.2.1 (gw X.1 X.2.1 q3031) (fun _ q => q) (by decide) dX4_undo_50 hf (fun x50 hf => ?_)
    refine AW.lift (fun _ _ _ _ k => lv_imul (pc := 53) X.2.2.1 X.2.2.2.1 dX4_undo_53 k) ?_
    refine a_iload_n (pc := 54) X dX4_undo_54 rfl hl 1 rfl ?_
    refine AW.lift (fun _ _ _ _ k => lv_iadd (pc := 55) X.2.2.1 X.2.2.2.1 dX4_undo_55 k) ?_
    refine a_iaload (pc := 56) X dX4_undo_56 hf (fun x56 hf => ?_)
    refine a_iastore (pc := 57) X dX4_undo_57 hf (fun h hf => ?_)
    refine a_iinc (pc := 58) (v := (v1 + (1 : Int32))) X dX4_undo_58 hl (k := 1) rfl rfl (by decide) (lv' := [(1, vI (v1 + (1 : Int32))), (0, vR v0)]) rfl (fun ls hl => ?_)
    refine AW.lift (fun _ _ _ _ k => lv_goto (pc := 61) (tgt := 30) X.2.2.1 X.2.2.2.1 dX4_undo_61 rfl k) ?_
    exact hrc30 (v1 + (1 : Int32)) _ _ (hl.sub [1, 0] rfl) hf
theorem w_X4_undo_l30 {r : Except Nat (Int32) × AH} (GA : GA l s0 a0 K lam) (Z : WZ l s0 a0 K p s m c cX4_undo yX4_undo.cls 2 b R 1 21 meth [] (some (.int)) yX4_undo) (v0 : Option Nat)  : ∀ (n : Nat) (v1 : Int32) (h : AH) (ls : Array Slot), LV ls 2 [(0, vR v0), (1, vI v1)] → f_X4_undo_l30 K v0 n v1 h = some r → AW s0 K lam p l e R s m args below meth c (AQ s0 K lam below oI b r s) b h (F0 m 30 ls []) := by
  intro n
  induction n with
  | zero => intro v1 h ls hl hf; exact fl_no (h := h) hf
  | succ n ih => intro v1 h ls hl hf; exact w_X4_undo_b30 GA Z v0 v1 (f_X4_undo_l30 K v0 n) ih hl hf
theorem np_X4_undo : npar yX4_undo.desc 0 := by unfold npar; decide +kernel
theorem hy_X4_undo : yX4_undo.cls ≠ "java/lang/invoke/MethodHandle" ∧ yX4_undo.cls ≠ "java/lang/invoke/VarHandle" := by decide +kernel
theorem w_X4_undo (GA : GA l s0 a0 K lam) (v0 : Option Nat) : AMet l s0 K lam yX4_undo (Cond.code yX4_undo cX4_undo (2 : Nat) (Option.some ClassFile.FieldType.int)) 1 21 [vR v0] oI (f_X4_undo K v0) := by
  refine AMet.of GA.1 (plainFor_of_name (by decide +kernel)) (Nat.le_of_ble_eq_true rfl) ?_
  intro b r hf p e s m args below meth c X hr hlk hnm hnd ht ls hl
  have Z : WZ l s0 a0 K p s m c cX4_undo yX4_undo.cls 2 b { frames := 1, cells := K 0 - aX b, slots := K 1 - aW b, locals := 21 } 1 21 meth [] (some (.int)) yX4_undo := ⟨⟨X, GA.2.1, GA.2.2.1, rfl, rfl, Nat.le_refl _, Nat.le_refl _⟩, tab_nil ht, hr, hlk, hnm, hnd⟩
  unfold f_X4_undo at hf
  clear hr hlk hnm hnd ht
  refine a_aload_n (pc := 0) X dX4_undo_0 rfl hl 0 rfl ?_
  refine AW.lift (fun _ _ _ _ k => lv_iconst (pc := 1) (v := (0 : Int32)) X.2.2.1 X.2.2.2.1 dX4_undo_1 rfl k) ?_
  refine a_put (pc := 2) (φ := 107) X Z.1.2.1 Z.1.2.2.1 (gw X.1 X.2.1 q3032) (fun _ q => q) (by decide) rfl rfl dX4_undo_2 hf (fun h hf => ?_)
  refine a_aload_n (pc := 5) X dX4_undo_5 rfl hl 0 rfl ?_
  refine a_get (pc := 6) (φ := 106) pI_t X Z.1.2.1 (gw X.1 X.2.1 q3031) (fun _ q => q) (by decide) dX4_undo_6 hf (fun x6 hf => ?_)
  refine AW.lift2 (fun _ _ _ _ k1 k2 => lv_if_ne (pc := 9) (tgt := 18) X.2.2.1 X.2.2.2.1 dX4_undo_9 rfl k2 k1) (fun c => ?_) (fun c => ?_)
  · have hf := ite_t c hf
    refine a_aload_n (pc := 12) X dX4_undo_12 rfl hl 0 rfl ?_
    refine AW.lift (fun _ _ _ _ k => lv_iconst (pc := 13) (v := (1 : Int32)) X.2.2.1 X.2.2.2.1 dX4_undo_13 rfl k) ?_
    obtain ⟨a14, rfl, ⟨hk, hf⟩ | ⟨-, hf⟩⟩ := dv_some hf
    rotate_left
    · exact fl_none hf
    refine a_callb (pc := 14) (rs := []) (avs := [vR (some a14), vI (1 : Int32)]) Z.1 (w_X4_throwing GA (some a14) (1 : Int32)) (Or.inl rfl) q3120 q86 (by decide) (by decide) dX4_undo_14 hl.1 (Nat.le_of_ble_eq_true rfl) hf (ct_V hk ⟨by decide, by decide⟩ X (Or.inl rfl) q3120 q3117 q3119 pv_30 hy_X4_throwing np_X4_throwing rfl dX4_undo_14) (fun q h he hX => a_out (unc_of Z.2.1 rfl) Z.2.2.2.1 he hX) (fun x14 h hf => ?kk14)
    refine AW.eq (g2 := F0 m 17 ls [.int x14]) rfl ?_
    exact a_ireturn X Z.2.2.1 Z.2.2.2.1 dX4_undo_17 hf
  · have hf := ite_f c hf
    refine a_aload_n (pc := 18) X dX4_undo_18 rfl hl 0 rfl ?_
    refine AW.lift (fun _ _ _ _ k => lv_dup (pc := 19) X.2.2.1 X.2.2.2.1 dX4_undo_19 (cat_rf _) k) ?_
    refine a_get (pc := 20) (φ := 106) pI_t X Z.1.2.1 (gw X.1 X.2.1 q3031) (fun _ q => q) (by decide) dX4_undo_20 hf (fun x20 hf => ?_)
    refine AW.lift (fun _ _ _ _ k => lv_iconst (pc := 23) (v := (1 : Int32)) X.2.2.1 X.2.2.2.1 dX4_undo_23 rfl k) ?_
    refine AW.lift (fun _ _ _ _ k => lv_isub (pc := 24) X.2.2.1 X.2.2.2.1 dX4_undo_24 k) ?_
    refine a_put (pc := 25) (φ := 106) X Z.1.2.1 Z.1.2.2.1 (gw X.1 X.2.1 q3031) (fun _ q => q) (by decide) rfl rfl dX4_undo_25 hf (fun h hf => ?_)
    refine AW.lift (fun _ _ _ _ k => lv_iconst (pc := 28) (v := (0 : Int32)) X.2.2.1 X.2.2.2.1 dX4_undo_28 rfl k) ?_
    refine a_istore_n (pc := 29) X dX4_undo_29 rfl hl (by decide) (lv' := [(1, vI (0 : Int32)), (0, vR v0)]) rfl (fun ls hl => ?_)
    exact w_X4_undo_l30 GA Z v0  FU (0 : Int32) _ _ (hl.sub [1, 0] rfl) hf
theorem np_X1_save : npar yX1_save.desc 0 := by unfold npar; decide +kernel
theorem hy_X1_save : yX1_save.cls ≠ "java/lang/invoke/MethodHandle" ∧ yX1_save.cls ≠ "java/lang/invoke/VarHandle" := by decide +kernel
theorem w_X1_save (GA : GA l s0 a0 K lam) (v0 : Option Nat) : AMet l s0 K lam yX1_save (Cond.code yX1_save cX1_save (1 : Nat) (Option.some ClassFile.FieldType.int)) 15 1215 [vR v0] oI (f_X1_save K v0) := by
  refine AMet.of GA.1 (plainFor_of_name (by decide +kernel)) (Nat.le_of_ble_eq_true rfl) ?_
  intro b r hf p e s m args below meth c X hr hlk hnm hnd ht ls hl
  have Z : WZ l s0 a0 K p s m c cX1_save yX1_save.cls 1 b { frames := 15, cells := K 0 - aX b, slots := K 1 - aW b, locals := 1215 } 15 1215 meth [] (some (.int)) yX1_save := ⟨⟨X, GA.2.1, GA.2.2.1, rfl, rfl, Nat.le_refl _, Nat.le_refl _⟩, tab_nil ht, hr, hlk, hnm, hnd⟩
  unfold f_X1_save at hf
  clear hr hlk hnm hnd ht
  refine a_aload_n (pc := 0) X dX1_save_0 rfl hl 0 rfl ?_
  refine a_aload_n (pc := 1) X dX1_save_1 rfl hl 0 rfl ?_
  refine a_get (pc := 2) (φ := 200) pR_t X Z.1.2.1 (gw X.1 X.2.1 q309) (fun _ q => q) (by decide) dX1_save_2 hf (fun x2 hf => ?_)
  obtain ⟨a5, rfl, ⟨hk, hf⟩ | ⟨-, hf⟩⟩ := dv_some hf
  rotate_left
  · exact fl_none hf
  refine a_callb (pc := 5) (rs := [vR v0]) (avs := [vR (some a5)]) Z.1 (w_X2_copy GA (some a5)) (Or.inl rfl) q341 q75 (by decide) (by decide) dX1_save_5 hl.1 (Nat.le_of_ble_eq_true rfl) hf (ct_V hk ⟨by decide, by decide⟩ X (Or.inl rfl) q341 q338 q339 q340 hy_X2_copy np_X2_copy rfl dX1_save_5) (fun q h he hX => a_out (unc_of Z.2.1 rfl) Z.2.2.2.1 he hX) (fun x5 h hf => ?kk5)
  refine AW.eq (g2 := F0 m 8 ls [va_rf x5, va_rf v0]) rfl ?_
  refine a_put (pc := 8) (φ := 201) X Z.1.2.1 Z.1.2.2.1 (gw X.1 X.2.1 q310) (fun _ q => q) (by decide) rfl (fits_rf _ (Or.inl ⟨_, rfl⟩)) dX1_save_8 hf (fun h hf => ?_)
  refine a_aload_n (pc := 11) X dX1_save_11 rfl hl 0 rfl ?_
  refine a_get (pc := 12) (φ := 201) pR_t X Z.1.2.1 (gw X.1 X.2.1 q310) (fun _ q => q) (by decide) dX1_save_12 hf (fun x12 hf => ?_)
  refine a_getN (pc := 15) (φ := 300) pR_t X Z.1.2.1 (gnF X.1 X.2.1 q229) (fun _ q => q) (by decide) dX1_save_15 hf (fun x15 hf => ?_)
  obtain ⟨a18, rfl, ⟨hk, hf⟩ | ⟨-, hf⟩⟩ := dv_some hf
  rotate_left
  · exact fl_none hf
  refine a_callb (pc := 18) (rs := []) (avs := [vR (some a18)]) Z.1 (w_J2_size GA (some a18)) (Or.inl rfl) q1012 q78 (by decide) (by decide) dX1_save_18 hl.1 (Nat.le_of_ble_eq_true rfl) hf (ct_V hk ⟨by decide, by decide⟩ X (Or.inl rfl) q1012 q1705 q1011 q3486 hy_J2_size np_J2_size rfl dX1_save_18) (fun q h he hX => a_out (unc_of Z.2.1 rfl) Z.2.2.2.1 he hX) (fun x18 h hf => ?kk18)
  refine AW.eq (g2 := F0 m 21 ls [.int x18]) rfl ?_
  exact a_ireturn X Z.2.2.1 Z.2.2.2.1 dX1_save_21 hf
theorem w_X4_save_j32 {r : Except Nat (Int32) × AH} (GA : GA l s0 a0 K lam) (Z : WZ l s0 a0 K p s m c cX4_save yX4_save.cls 2 b R 0 0 meth [] (some (.int)) yX4_save) (v0 : Option Nat)   {h : AH} {ls : Array Slot} (hl : LV ls 2 [(0, vR v0)]) (hf : f_X4_save_j32 K v0 h = some r) : AW s0 K lam p l e R s m args below meth c (AQ s0 K lam below oI b r s) b h (F0 m 32 ls []) := by
  unfold f_X4_save_j32 at hf
  have X := Z.1.1
  refine a_aload_n (pc := 32) X dX4_save_32 rfl hl 0 rfl ?_
  refine AW.lift (fun _ _ _ _ k => lv_iconst (pc := 33) (v := (1 : Int32)) X.2.2.1 X.2.2.2.1 dX4_save_33 rfl k) ?_
  refine a_put (pc := 34) (φ := 104) X Z.1.2.1 Z.1.2.2.1 (gw X.1 X.2.1 q3029) (fun _ q => q) (by decide) rfl rfl dX4_save_34 hf (fun h hf => ?_)
  refine a_aload_n (pc := 37) X dX4_save_37 rfl hl 0 rfl ?_
  refine a_get (pc := 38) (φ := 100) pR_t X Z.1.2.1 (gw X.1 X.2.1 q3025) (fun _ q => q) (by decide) dX4_save_38 hf (fun x38 hf => ?_)
  refine AW.lift (fun _ _ _ _ k => lv_iconst (pc := 41) (v := (1 : Int32)) X.2.2.1 X.2.2.2.1 dX4_save_41 rfl k) ?_
  refine a_iaload (pc := 42) X dX4_save_42 hf (fun x42 hf => ?_)
  exact a_ireturn X Z.2.2.1 Z.2.2.2.1 dX4_save_43 hf
theorem w_X4_save_b7 {r : Except Nat (Int32) × AH} (GA : GA l s0 a0 K lam) (Z : WZ l s0 a0 K p s m c cX4_save yX4_save.cls 2 b R 0 0 meth [] (some (.int)) yX4_save) (v0 : Option Nat) (v1 : Int32)  (rc7 : Int32 → AM (Int32)) (hrc7 : ∀ (v1 : Int32) (h : AH) (ls : Array Slot), LV ls 2 [(0, vR v0), (1, vI v1)] → rc7 v1 h = some r → AW s0 K lam p l e R s m args below meth c (AQ s0 K lam below oI b r s) b h (F0 m 7 ls [])) {h : AH} {ls : Array Slot} (hl : LV ls 2 [(0, vR v0), (1, vI v1)]) (hf : f_X4_save_b7 K rc7 v0 v1 h = some r) : AW s0 K lam p l e R s m args below meth c (AQ s0 K lam below oI b r s) b h (F0 m 7 ls []) := by
  unfold f_X4_save_b7 at hf
  have X := Z.1.1
  refine a_iload_n (pc := 7) X dX4_save_7 rfl hl 1 rfl ?_
  refine AW.lift (fun _ _ _ _ k => lv_sipush (pc := 8) (v := (306 : Int32)) X.2.2.1 X.2.2.2.1 dX4_save_8 rfl k) ?_
  refine AW.lift2 (fun _ _ _ _ k1 k2 => lv_icmp_ge (pc := 11) (tgt := 32) X.2.2.1 X.2.2.2.1 dX4_save_11 rfl k1 k2) (fun c => ?_) (fun c => ?_)
  · have hf := ite_t c hf
    exact w_X4_save_j32 GA Z v0   (hl.sub [0] rfl) hf
  · have hf := ite_f c hf
    refine a_aload_n (pc := 14) X dX4_save_14 rfl hl 0 rfl ?_
    refine a_get (pc := 15) (φ := 103) pR_t X Z.1.2.1 (gw X.1 X.2.1 q3028) (fun _ q => q) (by decide) dX4_save_15 hf (fun x15 hf => ?_)
    refine a_iload_n (pc := 18) X dX4_save_18 rfl hl 1 rfl ?_
    refine a_aload_n (pc := 19) X dX4_save_19 rfl hl 0 rfl ?_
    refine a_get (pc := 20) (φ := 100) pR_t X Z.1.2.1 (gw X.1 X.2.1 q3025) (fun _ q => q) (by decide) dX4_save_20 hf (fun x20 hf => ?_)
    refine a_iload_n (pc := 23) X dX4_save_23 rfl hl 1 rfl ?_
    refine a_iaload (pc := 24) X dX4_save_24 hf (fun x24 hf => ?_)
    refine a_iastore (pc := 25) X dX4_save_25 hf (fun h hf => ?_)
    refine a_iinc (pc := 26) (v := (v1 + (1 : Int32))) X dX4_save_26 hl (k := 1) rfl rfl (by decide) (lv' := [(1, vI (v1 + (1 : Int32))), (0, vR v0)]) rfl (fun ls hl => ?_)
    refine AW.lift (fun _ _ _ _ k => lv_goto (pc := 29) (tgt := 7) X.2.2.1 X.2.2.2.1 dX4_save_29 rfl k) ?_
    exact hrc7 (v1 + (1 : Int32)) _ _ (hl.sub [1, 0] rfl) hf
theorem w_X4_save_l7 {r : Except Nat (Int32) × AH} (GA : GA l s0 a0 K lam) (Z : WZ l s0 a0 K p s m c cX4_save yX4_save.cls 2 b R 0 0 meth [] (some (.int)) yX4_save) (v0 : Option Nat)  : ∀ (n : Nat) (v1 : Int32) (h : AH) (ls : Array Slot), LV ls 2 [(0, vR v0), (1, vI v1)] → f_X4_save_l7 K v0 n v1 h = some r → AW s0 K lam p l e R s m args below meth c (AQ s0 K lam below oI b r s) b h (F0 m 7 ls []) := by
  intro n
  induction n with
  | zero => intro v1 h ls hl hf; exact fl_no (h := h) hf
  | succ n ih => intro v1 h ls hl hf; exact w_X4_save_b7 GA Z v0 v1 (f_X4_save_l7 K v0 n) ih hl hf
theorem np_X4_save : npar yX4_save.desc 0 := by unfold npar; decide +kernel
theorem hy_X4_save : yX4_save.cls ≠ "java/lang/invoke/MethodHandle" ∧ yX4_save.cls ≠ "java/lang/invoke/VarHandle" := by decide +kernel
theorem w_X4_save (GA : GA l s0 a0 K lam) (v0 : Option Nat) : AMet l s0 K lam yX4_save (Cond.code yX4_save cX4_save (2 : Nat) (Option.some ClassFile.FieldType.int)) 0 0 [vR v0] oI (f_X4_save K v0) := by
  refine AMet.of GA.1 (plainFor_of_name (by decide +kernel)) (Nat.le_of_ble_eq_true rfl) ?_
  intro b r hf p e s m args below meth c X hr hlk hnm hnd ht ls hl
  have Z : WZ l s0 a0 K p s m c cX4_save yX4_save.cls 2 b { frames := 0, cells := K 0 - aX b, slots := K 1 - aW b, locals := 0 } 0 0 meth [] (some (.int)) yX4_save := ⟨⟨X, GA.2.1, GA.2.2.1, rfl, rfl, Nat.le_refl _, Nat.le_refl _⟩, tab_nil ht, hr, hlk, hnm, hnd⟩
  unfold f_X4_save at hf
  clear hr hlk hnm hnd ht
  refine a_aload_n (pc := 0) X dX4_save_0 rfl hl 0 rfl ?_
  refine AW.lift (fun _ _ _ _ k => lv_iconst (pc := 1) (v := (0 : Int32)) X.2.2.1 X.2.2.2.1 dX4_save_1 rfl k) ?_
  refine a_put (pc := 2) (φ := 107) X Z.1.2.1 Z.1.2.2.1 (gw X.1 X.2.1 q3032) (fun _ q => q) (by decide) rfl rfl dX4_save_2 hf (fun h hf => ?_)
  refine AW.lift (fun _ _ _ _ k => lv_iconst (pc := 5) (v := (0 : Int32)) X.2.2.1 X.2.2.2.1 dX4_save_5 rfl k) ?_
  refine a_istore_n (pc := 6) X dX4_save_6 rfl hl (by decide) (lv' := [(1, vI (0 : Int32)), (0, vR v0)]) rfl (fun ls hl => ?_)
  exact w_X4_save_l7 GA Z v0  FU (0 : Int32) _ _ (hl.sub [1, 0] rfl) hf
theorem w_J2_clear_b27 {r : Except Nat (Unit) × AH} (GA : GA l s0 a0 K lam) (Z : WZ l s0 a0 K p s m c cJ2_clear yJ2_clear.cls 4 b R 0 0 meth [] none yJ2_clear) (v1 : Option Nat) (v2 : Int32) (v3 : Int32)  (rc27 : Int32 → AM (Unit)) (hrc27 : ∀ (v3 : Int32) (h : AH) (ls : Array Slot), LV ls 4 [(1, vR v1), (2, vI v2), (3, vI v3)] → rc27 v3 h = some r → AW s0 K lam p l e R s m args below meth c (AQ s0 K lam below oV b r s) b h (F0 m 27 ls [])) {h : AH} {ls : Array Slot} (hl : LV ls 4 [(1, vR v1), (2, vI v2), (3, vI v3)]) (hf : f_J2_clear_b27 K rc27 v1 v2 v3 h = some r) : AW s0 K lam p l e R s m args below meth c (AQ s0 K lam below oV b r s) b h (F0 m 27 ls []) := by
  unfold f_J2_clear_b27 at hf
  have X := Z.1.1
  refine a_iload_n (pc := 27) X dJ2_clear_27 rfl hl 2 rfl ?_
  refine a_iload_n (pc := 28) X dJ2_clear_28 rfl hl 1 rfl ?_
  refine AW.lift2 (fun _ _ _ _ k1 k2 => lv_icmp_ge (pc := 29) (tgt := 42) X.2.2.1 X.2.2.2.1 dJ2_clear_29 rfl k1 k2) (fun c => ?_) (fun c => ?_)
  · have hf := ite_t c hf
    exact a_return X Z.2.2.1 Z.2.2.2.1 dJ2_clear_42 hf
  · have hf := ite_f c hf
    refine a_aload_n (pc := 32) X dJ2_clear_32 rfl hl 0 rfl ?_
    refine a_iload_n (pc := 33) X dJ2_clear_33 rfl hl 2 rfl ?_
    refine a_null (pc := 34) X dJ2_clear_34 ?_
    refine a_aastore (pc := 35) (t := 1006) (C := "java/lang/Object") (by decide) rfl X (cs_java_lang_Object GA) dJ2_clear_35 hf (fun h hf => ?_)
    refine a_iinc (pc := 36) (v := (v3 + (1 : Int32))) X dJ2_clear_36 hl (k := 2) rfl rfl (by decide) (lv' := [(3, vI (v3 + (1 : Int32))), (1, vR v1), (2, vI v2)]) rfl (fun ls hl => ?_)
    refine AW.lift (fun _ _ _ _ k => lv_goto (pc := 39) (tgt := 27) X.2.2.1 X.2.2.2.1 dJ2_clear_39 rfl k) ?_
    exact hrc27 (v3 + (1 : Int32)) _ _ (hl.sub [1, 2, 0] rfl) hf
theorem w_J2_clear_l27 {r : Except Nat (Unit) × AH} (GA : GA l s0 a0 K lam) (Z : WZ l s0 a0 K p s m c cJ2_clear yJ2_clear.cls 4 b R 0 0 meth [] none yJ2_clear) (v1 : Option Nat) (v2 : Int32)  : ∀ (n : Nat) (v3 : Int32) (h : AH) (ls : Array Slot), LV ls 4 [(1, vR v1), (2, vI v2), (3, vI v3)] → f_J2_clear_l27 K v1 v2 n v3 h = some r → AW s0 K lam p l e R s m args below meth c (AQ s0 K lam below oV b r s) b h (F0 m 27 ls []) := by
  intro n
  induction n with
  | zero => intro v3 h ls hl hf; exact fl_no (h := h) hf
  | succ n ih => intro v3 h ls hl hf; exact w_J2_clear_b27 GA Z v1 v2 v3 (f_J2_clear_l27 K v1 v2 n) ih hl hf
theorem np_J2_clear : npar yJ2_clear.desc 0 := by unfold npar; decide +kernel
theorem hy_J2_clear : yJ2_clear.cls ≠ "java/lang/invoke/MethodHandle" ∧ yJ2_clear.cls ≠ "java/lang/invoke/VarHandle" := by decide +kernel
theorem w_J2_clear (GA : GA l s0 a0 K lam) (v0 : Option Nat) : AMet l s0 K lam yJ2_clear (Cond.code yJ2_clear cJ2_clear (4 : Nat) (Option.none : Option ClassFile.FieldType)) 0 0 [vR v0] oV (f_J2_clear K v0) := by
  refine AMet.of GA.1 (plainFor_of_name (by decide +kernel)) (Nat.le_of_ble_eq_true rfl) ?_
  intro b r hf p e s m args below meth c X hr hlk hnm hnd ht ls hl
  have Z : WZ l s0 a0 K p s m c cJ2_clear yJ2_clear.cls 4 b { frames := 0, cells := K 0 - aX b, slots := K 1 - aW b, locals := 0 } 0 0 meth [] none yJ2_clear := ⟨⟨X, GA.2.1, GA.2.2.1, rfl, rfl, Nat.le_refl _, Nat.le_refl _⟩, tab_nil ht, hr, hlk, hnm, hnd⟩
  unfold f_J2_clear at hf
  clear hr hlk hnm hnd ht
  refine a_aload_n (pc := 0) X dJ2_clear_0 rfl hl 0 rfl ?_
  refine AW.lift (fun _ _ _ _ k => lv_dup (pc := 1) X.2.2.1 X.2.2.2.1 dJ2_clear_1 (cat_rf _) k) ?_
  refine a_get (pc := 2) (φ := 2400) pI_t X Z.1.2.1 (gw X.1 X.2.1 q173) (sameF (gw (args := args) X.1 X.2.1 q172)) (by decide) dJ2_clear_2 hf (fun x2 hf => ?_)
  refine AW.lift (fun _ _ _ _ k => lv_iconst (pc := 5) (v := (1 : Int32)) X.2.2.1 X.2.2.2.1 dJ2_clear_5 rfl k) ?_
  refine AW.lift (fun _ _ _ _ k => lv_iadd (pc := 6) X.2.2.1 X.2.2.2.1 dJ2_clear_6 k) ?_
  refine a_put (pc := 7) (φ := 2400) X Z.1.2.1 Z.1.2.2.1 (gw X.1 X.2.1 q173) (sameF (gw (args := args) X.1 X.2.1 q172)) (by decide) rfl rfl dJ2_clear_7 hf (fun h hf => ?_)
  refine a_aload_n (pc := 10) X dJ2_clear_10 rfl hl 0 rfl ?_
  refine a_get (pc := 11) (φ := 2500) pR_t X Z.1.2.1 (gw X.1 X.2.1 q166) (fun _ q => q) (by decide) dJ2_clear_11 hf (fun x11 hf => ?_)
  refine a_astore_n (pc := 14) X dJ2_clear_14 rfl hl (by decide) (lv' := [(1, vR x11), (0, vR v0)]) rfl (fun ls hl => ?_)
  refine a_aload_n (pc := 15) X dJ2_clear_15 rfl hl 1 rfl ?_
  refine a_get (pc := 16) (φ := 2501) pI_t X Z.1.2.1 (gw X.1 X.2.1 q169) (fun _ q => q) (by decide) dJ2_clear_16 hf (fun x16 hf => ?_)
  refine a_istore_n (pc := 19) X dJ2_clear_19 rfl hl (by decide) (lv' := [(2, vI x16), (1, vR x11), (0, vR v0)]) rfl (fun ls hl => ?_)
  refine a_aload_n (pc := 20) X dJ2_clear_20 rfl hl 2 rfl ?_
  refine AW.lift (fun _ _ _ _ k => lv_iconst (pc := 21) (v := (0 : Int32)) X.2.2.1 X.2.2.2.1 dJ2_clear_21 rfl k) ?_
  refine AW.lift (fun _ _ _ _ k => lv_dup_x1 (pc := 22) X.2.2.1 X.2.2.2.1 dJ2_clear_22 rfl (cat_rf _) k) ?_
  refine a_put (pc := 23) (φ := 2501) X Z.1.2.1 Z.1.2.2.1 (gw X.1 X.2.1 q169) (fun _ q => q) (by decide) rfl rfl dJ2_clear_23 hf (fun h hf => ?_)
  refine a_istore_n (pc := 26) X dJ2_clear_26 rfl hl (by decide) (lv' := [(3, vI (0 : Int32)), (2, vI x16), (1, vR x11), (0, vR v0)]) rfl (fun ls hl => ?_)
  exact w_J2_clear_l27 GA Z x11 x16  FU (0 : Int32) _ _ (hl.sub [2, 1, 0] rfl) hf
theorem w_X1_restore_j12 {r : Except Nat (Int32) × AH} (GA : GA l s0 a0 K lam) (Z : WZ l s0 a0 K p s m c cX1_restore yX1_restore.cls 1 b R 15 1215 meth [] (some (.int)) yX1_restore) (v0 : Option Nat) (t0 : Int32)  {h : AH} {ls : Array Slot} (hl : LV ls 1 [(0, vR v0)]) (hf : f_X1_restore_j12 K v0 t0 h = some r) : AW s0 K lam p l e R s m args below meth c (AQ s0 K lam below oI b r s) b h (F0 m 12 ls [.int t0]) := by
  unfold f_X1_restore_j12 at hf
  have X := Z.1.1
  refine a_callb (pc := 12) (rs := []) (avs := [vI t0]) Z.1 (w_X1_checkState GA t0) (Or.inl rfl) q2659 q74 (by decide) (by decide) dX1_restore_12 hl.1 (Nat.le_of_ble_eq_true rfl) hf (ct_S X (Or.inl rfl) q2659 q74 q2657 q2658 hy_X1_checkState np_X1_checkState rfl dX1_restore_12) (fun q h he hX => a_out (unc_of Z.2.1 rfl) Z.2.2.2.1 he hX) (fun _ h hf => ?kk12)
  refine AW.eq (g2 := F0 m 15 ls []) rfl ?_
  refine a_aload_n (pc := 15) X dX1_restore_15 rfl hl 0 rfl ?_
  refine a_aload_n (pc := 16) X dX1_restore_16 rfl hl 0 rfl ?_
  refine a_get (pc := 17) (φ := 201) pR_t X Z.1.2.1 (gw X.1 X.2.1 q310) (fun _ q => q) (by decide) dX1_restore_17 hf (fun x17 hf => ?_)
  obtain ⟨a20, rfl, ⟨hk, hf⟩ | ⟨-, hf⟩⟩ := dv_some hf
  rotate_left
  · exact fl_none hf
  refine a_callb (pc := 20) (rs := [vR v0]) (avs := [vR (some a20)]) Z.1 (w_X2_copy GA (some a20)) (Or.inl rfl) q341 q75 (by decide) (by decide) dX1_restore_20 hl.1 (Nat.le_of_ble_eq_true rfl) hf (ct_V hk ⟨by decide, by decide⟩ X (Or.inl rfl) q341 q338 q339 q340 hy_X2_copy np_X2_copy rfl dX1_restore_20) (fun q h he hX => a_out (unc_of Z.2.1 rfl) Z.2.2.2.1 he hX) (fun x20 h hf => ?kk20)
  refine AW.eq (g2 := F0 m 23 ls [va_rf x20, va_rf v0]) rfl ?_
  refine a_put (pc := 23) (φ := 200) X Z.1.2.1 Z.1.2.2.1 (gw X.1 X.2.1 q309) (fun _ q => q) (by decide) rfl (fits_rf _ (Or.inl ⟨_, rfl⟩)) dX1_restore_23 hf (fun h hf => ?_)
  refine a_aload_n (pc := 26) X dX1_restore_26 rfl hl 0 rfl ?_
  refine a_get (pc := 27) (φ := 202) pR_t X Z.1.2.1 (gw X.1 X.2.1 q311) (fun _ q => q) (by decide) dX1_restore_27 hf (fun x27 hf => ?_)
  obtain ⟨a30, rfl, ⟨hk, hf⟩ | ⟨-, hf⟩⟩ := dv_some hf
  rotate_left
  · exact fl_none hf
  refine a_callb (pc := 30) (rs := []) (avs := [vR (some a30)]) Z.1 (w_J2_clear GA (some a30)) (Or.inl rfl) q3018 q78 (by decide) (by decide) dX1_restore_30 hl.1 (Nat.le_of_ble_eq_true rfl) hf (ct_V hk ⟨by decide, by decide⟩ X (Or.inl rfl) q3018 q3015 q3016 q3017 hy_J2_clear np_J2_clear rfl dX1_restore_30) (fun q h he hX => a_out (unc_of Z.2.1 rfl) Z.2.2.2.1 he hX) (fun _ h hf => ?kk30)
  refine AW.eq (g2 := F0 m 33 ls []) rfl ?_
  refine a_aload_n (pc := 33) X dX1_restore_33 rfl hl 0 rfl ?_
  refine a_get (pc := 34) (φ := 200) pR_t X Z.1.2.1 (gw X.1 X.2.1 q309) (fun _ q => q) (by decide) dX1_restore_34 hf (fun x34 hf => ?_)
  refine a_getN (pc := 37) (φ := 300) pR_t X Z.1.2.1 (gnF X.1 X.2.1 q229) (fun _ q => q) (by decide) dX1_restore_37 hf (fun x37 hf => ?_)
  obtain ⟨a40, rfl, ⟨hk, hf⟩ | ⟨-, hf⟩⟩ := dv_some hf
  rotate_left
  · exact fl_none hf
  refine a_callb (pc := 40) (rs := []) (avs := [vR (some a40)]) Z.1 (w_J2_size GA (some a40)) (Or.inl rfl) q1012 q78 (by decide) (by decide) dX1_restore_40 hl.1 (Nat.le_of_ble_eq_true rfl) hf (ct_V hk ⟨by decide, by decide⟩ X (Or.inl rfl) q1012 q1705 q1011 q3486 hy_J2_size np_J2_size rfl dX1_restore_40) (fun q h he hX => a_out (unc_of Z.2.1 rfl) Z.2.2.2.1 he hX) (fun x40 h hf => ?kk40)
  refine AW.eq (g2 := F0 m 43 ls [.int x40]) rfl ?_
  exact a_ireturn X Z.2.2.1 Z.2.2.2.1 dX1_restore_43 hf
theorem np_X1_restore : npar yX1_restore.desc 0 := by unfold npar; decide +kernel
theorem hy_X1_restore : yX1_restore.cls ≠ "java/lang/invoke/MethodHandle" ∧ yX1_restore.cls ≠ "java/lang/invoke/VarHandle" := by decide +kernel
theorem w_X1_restore (GA : GA l s0 a0 K lam) (v0 : Option Nat) : AMet l s0 K lam yX1_restore (Cond.code yX1_restore cX1_restore (1 : Nat) (Option.some ClassFile.FieldType.int)) 15 1215 [vR v0] oI (f_X1_restore K v0) := by
  refine AMet.of GA.1 (plainFor_of_name (by decide +kernel)) (Nat.le_of_ble_eq_true rfl) ?_
  intro b r hf p e s m args below meth c X hr hlk hnm hnd ht ls hl
  have Z : WZ l s0 a0 K p s m c cX1_restore yX1_restore.cls 1 b { frames := 15, cells := K 0 - aX b, slots := K 1 - aW b, locals := 1215 } 15 1215 meth [] (some (.int)) yX1_restore := ⟨⟨X, GA.2.1, GA.2.2.1, rfl, rfl, Nat.le_refl _, Nat.le_refl _⟩, tab_nil ht, hr, hlk, hnm, hnd⟩
  unfold f_X1_restore at hf
  clear hr hlk hnm hnd ht
  refine a_aload_n (pc := 0) X dX1_restore_0 rfl hl 0 rfl ?_
  refine a_get (pc := 1) (φ := 201) pR_t X Z.1.2.1 (gw X.1 X.2.1 q310) (fun _ q => q) (by decide) dX1_restore_1 hf (fun x1 hf => ?_)
  refine a_ifnull (pc := 4) (tgt := 11) X dX1_restore_4 rfl (fun c => ?_) (fun c => ?_)
  · have hf := ite_t c hf
    refine AW.lift (fun _ _ _ _ k => lv_iconst (pc := 11) (v := (0 : Int32)) X.2.2.1 X.2.2.2.1 dX1_restore_11 rfl k) ?_
    exact w_X1_restore_j12 GA Z v0 (0 : Int32)  (hl.sub [0] rfl) hf
  · have hf := ite_f c hf
    refine AW.lift (fun _ _ _ _ k => lv_iconst (pc := 7) (v := (1 : Int32)) X.2.2.1 X.2.2.2.1 dX1_restore_7 rfl k) ?_
    refine AW.lift (fun _ _ _ _ k => lv_goto (pc := 8) (tgt := 12) X.2.2.1 X.2.2.2.1 dX1_restore_8 rfl k) ?_
    exact w_X1_restore_j12 GA Z v0 (1 : Int32)  (hl.sub [0] rfl) hf
theorem np_X0_restore : npar yX0_restore.desc 2 := by unfold npar; decide +kernel
theorem hy_X0_restore : yX0_restore.cls ≠ "java/lang/invoke/MethodHandle" ∧ yX0_restore.cls ≠ "java/lang/invoke/VarHandle" := by decide +kernel
theorem w_X0_restore (GA : GA l s0 a0 K lam) (v0 : Option Nat) (v1 : Option Nat) : AMet l s0 K lam yX0_restore (Cond.codeWith yX0_restore cX0_restore (3 : Nat) (Option.some ClassFile.FieldType.int) [((0 : Nat), (8 : Nat), (11 : Nat), (125 : Nat))]) 16 1235 [vR v0, vR v1] oI (f_X0_restore K v0 v1) := by
  refine AMet.ofW GA.1 (plainFor_of_name (by decide +kernel)) (Nat.le_of_ble_eq_true rfl) ?_
  intro b r hf p e s m args below meth c X hr hlk hnm hnd ht ls hl
  have Z : WZ l s0 a0 K p s m c cX0_restore yX0_restore.cls 3 b { frames := 16, cells := K 0 - aX b, slots := K 1 - aW b, locals := 1235 } 16 1235 meth [(0, 8, 11, 125)] (some (.int)) yX0_restore := ⟨⟨X, GA.2.1, GA.2.2.1, rfl, rfl, Nat.le_refl _, Nat.le_refl _⟩, ht, hr, hlk, hnm, hnd⟩
  unfold f_X0_restore at hf
  clear hr hlk hnm hnd ht
  refine a_aload_n (pc := 0) X dX0_restore_0 rfl hl 1 rfl ?_
  refine AW.lift (fun _ _ _ _ k => lv_iconst (pc := 1) (v := (0 : Int32)) X.2.2.1 X.2.2.2.1 dX0_restore_1 rfl k) ?_
  refine a_aload_n (pc := 2) X dX0_restore_2 rfl hl 0 rfl ?_
  obtain ⟨a3, rfl, ⟨hk, hf⟩ | ⟨-, hf⟩⟩ := dv_tsome hf
  rotate_left
  · exact fl_tnone hf
  refine a_callt (pc := 3) (rs := [vI (0 : Int32), vR v1]) (avs := [vR (some a3)]) Z.1 (w_X1_restore GA (some a3)) (Or.inl rfl) q3014 q74 (by decide) (by decide) dX0_restore_3 hl.1 (Nat.le_of_ble_eq_true rfl) hf (ct_V hk ⟨by decide, by decide⟩ X (Or.inl rfl) q3014 q3011 q3012 q3013 hy_X1_restore np_X1_restore rfl dX0_restore_3) (fun q h hf hX => ?hx3) (fun x3 h hf => ?kk3)
  case hx3 =>
    rcases ctc_some hf with ⟨hy, hf⟩ | ⟨hn0, hf⟩
    · refine a_catchH (st := 0) (en := 8) (hp := 11) (ct := 125) (pre := []) (suf := []) X hX Z.2.1 rfl (fun z hz => nomatch hz) (by decide) (Or.inr ⟨by decide, _, gw X.1 X.2.1 q2652, (cs_X18 GA) _ hy⟩) (AW.eq (g2 := F0 m 11 ls [va_rf (some q)]) rfl ?_)
      refine a_astore_n (pc := 11) X dX0_restore_11 rfl hl (by decide) (lv' := [(2, vR (some q)), (0, vR (some a3)), (1, vR v1)]) rfl (fun ls hl => ?_)
      refine AW.lift (fun _ _ _ _ k => lv_iconst (pc := 12) (v := (1 : Int32)) X.2.2.1 X.2.2.2.1 dX0_restore_12 rfl k) ?_
      exact a_ireturn X Z.2.2.1 Z.2.2.2.1 dX0_restore_13 hf
    · skip
      exact a_outH X Z.2.1 (by intro z hz; simp only [List.mem_cons, List.not_mem_nil, or_false] at hz; rcases hz with rfl <;> first | exact Or.inl (by decide) | exact Or.inr ⟨by decide, _, gw X.1 X.2.1 q2652, (nc_12_13_14_16_17_19_20_21_java_lang_IllegalStateException GA _ (by simpa using hn0)).2.2⟩) Z.2.2.2.1 (th_eq hf) hX
  refine AW.eq (g2 := F0 m 6 ls [.int x3, .int (0 : Int32), va_rf v1]) rfl ?_
  refine AW.lift (fun _ _ _ _ k => lv_i2l (pc := 6) X.2.2.1 X.2.2.2.1 dX0_restore_6 rfl k) ?_
  refine a_lastore (pc := 7) X dX0_restore_7 hf (fun h hf => ?_)
  refine AW.lift (fun _ _ _ _ k => lv_goto (pc := 8) (tgt := 14) X.2.2.1 X.2.2.2.1 dX0_restore_8 rfl k) ?_
  refine AW.lift (fun _ _ _ _ k => lv_iconst (pc := 14) (v := (0 : Int32)) X.2.2.1 X.2.2.2.1 dX0_restore_14 rfl k) ?_
  exact a_ireturn X Z.2.2.1 Z.2.2.2.1 dX0_restore_15 hf
theorem w_X4_restore_j45 {r : Except Nat (Int32) × AH} (GA : GA l s0 a0 K lam) (Z : WZ l s0 a0 K p s m c cX4_restore yX4_restore.cls 2 b R 1 21 meth [] (some (.int)) yX4_restore) (v0 : Option Nat)   {h : AH} {ls : Array Slot} (hl : LV ls 2 [(0, vR v0)]) (hf : f_X4_restore_j45 K v0 h = some r) : AW s0 K lam p l e R s m args below meth c (AQ s0 K lam below oI b r s) b h (F0 m 45 ls []) := by
  unfold f_X4_restore_j45 at hf
  have X := Z.1.1
  refine a_aload_n (pc := 45) X dX4_restore_45 rfl hl 0 rfl ?_
  refine AW.lift (fun _ _ _ _ k => lv_iconst (pc := 46) (v := (0 : Int32)) X.2.2.1 X.2.2.2.1 dX4_restore_46 rfl k) ?_
  refine a_put (pc := 47) (φ := 106) X Z.1.2.1 Z.1.2.2.1 (gw X.1 X.2.1 q3031) (fun _ q => q) (by decide) rfl rfl dX4_restore_47 hf (fun h hf => ?_)
  refine a_aload_n (pc := 50) X dX4_restore_50 rfl hl 0 rfl ?_
  refine a_get (pc := 51) (φ := 100) pR_t X Z.1.2.1 (gw X.1 X.2.1 q3025) (fun _ q => q) (by decide) dX4_restore_51 hf (fun x51 hf => ?_)
  refine AW.lift (fun _ _ _ _ k => lv_iconst (pc := 54) (v := (1 : Int32)) X.2.2.1 X.2.2.2.1 dX4_restore_54 rfl k) ?_
  refine a_iaload (pc := 55) X dX4_restore_55 hf (fun x55 hf => ?_)
  exact a_ireturn X Z.2.2.1 Z.2.2.2.1 dX4_restore_56 hf
theorem w_X4_restore_b20 {r : Except Nat (Int32) × AH} (GA : GA l s0 a0 K lam) (Z : WZ l s0 a0 K p s m c cX4_restore yX4_restore.cls 2 b R 1 21 meth [] (some (.int)) yX4_restore) (v0 : Option Nat) (v1 : Int32)  (rc20 : Int32 → AM (Int32)) (hrc20 : ∀ (v1 : Int32) (h : AH) (ls : Array Slot), LV ls 2 [(0, vR v0), (1, vI v1)] → rc20 v1 h = some r → AW s0 K lam p l e R s m args below meth c (AQ s0 K lam below oI b r s) b h (F0 m 20 ls [])) {h : AH} {ls : Array Slot} (hl : LV ls 2 [(0, vR v0), (1, vI v1)]) (hf : f_X4_restore_b20 K rc20 v0 v1 h = some r) : AW s0 K lam p l e R s m args below meth c (AQ s0 K lam below oI b r s) b h (F0 m 20 ls []) := by
  unfold f_X4_restore_b20 at hf
  have X := Z.1.1
  refine a_iload_n (pc := 20) X dX4_restore_20 rfl hl 1 rfl ?_
  refine AW.lift (fun _ _ _ _ k => lv_sipush (pc := 21) (v := (306 : Int32)) X.2.2.1 X.2.2.2.1 dX4_restore_21 rfl k) ?_
  refine AW.lift2 (fun _ _ _ _ k1 k2 => lv_icmp_ge (pc := 24) (tgt := 45) X.2.2.1 X.2.2.2.1 dX4_restore_24 rfl k1 k2) (fun c => ?_) (fun c => ?_)
  · have hf := ite_t c hf
    exact w_X4_restore_j45 GA Z v0   (hl.sub [0] rfl) hf
  · have hf := ite_f c hf
    refine a_aload_n (pc := 27) X dX4_restore_27 rfl hl 0 rfl ?_
    refine a_get (pc := 28) (φ := 100) pR_t X Z.1.2.1 (gw X.1 X.2.1 q3025) (fun _ q => q) (by decide) dX4_restore_28 hf (fun x28 hf => ?_)
    refine a_iload_n (pc := 31) X dX4_restore_31 rfl hl 1 rfl ?_
    refine a_aload_n (pc := 32) X dX4_restore_32 rfl hl 0 rfl ?_
    refine a_get (pc := 33) (φ := 103) pR_t X Z.1.2.1 (gw X.1 X.2.1 q3028) (fun _ q => q) (by decide) dX4_restore_33 hf (fun x33 hf => ?_)
    refine a_iload_n (pc := 36) X dX4_restore_36 rfl hl 1 rfl ?_
    refine a_iaload (pc := 37) X dX4_restore_37 hf (fun x37 hf => ?_)
    refine a_iastore (pc := 38) X dX4_restore_38 hf (fun h hf => ?_)
    refine a_iinc (pc := 39) (v := (v1 + (1 : Int32))) X dX4_restore_39 hl (k := 1) rfl rfl (by decide) (lv' := [(1, vI (v1 + (1 : Int32))), (0, vR v0)]) rfl (fun ls hl => ?_)
    refine AW.lift (fun _ _ _ _ k => lv_goto (pc := 42) (tgt := 20) X.2.2.1 X.2.2.2.1 dX4_restore_42 rfl k) ?_
    exact hrc20 (v1 + (1 : Int32)) _ _ (hl.sub [1, 0] rfl) hf
theorem w_X4_restore_l20 {r : Except Nat (Int32) × AH} (GA : GA l s0 a0 K lam) (Z : WZ l s0 a0 K p s m c cX4_restore yX4_restore.cls 2 b R 1 21 meth [] (some (.int)) yX4_restore) (v0 : Option Nat)  : ∀ (n : Nat) (v1 : Int32) (h : AH) (ls : Array Slot), LV ls 2 [(0, vR v0), (1, vI v1)] → f_X4_restore_l20 K v0 n v1 h = some r → AW s0 K lam p l e R s m args below meth c (AQ s0 K lam below oI b r s) b h (F0 m 20 ls []) := by
  intro n
  induction n with
  | zero => intro v1 h ls hl hf; exact fl_no (h := h) hf
  | succ n ih => intro v1 h ls hl hf; exact w_X4_restore_b20 GA Z v0 v1 (f_X4_restore_l20 K v0 n) ih hl hf
theorem np_X4_restore : npar yX4_restore.desc 0 := by unfold npar; decide +kernel
theorem hy_X4_restore : yX4_restore.cls ≠ "java/lang/invoke/MethodHandle" ∧ yX4_restore.cls ≠ "java/lang/invoke/VarHandle" := by decide +kernel
theorem w_X4_restore (GA : GA l s0 a0 K lam) (v0 : Option Nat) : AMet l s0 K lam yX4_restore (Cond.code yX4_restore cX4_restore (2 : Nat) (Option.some ClassFile.FieldType.int)) 1 21 [vR v0] oI (f_X4_restore K v0) := by
  refine AMet.of GA.1 (plainFor_of_name (by decide +kernel)) (Nat.le_of_ble_eq_true rfl) ?_
  intro b r hf p e s m args below meth c X hr hlk hnm hnd ht ls hl
  have Z : WZ l s0 a0 K p s m c cX4_restore yX4_restore.cls 2 b { frames := 1, cells := K 0 - aX b, slots := K 1 - aW b, locals := 21 } 1 21 meth [] (some (.int)) yX4_restore := ⟨⟨X, GA.2.1, GA.2.2.1, rfl, rfl, Nat.le_refl _, Nat.le_refl _⟩, tab_nil ht, hr, hlk, hnm, hnd⟩
  unfold f_X4_restore at hf
  clear hr hlk hnm hnd ht
  refine a_aload_n (pc := 0) X dX4_restore_0 rfl hl 0 rfl ?_
  refine AW.lift (fun _ _ _ _ k => lv_iconst (pc := 1) (v := (0 : Int32)) X.2.2.1 X.2.2.2.1 dX4_restore_1 rfl k) ?_
  refine a_put (pc := 2) (φ := 107) X Z.1.2.1 Z.1.2.2.1 (gw X.1 X.2.1 q3032) (fun _ q => q) (by decide) rfl rfl dX4_restore_2 hf (fun h hf => ?_)
  refine a_aload_n (pc := 5) X dX4_restore_5 rfl hl 0 rfl ?_
  refine a_get (pc := 6) (φ := 104) pI_t X Z.1.2.1 (gw X.1 X.2.1 q3029) (fun _ q => q) (by decide) dX4_restore_6 hf (fun x6 hf => ?_)
  refine AW.lift2 (fun _ _ _ _ k1 k2 => lv_if_ne (pc := 9) (tgt := 18) X.2.2.1 X.2.2.2.1 dX4_restore_9 rfl k2 k1) (fun c => ?_) (fun c => ?_)
  · have hf := ite_t c hf
    refine a_aload_n (pc := 12) X dX4_restore_12 rfl hl 0 rfl ?_
    refine AW.lift (fun _ _ _ _ k => lv_iconst (pc := 13) (v := (1 : Int32)) X.2.2.1 X.2.2.2.1 dX4_restore_13 rfl k) ?_
    obtain ⟨a14, rfl, ⟨hk, hf⟩ | ⟨-, hf⟩⟩ := dv_some hf
    rotate_left
    · exact fl_none hf
    refine a_callb (pc := 14) (rs := []) (avs := [vR (some a14), vI (1 : Int32)]) Z.1 (w_X4_throwing GA (some a14) (1 : Int32)) (Or.inl rfl) q3120 q86 (by decide) (by decide) dX4_restore_14 hl.1 (Nat.le_of_ble_eq_true rfl) hf (ct_V hk ⟨by decide, by decide⟩ X (Or.inl rfl) q3120 q3117 q3119 pv_30 hy_X4_throwing np_X4_throwing rfl dX4_restore_14) (fun q h he hX => a_out (unc_of Z.2.1 rfl) Z.2.2.2.1 he hX) (fun x14 h hf => ?kk14)
    refine AW.eq (g2 := F0 m 17 ls [.int x14]) rfl ?_
    exact a_ireturn X Z.2.2.1 Z.2.2.2.1 dX4_restore_17 hf
  · have hf := ite_f c hf
    refine AW.lift (fun _ _ _ _ k => lv_iconst (pc := 18) (v := (0 : Int32)) X.2.2.1 X.2.2.2.1 dX4_restore_18 rfl k) ?_
    refine a_istore_n (pc := 19) X dX4_restore_19 rfl hl (by decide) (lv' := [(1, vI (0 : Int32)), (0, vR v0)]) rfl (fun ls hl => ?_)
    exact w_X4_restore_l20 GA Z v0  FU (0 : Int32) _ _ (hl.sub [1, 0] rfl) hf
theorem w_X1_socks_j29 {r : Except Nat (Int32) × AH} (GA : GA l s0 a0 K lam) (Z : WZ l s0 a0 K p s m c cX1_socks yX1_socks.cls 4 b R 9 420 meth [] (some (.int)) yX1_socks) (v1 : Int32) (v2 : Int32) (t0 : Option Nat)  {h : AH} {ls : Array Slot} (hl : LV ls 4 [(1, vI v1), (2, vI v2)]) (hf : f_X1_socks_j29 K v1 v2 t0 h = some r) : AW s0 K lam p l e R s m args below meth c (AQ s0 K lam below oI b r s) b h (F0 m 29 ls [va_rf t0]) := by
  unfold f_X1_socks_j29 at hf
  have X := Z.1.1
  refine a_new (pc := 29) (cK := 8) (n := 2) X Z.1.2.1 Z.1.2.2.1 Z.1.2.2.2.1 Z.1.2.2.2.2.1 ⟨by decide, by decide, by decide⟩ (gw X.1 X.2.1 q2228) (gw X.1 X.2.1 q2229) (gw X.1 X.2.1 q126) dX1_socks_29 hf (fun x29 h hf => ?_)
  refine AW.lift (fun _ _ _ _ k => lv_dup (pc := 32) X.2.2.1 X.2.2.2.1 dX1_socks_32 (cat_rf _) k) ?_
  refine a_iload_n (pc := 33) X dX1_socks_33 rfl hl 0 rfl ?_
  refine a_iload_n (pc := 34) X dX1_socks_34 rfl hl 1 rfl ?_
  refine a_callb (pc := 35) (rs := [vR (some x29), vR t0]) (avs := [vR (some x29), vI v1, vI v2]) Z.1 (w_X10_init GA (some x29) v1 v2) (Or.inl rfl) q2232 q126 (by decide) (by decide) dX1_socks_35 hl.1 (Nat.le_of_ble_eq_true rfl) hf (ct_I X q2232 q2230 q2231 rfl hy_X10_init np_X10_init rfl dX1_socks_35) (fun q h he hX => a_out (unc_of Z.2.1 rfl) Z.2.2.2.1 he hX) (fun _ h hf => ?kk35)
  refine AW.eq (g2 := F0 m 38 ls [va_rf (some x29), va_rf t0]) rfl ?_
  obtain ⟨a38, rfl, ⟨hk, hf⟩ | ⟨-, hf⟩⟩ := dv_some hf
  rotate_left
  · exact fl_none hf
  refine a_callb (pc := 38) (rs := []) (avs := [vR (some a38), vR (some x29)]) Z.1 (w_X3_of GA (some a38) (some x29)) (Or.inl rfl) q2249 q79 (by decide) (by decide) dX1_socks_38 hl.1 (Nat.le_of_ble_eq_true rfl) hf (ct_V hk ⟨by decide, by decide⟩ X (Or.inl rfl) q2249 q2322 q2247 q2248 hy_X3_of np_X3_of rfl dX1_socks_38) (fun q h he hX => a_out (unc_of Z.2.1 rfl) Z.2.2.2.1 he hX) (fun x38 h hf => ?kk38)
  refine AW.eq (g2 := F0 m 41 ls [.int x38]) rfl ?_
  exact a_ireturn X Z.2.2.1 Z.2.2.2.1 dX1_socks_41 hf
theorem np_X1_socks : npar yX1_socks.desc 3 := by unfold npar; decide +kernel
theorem hy_X1_socks : yX1_socks.cls ≠ "java/lang/invoke/MethodHandle" ∧ yX1_socks.cls ≠ "java/lang/invoke/VarHandle" := by decide +kernel
theorem w_X1_socks (GA : GA l s0 a0 K lam) (v0 : Option Nat) (v1 : Int32) (v2 : Int32) (v3 : Int32) : AMet l s0 K lam yX1_socks (Cond.code yX1_socks cX1_socks (4 : Nat) (Option.some ClassFile.FieldType.int)) 9 420 [vR v0, vI v1, vI v2, vI v3] oI (f_X1_socks K v0 v1 v2 v3) := by
  refine AMet.of GA.1 (plainFor_of_name (by decide +kernel)) (Nat.le_of_ble_eq_true rfl) ?_
  intro b r hf p e s m args below meth c X hr hlk hnm hnd ht ls hl
  have Z : WZ l s0 a0 K p s m c cX1_socks yX1_socks.cls 4 b { frames := 9, cells := K 0 - aX b, slots := K 1 - aW b, locals := 420 } 9 420 meth [] (some (.int)) yX1_socks := ⟨⟨X, GA.2.1, GA.2.2.1, rfl, rfl, Nat.le_refl _, Nat.le_refl _⟩, tab_nil ht, hr, hlk, hnm, hnd⟩
  unfold f_X1_socks at hf
  clear hr hlk hnm hnd ht
  refine a_iload_n (pc := 0) X dX1_socks_0 rfl hl 1 rfl ?_
  refine a_iload_n (pc := 1) X dX1_socks_1 rfl hl 2 rfl ?_
  refine a_callb (pc := 2) (rs := []) (avs := [vI v1, vI v2]) Z.1 (w_X1_areSocks GA v1 v2) (Or.inl rfl) q2225 q74 (by decide) (by decide) dX1_socks_2 hl.1 (Nat.le_of_ble_eq_true rfl) hf (ct_S X (Or.inl rfl) q2225 q74 q2223 q2224 hy_X1_areSocks np_X1_areSocks rfl dX1_socks_2) (fun q h he hX => a_out (unc_of Z.2.1 rfl) Z.2.2.2.1 he hX) (fun x2 h hf => ?kk2)
  refine AW.eq (g2 := F0 m 5 ls [.int x2]) rfl ?_
  refine a_callb (pc := 5) (rs := []) (avs := [vI x2]) Z.1 (w_X1_checkArgument GA x2) (Or.inl rfl) q1880 q74 (by decide) (by decide) dX1_socks_5 hl.1 (Nat.le_of_ble_eq_true rfl) hf (ct_S X (Or.inl rfl) q1880 q74 q1878 q1879 hy_X1_checkArgument np_X1_checkArgument rfl dX1_socks_5) (fun q h he hX => a_out (unc_of Z.2.1 rfl) Z.2.2.2.1 he hX) (fun _ h hf => ?kk5)
  refine AW.eq (g2 := F0 m 8 ls []) rfl ?_
  refine a_iload_n (pc := 8) X dX1_socks_8 rfl hl 3 rfl ?_
  refine AW.lift2 (fun _ _ _ _ k1 k2 => lv_if_eq (pc := 9) (tgt := 22) X.2.2.1 X.2.2.2.1 dX1_socks_9 rfl k1 k2) (fun c => ?_) (fun c => ?_)
  · have hf := ite_t c hf
    refine a_aload_n (pc := 22) X dX1_socks_22 rfl hl 0 rfl ?_
    refine a_get (pc := 23) (φ := 200) pR_t X Z.1.2.1 (gw X.1 X.2.1 q309) (fun _ q => q) (by decide) dX1_socks_23 hf (fun x23 hf => ?_)
    refine a_getN (pc := 26) (φ := 304) pR_t X Z.1.2.1 (gnF X.1 X.2.1 q237) (fun _ q => q) (by decide) dX1_socks_26 hf (fun x26 hf => ?_)
    exact w_X1_socks_j29 GA Z v1 v2 x26  (hl.sub [1, 2] rfl) hf
  · have hf := ite_f c hf
    refine a_aload_n (pc := 12) X dX1_socks_12 rfl hl 0 rfl ?_
    refine a_get (pc := 13) (φ := 200) pR_t X Z.1.2.1 (gw X.1 X.2.1 q309) (fun _ q => q) (by decide) dX1_socks_13 hf (fun x13 hf => ?_)
    refine a_getN (pc := 16) (φ := 305) pR_t X Z.1.2.1 (gnF X.1 X.2.1 q239) (fun _ q => q) (by decide) dX1_socks_16 hf (fun x16 hf => ?_)
    refine AW.lift (fun _ _ _ _ k => lv_goto (pc := 19) (tgt := 29) X.2.2.1 X.2.2.2.1 dX1_socks_19 rfl k) ?_
    exact w_X1_socks_j29 GA Z v1 v2 x16  (hl.sub [1, 2] rfl) hf
theorem np_X0_socks : npar yX0_socks.desc 5 := by unfold npar; decide +kernel
theorem hy_X0_socks : yX0_socks.cls ≠ "java/lang/invoke/MethodHandle" ∧ yX0_socks.cls ≠ "java/lang/invoke/VarHandle" := by decide +kernel
theorem w_X0_socks (GA : GA l s0 a0 K lam) (v0 : Option Nat) (v1 : Int32) (v2 : Int32) (v3 : Int32) (v4 : Option Nat) : AMet l s0 K lam yX0_socks (Cond.codeWith yX0_socks cX0_socks (6 : Nat) (Option.some ClassFile.FieldType.int) [((0 : Nat), (12 : Nat), (15 : Nat), (28 : Nat))]) 10 443 [vR v0, vI v1, vI v2, vI v3, vR v4] oI (f_X0_socks K v0 v1 v2 v3 v4) := by
  refine AMet.ofW GA.1 (plainFor_of_name (by decide +kernel)) (Nat.le_of_ble_eq_true rfl) ?_
  intro b r hf p e s m args below meth c X hr hlk hnm hnd ht ls hl
  have Z : WZ l s0 a0 K p s m c cX0_socks yX0_socks.cls 6 b { frames := 10, cells := K 0 - aX b, slots := K 1 - aW b, locals := 443 } 10 443 meth [(0, 12, 15, 28)] (some (.int)) yX0_socks := ⟨⟨X, GA.2.1, GA.2.2.1, rfl, rfl, Nat.le_refl _, Nat.le_refl _⟩, ht, hr, hlk, hnm, hnd⟩
  unfold f_X0_socks at hf
  clear hr hlk hnm hnd ht
  refine a_aload (pc := 0) X dX0_socks_0 hl 4 rfl ?_
  refine AW.lift (fun _ _ _ _ k => lv_iconst (pc := 2) (v := (0 : Int32)) X.2.2.1 X.2.2.2.1 dX0_socks_2 rfl k) ?_
  refine a_aload_n (pc := 3) X dX0_socks_3 rfl hl 0 rfl ?_
  refine a_iload_n (pc := 4) X dX0_socks_4 rfl hl 1 rfl ?_
  refine a_iload_n (pc := 5) X dX0_socks_5 rfl hl 2 rfl ?_
  refine a_iload_n (pc := 6) X dX0_socks_6 rfl hl 3 rfl ?_
  obtain ⟨a7, rfl, ⟨hk, hf⟩ | ⟨-, hf⟩⟩ := dv_tsome hf
  rotate_left
  · exact fl_tnone hf
  refine a_callt (pc := 7) (rs := [vI (0 : Int32), vR v4]) (avs := [vR (some a7), vI v1, vI v2, vI v3]) Z.1 (w_X1_socks GA (some a7) v1 v2 v3) (Or.inl rfl) q2321 q74 (by decide) (by decide) dX0_socks_7 hl.1 (Nat.le_of_ble_eq_true rfl) hf (ct_V hk ⟨by decide, by decide⟩ X (Or.inl rfl) q2321 q2318 q2319 q2320 hy_X1_socks np_X1_socks rfl dX0_socks_7) (fun q h hf hX => ?hx7) (fun x7 h hf => ?kk7)
  case hx7 =>
    rcases ctc_some hf with ⟨hy, hf⟩ | ⟨hn0, hf⟩
    · refine a_catchH (st := 0) (en := 12) (hp := 15) (ct := 28) (pre := []) (suf := []) X hX Z.2.1 rfl (fun z hz => nomatch hz) (by decide) (Or.inr ⟨by decide, _, gw X.1 X.2.1 q1873, (cs_X17 GA) _ hy⟩) (AW.eq (g2 := F0 m 15 ls [va_rf (some q)]) rfl ?_)
      refine a_astore (pc := 15) X dX0_socks_15 hl (by decide) (lv' := [(5, vR (some q)), (0, vR (some a7)), (1, vI v1), (2, vI v2), (3, vI v3), (4, vR v4)]) rfl (fun ls hl => ?_)
      refine AW.lift (fun _ _ _ _ k => lv_iconst (pc := 17) (v := (1 : Int32)) X.2.2.1 X.2.2.2.1 dX0_socks_17 rfl k) ?_
      exact a_ireturn X Z.2.2.1 Z.2.2.2.1 dX0_socks_18 hf
    · skip
      exact a_outH X Z.2.1 (by intro z hz; simp only [List.mem_cons, List.not_mem_nil, or_false] at hz; rcases hz with rfl <;> first | exact Or.inl (by decide) | exact Or.inr ⟨by decide, _, gw X.1 X.2.1 q1873, (nc_12_13_14_16_18_19_20_21_java_lang_IllegalArgumentException GA _ (by simpa using hn0)).2.2⟩) Z.2.2.2.1 (th_eq hf) hX
  refine AW.eq (g2 := F0 m 10 ls [.int x7, .int (0 : Int32), va_rf v4]) rfl ?_
  refine AW.lift (fun _ _ _ _ k => lv_i2l (pc := 10) X.2.2.1 X.2.2.2.1 dX0_socks_10 rfl k) ?_
  refine a_lastore (pc := 11) X dX0_socks_11 hf (fun h hf => ?_)
  refine AW.lift (fun _ _ _ _ k => lv_goto (pc := 12) (tgt := 19) X.2.2.1 X.2.2.2.1 dX0_socks_12 rfl k) ?_
  refine AW.lift (fun _ _ _ _ k => lv_iconst (pc := 19) (v := (0 : Int32)) X.2.2.1 X.2.2.2.1 dX0_socks_19 rfl k) ?_
  exact a_ireturn X Z.2.2.1 Z.2.2.2.1 dX0_socks_20 hf
theorem w_X5_at_j24 {r : Except Nat (Option Nat) × AH} (GA : GA l s0 a0 K lam) (Z : WZ l s0 a0 K p s m c cX5_at yX5_at.cls 4 b R 4 320 meth [] (some (.object "JumpHall$Hindrance")) yX5_at) (v2 : Option Nat)   {h : AH} {ls : Array Slot} (hl : LV ls 4 [(2, vR v2)]) (hf : f_X5_at_j24 K v2 h = some r) : AW s0 K lam p l e R s m args below meth c (AQ s0 K lam below oR b r s) b h (F0 m 24 ls []) := by
  unfold f_X5_at_j24 at hf
  have X := Z.1.1
  refine a_aload_n (pc := 24) X dX5_at_24 rfl hl 0 rfl ?_
  refine a_checkcast (pc := 25) X (gw X.1 X.2.1 q3000) (cs_JumpHall_Hindrance GA) dX5_at_25 hf (fun hf => ?_)
  exact a_areturn X Z.2.2.1 (Or.inl ⟨_, rfl⟩) Z.2.2.2.1 dX5_at_28 hf
theorem w_X5_at_b4 {r : Except Nat (Option Nat) × AH} (GA : GA l s0 a0 K lam) (Z : WZ l s0 a0 K p s m c cX5_at yX5_at.cls 4 b R 4 320 meth [] (some (.object "JumpHall$Hindrance")) yX5_at) (v1 : Int32) (v2 : Option Nat) (v3 : Int32)  (rc4 : Option Nat → Int32 → AM (Option Nat)) (hrc4 : ∀ (v2 : Option Nat) (v3 : Int32) (h : AH) (ls : Array Slot), LV ls 4 [(1, vI v1), (2, vR v2), (3, vI v3)] → rc4 v2 v3 h = some r → AW s0 K lam p l e R s m args below meth c (AQ s0 K lam below oR b r s) b h (F0 m 4 ls [])) {h : AH} {ls : Array Slot} (hl : LV ls 4 [(1, vI v1), (2, vR v2), (3, vI v3)]) (hf : f_X5_at_b4 K rc4 v1 v2 v3 h = some r) : AW s0 K lam p l e R s m args below meth c (AQ s0 K lam below oR b r s) b h (F0 m 4 ls []) := by
  unfold f_X5_at_b4 at hf
  have X := Z.1.1
  refine a_iload_n (pc := 4) X dX5_at_4 rfl hl 2 rfl ?_
  refine a_iload_n (pc := 5) X dX5_at_5 rfl hl 0 rfl ?_
  refine AW.lift2 (fun _ _ _ _ k1 k2 => lv_icmp_ge (pc := 6) (tgt := 24) X.2.2.1 X.2.2.2.1 dX5_at_6 rfl k1 k2) (fun c => ?_) (fun c => ?_)
  · have hf := ite_t c hf
    exact w_X5_at_j24 GA Z v2   (hl.sub [1] rfl) hf
  · have hf := ite_f c hf
    refine a_aload_n (pc := 9) X dX5_at_9 rfl hl 1 rfl ?_
    refine a_ifnull (pc := 10) (tgt := 24) X dX5_at_10 rfl (fun c => ?_) (fun c => ?_)
    · have hf := ite_t c hf
      exact w_X5_at_j24 GA Z v2   (hl.sub [1] rfl) hf
    · have hf := ite_f c hf
      refine a_aload_n (pc := 13) X dX5_at_13 rfl hl 1 rfl ?_
      obtain ⟨a14, rfl⟩ := dv_ref hf
      refine' a_virt hf ?kv14 ?cs14
      case cs14 =>
        intro hf kk
        rcases dv_someS hf with ⟨hk, hf⟩ | ⟨-, hf⟩
        · refine a_callb (pc := 14) (rs := []) (avs := [vR (some a14)]) Z.1 (w_T_getCause GA (some a14)) (Or.inr (Or.inr rfl)) q2999 q87 (by decide) (by decide) dX5_at_14 hl.1 (Nat.le_of_ble_eq_true rfl) hf (ct_V hk ⟨by decide, by decide⟩ X (Or.inr (Or.inr rfl)) q2999 q2985 q2986 q2990 hy_T_getCause np_T_getCause rfl dX5_at_14) (fun q h he hX => a_out (unc_of Z.2.1 rfl) Z.2.2.2.1 he hX) (fun v h hf => kk v h hf)
        rcases dv_someS hf with ⟨hk, hf⟩ | ⟨-, hf⟩
        · refine a_callb (pc := 14) (rs := []) (avs := [vR (some a14)]) Z.1 (w_T_getCause GA (some a14)) (Or.inr (Or.inr rfl)) q2999 q87 (by decide) (by decide) dX5_at_14 hl.1 (Nat.le_of_ble_eq_true rfl) hf (ct_V hk ⟨by decide, by decide⟩ X (Or.inr (Or.inr rfl)) q2999 q2985 q2986 q2989 hy_T_getCause np_T_getCause rfl dX5_at_14) (fun q h he hX => a_out (unc_of Z.2.1 rfl) Z.2.2.2.1 he hX) (fun v h hf => kk v h hf)
        exact fl_none hf
      case kv14 =>
      intro x14 h hf
      refine AW.eq (g2 := F0 m 17 ls [va_rf x14]) rfl ?_
      refine a_astore_n (pc := 17) X dX5_at_17 rfl hl (by decide) (lv' := [(2, vR x14), (1, vI v1), (3, vI v3)]) rfl (fun ls hl => ?_)
      refine a_iinc (pc := 18) (v := (v3 + (1 : Int32))) X dX5_at_18 hl (k := 2) rfl rfl (by decide) (lv' := [(3, vI (v3 + (1 : Int32))), (2, vR x14), (1, vI v1)]) rfl (fun ls hl => ?_)
      refine AW.lift (fun _ _ _ _ k => lv_goto (pc := 21) (tgt := 4) X.2.2.1 X.2.2.2.1 dX5_at_21 rfl k) ?_
      exact hrc4 x14 (v3 + (1 : Int32)) _ _ (hl.sub [2, 1, 0] rfl) hf
theorem w_X5_at_l4 {r : Except Nat (Option Nat) × AH} (GA : GA l s0 a0 K lam) (Z : WZ l s0 a0 K p s m c cX5_at yX5_at.cls 4 b R 4 320 meth [] (some (.object "JumpHall$Hindrance")) yX5_at) (v1 : Int32)  : ∀ (n : Nat) (v2 : Option Nat) (v3 : Int32) (h : AH) (ls : Array Slot), LV ls 4 [(1, vI v1), (2, vR v2), (3, vI v3)] → f_X5_at_l4 K v1 n v2 v3 h = some r → AW s0 K lam p l e R s m args below meth c (AQ s0 K lam below oR b r s) b h (F0 m 4 ls []) := by
  intro n
  induction n with
  | zero => intro v2 v3 h ls hl hf; exact fl_no (h := h) hf
  | succ n ih => intro v2 v3 h ls hl hf; exact w_X5_at_b4 GA Z v1 v2 v3 (f_X5_at_l4 K v1 n) ih hl hf
theorem np_X5_at : npar yX5_at.desc 1 := by unfold npar; decide +kernel
theorem hy_X5_at : yX5_at.cls ≠ "java/lang/invoke/MethodHandle" ∧ yX5_at.cls ≠ "java/lang/invoke/VarHandle" := by decide +kernel
theorem w_X5_at (GA : GA l s0 a0 K lam) (v0 : Option Nat) (v1 : Int32) : AMet l s0 K lam yX5_at (Cond.code yX5_at cX5_at (4 : Nat) (Option.some (ClassFile.FieldType.object "JumpHall$Hindrance"))) 4 320 [vR v0, vI v1] oR (f_X5_at K v0 v1) := by
  refine AMet.of GA.1 (plainFor_of_name (by decide +kernel)) (Nat.le_of_ble_eq_true rfl) ?_
  intro b r hf p e s m args below meth c X hr hlk hnm hnd ht ls hl
  have Z : WZ l s0 a0 K p s m c cX5_at yX5_at.cls 4 b { frames := 4, cells := K 0 - aX b, slots := K 1 - aW b, locals := 320 } 4 320 meth [] (some (.object "JumpHall$Hindrance")) yX5_at := ⟨⟨X, GA.2.1, GA.2.2.1, rfl, rfl, Nat.le_refl _, Nat.le_refl _⟩, tab_nil ht, hr, hlk, hnm, hnd⟩
  unfold f_X5_at at hf
  clear hr hlk hnm hnd ht
  refine a_aload_n (pc := 0) X dX5_at_0 rfl hl 0 rfl ?_
  refine a_astore_n (pc := 1) X dX5_at_1 rfl hl (by decide) (lv' := [(2, vR v0), (0, vR v0), (1, vI v1)]) rfl (fun ls hl => ?_)
  refine AW.lift (fun _ _ _ _ k => lv_iconst (pc := 2) (v := (0 : Int32)) X.2.2.1 X.2.2.2.1 dX5_at_2 rfl k) ?_
  refine a_istore_n (pc := 3) X dX5_at_3 rfl hl (by decide) (lv' := [(3, vI (0 : Int32)), (2, vR v0), (0, vR v0), (1, vI v1)]) rfl (fun ls hl => ?_)
  exact w_X5_at_l4 GA Z v1  FU v0 (0 : Int32) _ _ (hl.sub [3, 1, 0] rfl) hf
theorem w_X1_reason_j33 {r : Except Nat (Int32) × AH} (GA : GA l s0 a0 K lam) (Z : WZ l s0 a0 K p s m c cX1_reason yX1_reason.cls 4 b R 9 420 meth [] (some (.int)) yX1_reason) (v2 : Int32) (v3 : Option Nat) (t0 : Int32)  {h : AH} {ls : Array Slot} (hl : LV ls 4 [(2, vI v2), (3, vR v3)]) (hf : f_X1_reason_j33 K v2 v3 t0 h = some r) : AW s0 K lam p l e R s m args below meth c (AQ s0 K lam below oI b r s) b h (F0 m 33 ls [.int t0]) := by
  unfold f_X1_reason_j33 at hf
  have X := Z.1.1
  refine a_callb (pc := 33) (rs := []) (avs := [vI t0]) Z.1 (w_X1_checkElement GA t0) (Or.inl rfl) q1968 q74 (by decide) (by decide) dX1_reason_33 hl.1 (Nat.le_of_ble_eq_true rfl) hf (ct_S X (Or.inl rfl) q1968 q74 q1966 q1967 hy_X1_checkElement np_X1_checkElement rfl dX1_reason_33) (fun q h he hX => a_out (unc_of Z.2.1 rfl) Z.2.2.2.1 he hX) (fun _ h hf => ?kk33)
  refine AW.eq (g2 := F0 m 36 ls []) rfl ?_
  refine a_iload_n (pc := 36) X dX1_reason_36 rfl hl 0 rfl ?_
  refine AW.lift2 (fun _ _ _ _ k1 k2 => lv_if_eq (pc := 37) (tgt := 47) X.2.2.1 X.2.2.2.1 dX1_reason_37 rfl k1 k2) (fun c => ?_) (fun c => ?_)
  · have hf := ite_t c hf
    refine a_aload_n (pc := 47) X dX1_reason_47 rfl hl 1 rfl ?_
    refine a_getN (pc := 48) (φ := 1100) pI_t X Z.1.2.1 (gnF X.1 X.2.1 q1741) (fun _ q => q) (by decide) dX1_reason_48 hf (fun x48 hf => ?_)
    exact a_ireturn X Z.2.2.1 Z.2.2.2.1 dX1_reason_51 hf
  · have hf := ite_f c hf
    refine a_aload_n (pc := 40) X dX1_reason_40 rfl hl 1 rfl ?_
    refine a_getN (pc := 41) (φ := 1101) pI_t X Z.1.2.1 (gnF X.1 X.2.1 q1743) (fun _ q => q) (by decide) dX1_reason_41 hf (fun x41 hf => ?_)
    refine AW.lift (fun _ _ _ _ k => lv_goto (pc := 44) (tgt := 51) X.2.2.1 X.2.2.2.1 dX1_reason_44 rfl k) ?_
    exact a_ireturn X Z.2.2.1 Z.2.2.2.1 dX1_reason_51 hf
theorem w_X1_reason_j23 {r : Except Nat (Int32) × AH} (GA : GA l s0 a0 K lam) (Z : WZ l s0 a0 K p s m c cX1_reason yX1_reason.cls 4 b R 9 420 meth [] (some (.int)) yX1_reason) (v2 : Int32) (t0 : Option Nat)  {h : AH} {ls : Array Slot} (hl : LV ls 4 [(2, vI v2)]) (hf : f_X1_reason_j23 K v2 t0 h = some r) : AW s0 K lam p l e R s m args below meth c (AQ s0 K lam below oI b r s) b h (F0 m 23 ls [va_rf t0]) := by
  unfold f_X1_reason_j23 at hf
  have X := Z.1.1
  refine a_astore_n (pc := 23) X dX1_reason_23 rfl hl (by decide) (lv' := [(3, vR t0), (2, vI v2)]) rfl (fun ls hl => ?_)
  refine a_aload_n (pc := 24) X dX1_reason_24 rfl hl 0 rfl ?_
  refine a_ifnull (pc := 25) (tgt := 32) X dX1_reason_25 rfl (fun c => ?_) (fun c => ?_)
  · have hf := ite_t c hf
    refine AW.lift (fun _ _ _ _ k => lv_iconst (pc := 32) (v := (0 : Int32)) X.2.2.1 X.2.2.2.1 dX1_reason_32 rfl k) ?_
    exact w_X1_reason_j33 GA Z v2 t0 (0 : Int32)  (hl.sub [1, 0] rfl) hf
  · have hf := ite_f c hf
    refine AW.lift (fun _ _ _ _ k => lv_iconst (pc := 28) (v := (1 : Int32)) X.2.2.1 X.2.2.2.1 dX1_reason_28 rfl k) ?_
    refine AW.lift (fun _ _ _ _ k => lv_goto (pc := 29) (tgt := 33) X.2.2.1 X.2.2.2.1 dX1_reason_29 rfl k) ?_
    exact w_X1_reason_j33 GA Z v2 t0 (1 : Int32)  (hl.sub [1, 0] rfl) hf
theorem w_X1_reason_j11 {r : Except Nat (Int32) × AH} (GA : GA l s0 a0 K lam) (Z : WZ l s0 a0 K p s m c cX1_reason yX1_reason.cls 4 b R 9 420 meth [] (some (.int)) yX1_reason) (v2 : Int32)   {h : AH} {ls : Array Slot} (hl : LV ls 4 [(2, vI v2)]) (hf : f_X1_reason_j11 K v2 h = some r) : AW s0 K lam p l e R s m args below meth c (AQ s0 K lam below oI b r s) b h (F0 m 11 ls []) := by
  unfold f_X1_reason_j11 at hf
  have X := Z.1.1
  refine a_null (pc := 11) X dX1_reason_11 ?_
  refine AW.lift (fun _ _ _ _ k => lv_goto (pc := 12) (tgt := 23) X.2.2.1 X.2.2.2.1 dX1_reason_12 rfl k) ?_
  exact w_X1_reason_j23 GA Z v2 none  (hl.sub [0] rfl) hf
theorem np_X1_reason : npar yX1_reason.desc 2 := by unfold npar; decide +kernel
theorem hy_X1_reason : yX1_reason.cls ≠ "java/lang/invoke/MethodHandle" ∧ yX1_reason.cls ≠ "java/lang/invoke/VarHandle" := by decide +kernel
theorem w_X1_reason (GA : GA l s0 a0 K lam) (v0 : Option Nat) (v1 : Int32) (v2 : Int32) : AMet l s0 K lam yX1_reason (Cond.code yX1_reason cX1_reason (4 : Nat) (Option.some ClassFile.FieldType.int)) 9 420 [vR v0, vI v1, vI v2] oI (f_X1_reason K v0 v1 v2) := by
  refine AMet.of GA.1 (plainFor_of_name (by decide +kernel)) (Nat.le_of_ble_eq_true rfl) ?_
  intro b r hf p e s m args below meth c X hr hlk hnm hnd ht ls hl
  have Z : WZ l s0 a0 K p s m c cX1_reason yX1_reason.cls 4 b { frames := 9, cells := K 0 - aX b, slots := K 1 - aW b, locals := 420 } 9 420 meth [] (some (.int)) yX1_reason := ⟨⟨X, GA.2.1, GA.2.2.1, rfl, rfl, Nat.le_refl _, Nat.le_refl _⟩, tab_nil ht, hr, hlk, hnm, hnd⟩
  unfold f_X1_reason at hf
  clear hr hlk hnm hnd ht
  refine a_aload_n (pc := 0) X dX1_reason_0 rfl hl 0 rfl ?_
  refine a_get (pc := 1) (φ := 207) pR_t X Z.1.2.1 (gw X.1 X.2.1 q316) (fun _ q => q) (by decide) dX1_reason_1 hf (fun x1 hf => ?_)
  refine a_ifnull (pc := 4) (tgt := 11) X dX1_reason_4 rfl (fun c => ?_) (fun c => ?_)
  · have hf := ite_t c hf
    exact w_X1_reason_j11 GA Z v2   (hl.sub [2] rfl) hf
  · have hf := ite_f c hf
    refine a_iload_n (pc := 7) X dX1_reason_7 rfl hl 1 rfl ?_
    refine AW.lift2 (fun _ _ _ _ k1 k2 => lv_if_ge (pc := 8) (tgt := 15) X.2.2.1 X.2.2.2.1 dX1_reason_8 rfl k1 k2) (fun c => ?_) (fun c => ?_)
    · have hf := ite_t c hf
      refine a_aload_n (pc := 15) X dX1_reason_15 rfl hl 0 rfl ?_
      refine a_get (pc := 16) (φ := 207) pR_t X Z.1.2.1 (gw X.1 X.2.1 q316) (fun _ q => q) (by decide) dX1_reason_16 hf (fun x16 hf => ?_)
      refine a_iload_n (pc := 19) X dX1_reason_19 rfl hl 1 rfl ?_
      obtain ⟨a20, rfl⟩ := dv_ref hf
      refine' a_virt hf ?kv20 ?cs20
      case cs20 =>
        intro hf kk
        rcases dv_someS hf with ⟨hk, hf⟩ | ⟨-, hf⟩
        · refine a_callb (pc := 20) (rs := []) (avs := [vR (some a20), vI v1]) Z.1 (w_X5_at GA (some a20) v1) (Or.inl rfl) q2984 q89 (by decide) (by decide) dX1_reason_20 hl.1 (Nat.le_of_ble_eq_true rfl) hf (ct_V hk ⟨by decide, by decide⟩ X (Or.inl rfl) q2984 q2979 q2980 q2983 hy_X5_at np_X5_at rfl dX1_reason_20) (fun q h he hX => a_out (unc_of Z.2.1 rfl) Z.2.2.2.1 he hX) (fun v h hf => kk v h hf)
        rcases dv_someS hf with ⟨hk, hf⟩ | ⟨-, hf⟩
        · refine a_callb (pc := 20) (rs := []) (avs := [vR (some a20), vI v1]) Z.1 (w_X5_at GA (some a20) v1) (Or.inl rfl) q2984 q89 (by decide) (by decide) dX1_reason_20 hl.1 (Nat.le_of_ble_eq_true rfl) hf (ct_V hk ⟨by decide, by decide⟩ X (Or.inl rfl) q2984 q2979 q2980 q2982 hy_X5_at np_X5_at rfl dX1_reason_20) (fun q h he hX => a_out (unc_of Z.2.1 rfl) Z.2.2.2.1 he hX) (fun v h hf => kk v h hf)
        exact fl_none hf
      case kv20 =>
      intro x20 h hf
      refine AW.eq (g2 := F0 m 23 ls [va_rf x20]) rfl ?_
      exact w_X1_reason_j23 GA Z v2 x20  (hl.sub [2] rfl) hf
    · have hf := ite_f c hf
      exact w_X1_reason_j11 GA Z v2   (hl.sub [2] rfl) hf
theorem np_X0_reason : npar yX0_reason.desc 4 := by unfold npar; decide +kernel
theorem hy_X0_reason : yX0_reason.cls ≠ "java/lang/invoke/MethodHandle" ∧ yX0_reason.cls ≠ "java/lang/invoke/VarHandle" := by decide +kernel
theorem w_X0_reason (GA : GA l s0 a0 K lam) (v0 : Option Nat) (v1 : Int32) (v2 : Int32) (v3 : Option Nat) : AMet l s0 K lam yX0_reason (Cond.codeWith yX0_reason cX0_reason (5 : Nat) (Option.some ClassFile.FieldType.int) [((0 : Nat), (10 : Nat), (13 : Nat), (39 : Nat))]) 10 443 [vR v0, vI v1, vI v2, vR v3] oI (f_X0_reason K v0 v1 v2 v3) := by
  refine AMet.ofW GA.1 (plainFor_of_name (by decide +kernel)) (Nat.le_of_ble_eq_true rfl) ?_
  intro b r hf p e s m args below meth c X hr hlk hnm hnd ht ls hl
  have Z : WZ l s0 a0 K p s m c cX0_reason yX0_reason.cls 5 b { frames := 10, cells := K 0 - aX b, slots := K 1 - aW b, locals := 443 } 10 443 meth [(0, 10, 13, 39)] (some (.int)) yX0_reason := ⟨⟨X, GA.2.1, GA.2.2.1, rfl, rfl, Nat.le_refl _, Nat.le_refl _⟩, ht, hr, hlk, hnm, hnd⟩
  unfold f_X0_reason at hf
  clear hr hlk hnm hnd ht
  refine a_aload_n (pc := 0) X dX0_reason_0 rfl hl 3 rfl ?_
  refine AW.lift (fun _ _ _ _ k => lv_iconst (pc := 1) (v := (0 : Int32)) X.2.2.1 X.2.2.2.1 dX0_reason_1 rfl k) ?_
  refine a_aload_n (pc := 2) X dX0_reason_2 rfl hl 0 rfl ?_
  refine a_iload_n (pc := 3) X dX0_reason_3 rfl hl 1 rfl ?_
  refine a_iload_n (pc := 4) X dX0_reason_4 rfl hl 2 rfl ?_
  obtain ⟨a5, rfl, ⟨hk, hf⟩ | ⟨-, hf⟩⟩ := dv_tsome hf
  rotate_left
  · exact fl_tnone hf
  refine a_callt (pc := 5) (rs := [vI (0 : Int32), vR v3]) (avs := [vR (some a5), vI v1, vI v2]) Z.1 (w_X1_reason GA (some a5) v1 v2) (Or.inl rfl) q2978 q74 (by decide) (by decide) dX0_reason_5 hl.1 (Nat.le_of_ble_eq_true rfl) hf (ct_V hk ⟨by decide, by decide⟩ X (Or.inl rfl) q2978 q2975 q2976 q2977 hy_X1_reason np_X1_reason rfl dX0_reason_5) (fun q h hf hX => ?hx5) (fun x5 h hf => ?kk5)
  case hx5 =>
    rcases ctc_some hf with ⟨hy, hf⟩ | ⟨hn0, hf⟩
    · refine a_catchH (st := 0) (en := 10) (hp := 13) (ct := 39) (pre := []) (suf := []) X hX Z.2.1 rfl (fun z hz => nomatch hz) (by decide) (Or.inr ⟨by decide, _, gw X.1 X.2.1 q1961, (cs_X20 GA) _ hy⟩) (AW.eq (g2 := F0 m 13 ls [va_rf (some q)]) rfl ?_)
      refine a_astore (pc := 13) X dX0_reason_13 hl (by decide) (lv' := [(4, vR (some q)), (0, vR (some a5)), (1, vI v1), (2, vI v2), (3, vR v3)]) rfl (fun ls hl => ?_)
      refine AW.lift (fun _ _ _ _ k => lv_iconst (pc := 15) (v := (1 : Int32)) X.2.2.1 X.2.2.2.1 dX0_reason_15 rfl k) ?_
      exact a_ireturn X Z.2.2.1 Z.2.2.2.1 dX0_reason_16 hf
    · skip
      exact a_outH X Z.2.1 (by intro z hz; simp only [List.mem_cons, List.not_mem_nil, or_false] at hz; rcases hz with rfl <;> first | exact Or.inl (by decide) | exact Or.inr ⟨by decide, _, gw X.1 X.2.1 q1961, (nc_12_13_14_16_17_18_19_21_java_util_NoSuchElementException GA _ (by simpa using hn0)).2.2⟩) Z.2.2.2.1 (th_eq hf) hX
  refine AW.eq (g2 := F0 m 8 ls [.int x5, .int (0 : Int32), va_rf v3]) rfl ?_
  refine AW.lift (fun _ _ _ _ k => lv_i2l (pc := 8) X.2.2.1 X.2.2.2.1 dX0_reason_8 rfl k) ?_
  refine a_lastore (pc := 9) X dX0_reason_9 hf (fun h hf => ?_)
  refine AW.lift (fun _ _ _ _ k => lv_goto (pc := 10) (tgt := 17) X.2.2.1 X.2.2.2.1 dX0_reason_10 rfl k) ?_
  refine AW.lift (fun _ _ _ _ k => lv_iconst (pc := 17) (v := (0 : Int32)) X.2.2.1 X.2.2.2.1 dX0_reason_17 rfl k) ?_
  exact a_ireturn X Z.2.2.1 Z.2.2.2.1 dX0_reason_18 hf
theorem w_X4_socks_j30 {r : Except Nat (Int32) × AH} (GA : GA l s0 a0 K lam) (Z : WZ l s0 a0 K p s m c cX4_socks yX4_socks.cls 4 b R 2 46 meth [] (some (.int)) yX4_socks) (v1 : Int32) (v2 : Int32) (t0 : Int32) (t1 : Option Nat)  {h : AH} {ls : Array Slot} (hl : LV ls 4 [(1, vI v1), (2, vI v2)]) (hf : f_X4_socks_j30 K v1 v2 t0 t1 h = some r) : AW s0 K lam p l e R s m args below meth c (AQ s0 K lam below oI b r s) b h (F0 m 30 ls [.int t0, va_rf t1]) := by
  unfold f_X4_socks_j30 at hf
  have X := Z.1.1
  refine AW.lift (fun _ _ _ _ k => lv_iconst (pc := 30) (v := (3 : Int32)) X.2.2.1 X.2.2.2.1 dX4_socks_30 rfl k) ?_
  refine a_iload_n (pc := 31) X dX4_socks_31 rfl hl 0 rfl ?_
  refine AW.lift (fun _ _ _ _ k => lv_imul (pc := 32) X.2.2.1 X.2.2.2.1 dX4_socks_32 k) ?_
  refine AW.lift (fun _ _ _ _ k => lv_iadd (pc := 33) X.2.2.1 X.2.2.2.1 dX4_socks_33 k) ?_
  refine a_iload_n (pc := 34) X dX4_socks_34 rfl hl 1 rfl ?_
  refine AW.lift (fun _ _ _ _ k => lv_iadd (pc := 35) X.2.2.1 X.2.2.2.1 dX4_socks_35 k) ?_
  refine a_iaload (pc := 36) X dX4_socks_36 hf (fun x36 hf => ?_)
  refine AW.lift (fun _ _ _ _ k => lv_goto (pc := 37) (tgt := 45) X.2.2.1 X.2.2.2.1 dX4_socks_37 rfl k) ?_
  exact a_ireturn X Z.2.2.1 Z.2.2.2.1 dX4_socks_45 hf
theorem np_X4_socks : npar yX4_socks.desc 3 := by unfold npar; decide +kernel
theorem hy_X4_socks : yX4_socks.cls ≠ "java/lang/invoke/MethodHandle" ∧ yX4_socks.cls ≠ "java/lang/invoke/VarHandle" := by decide +kernel
theorem w_X4_socks (GA : GA l s0 a0 K lam) (v0 : Option Nat) (v1 : Int32) (v2 : Int32) (v3 : Int32) : AMet l s0 K lam yX4_socks (Cond.code yX4_socks cX4_socks (4 : Nat) (Option.some ClassFile.FieldType.int)) 2 46 [vR v0, vI v1, vI v2, vI v3] oI (f_X4_socks K v0 v1 v2 v3) := by
  refine AMet.of GA.1 (plainFor_of_name (by decide +kernel)) (Nat.le_of_ble_eq_true rfl) ?_
  intro b r hf p e s m args below meth c X hr hlk hnm hnd ht ls hl
  have Z : WZ l s0 a0 K p s m c cX4_socks yX4_socks.cls 4 b { frames := 2, cells := K 0 - aX b, slots := K 1 - aW b, locals := 46 } 2 46 meth [] (some (.int)) yX4_socks := ⟨⟨X, GA.2.1, GA.2.2.1, rfl, rfl, Nat.le_refl _, Nat.le_refl _⟩, tab_nil ht, hr, hlk, hnm, hnd⟩
  unfold f_X4_socks at hf
  clear hr hlk hnm hnd ht
  refine a_aload_n (pc := 0) X dX4_socks_0 rfl hl 0 rfl ?_
  refine AW.lift (fun _ _ _ _ k => lv_iconst (pc := 1) (v := (0 : Int32)) X.2.2.1 X.2.2.2.1 dX4_socks_1 rfl k) ?_
  refine a_put (pc := 2) (φ := 107) X Z.1.2.1 Z.1.2.2.1 (gw X.1 X.2.1 q3032) (fun _ q => q) (by decide) rfl rfl dX4_socks_2 hf (fun h hf => ?_)
  refine a_iload_n (pc := 5) X dX4_socks_5 rfl hl 1 rfl ?_
  refine a_iload_n (pc := 6) X dX4_socks_6 rfl hl 2 rfl ?_
  refine a_callb (pc := 7) (rs := []) (avs := [vI v1, vI v2]) Z.1 (w_X4_isSock GA v1 v2) (Or.inl rfl) q3252 q86 (by decide) (by decide) dX4_socks_7 hl.1 (Nat.le_of_ble_eq_true rfl) hf (ct_S X (Or.inl rfl) q3252 q86 q3250 q3251 hy_X4_isSock np_X4_isSock rfl dX4_socks_7) (fun q h he hX => a_out (unc_of Z.2.1 rfl) Z.2.2.2.1 he hX) (fun x7 h hf => ?kk7)
  refine AW.eq (g2 := F0 m 10 ls [.int x7]) rfl ?_
  refine AW.lift2 (fun _ _ _ _ k1 k2 => lv_if_eq (pc := 10) (tgt := 40) X.2.2.1 X.2.2.2.1 dX4_socks_10 rfl k1 k2) (fun c => ?_) (fun c => ?_)
  · have hf := ite_t c hf
    refine a_aload_n (pc := 40) X dX4_socks_40 rfl hl 0 rfl ?_
    refine AW.lift (fun _ _ _ _ k => lv_iconst (pc := 41) (v := (1 : Int32)) X.2.2.1 X.2.2.2.1 dX4_socks_41 rfl k) ?_
    obtain ⟨a42, rfl, ⟨hk, hf⟩ | ⟨-, hf⟩⟩ := dv_some hf
    rotate_left
    · exact fl_none hf
    refine a_callb (pc := 42) (rs := []) (avs := [vR (some a42), vI (1 : Int32)]) Z.1 (w_X4_throwing GA (some a42) (1 : Int32)) (Or.inl rfl) q3120 q86 (by decide) (by decide) dX4_socks_42 hl.1 (Nat.le_of_ble_eq_true rfl) hf (ct_V hk ⟨by decide, by decide⟩ X (Or.inl rfl) q3120 q3117 q3119 pv_30 hy_X4_throwing np_X4_throwing rfl dX4_socks_42) (fun q h he hX => a_out (unc_of Z.2.1 rfl) Z.2.2.2.1 he hX) (fun x42 h hf => ?kk42)
    refine AW.eq (g2 := F0 m 45 ls [.int x42]) rfl ?_
    exact a_ireturn X Z.2.2.1 Z.2.2.2.1 dX4_socks_45 hf
  · have hf := ite_f c hf
    refine a_aload_n (pc := 13) X dX4_socks_13 rfl hl 0 rfl ?_
    refine a_get (pc := 14) (φ := 100) pR_t X Z.1.2.1 (gw X.1 X.2.1 q3025) (fun _ q => q) (by decide) dX4_socks_14 hf (fun x14 hf => ?_)
    refine a_iload_n (pc := 17) X dX4_socks_17 rfl hl 3 rfl ?_
    refine AW.lift2 (fun _ _ _ _ k1 k2 => lv_if_eq (pc := 18) (tgt := 27) X.2.2.1 X.2.2.2.1 dX4_socks_18 rfl k1 k2) (fun c => ?_) (fun c => ?_)
    · have hf := ite_t c hf
      refine AW.lift (fun _ _ _ _ k => lv_sipush (pc := 27) (v := (152 : Int32)) X.2.2.1 X.2.2.2.1 dX4_socks_27 rfl k) ?_
      exact w_X4_socks_j30 GA Z v1 v2 (152 : Int32) x14  (hl.sub [1, 2] rfl) hf
    · have hf := ite_f c hf
      refine AW.lift (fun _ _ _ _ k => lv_sipush (pc := 21) (v := (167 : Int32)) X.2.2.1 X.2.2.2.1 dX4_socks_21 rfl k) ?_
      refine AW.lift (fun _ _ _ _ k => lv_goto (pc := 24) (tgt := 30) X.2.2.1 X.2.2.2.1 dX4_socks_24 rfl k) ?_
      exact w_X4_socks_j30 GA Z v1 v2 (167 : Int32) x14  (hl.sub [1, 2] rfl) hf
theorem np_X4_reason : npar yX4_reason.desc 2 := by unfold npar; decide +kernel
theorem hy_X4_reason : yX4_reason.cls ≠ "java/lang/invoke/MethodHandle" ∧ yX4_reason.cls ≠ "java/lang/invoke/VarHandle" := by decide +kernel
theorem w_X4_reason (GA : GA l s0 a0 K lam) (v0 : Option Nat) (v1 : Int32) (v2 : Int32) : AMet l s0 K lam yX4_reason (Cond.code yX4_reason cX4_reason (3 : Nat) (Option.some ClassFile.FieldType.int)) 1 25 [vR v0, vI v1, vI v2] oI (f_X4_reason K v0 v1 v2) := by
  refine AMet.of GA.1 (plainFor_of_name (by decide +kernel)) (Nat.le_of_ble_eq_true rfl) ?_
  intro b r hf p e s m args below meth c X hr hlk hnm hnd ht ls hl
  have Z : WZ l s0 a0 K p s m c cX4_reason yX4_reason.cls 3 b { frames := 1, cells := K 0 - aX b, slots := K 1 - aW b, locals := 25 } 1 25 meth [] (some (.int)) yX4_reason := ⟨⟨X, GA.2.1, GA.2.2.1, rfl, rfl, Nat.le_refl _, Nat.le_refl _⟩, tab_nil ht, hr, hlk, hnm, hnd⟩
  unfold f_X4_reason at hf
  clear hr hlk hnm hnd ht
  refine a_aload_n (pc := 0) X dX4_reason_0 rfl hl 0 rfl ?_
  refine AW.lift (fun _ _ _ _ k => lv_iconst (pc := 1) (v := (0 : Int32)) X.2.2.1 X.2.2.2.1 dX4_reason_1 rfl k) ?_
  refine a_put (pc := 2) (φ := 107) X Z.1.2.1 Z.1.2.2.1 (gw X.1 X.2.1 q3032) (fun _ q => q) (by decide) rfl rfl dX4_reason_2 hf (fun h hf => ?_)
  refine a_iload_n (pc := 5) X dX4_reason_5 rfl hl 1 rfl ?_
  refine AW.lift (fun _ _ _ _ k => lv_i2l (pc := 6) X.2.2.1 X.2.2.2.1 dX4_reason_6 rfl k) ?_
  refine AW.lift (fun _ _ _ _ k => lv_lconst (pc := 7) (v := (0 : Int64)) X.2.2.1 X.2.2.2.1 dX4_reason_7 rfl k) ?_
  refine a_aload_n (pc := 8) X dX4_reason_8 rfl hl 0 rfl ?_
  refine a_get (pc := 9) (φ := 110) pI_t X Z.1.2.1 (gw X.1 X.2.1 q3035) (fun _ q => q) (by decide) dX4_reason_9 hf (fun x9 hf => ?_)
  refine AW.lift (fun _ _ _ _ k => lv_iconst (pc := 12) (v := (1 : Int32)) X.2.2.1 X.2.2.2.1 dX4_reason_12 rfl k) ?_
  refine AW.lift (fun _ _ _ _ k => lv_isub (pc := 13) X.2.2.1 X.2.2.2.1 dX4_reason_13 k) ?_
  refine AW.lift (fun _ _ _ _ k => lv_i2l (pc := 14) X.2.2.1 X.2.2.2.1 dX4_reason_14 rfl k) ?_
  refine a_callb (pc := 15) (rs := []) (avs := [vJ (v1.toInt64), vJ (0 : Int64), vJ ((x9 - (1 : Int32)).toInt64)]) Z.1 (w_X4_in GA (v1.toInt64) (0 : Int64) ((x9 - (1 : Int32)).toInt64)) (Or.inl rfl) q3142 q86 (by decide) (by decide) dX4_reason_15 hl.1 (Nat.le_of_ble_eq_true rfl) hf (ct_S X (Or.inl rfl) q3142 q86 q3140 q3141 hy_X4_in np_X4_in rfl dX4_reason_15) (fun q h he hX => a_out (unc_of Z.2.1 rfl) Z.2.2.2.1 he hX) (fun x15 h hf => ?kk15)
  refine AW.eq (g2 := F0 m 18 ls [.int x15]) rfl ?_
  refine AW.lift2 (fun _ _ _ _ k1 k2 => lv_if_ne (pc := 18) (tgt := 27) X.2.2.1 X.2.2.2.1 dX4_reason_18 rfl k2 k1) (fun c => ?_) (fun c => ?_)
  · have hf := ite_t c hf
    refine a_aload_n (pc := 21) X dX4_reason_21 rfl hl 0 rfl ?_
    refine AW.lift (fun _ _ _ _ k => lv_iconst (pc := 22) (v := (1 : Int32)) X.2.2.1 X.2.2.2.1 dX4_reason_22 rfl k) ?_
    obtain ⟨a23, rfl, ⟨hk, hf⟩ | ⟨-, hf⟩⟩ := dv_some hf
    rotate_left
    · exact fl_none hf
    refine a_callb (pc := 23) (rs := []) (avs := [vR (some a23), vI (1 : Int32)]) Z.1 (w_X4_throwing GA (some a23) (1 : Int32)) (Or.inl rfl) q3120 q86 (by decide) (by decide) dX4_reason_23 hl.1 (Nat.le_of_ble_eq_true rfl) hf (ct_V hk ⟨by decide, by decide⟩ X (Or.inl rfl) q3120 q3117 q3119 pv_30 hy_X4_throwing np_X4_throwing rfl dX4_reason_23) (fun q h he hX => a_out (unc_of Z.2.1 rfl) Z.2.2.2.1 he hX) (fun x23 h hf => ?kk23)
    refine AW.eq (g2 := F0 m 26 ls [.int x23]) rfl ?_
    exact a_ireturn X Z.2.2.1 Z.2.2.2.1 dX4_reason_26 hf
  · have hf := ite_f c hf
    refine a_iload_n (pc := 27) X dX4_reason_27 rfl hl 2 rfl ?_
    refine AW.lift2 (fun _ _ _ _ k1 k2 => lv_if_eq (pc := 28) (tgt := 40) X.2.2.1 X.2.2.2.1 dX4_reason_28 rfl k1 k2) (fun c => ?_) (fun c => ?_)
    · have hf := ite_t c hf
      refine a_aload_n (pc := 40) X dX4_reason_40 rfl hl 0 rfl ?_
      refine a_get (pc := 41) (φ := 108) pR_t X Z.1.2.1 (gw X.1 X.2.1 q3033) (fun _ q => q) (by decide) dX4_reason_41 hf (fun x41 hf => ?_)
      refine a_iload_n (pc := 44) X dX4_reason_44 rfl hl 1 rfl ?_
      refine a_iaload (pc := 45) X dX4_reason_45 hf (fun x45 hf => ?_)
      exact a_ireturn X Z.2.2.1 Z.2.2.2.1 dX4_reason_46 hf
    · have hf := ite_f c hf
      refine a_aload_n (pc := 31) X dX4_reason_31 rfl hl 0 rfl ?_
      refine a_get (pc := 32) (φ := 109) pR_t X Z.1.2.1 (gw X.1 X.2.1 q3034) (fun _ q => q) (by decide) dX4_reason_32 hf (fun x32 hf => ?_)
      refine a_iload_n (pc := 35) X dX4_reason_35 rfl hl 1 rfl ?_
      refine a_iaload (pc := 36) X dX4_reason_36 hf (fun x36 hf => ?_)
      refine AW.lift (fun _ _ _ _ k => lv_goto (pc := 37) (tgt := 46) X.2.2.1 X.2.2.2.1 dX4_reason_37 rfl k) ?_
      exact a_ireturn X Z.2.2.1 Z.2.2.2.1 dX4_reason_46 hf
end WK
