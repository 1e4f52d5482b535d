/-! further rows that the printed walks use -/
theorem nz_some {α : Type} {rr : Option Nat} {m : AM α} {h : AH} {r : Except Nat α × AH} (hf : nz rr m h = some r) : ∃ a, rr = some a ∧ m h = some r := by
  cases rr with
  | none => simp [nz] at hf
  | some a => exact ⟨a, rfl, hf⟩
theorem ctc_some {β : Type} {yes no : List Nat} {q : Nat} {hb rest : AM β} {h : AH} {r : Except Nat β × AH} (hf : ctc yes no q hb rest h = some r) : (yes.contains (aK h q) = true ∧ hb h = some r) ∨ (no.contains (aK h q) = true ∧ rest h = some r) := by
  unfold ctc at hf
  by_cases h1 : yes.contains (aK h q) = true
  · rw [if_pos h1] at hf; exact Or.inl ⟨h1, hf⟩
  · rw [if_neg h1] at hf
    by_cases h2 : no.contains (aK h q) = true
    · rw [if_pos h2] at hf; exact Or.inr ⟨h2, hf⟩
    · rw [if_neg h2] at hf; cases hf
theorem dv_someS {α β : Type} {a : Nat} {cK : Nat} {m e : AM α} {k : α → AM β} {h : AH} {r : Except Nat β × AH} (hf : bd (dv (some a) cK m e) k h = some r) : (aK h a = cK ∧ bd m k h = some r) ∨ (¬ aK h a = cK ∧ bd e k h = some r) := by
  obtain ⟨a', e1, hd⟩ := dv_some hf
  cases e1
  exact hd
theorem dv_tsomeS {α β : Type} {a : Nat} {cK : Nat} {m e : AM α} {hd : Nat → AM β} {k : α → AM β} {h : AH} {r : Except Nat β × AH} (hf : tc (dv (some a) cK m e) hd k h = some r) : (aK h a = cK ∧ tc m hd k h = some r) ∨ (¬ aK h a = cK ∧ tc e hd k h = some r) := by
  obtain ⟨a', e1, hd⟩ := dv_tsome hf
  cases e1
  exact hd
theorem dv_ref {α β : Type} {rr : Option Nat} {cK : Nat} {m e : AM α} {k : α → AM β} {h : AH} {r : Except Nat β × AH} (hf : bd (dv rr cK m e) k h = some r) : ∃ a, rr = some a := by
  obtain ⟨a, e1, -⟩ := dv_some hf
  exact ⟨a, e1⟩
theorem dv_tref {α β : Type} {rr : Option Nat} {cK : Nat} {m e : AM α} {hd : Nat → AM β} {k : α → AM β} {h : AH} {r : Except Nat β × AH} (hf : tc (dv rr cK m e) hd k h = some r) : ∃ a, rr = some a := by
  obtain ⟨a, e1, -⟩ := dv_tsome hf
  exact ⟨a, e1⟩
theorem fl_tnone {α β : Type} {hd : Nat → AM β} {k : α → AM β} {h : AH} {r : Except Nat β × AH} {P : Prop} (hf : tc fl hd k h = some r) : P := by cases hf
theorem fits_rf {ty : FieldType} (v : Option Nat) (h : (∃ n, ty = .object n) ∨ ∃ t, ty = .array t) : fits ty (va_rf v) = true := by
  rcases h with ⟨n, rfl⟩ | ⟨t, rfl⟩ <;> cases v <;> rfl
theorem tab_nil {tb : List ExceptionTableEntry} (h : ∀ x ∈ tb, False) : tb.map (fun h => (h.startPc, h.endPc, h.handlerPc, h.catchType)) = [] := by
  cases tb with
  | nil => rfl
  | cons x t => exact (h x List.mem_cons_self).elim
theorem np_of {y x : MethodName} {n : Nat} (h : npar y.desc n) (e : x.desc = y.desc := by rfl) : npar x.desc n := by rw [e]; exact h
theorem cat_le {rs : List TV} {k n N : Nat} (h : (rs.map tcat).sum + k ≤ n) (h2 : n ≤ N) : ((rs.map tvv).map fun v => v.category).sum + k ≤ N := by
  rw [List.map_map, show (fun v => Value.category v) ∘ tvv = tcat from funext tcat_ok]
  omega
theorem n32 {r : UInt32} (h : decide (r &&& 0x7fffffff ≤ 0x7f800000) = true) : vf_n32 r := by unfold vf_n32; exact of_decide_eq_true h
theorem n64 {r : UInt64} (h : decide (r &&& 0x7fffffffffffffff ≤ 0x7ff0000000000000) = true) : vf_n64 r := by unfold vf_n64; exact of_decide_eq_true h
section FW9
variable {l : Launch} {s0 : State} {a0 : Array Value} {K : Nat → Nat} {lam : Nat → ClassId}
variable {p : Program} {e : Env} {R : Room} {s : State} {m : MethodId} {args : Array Value} {below : List Frame} {meth : Method} {c : Code} {Q : State → Prop}
variable {b h : AH} {cc : ByteArray} {own : String} {nL : Nat} {pc : Nat} {ls : Array Slot} {rest st : List Value} {ρ β σ : Type} {r : Except Nat β × AH}
theorem va_Decl.ofD {x : MethodName} (h : (Cond.declares x).before args s = true) : va_Decl s x := by
  obtain ⟨r0, rM, h1, h2, h3, h4⟩ := Cond.declares_spec h
  exact ⟨r0, rM, h1, h2, h3, h4⟩
/-- a call through an object of several kinds -/
theorem a_virt {α : Type} {P : α → AH → Prop} {G : Prop} {mm : AM α} {k : α → AM β} (hf : bd mm k h = some r) (kv : ∀ x h', k x h' = some r → P x h') (cs : bd mm k h = some r → (∀ x h', k x h' = some r → P x h') → G) : G := cs hf kv
theorem a_virtT {α : Type} {P : α → AH → Prop} {E : Nat → AH → Prop} {G : Prop} {mm : AM α} {hd : Nat → AM β} {k : α → AM β} (hf : tc mm hd k h = some r) (kv : ∀ x h', k x h' = some r → P x h') (kw : ∀ q h', hd q h' = some r → isX (aK h' q) = true → E q h')
    (cs : tc mm hd k h = some r → (∀ x h', k x h' = some r → P x h') → (∀ q h', hd q h' = some r → isX (aK h' q) = true → E q h') → G) : G := cs hf kv kw
theorem a_ldcSw {q : Nat} {tx : String} {idx : Nat} (X : CX l s0 a0 p s m c cc own nL) (hZ : vk_R own idx tx q s) (hdg : decode cc pc = .ok (.ldc_w idx, 3)) (kk : AW s0 K lam p l e R s m args below meth c Q b h (F0 m (pc + 3) ls (va_rf (some q) :: rest))) : AW s0 K lam p l e R s m args below meth c Q b h (F0 m pc ls rest) := by
  obtain ⟨G, hW, hx, hb, hown, hml⟩ := X
  intro H locs h1 h2 h3 h4 T hT Y
  obtain ⟨t, a1, b1⟩ := kk H locs h1 h2 h3 h4 T hT Y
  obtain ⟨k, cf, i, a', hk, hcf, hcp, -, hr, hev'⟩ := Cond.stringRef_spec hown hZ.1
  cases hZ.2.symm.trans hev'
  obtain ⟨k', hk', he⟩ := Y.warmed.alike.2.2 _ _ hk
  have hr' : k'.resolved[idx]? = some (some (.string q)) := by
    rcases Y.warmed.entry hk hk' idx with h | ⟨h, -⟩
    · rw [h]; exact hr
    · rw [hr] at h; cases h
  refine ⟨t, ?_, b1⟩
  have hdg' : decode c.code (F0 m pc ls rest).pc = .ok (.ldc_w idx, 3) := by rw [hb]; exact hdg
  jvm_step Y.here [hx, hdg', ldc_w.wp_string (e := e) (s := T) (f := F0 m pc ls rest) Y.here.top hk' (by rw [he]; exact hcf) hcp hr']
  exact a1
/-- a call of a private method on an object of a class below -/
theorem ct_Vp {y x0 y0 : MethodName} {C0 : String} {cw : Cond} {bytes : ByteArray} {maxL : Nat} {ret : Option FieldType} {idx a cK : Nat} {avs : List TV} (hk : aK h a = cK) (hc0 : 0 < cK ∧ cK < 200) (X : CX l s0 a0 p s m c cc own nL) (hcw : cw = Cond.code y bytes maxL ret ∨ (∃ hh, cw = Cond.codeWith y bytes maxL ret hh) ∨ cw = Cond.codeSync y bytes maxL ret) (hcwt : cw ∈ lw_all) (hlink : Cond.methodLink own idx y ∈ lw_all) (hinst : Cond.instanceMethod y ∈ lw_all) (hpriv : Cond.privateMethod y ∈ lw_tbl) (hsel : Cond.selects C0 x0 y0 ∈ lw_all) (hsc : y0.cls = y.cls)
    (hy : y.cls ≠ "java/lang/invoke/MethodHandle" ∧ y.cls ≠ "java/lang/invoke/VarHandle") (hn : npar y.desc avs.length) (hst : st = (avs.map tvv).reverse ++ .ref a :: rest) (hdg : decode cc pc = .ok (.invokevirtual idx, 3)) :
    ∀ (H : Heap) (locs : List Loc) (cells slots : Nat) (T : State), Rp s0 K lam h H → T.heap = H → Stand p l e R s m args below meth c T locs cells slots → CT p l e R s m args below meth c y ((vR (some a) :: avs).map tvv).toArray rest (F0 m pc ls st) T locs cells slots := by
  obtain ⟨G, hW, hx, hb, hown, hml⟩ := X
  intro H locs cells slots T h1 hT Y
  obtain ⟨mk, methM, hnamed, hmethM, hstM, habM⟩ := Cond.instanceMethod_spec (gw (args := args) G hW hinst)
  obtain ⟨mk', methM', hnamed', hmethM', hsigM⟩ := cw_spec (args := args) hcw (gw G hW hcwt)
  cases hnamed.symm.trans hnamed'
  cases hmethM.symm.trans hmethM'
  obtain ⟨cell, e1, e2, e3⟩ := h1.recv hk hc0.1 hc0.2
  obtain ⟨c2, r2, m2, q1, q2, q3, q4, kP, hkP, hkPi⟩ := Cond.selects_spec (gw (args := args) G hW hsel)
  have em : m2.cls = mk.cls := Option.some.inj ((findClass_of_methodNamed q3).symm.trans (by rw [hsc]; exact findClass_of_methodNamed hnamed))
  rw [em] at hkP
  have hp := Cond.privateMethod_at (gf (args := args) G hW hpriv rfl) mk methM hnamed hmethM
  have hselP : selectMethod e.platform s.vm cell.cls mk = .method mk := selectMethod_private hmethM hp
  obtain ⟨vm₁, X₁, hstep₁⟩ := Y.invokevirtual hx hown (gw G hW hlink) hnamed hmethM hstM hkP hkPi hy (a := a) (cell := cell) (by rw [hT]; exact e1)
    (fun z q => by rw [q] at e2; cases e2) hselP hmethM habM hkP hkPi (g := F0 m pc ls st) rfl (argsL := avs.map tvv) (rest := rest) (by rw [List.length_map]; exact hn.of hsigM) hst (by rw [hb]; exact hdg)
  exact ⟨vm₁, mk, X₁, X₁.named hnamed, fun target q => hstep₁ _ fun acts => by rw [doInvoke_state]; exact q⟩
/-- super.m(..) -/
theorem ct_P {y : MethodName} {cw : Cond} {bytes : ByteArray} {maxL : Nat} {ret : Option FieldType} {idx a cK : Nat} {avs : List TV} (hk : aK h a = cK) (hc0 : 0 < cK ∧ cK < 200) (X : CX l s0 a0 p s m c cc own nL) (hcw : cw = Cond.code y bytes maxL ret ∨ (∃ hh, cw = Cond.codeWith y bytes maxL ret hh) ∨ cw = Cond.codeSync y bytes maxL ret) (hcwt : cw ∈ lw_all) (hlink : Cond.methodLink own idx y ∈ lw_all) (hsame : Cond.sameMethod y.cls y.cls y.name y.desc ∈ lw_all) (hinst : Cond.instanceMethod y ∈ lw_all) (hsup : Cond.superclass own y.cls ∈ lw_all) (hno : y.name ≠ "<init>")
    (hn : npar y.desc avs.length) (hst : st = (avs.map tvv).reverse ++ .ref a :: rest) (hdg : decode cc pc = .ok (.invokespecial idx, 3)) :
    ∀ (H : Heap) (locs : List Loc) (cells slots : Nat) (T : State), Rp s0 K lam h H → T.heap = H → Stand p l e R s m args below meth c T locs cells slots → CT p l e R s m args below meth c y ((vR (some a) :: avs).map tvv).toArray rest (F0 m pc ls st) T locs cells slots := by
  obtain ⟨G, hW, hx, hb, hown, hml⟩ := X
  intro H locs cells slots T h1 hT Y
  obtain ⟨mk, methM, hnamed, hmethM, hstM, habM⟩ := Cond.instanceMethod_spec (gw (args := args) G hW hinst)
  obtain ⟨mk', methM', hnamed', hmethM', hsigM⟩ := cw_spec (args := args) hcw (gw G hW hcwt)
  cases hnamed.symm.trans hnamed'
  cases hmethM.symm.trans hmethM'
  obtain ⟨cell, e1, e2, e3⟩ := h1.recv hk hc0.1 hc0.2
  obtain ⟨kB, hkB, -⟩ := Vm.findClass_spec (fc_w hW e3)
  obtain ⟨ps, dk, kp, hps, hdk, hkp, hsuper, -, -, hnid⟩ := Cond.superclass_spec hown (gw (args := args) G hW hsup)
  have hn' : s.methodNamed? ⟨y.cls, y.name, y.desc⟩ = some mk := hnamed
  have hpm : ps = mk.cls := Option.some.inj (hps.symm.trans (findClass_of_methodNamed hnamed))
  have hsub : s.vm.isSubclass ps mk.cls = true := by rw [hpm]; simp [Vm.isSubclass, Vm.isSubclassAux]
  obtain ⟨vm₁, X₁, hstep₁⟩ := Y.invokespecialUp hx hown (gw G hW hlink) (gw G hW hsame) hn' hmethM hstM habM hno hdk hnid hps hsuper hsub (a := a) (cell := cell) (by rw [hT]; exact e1)
    (fun z q => by rw [q] at e2; cases e2) hkB (g := F0 m pc ls st) rfl (argsL := avs.map tvv) (rest := rest) (by rw [List.length_map]; exact hn.of hsigM) hst (by rw [hb]; exact hdg)
  exact ⟨vm₁, mk, X₁, X₁.named hnamed, fun target q => hstep₁ _ (by rw [doInvoke_state]; exact q)⟩
/-- the bundle of a method's walk -/
def WZ (l : Launch) (s0 : State) (a0 : Array Value) (K : Nat → Nat) (p : Program) (s : State) (m : MethodId) (c : Code) (cc : ByteArray) (own : String) (nL : Nat) (b : AH) (R : Room) (F Lo : Nat) (meth : Method) (hh : List (Nat × Nat × Nat × Nat)) (ret : Option FieldType) (y : MethodName) : Prop :=
  WX l s0 a0 K p s m c cc own nL b R F Lo ∧ c.exceptionTable.toList.map (fun h => (h.startPc, h.endPc, h.handlerPc, h.catchType)) = hh ∧ meth.sig.returnType = ret ∧ meth.locks = false ∧ meth.name = y.name ∧ s.methodNamed? y = some m
theorem sameF {C D n d : String} (hw : (Cond.sameField C D n d).before args s = true) : ∀ x, s.fieldFound? D n d = some x → s.fieldFound? C n d = some x := by
  intro x h
  exact u_same hw x h
/-- caught: the row of the table by its place -/
theorem a_catchH {q : Nat} {st en hp ct : Nat} {pre suf : List (Nat × Nat × Nat × Nat)} {hh : List (Nat × Nat × Nat × Nat)} (X : CX l s0 a0 p s m c cc own nL) (hX : isX (aK h q) = true) (hT : c.exceptionTable.toList.map (fun h => (h.startPc, h.endPc, h.handlerPc, h.catchType)) = hh) (hs : hh = pre ++ (st, en, hp, ct) :: suf)
    (hpass : ∀ z ∈ pre, ¬ (z.1 ≤ pc ∧ pc < z.2.1) ∨ (z.2.2.2 ≠ 0 ∧ ∃ nm : String, (Cond.classLink own z.2.2.2 nm).before args s = true ∧ va_Nc (cname (aK h q)) nm s0)) (hx : st ≤ pc ∧ pc < en)
    (hend : ct = 0 ∨ (ct ≠ 0 ∧ ∃ nm : String, (Cond.classLink own ct nm).before args s = true ∧ CS s0 (aK h q) nm))
    (kk : AW s0 K lam p l e R s m args below meth c Q b h (F0 m hp ls [.ref q])) : AX s0 K lam p l e R s m args below meth c Q b h (F0 m pc ls rest) q := by
  rw [hs] at hT
  obtain ⟨pre', tl, h1, h2, h3⟩ := List.map_eq_append_iff.mp hT
  obtain ⟨x, suf', h4, h5, h6⟩ := List.map_eq_cons_iff.mp h3
  subst h4
  simp only [Prod.mk.injEq] at h5
  obtain ⟨x1, x2, x3, x4⟩ := h5
  refine a_catch X hX pre' x suf' h1 (fun z hz => ?_) (by simp only [covers, Bool.and_eq_true, decide_eq_true_eq]; rw [x1, x2]; exact hx) (by rw [x4]; exact hend) (by rw [x3]; exact kk)
  have hm : (z.startPc, z.endPc, z.handlerPc, z.catchType) ∈ pre := by rw [← h2]; exact List.mem_map.mpr ⟨z, hz, rfl⟩
  rcases hpass _ hm with g | g
  · left
    cases hcv : covers z pc with
    | false => rfl
    | true =>
      simp only [covers, Bool.and_eq_true, decide_eq_true_eq] at hcv
      exact absurd hcv g
  · exact Or.inr g
theorem a_athrowT {rr : Option Nat} {hd : Nat → AM ρ} {r : Except Nat ρ × AH} (X : CX l s0 a0 p s m c cc own nL) (hdg : decode cc pc = .ok (.athrow, 1)) (hf : thc rr hd h = some r) (kx : ∀ q, rr = some q → hd q h = some r → isX (aK h q) = true → AX s0 K lam p l e R s m args below meth c Q b h (F0 m pc ls rest) q) : AW s0 K lam p l e R s m args below meth c Q b h (F0 m pc ls (va_rf rr :: rest)) := by
  cases rr with
  | none => simp [thc] at hf
  | some q =>
    by_cases hX : isX (aK h q) = true
    · simp only [thc, if_pos hX] at hf
      intro H locs h1 h2 h3 h4 T hT Y
      obtain ⟨t, st, hq⟩ := kx q rfl hf hX H locs h1 h2 h3 h4 T hT Y
      refine ⟨t, ?_, hq⟩
      have hx := X.2.2.1
      have hdg' : decode c.code pc = .ok (.athrow, 1) := by rw [X.2.2.2.1]; exact hdg
      jvm_step Y.here [Y.here.top, hx, hdg', athrow.wp_sem]
      exact st
    · simp only [thc, if_neg hX] at hf; cases hf
/-- thrown out of the frame although rows of the table cover the place: none takes it -/
theorem a_outH {tv : ρ → Option Value} {hh : List (Nat × Nat × Nat × Nat)} {r : Except Nat ρ × AH} {q : Nat} (X : CX l s0 a0 p s m c cc own nL) (hT : c.exceptionTable.toList.map (fun h => (h.startPc, h.endPc, h.handlerPc, h.catchType)) = hh)
    (hpass : ∀ z ∈ hh, ¬ (z.1 ≤ pc ∧ pc < z.2.1) ∨ (z.2.2.2 ≠ 0 ∧ ∃ nm : String, (Cond.classLink own z.2.2.2 nm).before args s = true ∧ va_Nc (cname (aK h q)) nm s0)) (hlk : meth.locks = false) (hr : r = (.error q, h)) (hX : isX (aK h q) = true) : AX s0 K lam p l e R s m args below meth c (AQ s0 K lam below tv b r s) b h (F0 m pc ls rest) q := by
  subst hr
  obtain ⟨G, hW, hxx, hb, hown, hml⟩ := X
  intro H locs h1 h2 h3 h4 T hT' Y
  have hpl : e.platform.magicAccessors = ({} : Platform).magicAccessors := by rw [Y.admits.platform]
  obtain ⟨cell, e1, e2, e3⟩ := h1.thrown hX
  have hcl := fc_w hW e2
  obtain ⟨vm', hW', X', st⟩ := Y.outThrough hlk q (g := F0 m pc ls rest) rfl rfl rfl (cell := cell) (by rw [hT']; exact e1) e3
    (by obtain ⟨k9, h9, -⟩ := Vm.findClass_spec hcl; exact ⟨k9, h9⟩) (fun z hz => by
      have hm : (z.startPc, z.endPc, z.handlerPc, z.catchType) ∈ hh := by rw [← hT]; exact List.mem_map.mpr ⟨z, hz, rfl⟩
      rcases hpass _ hm with g | ⟨hz0, nm, hl1, hn1⟩
      · left
        cases hcv : covers z pc with
        | false => rfl
        | true =>
          simp only [covers, Bool.and_eq_true, decide_eq_true_eq] at hcv
          exact absurd hcv g
      · obtain ⟨c6, hc6, hcl6⟩ := Cond.classLink_spec hown hl1 e.platform hpl
        obtain ⟨a8, b8, g1, g2, g3⟩ := hn1.moved hW.alike
        cases Option.some.inj (g1.symm.trans hcl)
        cases Option.some.inj (g2.symm.trans hc6)
        exact Or.inr ⟨hz0, _, hcl6, g3⟩)
  obtain ⟨g₀, hfr⟩ := X'.frames_eq
  have hend : Ended ((T.setVm vm').setFrames (.throwing q :: below)) below (.threw q) := State.frames_setFrames _ (State.cur_lt_of_frames hfr)
  refine ⟨(T.setVm vm').setFrames (.throwing q :: below), ?_, .threw q, X'.here.running, hend, locs, h2, (X'.ends _).1, (X'.ends _).2, (by show Rp s0 K lam h T.heap; rw [hT']; exact h1), h3, h4, Or.inr ⟨q, rfl, rfl, hX⟩⟩
  rw [Y.pushThrowing_eq]
  exact st
theorem th_eq {q : Nat} {h : AH} {r : Except Nat ρ × AH} (hf : (th q : AM ρ) h = some r) : r = (.error q, h) := (Option.some.inj hf).symm
/-- a step that asks room for what has been made so far -/
theorem AW.lift_c {F Lo : Nat} {g g2 : JFrame} (X : WX l s0 a0 K p s m c cc own nL b R F Lo) (k : ∀ (H : Heap) (locs : List Loc) (cells slots : Nat), cells ≤ R.cells → slots ≤ R.slots → W p l e R s m args below meth c H locs cells slots Q g2 → W p l e R s m args below meth c H locs cells slots Q g) (kk : AW s0 K lam p l e R s m args below meth c Q b h g2) : AW s0 K lam p l e R s m args below meth c Q b h g := by
  intro H locs h1 h2 h3 h4
  obtain ⟨-, -, -, hRc, hRs, -, -⟩ := X
  have := h1.2.1.1
  exact k H locs _ _ (by omega) (by omega) (kk H locs h1 h2 h3 h4)
end FW9
