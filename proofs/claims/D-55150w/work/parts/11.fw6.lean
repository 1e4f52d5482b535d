/-! answers, contracts, calls, exceptions over abstract heaps -/
section FW6
variable {l : Launch} {s0 : State} {a0 : Array Value} {K : Nat → Nat} {lam : Nat → ClassId}
variable {p : Program} {e : Env} {R : Room} {s : State} {m : MethodId} {args : Array Value} {below : List Frame} {meth : Method} {c : Code} {Q : State → Prop}
variable {b h : AH} {cc : ByteArray} {own : String} {nL : Nat} {pc : Nat} {ls : Array Slot} {rest : List Value} {ρ β σ : Type} {r : Except Nat β × AH}
/-- how a method ends, by its abstract answer -/
def APost (s0 : State) (K : Nat → Nat) (lam : Nat → ClassId) (tv : ρ → Option Value) (b : AH) (r : Except Nat ρ × AH) (st : State) (o : Outcome) (t : State) : Prop :=
  ∃ L : List Loc, (∀ z ∈ L, K 2 ≤ z.base) ∧ st.WarmedH t.vm ∧ st.sameButNew ({ t with vm := st.vm } : State) L (aX r.2 - aX b) (aW r.2 - aW b) ∧ Rp s0 K lam r.2 t.heap ∧ aX b ≤ aX r.2 ∧ aW b ≤ aW r.2 ∧
    ((∃ v, r.1 = .ok v ∧ o = .returned (tv v)) ∨ ∃ q, r.1 = .error q ∧ o = .threw q ∧ isX (aK r.2 q) = true)
def AQ (s0 : State) (K : Nat → Nat) (lam : Nat → ClassId) (below : List Frame) (tv : ρ → Option Value) (b : AH) (r : Except Nat ρ × AH) (s : State) : State → Prop := fun t => ∃ o, t.status = .running ∧ Ended t below o ∧ APost s0 K lam tv b r s o t
def AMet (l : Launch) (s0 : State) (K : Nat → Nat) (lam : Nat → ClassId) (y : MethodName) (cw : Cond) (fr lo : Nat) (avs : List TV) (tv : ρ → Option Value) (f : AM ρ) : Prop :=
  ∀ (b : AH) (r : Except Nat ρ × AH), f b = some r → MetFree l y (headSpec [cw] { frames := fr, cells := K 0 - aX b, slots := K 1 - aW b, locals := lo }) (fun a U => a = (avs.map tvv).toArray ∧ s0.WarmedH U.vm ∧ Rp s0 K lam b U.heap) (fun _ _ _ _ _ => True) (fun _ st o t => APost s0 K lam tv b r st o t)
theorem AMet.of {y : MethodName} {cc : ByteArray} {nL : Nat} {ret : Option FieldType} {fr lo : Nat} {avs : List TV} {tv : ρ → Option Value} {f : AM ρ} (G : GG l s0 a0) (hy : plainFor y = true) (hlen : tlen avs ≤ nL)
    (body : ∀ (b : AH) (r : Except Nat ρ × AH), f b = some r → ∀ (p : Program) (e : Env) (s : State) (m : MethodId) (args : Array Value) (below : List Frame) (meth : Method) (c : Code), CX l s0 a0 p s m c cc y.cls nL → meth.sig.returnType = ret → meth.locks = false → meth.name = y.name → s.methodNamed? y = some m → (∀ x ∈ c.exceptionTable.toList, False) → ∀ ls, LV ls nL (tar 0 avs) → AW s0 K lam p l e { frames := fr, cells := K 0 - aX b, slots := K 1 - aW b, locals := lo } s m args below meth c (AQ s0 K lam below tv b r s) b b (F0 m 0 ls [])) :
    AMet l s0 K lam y (Cond.code y cc nL ret) fr lo avs tv f := by
  intro b r hf
  refine MetFree.of_bodySF (code := cc) (maxLocals := nL) (ret := ret) hy ?_ ?_
  · intro args s m h hn
    obtain ⟨meth, c, h1, h2, h3, h4, h5, h6, -, -⟩ := Cond.code_spec hn (atoms_spec (ws := [Cond.code y cc nL ret]) h _ List.mem_cons_self)
    exact ⟨meth, c, h1, h2, h3, h4, h5, h6⟩
  · intro p e s m args below meth c s₁ B hml hP _
    obtain ⟨rfl, hW, hR⟩ := hP
    have hh0 : s₁.heap = s.heap := by rw [B.state]; rfl
    have ht : ∀ x ∈ c.exceptionTable.toList, False := by
      obtain ⟨meth9, c9, h1, h2, -, -, -, -, h7, -⟩ := Cond.code_spec B.named (atoms_spec (ws := [Cond.code y cc nL ret]) B.pre _ List.mem_cons_self)
      cases Option.some.inj (h1.symm.trans B.method)
      cases Option.some.inj (h2.symm.trans (Stand.of_body B).code)
      intro x hx
      have : c.exceptionTable = #[] := by simpa using h7
      rw [this] at hx
      cases hx
    obtain ⟨ls, e1, e2⟩ := LV.entry avs hlen m
    have hw := body b r hf p e s m (avs.map tvv).toArray below meth c ⟨G, hW, B.exec, B.bytes, findClass_of_methodNamed B.named, hml⟩ B.returns B.notSynchronized (name_of_methodNamed B.named B.method).1 B.named ht ls e2 s.heap [] hR (fun z hz => by cases hz) (Nat.le_refl _) (Nat.le_refl _)
    rw [← e1, Nat.sub_self, Nat.sub_self] at hw
    obtain ⟨t, a1, o, b1, b2, b3⟩ := hw s₁ hh0 (Stand.of_body B)
    exact ⟨t, o, a1, b1, b2, b3⟩
/-- a method with handlers -/
theorem AMet.ofW {y : MethodName} {cc : ByteArray} {nL : Nat} {ret : Option FieldType} {fr lo : Nat} {hh : List (Nat × Nat × Nat × Nat)} {avs : List TV} {tv : ρ → Option Value} {f : AM ρ} (G : GG l s0 a0) (hy : plainFor y = true) (hlen : tlen avs ≤ nL)
    (body : ∀ (b : AH) (r : Except Nat ρ × AH), f b = some r → ∀ (p : Program) (e : Env) (s : State) (m : MethodId) (args : Array Value) (below : List Frame) (meth : Method) (c : Code), CX l s0 a0 p s m c cc y.cls nL → meth.sig.returnType = ret → meth.locks = false → meth.name = y.name → s.methodNamed? y = some m → c.exceptionTable.toList.map (fun h => (h.startPc, h.endPc, h.handlerPc, h.catchType)) = hh → ∀ ls, LV ls nL (tar 0 avs) → AW s0 K lam p l e { frames := fr, cells := K 0 - aX b, slots := K 1 - aW b, locals := lo } s m args below meth c (AQ s0 K lam below tv b r s) b b (F0 m 0 ls [])) :
    AMet l s0 K lam y (Cond.codeWith y cc nL ret hh) fr lo avs tv f := by
  intro b r hf
  refine MetFree.of_bodySF (code := cc) (maxLocals := nL) (ret := ret) hy ?_ ?_
  · intro args s m h hn
    obtain ⟨m9, meth, c, hn9, h1, h2, h3, h4, -, h5, h6, -⟩ := Cond.codeWith_spec (atoms_spec (ws := [Cond.codeWith y cc nL ret hh]) h _ List.mem_cons_self)
    cases hn.symm.trans hn9
    exact ⟨meth, c, h1, h2, h3, h4, h5, h6⟩
  · intro p e s m args below meth c s₁ B hml hP _
    obtain ⟨rfl, hW, hR⟩ := hP
    have hh0 : s₁.heap = s.heap := by rw [B.state]; rfl
    have ht : c.exceptionTable.toList.map (fun h => (h.startPc, h.endPc, h.handlerPc, h.catchType)) = hh := by
      obtain ⟨m9, meth9, c9, hn9, h1, h2, -, -, h6, -⟩ := Cond.codeWith_spec (atoms_spec (ws := [Cond.codeWith y cc nL ret hh]) B.pre _ List.mem_cons_self)
      cases Option.some.inj (hn9.symm.trans B.named)
      cases Option.some.inj (h1.symm.trans B.method)
      cases Option.some.inj (h2.symm.trans (Stand.of_body B).code)
      exact h6
    obtain ⟨ls, e1, e2⟩ := LV.entry avs hlen m
    have hw := body b r hf p e s m (avs.map tvv).toArray below meth c ⟨G, hW, B.exec, B.bytes, findClass_of_methodNamed B.named, hml⟩ B.returns B.notSynchronized (name_of_methodNamed B.named B.method).1 B.named ht ls e2 s.heap [] hR (fun z hz => by cases hz) (Nat.le_refl _) (Nat.le_refl _)
    rw [← e1, Nat.sub_self, Nat.sub_self] at hw
    obtain ⟨t, a1, o, b1, b2, b3⟩ := hw s₁ hh0 (Stand.of_body B)
    exact ⟨t, o, a1, b1, b2, b3⟩
/-! ends -/
theorem a_ret {tv : ρ → Option Value} {v : ρ} {r : Except Nat ρ × AH} {g : JFrame} (hf : rt v h = some r)
    (hrow : ∀ (H : Heap) (locs : List Loc) (cells slots : Nat) (Qc : Array Value → State → Outcome → State → Prop) (free : Addr → Prop), (∀ t : State, t.heap = H → s.WarmedH t.vm → Qc args s (.returned (tv v)) t) → (∀ q ∈ locs, free q.base) → W p l e R s m args below meth c H locs cells slots (MQ below Qc args s cells slots free) g) :
    AW s0 K lam p l e R s m args below meth c (AQ s0 K lam below tv b r s) b h g := by
  cases hf
  intro H locs h1 h2 h3 h4 T hT X
  obtain ⟨t, a1, o, b1, b2, b3, L, b4, b5⟩ := hrow H locs _ _ (fun _ _ o t => o = .returned (tv v) ∧ t.heap = H) (fun q => K 2 ≤ q) (fun t ht _ => ⟨rfl, ht⟩) h2 T hT X
  exact ⟨t, a1, o, b1, b2, L, b5, b4.2.1, b4.2.2, by rw [b3.2]; exact h1, h3, h4, Or.inl ⟨v, rfl, b3.1⟩⟩
theorem a_ireturn {v : Int32} {r : Except Nat Int32 × AH} (X : CX l s0 a0 p s m c cc own nL) (hr : meth.sig.returnType = some .int) (hlk : meth.locks = false) (hdg : decode cc pc = .ok (.ireturn, 1)) (hf : rt v h = some r) : AW s0 K lam p l e R s m args below meth c (AQ s0 K lam below oI b r s) b h (F0 m pc ls [.int v]) :=
  a_ret hf (fun _ _ _ _ _ _ hq hfr => W.iret X.2.2.1 X.2.2.2.1 hr hq hfr hdg hlk)
theorem a_zreturn {v : Int32} {ty : FieldType} {r : Except Nat Int32 × AH} (X : CX l s0 a0 p s m c cc own nL) (hr : meth.sig.returnType = some ty) (hfit : fits ty (.int v) = true) (hlk : meth.locks = false) (hdg : decode cc pc = .ok (.ireturn, 1)) (hf : rt v h = some r) : AW s0 K lam p l e R s m args below meth c (AQ s0 K lam below oI b r s) b h (F0 m pc ls [.int v]) :=
  a_ret hf (fun _ _ _ _ _ _ hq hfr => W.zret X.2.2.1 X.2.2.2.1 hr (narrow_of_fits hfit) hq hfr hdg hlk)
theorem a_lreturn {v : Int64} {r : Except Nat Int64 × AH} (X : CX l s0 a0 p s m c cc own nL) (hr : meth.sig.returnType = some .long) (hlk : meth.locks = false) (hdg : decode cc pc = .ok (.lreturn, 1)) (hf : rt v h = some r) : AW s0 K lam p l e R s m args below meth c (AQ s0 K lam below oJ b r s) b h (F0 m pc ls [.long v]) :=
  a_ret hf (fun _ _ _ _ _ _ hq hfr => W.lret X.2.2.1 X.2.2.2.1 hr hq hfr hdg hlk)
theorem a_freturn {v : UInt32} {r : Except Nat UInt32 × AH} (X : CX l s0 a0 p s m c cc own nL) (hr : meth.sig.returnType = some .float) (hlk : meth.locks = false) (hdg : decode cc pc = .ok (.freturn, 1)) (hf : rt v h = some r) : AW s0 K lam p l e R s m args below meth c (AQ s0 K lam below oF b r s) b h (F0 m pc ls [.float v]) :=
  a_ret hf (fun _ _ _ _ _ _ hq hfr => W.fret X.2.2.1 X.2.2.2.1 hr hq hfr hdg hlk)
theorem a_dreturn {v : UInt64} {r : Except Nat UInt64 × AH} (X : CX l s0 a0 p s m c cc own nL) (hr : meth.sig.returnType = some .double) (hlk : meth.locks = false) (hdg : decode cc pc = .ok (.dreturn, 1)) (hf : rt v h = some r) : AW s0 K lam p l e R s m args below meth c (AQ s0 K lam below oD b r s) b h (F0 m pc ls [.double v]) :=
  a_ret hf (fun _ _ _ _ _ _ hq hfr => W.dret X.2.2.1 X.2.2.2.1 hr hq hfr hdg hlk)
theorem a_return {r : Except Nat Unit × AH} (X : CX l s0 a0 p s m c cc own nL) (hr : meth.sig.returnType = none) (hlk : meth.locks = false) (hdg : decode cc pc = .ok (.return_, 1)) (hf : rt () h = some r) : AW s0 K lam p l e R s m args below meth c (AQ s0 K lam below oV b r s) b h (F0 m pc ls []) :=
  a_ret hf (fun _ _ _ _ _ _ hq hfr => W.vret X.2.2.1 X.2.2.2.1 hr hq hfr hdg hlk)
theorem a_areturn {v : Option Nat} {rty : FieldType} {r : Except Nat (Option Nat) × AH} (X : CX l s0 a0 p s m c cc own nL) (hr : meth.sig.returnType = some rty) (hrt : (∃ n, rty = .object n) ∨ ∃ t, rty = .array t) (hlk : meth.locks = false) (hdg : decode cc pc = .ok (.areturn, 1)) (hf : rt v h = some r) : AW s0 K lam p l e R s m args below meth c (AQ s0 K lam below oR b r s) b h (F0 m pc ls [va_rf v]) :=
  a_ret hf (fun _ _ _ _ _ _ hq hfr => W.aret X.2.2.1 X.2.2.2.1 hr hrt (by cases v with | none => exact Or.inl rfl | some a => exact Or.inr ⟨a, rfl⟩) hq hfr hdg hlk)
/-! exceptions -/
theorem XT_40 {k : Nat} (h : isX k = true) : k < 40 ∧ 0 < k := by
  simp [isX] at h
  omega
theorem Rp.thrown {H : Heap} (h1 : Rp s0 K lam h H) {q : Nat} (hX : isX (aK h q) = true) : ∃ cell : Cell, H[q]? = some cell ∧ s0.vm.findClass (cname (aK h q)) = some cell.cls ∧ cell.vm.isStatics = false := by
  obtain ⟨k1, k2⟩ := XT_40 hX
  obtain ⟨cell, e1, e2, e3, -⟩ := h1.2.2.1 q k2 (by omega)
  exact ⟨cell, e1, e2, e3.1⟩
theorem a_out {tv : ρ → Option Value} {r : Except Nat ρ × AH} {q : Nat} (hout : ∀ x ∈ c.exceptionTable.toList, covers x pc = false) (hlk : meth.locks = false) (hr : r = (.error q, h)) (hX : isX (aK h q) = true) : AX s0 K lam p l e R s m args below meth c (AQ s0 K lam below tv b r s) b h (F0 m pc ls rest) q := by
  subst hr
  intro H locs h1 h2 h3 h4 T hT X
  obtain ⟨st1, hrun, hend, hW, hsm⟩ := X.leaveThrown q (g := F0 m pc ls rest) rfl rfl rfl hout hlk
  exact ⟨_, st1, .threw q, hrun, hend, locs, h2, hW, hsm, (by show Rp s0 K lam h T.heap; rw [hT]; exact h1), h3, h4, Or.inr ⟨q, rfl, rfl, hX⟩⟩
/-- caught: by a row that names a class, or by one that takes all -/
theorem a_catch {q : Nat} (X : CX l s0 a0 p s m c cc own nL) (hX : isX (aK h q) = true) (pre : List ExceptionTableEntry) (x : ExceptionTableEntry) (suf : List ExceptionTableEntry) (hsplit : c.exceptionTable.toList = pre ++ x :: suf)
    (hpass : ∀ z ∈ pre, covers z pc = false ∨ (z.catchType ≠ 0 ∧ ∃ nm : String, (Cond.classLink own z.catchType nm).before args s = true ∧ va_Nc (cname (aK h q)) nm s0)) (hx : covers x pc = true)
    (hend : x.catchType = 0 ∨ (x.catchType ≠ 0 ∧ ∃ nm : String, (Cond.classLink own x.catchType nm).before args s = true ∧ CS s0 (aK h q) nm))
    (kk : AW s0 K lam p l e R s m args below meth c Q b h (F0 m x.handlerPc ls [.ref q])) : AX s0 K lam p l e R s m args below meth c Q b h (F0 m pc ls rest) q := by
  obtain ⟨G, hW, hxx, hb, hown, hml⟩ := X
  intro H locs h1 h2 h3 h4 T hT Y
  have hpl : e.platform.magicAccessors = ({} : Platform).magicAccessors := by rw [Y.admits.platform]
  obtain ⟨cell, e1, e2, e3⟩ := h1.thrown hX
  have hcl := fc_w hW e2
  obtain ⟨vm', X', st⟩ := Y.thenCaughtThrough q (g := F0 m pc ls rest) rfl (Steps.refl _) (by rw [hT]; exact e1) e3 (by obtain ⟨k9, h9, -⟩ := Vm.findClass_spec hcl; exact ⟨k9, h9⟩) pre x suf hsplit
    (fun z hz => by
      rcases hpass z hz with h | ⟨hz0, nm, hl1, hn1⟩
      · exact Or.inl h
      · obtain ⟨c6, hc6, hcl6⟩ := Cond.classLink_spec hown hl1 e.platform hpl
        obtain ⟨a8, b8, g1, g2, g3⟩ := hn1.moved hW.alike
        cases Option.some.inj (g1.symm.trans hcl)
        cases Option.some.inj (g2.symm.trans hc6)
        exact Or.inr ⟨hz0, _, hcl6, g3⟩) hx (by
      rcases hend with h | ⟨h0, nm, hl1, c9, t9, f1, f2, f3⟩
      · exact Or.inl h
      · obtain ⟨c6, hc6, hcl6⟩ := Cond.classLink_spec hown hl1 e.platform hpl
        cases Option.some.inj (f1.symm.trans e2)
        cases Option.some.inj ((fc_w hW f2).symm.trans hc6)
        exact Or.inr ⟨h0, _, hcl6, by rw [hW.alike.assignable]; exact f3⟩)
  obtain ⟨t, a1, b1⟩ := kk H locs h1 h2 h3 h4 (T.setVm vm') hT X'
  exact ⟨t, st.trans a1, b1⟩
theorem a_athrow {rr : Option Nat} {r : Except Nat ρ × AH} (X : CX l s0 a0 p s m c cc own nL) (hdg : decode cc pc = .ok (.athrow, 1)) (hf : thr rr h = some r) (kx : ∀ q, rr = some q → r = (.error q, h) → isX (aK h q) = true → AX s0 K lam p l e R s m args below meth c Q b h (F0 m pc ls rest) q) : AW s0 K lam p l e R s m args below meth c Q b h (F0 m pc ls (va_rf rr :: rest)) := by
  cases rr with
  | none => simp [thr] at hf
  | some q =>
    by_cases hX : isX (aK h q) = true
    · simp only [thr, if_pos hX] at hf
      cases hf
      intro H locs h1 h2 h3 h4 T hT Y
      obtain ⟨t, st, hq⟩ := kx q rfl rfl hX H locs h1 h2 h3 h4 T hT Y
      refine ⟨t, ?_, hq⟩
      have hx := X.2.2.1
      have hdg' : decode c.code pc = .ok (.athrow, 1) := by rw [X.2.2.2.1]; exact hdg
      jvm_step Y.here [Y.here.top, hx, hdg', athrow.wp_sem]
      exact st
    · simp only [thr, if_neg hX] at hf; cases hf
/-! calls -/
/-- a callee, come back or thrown out of (follows the kit's vx_back) -/
theorem a_back {y : MethodName} {cw : Cond} {bytes : ByteArray} {maxL : Nat} {ret : Option FieldType} {fr lo : Nat} {avs : List TV} {tv : ρ → Option Value} {f : AM ρ} {r1 : Except Nat ρ × AH} (hM : AMet l s0 K lam y cw fr lo avs tv f) (hcw : cw = Cond.code y bytes maxL ret ∨ (∃ hh, cw = Cond.codeWith y bytes maxL ret hh) ∨ cw = Cond.codeSync y bytes maxL ret) (hf : f h = some r1)
    {U : State} {locs : List Loc} {cells slots : Nat} (X : Stand p l e R s m args below meth c U locs cells slots) {g : JFrame} (hg : g.method = m) (hsize : g.locals.size = c.maxLocals) {ig : Instr} {len : Nat} (hdg : decode c.code g.pc = .ok (ig, len)) (hW8 : 2 * g.monitorRoom + (g.stack.map fun v => v.category).sum ≤ 8) {mk : MethodId} (hn : U.methodNamed? y = some mk)
    {a : Array Value} (h2 : cw.before a U = true) (h3 : (Cond.initialized y.cls).before a U = true) (hfr : fr + 1 ≤ R.frames) (hlo : 8 + (maxL + 11) + lo ≤ R.locals) (hc : cells + (K 0 - aX h) ≤ R.cells) (hs : slots + (K 1 - aW h) ≤ R.slots) (hWs : s0.WarmedH U.vm) (hRp : Rp s0 K lam h U.heap) (ha : a = (avs.map tvv).toArray) :
    (∃ (v : ρ) (U' : State) (L : List Loc), r1.1 = .ok v ∧ Stand p l e R s m args below meth c U' (locs ++ L) (cells + (aX r1.2 - aX h)) (slots + (aW r1.2 - aW h)) ∧ (∀ z ∈ L, K 2 ≤ z.base) ∧ Rp s0 K lam r1.2 U'.heap ∧ aX h ≤ aX r1.2 ∧ aW h ≤ aW r1.2 ∧
      Steps p.tables e below (doInvoke e (U.setTop g) [] mk a).1 (U'.setTop { g with pc := g.pc + len, stack := (tv v).toList ++ g.stack })) ∨
    (∃ (q : Addr) (U' : State) (L : List Loc), r1.1 = .error q ∧ isX (aK r1.2 q) = true ∧ Stand p l e R s m args below meth c U' (locs ++ L) (cells + (aX r1.2 - aX h)) (slots + (aW r1.2 - aW h)) ∧ (∀ z ∈ L, K 2 ≤ z.base) ∧ Rp s0 K lam r1.2 U'.heap ∧ aX h ≤ aX r1.2 ∧ aW h ≤ aW r1.2 ∧
      Steps p.tables e below (doInvoke e (U.setTop g) [] mk a).1 ((U'.setTop g).pushFrame (.throwing q))) := by
  have hMf := hM h r1 hf
  obtain ⟨methY, cY, hmY, hcY, hlY⟩ : ∃ methY cY, U.vm.method? mk = some methY ∧ methY.code = some cY ∧ cY.maxLocals = maxL := by
    rcases hcw with rfl | ⟨hh, rfl⟩ | rfl
    · obtain ⟨methY, cY, hmY, hcY, -, hlY, -⟩ := Cond.code_spec hn h2
      exact ⟨methY, cY, hmY, hcY, hlY⟩
    · obtain ⟨m9, methY, cY, hn9, hmY, hcY, -, hlY, -⟩ := Cond.codeWith_spec h2
      cases hn.symm.trans hn9
      exact ⟨methY, cY, hmY, hcY, hlY⟩
    · obtain ⟨methY, cY, hmY, hcY, -, hlY, -⟩ := Cond.codeSync_spec hn h2
      exact ⟨methY, cY, hmY, hcY, hlY⟩
  obtain ⟨kY, hkY, -⟩ := className_of_methodNamed hn
  have hinitY : kY.init = .initialized := Cond.initialized_spec (findClass_of_methodNamed hn) hkY h3
  have hA : At U g.method c below := by rw [hg]; exact X.here
  have hpre : (headSpec [cw] { frames := fr, cells := K 0 - aX h, slots := K 1 - aW h, locals := lo }).pre.before a U = true := atoms_intro fun w hw => by rw [List.mem_singleton.mp hw]; exact h2
  have happ : (headSpec [cw] { frames := fr, cells := K 0 - aX h, slots := K 1 - aW h, locals := lo }).appliesLoose y e.platform (U.calling g mk a) = true :=
    Spec.appliesLoose_calling (g := g) hA hdg hn hkY hinitY
      (X.room_calling (g := g) (R' := (headSpec [cw] { frames := fr, cells := K 0 - aX h, slots := K 1 - aW h, locals := lo }).room) hsize hmY hcY hfr (by rw [hlY]; show _ + lo ≤ _; omega) hc hs) hpre
  obtain ⟨mid, hmid⟩ := hA.above
  have hfrm : (U.setTop g).frames = (.java g :: mid) ++ below := by rw [State.frames_setTop' g hA.top, hmid]; rfl
  obtain ⟨o, s₂, hsteps, -, hend, hq⟩ := Steps.callFree hMf p X.admits X.cas X.clock (acts := []) hfrm happ ⟨ha, hWs, hRp⟩ trivial
  have hq' : APost s0 K lam tv h r1 (U.calling g mk a) o s₂ := hq
  rw [State.frames_setTop' g hA.top] at hend
  obtain ⟨g₀, hg0⟩ := Option.isSome_iff_exists.mp hA.top
  obtain ⟨rr, hr⟩ := State.topJava?_eq_some.mp hg0
  have hr' : (({ U with heap := s₂.heap, slotsUsed := s₂.slotsUsed } : State).setVm s₂.vm).frames = .java g₀ :: rr := hr
  obtain ⟨L, hL, hW₂, hsm, hR2, hx1, hx2, hor⟩ := hq'
  obtain ⟨e2, q2, q3, q4, q5, q6⟩ := id hsm
  have e3 : s₂ = ({ (U.calling g mk a).setFrames s₂.frames with heap := s₂.heap, slotsUsed := s₂.slotsUsed } : State).setVm s₂.vm := by
    have : s₂ = ({ s₂ with vm := (U.calling g mk a).vm } : State).setVm s₂.vm := rfl
    rw [e2] at this
    exact this
  have hW' : U.WarmedH s₂.vm := hW₂
  have hsame : U.sameButNew ({ U with heap := s₂.heap, slotsUsed := s₂.slotsUsed } : State) L (aX r1.2 - aX h) (aW r1.2 - aW h) := by
    refine ⟨?_, q2, q3, q4, q5, q6⟩
    obtain ⟨t, ht, -⟩ := State.frames_cons hr
    show ({ U with heap := s₂.heap, slotsUsed := s₂.slotsUsed } : State) = { U.setFrames U.frames with heap := s₂.heap, slotsUsed := s₂.slotsUsed }
    rw [State.setFrames_self ht]
  rcases hor with ⟨v, hv, rfl⟩ | ⟨q, hv, rfl, hX⟩
  · obtain ⟨c₂, i₂, len₂, hc₂, hd₂, hf₂⟩ := hend
    have hcc : c₂ = c := by
      have h1 : s₂.code? g.method = U.code? g.method := by
        rw [State.code?_eq, State.code?_eq, hW'.alike.method?]
      exact Option.some.inj (hc₂.symm.trans (h1.trans hA.code))
    subst hcc
    have hlen : len₂ = len := by rw [hdg] at hd₂; cases hd₂; rfl
    subst hlen
    have hs₂ : s₂ = (({ U with heap := s₂.heap, slotsUsed := s₂.slotsUsed } : State).setVm s₂.vm).setTop { g with pc := g.pc + len₂, stack := (tv v).toList ++ g.stack } := by
      refine e3.trans ?_
      rw [hf₂, State.calling_eq hA.top, State.setFrames_setFrames, State.setTop_of_frames _ hr', hr]
      rfl
    subst hg
    refine Or.inl ⟨v, (({ U with heap := s₂.heap, slotsUsed := s₂.slotsUsed } : State).setVm s₂.vm), L, hv,
      ⟨X.admits, X.cas, X.clock, X.frames, X.room, X.hears, X.method, X.code, (X.here.setHeapUsed s₂.heap s₂.slotsUsed).setVm hW'.alike, X.tail, State.WarmedH.trans X.warmed hW', X.limits, X.bytes, X.same.trans (hsame.setVm s.vm)⟩, hL, hR2, hx1, hx2, ?_⟩
    show Steps p.tables e below _ ((({ U with heap := s₂.heap, slotsUsed := s₂.slotsUsed } : State).setVm s₂.vm).setTop { g with pc := g.pc + len₂, stack := (tv v).toList ++ g.stack })
    rw [← hs₂]
    exact hsteps
  · have hf₂ : s₂.frames = .throwing q :: .java g :: U.frames.tail := hend
    have hs₂ : s₂ = ((({ U with heap := s₂.heap, slotsUsed := s₂.slotsUsed } : State).setVm s₂.vm).setTop g).pushFrame (.throwing q) := by
      refine e3.trans ?_
      rw [hf₂, State.calling_eq hA.top, State.setFrames_setFrames, State.pushFrame, State.frames_setTop _ hr', State.setTop_of_frames _ hr', State.setFrames_setFrames, hr]
      rfl
    subst hg
    refine Or.inr ⟨q, (({ U with heap := s₂.heap, slotsUsed := s₂.slotsUsed } : State).setVm s₂.vm), L, hv, hX,
      ⟨X.admits, X.cas, X.clock, X.frames, X.room, X.hears, X.method, X.code, (X.here.setHeapUsed s₂.heap s₂.slotsUsed).setVm hW'.alike, X.tail, State.WarmedH.trans X.warmed hW', X.limits, X.bytes, X.same.trans (hsame.setVm s.vm)⟩, hL, hR2, hx1, hx2, ?_⟩
    show Steps p.tables e below _ (((({ U with heap := s₂.heap, slotsUsed := s₂.slotsUsed } : State).setVm s₂.vm).setTop g).pushFrame (.throwing q))
    rw [← hs₂]
    exact hsteps
/-- the machine comes from T, at the call's frame g, to the invocation of mk -/
def CT (p : Program) (l : Launch) (e : Env) (R : Room) (s : State) (m : MethodId) (args : Array Value) (below : List Frame) (meth : Method) (c : Code) (y : MethodName) (a : Array Value) (rest : List Value) (g : JFrame) (T : State) (locs : List Loc) (cells slots : Nat) : Prop :=
  ∃ (vm₁ : Vm) (mk : MethodId), Stand p l e R s m args below meth c (T.setVm vm₁) locs cells slots ∧ (T.setVm vm₁).methodNamed? y = some mk ∧ ∀ target, Steps p.tables e below (doInvoke e ((T.setVm vm₁).setTop { g with stack := rest }) [] mk a).1 target → Steps p.tables e below (T.setTop g) target
theorem a_call {y : MethodName} {cw : Cond} {bytes : ByteArray} {maxL : Nat} {ret : Option FieldType} {fr lo : Nat} {avs : List TV} {tv : ρ → Option Value} {f : AM ρ} {r1 : Except Nat ρ × AH} (X : CX l s0 a0 p s m c cc own nL) (hRc : R.cells = K 0 - aX b) (hRs : R.slots = K 1 - aW b)
    (hM : AMet l s0 K lam y cw fr lo avs tv f) (hcw : cw = Cond.code y bytes maxL ret ∨ (∃ hh, cw = Cond.codeWith y bytes maxL ret hh) ∨ cw = Cond.codeSync y bytes maxL ret) (hcwt : cw ∈ lw_all) (hini : Cond.initialized y.cls ∈ lw_all) (hfr : fr + 1 ≤ R.frames) (hlo : 8 + (maxL + 11) + lo ≤ R.locals)
    {ig : Instr} {len : Nat} (hdg : decode cc pc = .ok (ig, len)) (hsz : ls.size = nL) {st : List Value} (hW8 : (rest.map fun v => v.category).sum ≤ 8) (hf : f h = some r1)
    (hinv : ∀ (H : Heap) (locs : List Loc) (cells slots : Nat) (T : State), Rp s0 K lam h H → T.heap = H → Stand p l e R s m args below meth c T locs cells slots → CT p l e R s m args below meth c y (avs.map tvv).toArray rest (F0 m pc ls st) T locs cells slots)
    (kk : ∀ v, r1.1 = .ok v → AW s0 K lam p l e R s m args below meth c Q b r1.2 (F0 m (pc + len) ls ((tv v).toList ++ rest)))
    (kx : ∀ q, r1.1 = .error q → isX (aK r1.2 q) = true → AX s0 K lam p l e R s m args below meth c Q b r1.2 (F0 m pc ls rest) q) : AW s0 K lam p l e R s m args below meth c Q b h (F0 m pc ls st) := by
  obtain ⟨G, hW, hx, hb, hown, hml⟩ := X
  intro H locs h1 h2 h3 h4 T hT Y
  obtain ⟨vm₁, mk, Y₁, hnm, hstep⟩ := hinv H locs _ _ T h1 hT Y
  have hWs : s0.WarmedH (T.setVm vm₁).vm := State.WarmedH.trans hW Y₁.warmed
  have hb1 := h1.2.1.1
  rcases a_back hM hcw hf Y₁ (g := F0 m pc ls rest) rfl (by show ls.size = _; rw [hsz, hml]) (by rw [hb]; exact hdg) (by show 2 * 0 + (rest.map fun v => v.category).sum ≤ 8; omega) hnm (gw G hWs hcwt) (gw G hWs hini) hfr hlo (by omega) (by omega) hWs (by show Rp s0 K lam h T.heap; rw [hT]; exact h1) rfl with ⟨v, U', L, hv, Z, hL, hR2, hx1, hx2, st1⟩ | ⟨q, U', L, hv, hX, Z, hL, hR2, hx1, hx2, st1⟩
  · have e1 : aX h - aX b + (aX r1.2 - aX h) = aX r1.2 - aX b := by omega
    have e2 : aW h - aW b + (aW r1.2 - aW h) = aW r1.2 - aW b := by omega
    rw [e1, e2] at Z
    obtain ⟨t, a1, b1⟩ := kk v hv U'.heap (locs ++ L) hR2 (fun z hz => by
      rcases List.mem_append.mp hz with z1 | z1
      · exact h2 z z1
      · exact hL z z1) (by omega) (by omega) U' rfl Z
    exact ⟨t, hstep t (st1.trans a1), b1⟩
  · have e1 : aX h - aX b + (aX r1.2 - aX h) = aX r1.2 - aX b := by omega
    have e2 : aW h - aW b + (aW r1.2 - aW h) = aW r1.2 - aW b := by omega
    rw [e1, e2] at Z
    obtain ⟨t, a1, b1⟩ := kx q hv hX U'.heap (locs ++ L) hR2 (fun z hz => by
      rcases List.mem_append.mp hz with z1 | z1
      · exact h2 z z1
      · exact hL z z1) (by omega) (by omega) U' rfl Z
    exact ⟨t, hstep t (st1.trans a1), b1⟩
end FW6
