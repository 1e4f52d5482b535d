/-! lambdas: calls -/
section FW14
variable {l : Launch} {s0 : State} {a0 : Array Value} {K : Nat → Nat} {lam : Nat → ClassId}
variable {p : Program} {e : Env} {R : Room} {s : State} {m : MethodId} {args : Array Value} {below : List Frame} {meth : Method} {c : Code} {Q : State → Prop}
variable {b h : AH} {cc : ByteArray} {own : String} {nL : Nat} {pc : Nat} {ls : Array Slot} {rest st : List Value} {ρ β σ' : Type} {r : Except Nat β × AH}
theorem hid_loads {U : State} {mk : MethodId} {ck : Code} {target : State} {a : Nat} {xv : Value} {cl : Cell} (hA : At U mk ck below) (hexec : p.tables.exec = Jvm.exec) (hb : ck.code = cc) (hcell : U.heap[a]? = some cl) (hvm : cl.vm = .none) : ∀ (fs : List Nat) (vs : List Value) (pc : Nat) (st : List Value), fs.length = vs.length →
    (∀ j i, fs[j]? = some i → decode cc (pc + 4 * j) = .ok (.aload_n 0, 1) ∧ decode cc (pc + 4 * j + 1) = .ok (.getfield i, 3) ∧ ∃ fa, U.vm.fieldReady mk.cls i mk.cls fa ∧ fa.isStatic = false ∧ cl.slots[fa.slot]? = vs[j]?) →
    Steps p.tables e below (U.setTop (F0 mk (pc + 4 * fs.length) #[.val (.ref a), .val xv] (vs.reverse ++ st))) target → Steps p.tables e below (U.setTop (F0 mk pc #[.val (.ref a), .val xv] st)) target
  | [], [], pc, st, _, _, hs => by simpa using hs
  | f :: fs, v :: vs, pc, st, hl, hd, hs => by
    obtain ⟨d1, d2, fa, q1, q2, q3⟩ := hd 0 f rfl
    rw [Nat.mul_zero, Nat.add_zero] at d1 d2
    have q3' : cl.slots[fa.slot]? = some v := by simpa using q3
    have hrec := hid_loads hA hexec hb hcell hvm (xv := xv) (target := target) fs vs (pc + 4) (v :: st) (by simpa using hl) (fun j i hj => by
      obtain ⟨e1, e2, e3⟩ := hd (j + 1) i (by simpa using hj)
      refine ⟨by rw [show pc + 4 + 4 * j = pc + 4 * (j + 1) by omega]; exact e1, by rw [show pc + 4 + 4 * j + 1 = pc + 4 * (j + 1) + 1 by omega]; exact e2, ?_⟩
      simpa using e3) (by
      have e1 : pc + 4 + 4 * fs.length = pc + 4 * (f :: fs).length := by simp; omega
      have e2 : vs.reverse ++ v :: st = (v :: vs).reverse ++ st := by simp
      rw [e1, e2]; exact hs)
    have hd2 : decode cc (pc + 1) = .ok (.getfield f, 3) := d2
    jvm_step hA [hA.top, hexec, hb, d1, Value.isRef]
    jvm_step hA [hA.top, hexec, hb, hd2, getfield.wp_ready (e := e) (s := U) (c := mk.cls) (field := fa) (a := a) (rest := st) (cell := cl) (v := v) (f := F0 mk (pc + 1) #[.val (.ref a), .val xv] (.ref a :: st)) hA.top q1 q2 rfl hcell (by rw [hvm]; exact fun q => nomatch q) q3']
    exact hrec
/-- what a call of a lambda's object does, by its answer -/
def LC (s0 : State) (K : Nat → Nat) (lam : Nat → ClassId) (p : Program) (l : Launch) (e : Env) (R : Room) (s : State) (m : MethodId) (args : Array Value) (below : List Frame) (meth : Method) (c : Code) (Q : State → Prop) (b h : AH) (pc : Nat) (ls : Array Slot) (rest st : List Value) (f : AM Int32) : Prop :=
  ∀ r1, f h = some r1 → (∀ v, r1.1 = .ok v → AW s0 K lam p l e R s m args below meth c Q b r1.2 (F0 m (pc + 5) ls (.int v :: rest))) → (∀ q, r1.1 = .error q → isX (aK r1.2 q) = true → AX s0 K lam p l e R s m args below meth c Q b r1.2 (F0 m pc ls rest) q) → AW s0 K lam p l e R s m args below meth c Q b h (F0 m pc ls st)
theorem a_lamb {f : AM Int32} {k : Int32 → AM β} (hL : LC s0 K lam p l e R s m args below meth c Q b h pc ls rest st f) (hf : bd f k h = some r) (kx : ∀ q h', r = (.error q, h') → isX (aK h' q) = true → AX s0 K lam p l e R s m args below meth c Q b h' (F0 m pc ls rest) q)
    (kk : ∀ v h', k v h' = some r → AW s0 K lam p l e R s m args below meth c Q b h' (F0 m (pc + 5) ls (.int v :: rest))) : AW s0 K lam p l e R s m args below meth c Q b h (F0 m pc ls st) := by
  rcases bd_some hf with ⟨v, h', hc, hf⟩ | ⟨q, h', hc, he⟩
  · exact hL _ hc (fun v' ev => by cases ev; exact kk _ _ hf) (fun q ev => by cases ev)
  · exact hL _ hc (fun v' ev => by cases ev) (fun q ev hX => by cases ev; exact kx _ _ he hX)
theorem a_lamt {f : AM Int32} {hd : Nat → AM β} {k : Int32 → AM β} (hL : LC s0 K lam p l e R s m args below meth c Q b h pc ls rest st f) (hf : tc f hd k h = some r) (kx : ∀ q h', hd q h' = some r → isX (aK h' q) = true → AX s0 K lam p l e R s m args below meth c Q b h' (F0 m pc ls rest) q)
    (kk : ∀ v h', k v h' = some r → AW s0 K lam p l e R s m args below meth c Q b h' (F0 m (pc + 5) ls (.int v :: rest))) : AW s0 K lam p l e R s m args below meth c Q b h (F0 m pc ls st) := by
  rcases tc_some hf with ⟨v, h', hc, hf⟩ | ⟨q, h', hc, hf⟩
  · exact hL _ hc (fun v' ev => by cases ev; exact kk _ _ hf) (fun q ev => by cases ev)
  · exact hL _ hc (fun v' ev => by cases ev) (fun q ev hX => by cases ev; exact kx _ _ hf hX)
theorem gL_some {α : Type} {pj : Value → Option α} {t i : Nat} {rr : Option Nat} {k : α → AM β} (hf : bd (gL pj t i rr) k h = some r) : ∃ a x, rr = some a ∧ aK h a = t ∧ pj (aF h (100 * t + i) a) = some x ∧ k x h = some r := by
  cases rr with
  | none => simp [bd, gL] at hf
  | some a =>
    by_cases hF : aK h a = t
    · cases hp : pj (aF h (100 * t + i) a) with
      | none => simp [bd, gL, hF, hp] at hf
      | some x => simp [bd, gL, hF, hp] at hf; exact ⟨a, x, rfl, hF, hp, hf⟩
    · simp [bd, gL, hF] at hf
theorem hid_ret {T : State} {locs : List Loc} {cells slots : Nat} {v : Int32} {rt : FieldType} (Z : Stand p l e R s m args below meth c T locs cells slots) (hexec : p.tables.exec = Jvm.exec) (hb : c.code = cc) (hr : meth.sig.returnType = some rt) (hfit : fits rt (.int v) = true) (hlk : meth.locks = false) (hdg : decode cc pc = .ok (.ireturn, 1)) (hl : ∀ z ∈ locs, K 2 ≤ z.base) :
    ∃ (t : State) (L : List Loc), Steps p.tables e below (T.setTop (F0 m pc ls [.int v])) t ∧ t.status = .running ∧ Ended t below (.returned (some (.int v))) ∧ t.heap = T.heap ∧ (∀ z ∈ L, K 2 ≤ z.base) ∧ s.WarmedH t.vm ∧ s.sameButNew ({ t with vm := s.vm } : State) L cells slots := by
  have hw : W p l e R s m args below meth c T.heap locs cells slots (MQ below (fun _ _ o t => o = .returned (some (.int v)) ∧ t.heap = T.heap) args s cells slots (fun q => K 2 ≤ q)) (F0 m pc ls [.int v]) := W.zret hexec hb hr (narrow_of_fits hfit) (fun t ht _ => ⟨rfl, ht⟩) hl hdg hlk
  obtain ⟨t, a1, o, b1, b2, ⟨b3, b3'⟩, L, b4, b5⟩ := hw T rfl Z
  subst b3
  exact ⟨t, L, a1, b1, b2, b3', b5, b4.2.1, b4.2.2⟩
/-- the call, but for the hidden method's own call of the body -/
theorem lam_core {F Lo t idx cnt a : Nat} {x xi y : MethodName} {pcs idxs : Nat} {σ : Lambda.Shape} {one : Option Addr} {cb : ByteArray} {rt : FieldType} {fs : List Nat} {im ic fr lo maxL : Nat} {bytes : ByteArray} {ret : Option FieldType} {cw : Cond} {caps rs : List TV} {arg : TV} {f : AM Int32} {ig : Instr}
    (X : WX l s0 a0 K p s m c cc own nL b R F Lo) (hS : SI s0 lam t x pcs idxs σ one) (hfb : hfb σ x.cls cb rt fs im ic = true) (hobj : Cond.instantiable "java/lang/Object" 0 ∈ lw_tbl) (ht : 200 ≤ t ∧ t < 1000) (hfl : (flds t).length = fs.length) (hk : aK h a = t)
    (hyq : y = ⟨σ.implClass, σ.implName, σ.implDesc.toString⟩) (hyy : y.cls ≠ "java/lang/invoke/MethodHandle" ∧ y.cls ≠ "java/lang/invoke/VarHandle") (hxi : xi = ⟨σ.iface, σ.name, σ.sam.toString⟩) (hxm : xi.cls ≠ "java/lang/invoke/MethodHandle" ∧ xi.cls ≠ "java/lang/invoke/VarHandle")
    (hlink : Cond.methodLink own idx xi ∈ lw_all) (hdecl : (Cond.declares xi).before args s = true) (hface : (Cond.interfaceMethod xi.cls xi.cls xi.name xi.desc).before args s = true) (hpl : plainName (x.cls ++ "$$Lambda") = true) (hn1 : npar xi.desc 1)
    (hM : AMet l s0 K lam y cw fr lo (caps ++ [arg]) oI f) (hcw : cw = Cond.code y bytes maxL ret ∨ (∃ hh, cw = Cond.codeWith y bytes maxL ret hh) ∨ cw = Cond.codeSync y bytes maxL ret) (hcwt : cw ∈ lw_all) (hini : Cond.initialized y.cls ∈ lw_all)
    (hfit : ∀ {r1 : Except Nat Int32 × AH} {v : Int32}, f h = some r1 → r1.1 = .ok v → fits rt (.int v) = true) (hcap : caps.length = fs.length) (hcv : ∀ j v, caps[j]? = some v → aF h (100 * t + j) a = tvv v)
    (hdec : (∀ j i, fs[j]? = some i → decode cb (4 * j) = .ok (.aload_n 0, 1) ∧ decode cb (4 * j + 1) = .ok (.getfield i, 3)) ∧ decode cb (4 * fs.length) = .ok (.aload_n 1, 1) ∧ decode cb (4 * fs.length + 1) = .ok (ig, 3) ∧ decode cb (4 * fs.length + 4) = .ok (.ireturn, 1))
    (harg : tcat arg = 1 ∧ (tvv arg).isRef = true) (hF : fr + 2 ≤ F) (hLo : lo + maxL + 48 ≤ Lo) (hsz : ls.size = nL) (hW8 : (rs.map tcat).sum ≤ 8) (hst : st = tvv arg :: .ref a :: rs.map tvv) (hdg : decode cc pc = .ok (.invokeinterface idx cnt, 5))
    (hcall : ∀ (vm : Vm) (U : State) (below' : List Frame) (ck : Code) (mkY : MethodId) (target : State) (k : Class) (file : ClassFile) (nt : Nat) (tk : Class), s0.WarmedH vm → U.vm = vm → Rp s0 K lam h U.heap → At U ⟨lam t, 1⟩ ck below' → ck.code = cb → U.methodNamed? y = some mkY → vm.classes[lam t]? = some k → k.cf = some file → file.constantPool[im]? = some (.methodref ic nt) → file.constantPool.nameAndType? nt = some (y.name, y.desc) → vm.methodReady (lam t) im mkY → vm.classReady (lam t) ic mkY.cls → vm.classes[mkY.cls]? = some tk → tk.name = y.cls → l.admits e → p.tables.exec = Jvm.exec →
      Steps p.tables e below' (doInvoke e (U.setTop (F0 ⟨lam t, 1⟩ (4 * fs.length + 1) #[.val (.ref a), .val (tvv arg)] [])) [] mkY ((caps ++ [arg]).map tvv).toArray).1 target → Steps p.tables e below' (U.setTop (F0 ⟨lam t, 1⟩ (4 * fs.length + 1) #[.val (.ref a), .val (tvv arg)] ((caps ++ [arg]).map tvv).reverse)) target) :
    LC s0 K lam p l e R s m args below meth c Q b h pc ls (rs.map tvv) st f := by
  intro r1 hf kk kx
  obtain ⟨⟨G, hW, hx, hb, hown, hml⟩, -, -, hRc, hRs, hRf, hRl⟩ := X
  have hcat : ((rs.map tvv).map fun v => v.category).sum ≤ 8 := by
    rw [List.map_map, show (fun v => Value.category v) ∘ tvv = tcat from funext tcat_ok]; exact hW8
  intro H locs h1 h2 h3 h4 T hT Y
  obtain ⟨cell, e1, e2, e3, e4⟩ := h1.2.2.2.1 a (by omega) (by omega)
  rw [hk] at e2 e4
  obtain ⟨mk0, methM, hn0, hmM, hsigM⟩ := cw_spec (args := a0) hcw (G.2 _ (lw_all_tbl hcwt))
  -- the interface's method
  obtain ⟨r0, rM, hnr, hrm, hstR, hsigR⟩ := Cond.declares_spec hdecl
  obtain ⟨cL, kL, rr1, hcL, hkL, hiL, hfoundL, hnr1⟩ := Cond.interfaceMethod_spec hface
  cases hnr.symm.trans hnr1
  have hr0cls : r0.cls = cL := Option.some.inj ((findClass_of_methodNamed hnr).symm.trans hcL)
  obtain ⟨hnameR, hdescR⟩ := name_of_methodNamed hnr hrm
  -- the hidden class at s
  obtain ⟨ks, files, methks, cks, tks, founds, ifaces, nts, p1, p2, p3, p4, p5, p6, p7, p8, p9, p9x, p10, p11, p12, p13, p14, p15, p16, p17, p18, p19, p20, p21, p22⟩ := hid_made G hS hfb hW hobj hyq hyy hn0
  subst hxi
  have hifc : ifaces = cL := Option.some.inj (p18.symm.trans hcL)
  subst hifc
  have hfr0 : founds = r0 := by
    have hz : s.methodFound? σ.iface σ.name σ.sam.toString = some r0 := hfoundL
    simp only [State.methodFound?, p18, hkL, hiL, Option.bind_eq_bind, Option.bind_some] at hz
    rw [p19] at hz
    exact Option.some.inj hz
  subst hfr0
  obtain ⟨md, kd, cfd, i0, p0, lk, hmd, hkd, -, -, -, -, -, hcanS, -⟩ := State.lambdaAt?_spec hS
  have hcan : s.lambdaCallable σ (lam t) = true := by
    have hA := hW.alike
    simp only [State.lambdaCallable, hA.findClass, hA.assignable, hA.superclasses, hA.declaredIn] at hcanS ⊢
    exact hcanS
  obtain ⟨i2, hi2, hasg, hway⟩ := State.lambdaCallable_spec hcan
  cases hcL.symm.trans hi2
  obtain ⟨vm₁, X₁, hstep₁⟩ := Y.invokeinterface hx hown (gw G hW hlink) hnr hrm hstR (by rw [hr0cls]; exact hkL) hiL hxm (a := a) (cell := cell) (kcell := ks) (by rw [hT]; exact e1)
    (fun z q => by rw [q] at e3; cases e3) (by rw [e2]; exact p1) (by rw [hr0cls, e2]; exact hasg) (m' := ⟨lam t, 1⟩) (meth' := methks) (by rw [Launch.admits_selectMethod Y.admits, e2]; exact p20) p6 (by rw [hnameR, hdescR, e2]; exact hway) (by rw [p11]; decide) (by simp [Method.isAbstract, p11, hasFlag, Acc.abstract])
    (g := F0 m pc ls st) rfl (argsL := [tvv arg]) (rest := rs.map tvv) (by have := hn1.of hsigR; simpa using this) (by rw [hst]; rfl) (by rw [hb]; exact hdg)
  have hW₁ : s0.WarmedH (T.setVm vm₁).vm := State.WarmedH.trans hW X₁.warmed
  obtain ⟨k, file, methk, ck, tk, found, iface, nt, u1, u2, u3, u4, u5, u6, u7, u8, u9, u9x, u10, u11, u12, u13, u14, u15, u16, u17, u18, u19, u20, u21, u22⟩ := hid_made G hS hfb hW₁ hobj hyq hyy hn0
  have hdg' : decode c.code (F0 m pc ls (rs.map tvv)).pc = .ok (.invokeinterface idx cnt, 5) := by rw [hb]; exact hdg
  have hpk : (T.setVm vm₁).plainMethod ⟨lam t, 1⟩ := State.plainMethod.of_name (fun k' hk' => by cases u1.symm.trans hk'; rw [u2]; exact hpl)
  have hb1 := h1.2.1.1
  obtain ⟨Y₀, hin⟩ := X₁.into (g := F0 m pc ls (rs.map tvv)) rfl (by show ls.size = _; rw [hsz, hml]) hdg' ([.ref a, tvv arg] : List Value).toArray (R' := { frames := fr + 1, cells := K 0 - aX h, slots := K 1 - aW h, locals := 8 + (maxL + 11) + lo }) u6 u7 u10 hpk
    (by show fr + 1 + 1 ≤ _; omega) (by rw [u9]; show 2 * 0 + ((rs.map tvv).map fun v => v.category).sum + (2 + 11) + (8 + (maxL + 11) + lo) ≤ R.locals; omega) (by show _ + (K 0 - aX h) ≤ _; omega) (by show _ + (K 1 - aW h) ≤ _; omega)
  generalize hU : ((T.setVm vm₁).setTop (F0 m pc ls (rs.map tvv))).pushFrame (.java (entryFrame ⟨lam t, 1⟩ ([.ref a, tvv arg] : List Value).toArray ck.maxLocals)) = U at Y₀ hin
  have hUv : U.vm = vm₁ := by rw [← hU]; rfl
  have hUh : U.heap = H := by rw [← hU, ← hT]; rfl
  have hWU : s0.WarmedH U.vm := by rw [hUv]; exact hW₁
  have hnU : U.methodNamed? y = some mk0 := by
    have := State.methodNamed?_setVm (s := s0) hWU.alike y
    rw [hn0] at this
    exact this
  have hRU : Rp s0 K lam h U.heap := by rw [hUh]; exact h1
  have hloc : entryFrame ⟨lam t, 1⟩ ([.ref a, tvv arg] : List Value).toArray ck.maxLocals = F0 ⟨lam t, 1⟩ 0 #[.val (.ref a), .val (tvv arg)] [] := by
    rw [u9]
    rcases arg with z | z | z | z | z
    · cases z <;> rfl
    · rfl
    · cases harg.1
    · rfl
    · cases harg.1
  have hpre : ∀ target, Steps p.tables e (.java (F0 m pc ls (rs.map tvv)) :: below) (doInvoke e (U.setTop (F0 ⟨lam t, 1⟩ (4 * fs.length + 1) #[.val (.ref a), .val (tvv arg)] [])) [] mk0 ((caps ++ [arg]).map tvv).toArray).1 target → Steps p.tables e (.java (F0 m pc ls (rs.map tvv)) :: below) (U.setTop (F0 ⟨lam t, 1⟩ 0 #[.val (.ref a), .val (tvv arg)] [])) target := by
    intro target hs
    refine hid_loads (xv := tvv arg) Y₀.here hx u8 (by rw [hUh]; exact e1) e3 fs (caps.map tvv) 0 [] (by simp [hcap]) (fun j i hj => ?_) ?_
    · obtain ⟨fa, q1, q2, q3⟩ := u13 j i hj
      refine ⟨by rw [Nat.zero_add]; exact (hdec.1 j i hj).1, by rw [Nat.zero_add]; exact (hdec.1 j i hj).2, fa, by rw [hUv]; exact q1, q3, ?_⟩
      have hjl : j < fs.length := (List.getElem?_eq_some_iff.mp hj).1
      have hcj : caps[j]? = some caps[j] := List.getElem?_eq_getElem (by omega)
      rw [q2, e4 j (by omega), hcv j _ hcj, List.getElem?_map, hcj]
      rfl
    · have d2 := hdec.2.1
      rw [List.append_nil, Nat.zero_add]
      have hgo := hcall vm₁ U _ ck mk0 target k file nt tk hW₁ hUv hRU Y₀.here u8 hnU u1 u3 u4 u5 u14 u15 u16 u17 Y.admits hx hs
      rw [List.map_append, List.reverse_append] at hgo
      have hgo' : Steps p.tables e (.java (F0 m pc ls (rs.map tvv)) :: below) (U.setTop (F0 ⟨lam t, 1⟩ (4 * fs.length + 1) #[.val (.ref a), .val (tvv arg)] (tvv arg :: (caps.map tvv).reverse))) target := hgo
      have hr9 := harg.2
      have hA0 := Y₀.here
      jvm_step hA0 [hA0.top, hx, u8, d2, hr9]
      exact hgo'
  have hdI := hdec.2.2.1
  rcases a_back hM hcw hf Y₀ (g := F0 ⟨lam t, 1⟩ (4 * fs.length + 1) #[.val (.ref a), .val (tvv arg)] []) rfl (by rw [u9]; rfl) (by rw [u8]; exact hdI) (by show 2 * 0 + 0 ≤ 8; omega) hnU (gw G hWU hcwt) (gw G hWU hini) (by show fr + 1 ≤ fr + 1; omega) (by show 8 + (maxL + 11) + lo ≤ 8 + (maxL + 11) + lo; omega) (by show 0 + (K 0 - aX h) ≤ K 0 - aX h; omega) (by show 0 + (K 1 - aW h) ≤ K 1 - aW h; omega) hWU hRU rfl with ⟨v, U', L, hv, Z, hL, hR2, hx1, hx2, st1⟩ | ⟨q, U', L, hv, hX, Z, hL, hR2, hx1, hx2, st1⟩
  · obtain ⟨t9, L9, a1, c1, c2, c4, c6, c5, c5'⟩ := hid_ret (ls := #[.val (.ref a), .val (tvv arg)]) Z hx u8 u12 (hfit hf hv) u10 hdec.2.2.2 (K := K) (fun z hz => hL z (by simpa using hz))
    obtain ⟨T', X', hW', -, ht'⟩ := X₁.outOf (g := F0 m pc ls (rs.map tvv)) rfl hdg' c2 c5 c5'
    have hTh : T'.heap = U'.heap := by
      have := congrArg State.heap ht'
      rw [c4] at this
      exact this.symm
    have z1 : aX h - aX b + (0 + (aX r1.2 - aX h)) = aX r1.2 - aX b := by omega
    have z2 : aW h - aW b + (0 + (aW r1.2 - aW h)) = aW r1.2 - aW b := by omega
    rw [z1, z2] at X'
    obtain ⟨tz, a2, b2⟩ := kk v hv U'.heap _ hR2 (fun z hz => by
      rcases List.mem_append.mp hz with z1 | z1
      · exact h2 z z1
      · exact c6 z z1) (by omega) (by omega) T' hTh X'
    refine ⟨tz, hstep₁ tz fun acts => ?_, b2⟩
    have hin' := hin acts
    rw [hloc] at hin'
    have hgo : Steps p.tables e below (doInvoke e ((T.setVm vm₁).setTop (F0 m pc ls (rs.map tvv))) acts ⟨lam t, 1⟩ ([.ref a, tvv arg] : List Value).toArray).1 tz := by
      rw [hin']
      refine (Steps.weaken (mid := [.java (F0 m pc ls (rs.map tvv))]) (hpre _ (st1.trans a1))).trans ?_
      rw [ht']
      exact a2
    exact hgo
  · obtain ⟨g1, g2, g3, g4, g5⟩ := Z.leaveThrown q (g := F0 ⟨lam t, 1⟩ (4 * fs.length + 1) #[.val (.ref a), .val (tvv arg)] []) rfl rfl rfl (by rw [u9x]; intro x hx; cases hx) u10
    obtain ⟨T', X', hW', -, ht'⟩ := X₁.outOfThrown (g := F0 m pc ls (rs.map tvv)) rfl g3 g4 g5
    have hTh : T'.heap = U'.heap := by
      have := congrArg State.heap ht'
      exact this.symm
    have z1 : aX h - aX b + (0 + (aX r1.2 - aX h)) = aX r1.2 - aX b := by omega
    have z2 : aW h - aW b + (0 + (aW r1.2 - aW h)) = aW r1.2 - aW b := by omega
    rw [z1, z2] at X'
    obtain ⟨tz, a2, b2⟩ := kx q hv hX U'.heap _ hR2 (fun z hz => by
      rcases List.mem_append.mp hz with z1 | z1
      · exact h2 z z1
      · exact hL z (by simpa using z1)) (by omega) (by omega) T' hTh X'
    refine ⟨tz, hstep₁ tz fun acts => ?_, b2⟩
    have hin' := hin acts
    rw [hloc] at hin'
    have hgo : Steps p.tables e below (doInvoke e ((T.setVm vm₁).setTop (F0 m pc ls (rs.map tvv))) acts ⟨lam t, 1⟩ ([.ref a, tvv arg] : List Value).toArray).1 tz := by
      rw [hin']
      refine (Steps.weaken (mid := [.java (F0 m pc ls (rs.map tvv))]) (hpre _ (st1.trans g1))).trans ?_
      rw [ht']
      exact a2
    exact hgo
theorem dv1_some {α : Type} {rr : Option Nat} {cK : Nat} {m : AM α} {h : AH} {r : Except Nat α × AH} (hf : dv rr cK m fl h = some r) : ∃ q, rr = some q ∧ aK h q = cK ∧ m h = some r := by
  cases rr with
  | none => simp [dv] at hf
  | some q =>
    by_cases hc : aK h q = cK
    · simp only [dv, if_pos hc] at hf; exact ⟨q, rfl, hc, hf⟩
    · simp only [dv, if_neg hc] at hf; cases hf
theorem bz_some {f : AM Int32} {h : AH} {r1 : Except Nat Int32 × AH} (hf : bd f (fun z => chk (fits .boolean (.int z)) (rt z)) h = some r1) : f h = some r1 ∧ ∀ v, r1.1 = .ok v → fits .boolean (.int v) = true := by
  rcases bd_some hf with ⟨v, h', hc, hf⟩ | ⟨q, h', hc, he⟩
  · obtain ⟨hg, hf⟩ := chk_some hf
    have e : r1 = (.ok v, h') := (Option.some.inj hf).symm
    rw [e]
    exact ⟨hc, fun w hw => by cases hw; exact hg⟩
  · rw [he]
    exact ⟨hc, fun w hw => by cases hw⟩
/-- a static body -/
theorem lam_stat {t a : Nat} {y : MethodName} {cb : ByteArray} {n im ic : Nat} {args' : List TV} {arg : TV} (G : GG l s0 a0) (hstat : Cond.static y ∈ lw_all) (hini : Cond.initialized y.cls ∈ lw_all) (hyy : y.cls ≠ "java/lang/invoke/MethodHandle" ∧ y.cls ≠ "java/lang/invoke/VarHandle") (hn : npar y.desc args'.length) {cw : Cond} {bytes : ByteArray} {maxL : Nat} {ret : Option FieldType} (hcw : cw = Cond.code y bytes maxL ret ∨ (∃ hh, cw = Cond.codeWith y bytes maxL ret hh) ∨ cw = Cond.codeSync y bytes maxL ret) (hcwt : cw ∈ lw_all) (hdg : decode cb (4 * n + 1) = .ok (.invokestatic im, 3)) :
    ∀ (vm : Vm) (U : State) (below' : List Frame) (ck : Code) (mkY : MethodId) (target : State) (k : Class) (file : ClassFile) (nt : Nat) (tk : Class), s0.WarmedH vm → U.vm = vm → Rp s0 K lam h U.heap → At U ⟨lam t, 1⟩ ck below' → ck.code = cb → U.methodNamed? y = some mkY → vm.classes[lam t]? = some k → k.cf = some file → file.constantPool[im]? = some (.methodref ic nt) → file.constantPool.nameAndType? nt = some (y.name, y.desc) → vm.methodReady (lam t) im mkY → vm.classReady (lam t) ic mkY.cls → vm.classes[mkY.cls]? = some tk → tk.name = y.cls → l.admits e → p.tables.exec = Jvm.exec →
      Steps p.tables e below' (doInvoke e (U.setTop (F0 ⟨lam t, 1⟩ (4 * n + 1) #[.val (.ref a), .val (tvv arg)] [])) [] mkY (args'.map tvv).toArray).1 target → Steps p.tables e below' (U.setTop (F0 ⟨lam t, 1⟩ (4 * n + 1) #[.val (.ref a), .val (tvv arg)] (args'.map tvv).reverse)) target := by
  intro vm U below' ck mkY target k file nt tk hWv hUv hR hA hb hnU h1 h2 h3 h4 h5 h6 h7 h8 had hexec hs
  subst hUv
  obtain ⟨b9, hmem⟩ := memberRef_ask' (e := e) (vm := U.vm) (d := lam t) (index := im) h1 h2 (Or.inl h3) h4
  have hsp : ∀ z : Method, signaturePolymorphic tk z = false := fun z => by simp [signaturePolymorphic, h8, hyy.1, hyy.2]
  obtain ⟨mk', methM, hn', hmM, hsigM⟩ := cw_spec (s := U) (args := a0) hcw (gw G hWv hcwt)
  cases hnU.symm.trans hn'
  have hst := Cond.static_spec hnU hmM (gw (args := a0) G hWv hstat)
  have hin := Cond.initialized_spec (findClass_of_methodNamed hnU) h7 (gw (args := a0) G hWv hini)
  have hlen := hn.of hsigM
  jvm_step hA [hexec, hb, hdg, invokestatic.wp_ready (e := e) (s := U) (m := mkY) (k := tk) (meth := methM) (args := args'.map tvv) (rest := []) (f := F0 ⟨lam t, 1⟩ (4 * n + 1) #[.val (.ref a), .val (tvv arg)] (args'.map tvv).reverse) hA.top ⟨ic, _, _, b9, mkY.cls, tk, hmem, h6, h7, by simp [hsp]⟩ h5 h7 hmM (hsp _) hst hin (by rw [List.length_map]; exact hlen) (by simp [F0])]
  intro acts'
  rw [doInvoke_state]
  exact hs
/-- a private body on the object that was caught first -/
theorem lam_priv {t a q cK : Nat} {y x0 y0 : MethodName} {C0 : String} {cb : ByteArray} {n im ic : Nat} {args' : List TV} {arg : TV} (G : GG l s0 a0) (hinst : Cond.instanceMethod y ∈ lw_all) (hpriv : Cond.privateMethod y ∈ lw_tbl) (hsel : Cond.selects C0 x0 y0 ∈ lw_all) (hsc : y0.cls = y.cls) (hk : aK h q = cK) (hc0 : 0 < cK ∧ cK < 200) (hyy : y.cls ≠ "java/lang/invoke/MethodHandle" ∧ y.cls ≠ "java/lang/invoke/VarHandle") (hn : npar y.desc args'.length) {cw : Cond} {bytes : ByteArray} {maxL : Nat} {ret : Option FieldType} (hcw : cw = Cond.code y bytes maxL ret ∨ (∃ hh, cw = Cond.codeWith y bytes maxL ret hh) ∨ cw = Cond.codeSync y bytes maxL ret) (hcwt : cw ∈ lw_all) (hdg : decode cb (4 * n + 1) = .ok (.invokevirtual im, 3)) :
    ∀ (vm : Vm) (U : State) (below' : List Frame) (ck : Code) (mkY : MethodId) (target : State) (k : Class) (file : ClassFile) (nt : Nat) (tk : Class), s0.WarmedH vm → U.vm = vm → Rp s0 K lam h U.heap → At U ⟨lam t, 1⟩ ck below' → ck.code = cb → U.methodNamed? y = some mkY → vm.classes[lam t]? = some k → k.cf = some file → file.constantPool[im]? = some (.methodref ic nt) → file.constantPool.nameAndType? nt = some (y.name, y.desc) → vm.methodReady (lam t) im mkY → vm.classReady (lam t) ic mkY.cls → vm.classes[mkY.cls]? = some tk → tk.name = y.cls → l.admits e → p.tables.exec = Jvm.exec →
      Steps p.tables e below' (doInvoke e (U.setTop (F0 ⟨lam t, 1⟩ (4 * n + 1) #[.val (.ref a), .val (tvv arg)] [])) [] mkY ((vR (some q) :: args').map tvv).toArray).1 target → Steps p.tables e below' (U.setTop (F0 ⟨lam t, 1⟩ (4 * n + 1) #[.val (.ref a), .val (tvv arg)] ((vR (some q) :: args').map tvv).reverse)) target := by
  intro vm U below' ck mkY target k file nt tk hWv hUv hR hA hb hnU h1 h2 h3 h4 h5 h6 h7 h8 had hexec hs
  subst hUv
  have hsp : ∀ z : Method, signaturePolymorphic tk z = false := fun z => by simp [signaturePolymorphic, h8, hyy.1, hyy.2]
  obtain ⟨mk', methM, hn', hmM, hsigM⟩ := cw_spec (s := U) (args := a0) hcw (gw G hWv hcwt)
  cases hnU.symm.trans hn'
  obtain ⟨mk2, meth2, hn2, hm2, hstM, habM⟩ := Cond.instanceMethod_spec (gw (s := U) (args := a0) G hWv hinst)
  cases hnU.symm.trans hn2
  cases hmM.symm.trans hm2
  obtain ⟨cell, e1, e2, e3⟩ := hR.recv hk hc0.1 hc0.2
  obtain ⟨c2, r2, m2, q1, q2, q3, q4, kP, hkP, hkPi⟩ := Cond.selects_spec (gw (s := U) (args := a0) G hWv hsel)
  have em : m2.cls = mkY.cls := Option.some.inj ((findClass_of_methodNamed q3).symm.trans (by rw [hsc]; exact findClass_of_methodNamed hnU))
  rw [em] at hkP
  cases h7.symm.trans hkP
  have hp := Cond.privateMethod_at (gf (s := U) (args := a0) G hWv hpriv rfl) mkY methM hnU hmM
  have hselP : selectMethod e.platform U.vm cell.cls mkY = .method mkY := selectMethod_private hmM hp
  have hlen := hn.of hsigM
  obtain ⟨st9, hst9⟩ : ∃ st9 : List Value, st9 = ((vR (some q) :: args').map tvv).reverse := ⟨_, rfl⟩
  rw [← hst9]
  jvm_step hA [hexec, hb, hdg, invokevirtual.wp_ready (e := e) (s := U) (a := q) (r := mkY) (m := mkY) (k := tk) (mk := tk) (rmeth := methM) (meth := methM) (args := args'.map tvv) (rest := []) (cell := cell) (f := F0 ⟨lam t, 1⟩ (4 * n + 1) #[.val (.ref a), .val (tvv arg)] st9) hA.top ⟨k, file, ic, nt, mkY.cls, tk, h1, h2, h3, h6, h7, hkPi⟩ h5 h7 hmM (hsp _) hstM (by rw [List.length_map]; exact hlen) (by show st9 = _; rw [hst9]; simp [tvv, va_rf]) e1 (fun z w => by rw [w] at e2; cases e2) hselP hmM habM h7 hkPi]
  first | (intro acts'; rw [doInvoke_state]; exact hs) | (rw [doInvoke_state]; exact hs) | exact hs
end FW14
