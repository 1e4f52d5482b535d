/-! how calls begin: static, through an object, constructors, nest mates, inherited, interfaces -/
theorem fl_none {α β : Type} {k : α → AM β} {h : AH} {r : Except Nat β × AH} {P : Prop} (hf : bd fl k h = some r) : P := by cases hf
theorem fl_no {α : Type} {h : AH} {r : Except Nat α × AH} {P : Prop} (hf : fl h = some r) : P := by cases hf
theorem dv_some {α β : Type} {rr : Option Nat} {cK : Nat} {m e : AM α} {k : α → AM β} {h : AH} {r : Except Nat β × AH} (hf : bd (dv rr cK m e) k h = some r) : ∃ a, rr = some a ∧ ((aK h a = cK ∧ bd m k h = some r) ∨ (¬ aK h a = cK ∧ bd e k h = some r)) := by
  cases rr with
  | none => simp [bd, dv] at hf
  | some a =>
    by_cases hk : aK h a = cK
    · simp only [bd, dv, if_pos hk] at hf; exact ⟨a, rfl, Or.inl ⟨hk, hf⟩⟩
    · simp only [bd, dv, if_neg hk] at hf; exact ⟨a, rfl, Or.inr ⟨hk, hf⟩⟩
theorem dv_tsome {α β : Type} {rr : Option Nat} {cK : Nat} {m e : AM α} {hd : Nat → AM β} {k : α → AM β} {h : AH} {r : Except Nat β × AH} (hf : tc (dv rr cK m e) hd k h = some r) : ∃ a, rr = some a ∧ ((aK h a = cK ∧ tc m hd k h = some r) ∨ (¬ aK h a = cK ∧ tc e hd k h = some r)) := by
  cases rr with
  | none => simp [tc, dv] at hf
  | some a =>
    by_cases hk : aK h a = cK
    · simp only [tc, dv, if_pos hk] at hf; exact ⟨a, rfl, Or.inl ⟨hk, hf⟩⟩
    · simp only [tc, dv, if_neg hk] at hf; exact ⟨a, rfl, Or.inr ⟨hk, hf⟩⟩
theorem chk_some {α : Type} {bb : Bool} {m : AM α} {h : AH} {r : Except Nat α × AH} (hf : chk bb m h = some r) : bb = true ∧ m h = some r := by
  cases bb with
  | true => exact ⟨rfl, hf⟩
  | false => simp [chk] at hf
section FW7
variable {l : Launch} {s0 : State} {a0 : Array Value} {K : Nat → Nat} {lam : Nat → ClassId}
variable {p : Program} {e : Env} {R : Room} {s : State} {m : MethodId} {args : Array Value} {below : List Frame} {meth : Method} {c : Code} {Q : State → Prop}
variable {b h : AH} {cc : ByteArray} {own : String} {nL : Nat} {pc : Nat} {ls : Array Slot} {rest st : List Value} {ρ β σ : Type} {r : Except Nat β × AH}
theorem cw_spec {y : MethodName} {cw : Cond} {bytes : ByteArray} {maxL : Nat} {ret : Option FieldType} (hcw : cw = Cond.code y bytes maxL ret ∨ (∃ hh, cw = Cond.codeWith y bytes maxL ret hh) ∨ cw = Cond.codeSync y bytes maxL ret) (hb : cw.before args s = true) : ∃ mk methM, s.methodNamed? y = some mk ∧ s.vm.method? mk = some methM ∧ parseMethodDescriptor y.desc = some methM.sig := by
  rcases hcw with rfl | ⟨hh, rfl⟩ | rfl
  · obtain ⟨mk, hnamed⟩ := Cond.code_named hb
    obtain ⟨methM, cM, hmethM, -, -, -, -, -, -, hsigM⟩ := Cond.code_spec hnamed hb
    exact ⟨mk, methM, hnamed, hmethM, hsigM⟩
  · obtain ⟨mk, methM, cM, hnamed, hmethM, -, -, -, -, -, -, hsigM⟩ := Cond.codeWith_spec hb
    exact ⟨mk, methM, hnamed, hmethM, hsigM⟩
  · obtain ⟨mk, hnamed⟩ : ∃ mk, s.methodNamed? y = some mk := by
      cases hn : s.methodNamed? y with
      | none => simp [Cond.before, Cond.holds, Cond.value, hn] at hb
      | some mk => exact ⟨mk, rfl⟩
    obtain ⟨methM, cM, hmethM, -, -, -, -, -, -, hsigM⟩ := Cond.codeSync_spec hnamed hb
    exact ⟨mk, methM, hnamed, hmethM, hsigM⟩
/-- how many parameters -/
def npar (d : String) (n : Nat) : Prop := (parseMethodDescriptor d).map (fun d => d.parameters.length) = some n
theorem npar.of {d : String} {n : Nat} (h : npar d n) {sig : MethodDescriptor} (hs : parseMethodDescriptor d = some sig) : n = sig.parameters.length := by
  unfold npar at h
  rw [hs] at h
  exact (Option.some.inj h).symm
theorem ct_S {y : MethodName} {cw : Cond} {bytes : ByteArray} {maxL : Nat} {ret : Option FieldType} {idx : Nat} {avs : List TV} (X : CX l s0 a0 p s m c cc own nL) (hcw : cw = Cond.code y bytes maxL ret ∨ (∃ hh, cw = Cond.codeWith y bytes maxL ret hh) ∨ cw = Cond.codeSync y bytes maxL ret) (hcwt : cw ∈ lw_all) (hini : Cond.initialized y.cls ∈ lw_all) (hlink : Cond.methodLink own idx y ∈ lw_all) (hstat : Cond.static y ∈ lw_all)
    (hy : y.cls ≠ "java/lang/invoke/MethodHandle" ∧ y.cls ≠ "java/lang/invoke/VarHandle") (hn : npar y.desc avs.length) (hst : st = (avs.map tvv).reverse ++ rest) (hdg : decode cc pc = .ok (.invokestatic idx, 3)) :
    ∀ (H : Heap) (locs : List Loc) (cells slots : Nat) (T : State), Rp s0 K lam h H → T.heap = H → Stand p l e R s m args below meth c T locs cells slots → CT p l e R s m args below meth c y (avs.map tvv).toArray rest (F0 m pc ls st) T locs cells slots := by
  obtain ⟨G, hW, hx, hb, hown, hml⟩ := X
  intro H locs cells slots T h1 hT Y
  obtain ⟨mk, methM, hnamed, hmethM, hsigM⟩ := cw_spec (args := args) hcw (gw G hW hcwt)
  have hstatic : methM.isStatic = true := Cond.static_spec hnamed hmethM (gw (args := args) G hW hstat)
  obtain ⟨kP, hkP, -⟩ := className_of_methodNamed hnamed
  have hinitP : kP.init = .initialized := Cond.initialized_spec (findClass_of_methodNamed hnamed) hkP (gw (args := args) G hW hini)
  obtain ⟨vm₁, X₁, hstep₁⟩ := Y.invokestatic hx hown (gw G hW hlink) hnamed hmethM hstatic hkP hinitP hy (g := F0 m pc ls st) rfl (argsL := avs.map tvv) (rest := rest) (by rw [List.length_map]; exact hn.of hsigM) hst (by rw [hb]; exact hdg)
  exact ⟨vm₁, mk, X₁, X₁.named hnamed, fun target q => hstep₁ _ fun acts => by rw [doInvoke_state]; exact q⟩
theorem ct_SN {y : MethodName} {ho : String} {cw : Cond} {bytes : ByteArray} {maxL : Nat} {ret : Option FieldType} {idx : Nat} {avs : List TV} (X : CX l s0 a0 p s m c cc own nL) (hcw : cw = Cond.code y bytes maxL ret ∨ (∃ hh, cw = Cond.codeWith y bytes maxL ret hh) ∨ cw = Cond.codeSync y bytes maxL ret) (hcwt : cw ∈ lw_all) (hini : Cond.initialized y.cls ∈ lw_all) (hlink : Cond.methodLinkNest own idx y ho ∈ lw_tbl) (hstat : Cond.static y ∈ lw_all)
    (hy : y.cls ≠ "java/lang/invoke/MethodHandle" ∧ y.cls ≠ "java/lang/invoke/VarHandle") (hn : npar y.desc avs.length) (hst : st = (avs.map tvv).reverse ++ rest) (hdg : decode cc pc = .ok (.invokestatic idx, 3)) :
    ∀ (H : Heap) (locs : List Loc) (cells slots : Nat) (T : State), Rp s0 K lam h H → T.heap = H → Stand p l e R s m args below meth c T locs cells slots → CT p l e R s m args below meth c y (avs.map tvv).toArray rest (F0 m pc ls st) T locs cells slots := by
  obtain ⟨G, hW, hx, hb, hown, hml⟩ := X
  intro H locs cells slots T h1 hT Y
  obtain ⟨mk, methM, hnamed, hmethM, hsigM⟩ := cw_spec (args := args) hcw (gw G hW hcwt)
  have hstatic : methM.isStatic = true := Cond.static_spec hnamed hmethM (gw (args := args) G hW hstat)
  obtain ⟨kP, hkP, -⟩ := className_of_methodNamed hnamed
  have hinitP : kP.init = .initialized := Cond.initialized_spec (findClass_of_methodNamed hnamed) hkP (gw (args := args) G hW hini)
  obtain ⟨vm₁, X₁, hstep₁⟩ := Y.invokestaticNest hx hown (gnM G hW hlink) hnamed hmethM hstatic hkP hinitP hy (g := F0 m pc ls st) rfl (argsL := avs.map tvv) (rest := rest) (by rw [List.length_map]; exact hn.of hsigM) hst (by rw [hb]; exact hdg)
  exact ⟨vm₁, mk, X₁, X₁.named hnamed, fun target q => hstep₁ _ fun acts => by rw [doInvoke_state]; exact q⟩
theorem Rp.recv {H : Heap} (h1 : Rp s0 K lam h H) {a cK : Nat} (hk : aK h a = cK) (h0 : 0 < cK) (h2 : cK < 200) : ∃ cell : Cell, H[a]? = some cell ∧ cell.vm.isStatics = false ∧ s0.vm.findClass (cname cK) = some cell.cls := by
  subst hk
  obtain ⟨cell, e1, e2, e3, -⟩ := h1.2.2.1 a h0 h2
  exact ⟨cell, e1, e3.1, e2⟩
theorem ct_V {y : MethodName} {cw : Cond} {bytes : ByteArray} {maxL : Nat} {ret : Option FieldType} {idx a cK : Nat} {avs : List TV} (hk : aK h a = cK) (hc0 : 0 < cK ∧ cK < 200) (X : CX l s0 a0 p s m c cc own nL) (hcw : cw = Cond.code y bytes maxL ret ∨ (∃ hh, cw = Cond.codeWith y bytes maxL ret hh) ∨ cw = Cond.codeSync y bytes maxL ret) (hcwt : cw ∈ lw_all) (hlink : Cond.methodLink own idx y ∈ lw_all) (hinst : Cond.instanceMethod y ∈ lw_all) (hsel : Cond.selects (cname cK) y y ∈ lw_all)
    (hy : y.cls ≠ "java/lang/invoke/MethodHandle" ∧ y.cls ≠ "java/lang/invoke/VarHandle") (hn : npar y.desc avs.length) (hst : st = (avs.map tvv).reverse ++ .ref a :: rest) (hdg : decode cc pc = .ok (.invokevirtual idx, 3)) :
    ∀ (H : Heap) (locs : List Loc) (cells slots : Nat) (T : State), Rp s0 K lam h H → T.heap = H → Stand p l e R s m args below meth c T locs cells slots → CT p l e R s m args below meth c y ((vR (some a) :: avs).map tvv).toArray rest (F0 m pc ls st) T locs cells slots := by
  obtain ⟨G, hW, hx, hb, hown, hml⟩ := X
  intro H locs cells slots T h1 hT Y
  obtain ⟨mk, methM, hnamed, hmethM, hstM, habM⟩ := Cond.instanceMethod_spec (gw (args := args) G hW hinst)
  obtain ⟨mk', methM', hnamed', hmethM', hsigM⟩ := cw_spec (args := args) hcw (gw G hW hcwt)
  cases hnamed.symm.trans hnamed'
  cases hmethM.symm.trans hmethM'
  obtain ⟨cell, e1, e2, e3⟩ := h1.recv hk hc0.1 hc0.2
  have hcls := fc_w hW e3
  obtain ⟨c2, r2, m2, q1, q2, q3, q4, kP, hkP, hkPi⟩ := Cond.selects_spec (gw (args := args) G hW hsel)
  cases hcls.symm.trans q1
  cases (State.methodFound?_of_named hnamed hy).symm.trans q2
  cases hnamed.symm.trans q3
  have hselP : selectMethod e.platform s.vm cell.cls mk = .method mk := by rw [Launch.admits_selectMethod Y.admits]; exact q4
  obtain ⟨vm₁, X₁, hstep₁⟩ := Y.invokevirtual hx hown (gw G hW hlink) hnamed hmethM hstM hkP hkPi hy (a := a) (cell := cell) (by rw [hT]; exact e1)
    (fun z q => by rw [q] at e2; cases e2) hselP hmethM habM hkP hkPi (g := F0 m pc ls st) rfl (argsL := avs.map tvv) (rest := rest) (by rw [List.length_map]; exact hn.of hsigM) hst (by rw [hb]; exact hdg)
  exact ⟨vm₁, mk, X₁, X₁.named hnamed, fun target q => hstep₁ _ fun acts => by rw [doInvoke_state]; exact q⟩
theorem ct_VN {y : MethodName} {ho : String} {cw : Cond} {bytes : ByteArray} {maxL : Nat} {ret : Option FieldType} {idx a cK : Nat} {avs : List TV} (hk : aK h a = cK) (hc0 : 0 < cK ∧ cK < 200) (X : CX l s0 a0 p s m c cc own nL) (hcw : cw = Cond.code y bytes maxL ret ∨ (∃ hh, cw = Cond.codeWith y bytes maxL ret hh) ∨ cw = Cond.codeSync y bytes maxL ret) (hcwt : cw ∈ lw_all) (hlink : Cond.methodLinkNest own idx y ho ∈ lw_tbl) (hinst : Cond.instanceMethod y ∈ lw_all) (hsel : Cond.selects (cname cK) y y ∈ lw_all)
    (hy : y.cls ≠ "java/lang/invoke/MethodHandle" ∧ y.cls ≠ "java/lang/invoke/VarHandle") (hn : npar y.desc avs.length) (hst : st = (avs.map tvv).reverse ++ .ref a :: rest) (hdg : decode cc pc = .ok (.invokevirtual idx, 3)) :
    ∀ (H : Heap) (locs : List Loc) (cells slots : Nat) (T : State), Rp s0 K lam h H → T.heap = H → Stand p l e R s m args below meth c T locs cells slots → CT p l e R s m args below meth c y ((vR (some a) :: avs).map tvv).toArray rest (F0 m pc ls st) T locs cells slots := by
  obtain ⟨G, hW, hx, hb, hown, hml⟩ := X
  intro H locs cells slots T h1 hT Y
  obtain ⟨mk, methM, hnamed, hmethM, hstM, habM⟩ := Cond.instanceMethod_spec (gw (args := args) G hW hinst)
  obtain ⟨mk', methM', hnamed', hmethM', hsigM⟩ := cw_spec (args := args) hcw (gw G hW hcwt)
  cases hnamed.symm.trans hnamed'
  cases hmethM.symm.trans hmethM'
  obtain ⟨cell, e1, e2, e3⟩ := h1.recv hk hc0.1 hc0.2
  have hcls := fc_w hW e3
  obtain ⟨c2, r2, m2, q1, q2, q3, q4, kP, hkP, hkPi⟩ := Cond.selects_spec (gw (args := args) G hW hsel)
  cases hcls.symm.trans q1
  cases (State.methodFound?_of_named hnamed hy).symm.trans q2
  cases hnamed.symm.trans q3
  have hselP : selectMethod e.platform s.vm cell.cls mk = .method mk := by rw [Launch.admits_selectMethod Y.admits]; exact q4
  obtain ⟨vm₁, X₁, hstep₁⟩ := Y.invokevirtualNest hx hown (gnM G hW hlink) hnamed hmethM hstM hkP hkPi hy (a := a) (cell := cell) (by rw [hT]; exact e1)
    (fun z q => by rw [q] at e2; cases e2) hselP hmethM habM hkP hkPi (g := F0 m pc ls st) rfl (argsL := avs.map tvv) (rest := rest) (by rw [List.length_map]; exact hn.of hsigM) hst (by rw [hb]; exact hdg)
  exact ⟨vm₁, mk, X₁, X₁.named hnamed, fun target q => hstep₁ _ fun acts => by rw [doInvoke_state]; exact q⟩
/-- a method named by x, declared by owner, chosen as y for the kind cK -/
theorem ct_U {x y : MethodName} {owner : String} {cw : Cond} {bytes : ByteArray} {maxL : Nat} {ret : Option FieldType} {idx a cK : Nat} {avs : List TV} (hk : aK h a = cK) (hc0 : 0 < cK ∧ cK < 200) (X : CX l s0 a0 p s m c cc own nL) (hcw : cw = Cond.code y bytes maxL ret ∨ (∃ hh, cw = Cond.codeWith y bytes maxL ret hh) ∨ cw = Cond.codeSync y bytes maxL ret) (hcwt : cw ∈ lw_all) (hlink : Cond.methodLink own idx x ∈ lw_all) (hsame : Cond.sameMethod x.cls owner x.name x.desc ∈ lw_all) (hd0 : va_Decl s ⟨owner, x.name, x.desc⟩) (howner : owner ≠ "java/lang/invoke/MethodHandle" ∧ owner ≠ "java/lang/invoke/VarHandle") (hinst : Cond.instanceMethod y ∈ lw_all) (hsel : Cond.selects (cname cK) x y ∈ lw_all)
    (hn : npar x.desc avs.length) (hst : st = (avs.map tvv).reverse ++ .ref a :: rest) (hdg : decode cc pc = .ok (.invokevirtual idx, 3)) :
    ∀ (H : Heap) (locs : List Loc) (cells slots : Nat) (T : State), Rp s0 K lam h H → T.heap = H → Stand p l e R s m args below meth c T locs cells slots → CT p l e R s m args below meth c y ((vR (some a) :: avs).map tvv).toArray rest (F0 m pc ls st) T locs cells slots := by
  obtain ⟨G, hW, hx, hb, hown, hml⟩ := X
  intro H locs cells slots T h1 hT Y
  obtain ⟨r0, rM, hn0, hrm, hstR, hsigR⟩ := hd0
  obtain ⟨cn, ck, r1, hcn, hck, hni, hf, hn1⟩ := Cond.sameMethod_found (gw (args := args) G hW hsame)
  cases hn0.symm.trans hn1
  obtain ⟨mk, methM, hnamed, hmethM, -, habM⟩ := Cond.instanceMethod_spec (gw (args := args) G hW hinst)
  obtain ⟨cell, e1, e2, e3⟩ := h1.recv hk hc0.1 hc0.2
  have hcls := fc_w hW e3
  obtain ⟨c2, r2, m2, q1, q2, q3, q4, kP, hkP, hkPi⟩ := Cond.selects_spec (gw (args := args) G hW hsel)
  cases hcls.symm.trans q1
  cases hf.symm.trans q2
  cases hnamed.symm.trans q3
  have hselP : selectMethod e.platform s.vm cell.cls r0 = .method mk := by rw [Launch.admits_selectMethod Y.admits]; exact q4
  obtain ⟨vm₁, X₁, hstep₁⟩ := Y.invokevirtualUp hx hown (gw G hW hlink) (gw G hW hsame) howner hn0 hrm hstR (a := a) (cell := cell) (by rw [hT]; exact e1)
    (fun z q => by rw [q] at e2; cases e2) hselP hmethM habM hkP hkPi (g := F0 m pc ls st) rfl (argsL := avs.map tvv) (rest := rest) (by rw [List.length_map]; exact hn.of hsigR) hst (by rw [hb]; exact hdg)
  exact ⟨vm₁, mk, X₁, X₁.named hnamed, fun target q => hstep₁ _ fun acts => by rw [doInvoke_state]; exact q⟩
theorem ct_I {y : MethodName} {bytes : ByteArray} {maxL : Nat} {idx a : Nat} {avs : List TV} (X : CX l s0 a0 p s m c cc own nL) (hcwt : Cond.code y bytes maxL none ∈ lw_all) (hlink : Cond.methodLink own idx y ∈ lw_all) (hinst : Cond.instanceMethod y ∈ lw_all) (hnm : y.name = "<init>")
    (hy : y.cls ≠ "java/lang/invoke/MethodHandle" ∧ y.cls ≠ "java/lang/invoke/VarHandle") (hn : npar y.desc avs.length) (hst : st = (avs.map tvv).reverse ++ .ref a :: rest) (hdg : decode cc pc = .ok (.invokespecial idx, 3)) :
    ∀ (H : Heap) (locs : List Loc) (cells slots : Nat) (T : State), Rp s0 K lam h H → T.heap = H → Stand p l e R s m args below meth c T locs cells slots → CT p l e R s m args below meth c y ((vR (some a) :: avs).map tvv).toArray rest (F0 m pc ls st) T locs cells slots := by
  obtain ⟨G, hW, hx, hb, hown, hml⟩ := X
  intro H locs cells slots T h1 hT Y
  have hpl : e.platform.magicAccessors = ({} : Platform).magicAccessors := by rw [Y.admits.platform]
  obtain ⟨mk, methM, cM, kP, vm₁, hnamed, hmethM, hcodeM, -, hlocalsM, -, hkP, -, hW₁, hstep₁⟩ := Steps.initColdArgs (e := e) Y.here hx Y.warmed hpl hown hnm hy (gw (args := args) G hW hlink) (gw (args := args) G hW hinst) (gw (args := args) G hW hcwt) (f := F0 m pc ls st) rfl (argsL := avs.map tvv) (rest := rest) (fun sig q => by rw [List.length_map]; exact hn.of q) hst (by rw [hb]; exact hdg)
  have X₁ := Y.noted hW₁
  exact ⟨vm₁, mk, X₁, X₁.named hnamed, fun target q => hstep₁ _ fun acts => by rw [doInvoke_state]; exact q⟩
theorem ct_IN {y : MethodName} {ho : String} {bytes : ByteArray} {maxL : Nat} {idx a : Nat} {avs : List TV} (X : CX l s0 a0 p s m c cc own nL) (hcwt : Cond.code y bytes maxL none ∈ lw_all) (hlink : Cond.methodLinkNest own idx y ho ∈ lw_tbl) (hinst : Cond.instanceMethod y ∈ lw_all) (hnm : y.name = "<init>")
    (hy : y.cls ≠ "java/lang/invoke/MethodHandle" ∧ y.cls ≠ "java/lang/invoke/VarHandle") (hn : npar y.desc avs.length) (hst : st = (avs.map tvv).reverse ++ .ref a :: rest) (hdg : decode cc pc = .ok (.invokespecial idx, 3)) :
    ∀ (H : Heap) (locs : List Loc) (cells slots : Nat) (T : State), Rp s0 K lam h H → T.heap = H → Stand p l e R s m args below meth c T locs cells slots → CT p l e R s m args below meth c y ((vR (some a) :: avs).map tvv).toArray rest (F0 m pc ls st) T locs cells slots := by
  obtain ⟨G, hW, hx, hb, hown, hml⟩ := X
  intro H locs cells slots T h1 hT Y
  have hpl : e.platform.magicAccessors = ({} : Platform).magicAccessors := by rw [Y.admits.platform]
  obtain ⟨mk, methM, cM, kP, vm₁, hnamed, hmethM, hcodeM, -, hlocalsM, -, hkP, -, hW₁, hstep₁⟩ := Steps.initColdArgsNest (e := e) Y.here hx Y.warmed hpl hown hnm hy (gnM (args := args) G hW hlink) (gw (args := args) G hW hinst) (gw (args := args) G hW hcwt) (f := F0 m pc ls st) rfl (argsL := avs.map tvv) (rest := rest) (fun sig q => by rw [List.length_map]; exact hn.of q) hst (by rw [hb]; exact hdg)
  have X₁ := Y.noted hW₁
  exact ⟨vm₁, mk, X₁, X₁.named hnamed, fun target q => hstep₁ _ fun acts => by rw [doInvoke_state]; exact q⟩
/-- through an interface: x declared there, y chosen for the kind cK -/
theorem ct_F {x y : MethodName} {cw : Cond} {bytes : ByteArray} {maxL : Nat} {ret : Option FieldType} {idx cnt a cK : Nat} {avs : List TV} (hk : aK h a = cK) (hc0 : 0 < cK ∧ cK < 200) (X : CX l s0 a0 p s m c cc own nL) (hcw : cw = Cond.code y bytes maxL ret ∨ (∃ hh, cw = Cond.codeWith y bytes maxL ret hh) ∨ cw = Cond.codeSync y bytes maxL ret) (hcwt : cw ∈ lw_all) (hlink : Cond.methodLink own idx x ∈ lw_all)
    (hdecl : (Cond.declares x).before args s = true) (hface : (Cond.interfaceMethod x.cls x.cls x.name x.desc).before args s = true) (hpub : (Cond.publicMethod y).before args s = true) (hunh : (Cond.unhidden (cname cK) x.name x.desc).before args s = true) (hcast : (Cond.castable (cname cK) x.cls).before args s = true) (hinst : Cond.instanceMethod y ∈ lw_all) (hsel : Cond.selects (cname cK) x y ∈ lw_all)
    (hxm : x.cls ≠ "java/lang/invoke/MethodHandle" ∧ x.cls ≠ "java/lang/invoke/VarHandle") (hn : npar x.desc avs.length) (hst : st = (avs.map tvv).reverse ++ .ref a :: rest) (hdg : decode cc pc = .ok (.invokeinterface idx cnt, 5)) :
    ∀ (H : Heap) (locs : List Loc) (cells slots : Nat) (T : State), Rp s0 K lam h H → T.heap = H → Stand p l e R s m args below meth c T locs cells slots → CT p l e R s m args below meth c y ((vR (some a) :: avs).map tvv).toArray rest (F0 m pc ls st) T locs cells slots := by
  obtain ⟨G, hW, hx, hb, hown, hml⟩ := X
  intro H locs cells slots T h1 hT Y
  obtain ⟨cell, e1, e2, e3⟩ := h1.recv hk hc0.1 hc0.2
  have hcls := fc_w hW e3
  obtain ⟨kB, hkB, -⟩ := Vm.findClass_spec hcls
  obtain ⟨r0, rM, hn0, hrm, hstR, hsigR⟩ := Cond.declares_spec hdecl
  obtain ⟨cL, kL, r1, hcL, hkL, hiL, hfoundL, hn1⟩ := Cond.interfaceMethod_spec hface
  cases hn0.symm.trans hn1
  have hr0cls : r0.cls = cL := Option.some.inj ((findClass_of_methodNamed hn0).symm.trans hcL)
  obtain ⟨hnameR, hdescR⟩ := name_of_methodNamed hn0 hrm
  obtain ⟨mk, methM, hnamed, hmethM, -, habM⟩ := Cond.instanceMethod_spec (gw (args := args) G hW hinst)
  obtain ⟨c2, r2, m2, q1, q2, q3, q4, -⟩ := Cond.selects_spec (gw (args := args) G hW hsel)
  cases hcls.symm.trans q1
  cases hfoundL.symm.trans q2
  cases hnamed.symm.trans q3
  have hselP : selectMethod e.platform s.vm cell.cls r0 = .method mk := by rw [Launch.admits_selectMethod Y.admits]; exact q4
  have hpubM : hasFlag methM.accessFlags Acc.public_ = true := Cond.publicMethod_spec hnamed hmethM hpub
  have hway : ((cell.cls :: s.vm.superclasses cell.cls).any fun k => (declaredIn s.vm rM.name rM.desc k).any fun (_, z) => z.isPrivate || z.isStatic) = false := by
    rw [hnameR, hdescR]; exact Cond.unhidden_spec hcls hunh
  obtain ⟨c3, t3, w1, w2, w3⟩ := Cond.castable_spec hcast
  cases hcls.symm.trans w1
  cases hcL.symm.trans w2
  obtain ⟨vm₁, X₁, hstep₁⟩ := Y.invokeinterface hx hown (gw G hW hlink) hn0 hrm hstR (by rw [hr0cls]; exact hkL) hiL hxm (a := a) (cell := cell) (kcell := kB) (by rw [hT]; exact e1)
    (fun z q => by rw [q] at e2; cases e2) hkB (by rw [hr0cls]; exact w3) hselP hmethM hway hpubM habM (g := F0 m pc ls st) rfl (argsL := avs.map tvv) (rest := rest) (by rw [List.length_map]; exact hn.of hsigR) hst (by rw [hb]; exact hdg)
  exact ⟨vm₁, mk, X₁, X₁.named hnamed, fun target q => hstep₁ _ fun acts => by rw [doInvoke_state]; exact q⟩
end FW7
