/-! Math.ceil: the model has a native row for it, which calls StrictMath.ceil and passes its answer on when it is no NaN -/
def nnan (x : UInt64) : Bool := decide (x &&& 0x7fffffffffffffff ≤ 0x7ff0000000000000)
def ceilN (f : AM UInt64) : AM UInt64 := fun h => match f h with
  | some (.ok x, h') => if nnan x then some (.ok x, h') else none
  | _ => none
section FW16
variable {l : Launch} {s0 : State} {a0 : Array Value} {K : Nat → Nat} {lam : Nat → ClassId} {p : Program} {e : Env} {R : Room} {s : State} {m : MethodId} {args : Array Value} {below : List Frame} {meth : Method} {c : Code} {Q : State → Prop} {b h : AH} {cc : ByteArray} {own : String} {nL pc : Nat} {ls : Array Slot} {st : List Value} {F Lo : Nat}
theorem ceilN_some {f : AM UInt64} {r : Except Nat UInt64 × AH} (hf : ceilN f h = some r) : ∃ x h', f h = some (.ok x, h') ∧ r = (.ok x, h') ∧ nnan x = true := by
  unfold ceilN at hf
  split at hf
  · split at hf
    · exact ⟨_, _, by assumption, (Option.some.inj hf).symm, by assumption⟩
    · cases hf
  · cases hf
def ceilRowN : NativeRow := (NativeRow.find? Native.java_lang_Math.nans.rows "java/lang/Math" "ceil" "(D)D").get (by decide +kernel)
set_option maxRecDepth 100000 in
theorem ceilRowN_at (p : Program) : NativeRow.find? p.tables.natives "java/lang/Math" "ceil" "(D)D" = some ceilRowN := by
  cases p <;> rfl
theorem ceilN_run (b : UInt64) (e : Env) (S : State) {cS : ClassId} {kS : Class} {i : Nat} (hf : S.vm.findClass "java/lang/StrictMath" = some cS) (hk : S.vm.classes[cS]? = some kS) (hi : kS.init = .initialized) (hm : kS.findMethod "ceil" "(D)D" = some i) :
    ∃ acts, (ceilRowN.sem #[.double b]).run e S = .ctl (.call ⟨cS, i⟩ #[.double b] 1 #[]) S acts := by
  have hsem : ceilRowN.sem #[.double b] = (do
      let c ← classNamed "java/lang/StrictMath"
      ensureInit c
      let some i := (← theClass c).findMethod "ceil" "(D)D" | modelBug ("StrictMath lacks " ++ "ceil")
      callThen ⟨c, i⟩ #[.double b] 1 #[]) := rfl
  have hw : wpRun (ceilRowN.sem #[.double b]) (fun _ _ _ => False) (fun c s₂ _ => c = .call ⟨cS, i⟩ #[.double b] 1 #[] ∧ s₂ = S) e S := by
    rw [hsem]
    simp [jvm, wpRun, W.classNamed_ready hf, W.ensureInit_ready ⟨kS, hk, hi⟩, theClass, callThen, hk, hm]
    exact ⟨rfl, rfl, rfl, rfl⟩
  have hw' := (wpRun_iff_run _ _ _ _ _).mp hw
  cases hr : (ceilRowN.sem #[.double b]).run e S with
  | ok v s₂ acts₂ => rw [hr] at hw'; exact hw'.elim
  | ctl x s₂ acts₂ =>
    rw [hr] at hw'
    have h2 : x = .call ⟨cS, i⟩ #[.double b] 1 #[] ∧ s₂ = S := by cases x <;> first | exact hw' | exact hw'.elim
    obtain ⟨rfl, rfl⟩ := h2
    exact ⟨_, rfl⟩
theorem ceilN_resume {r : UInt64} (hn : nnan r = true) (e : Env) (S : State) :
    ∃ acts, (ceilRowN.resume 1 #[] (.returned (some (.double r)))).run e S = .ok (some (.double r)) S acts := by
  have hn := of_decide_eq_true hn
  have hsem : ceilRowN.resume 1 #[] (.returned (some (.double r))) = (do
      let r ← anyNaN64 r
      mark "nat.java_lang_Math.ceil"
      Pure.pure (some (.double r))) := rfl
  have hw : wpRun (ceilRowN.resume 1 #[] (.returned (some (.double r)))) (fun v s₂ _ => v = some (.double r) ∧ s₂ = S) (fun _ _ _ => False) e S := by
    rw [hsem]
    simp [jvm, wpRun, anyNaN64, hn]
  have hw' := (wpRun_iff_run _ _ _ _ _).mp hw
  cases hr : (ceilRowN.resume 1 #[] (.returned (some (.double r)))).run e S with
  | ok v s₂ acts₂ => rw [hr] at hw'; obtain ⟨rfl, rfl⟩ := hw'; exact ⟨_, rfl⟩
  | ctl x s₂ acts₂ => rw [hr] at hw'; cases x <;> exact hw'.elim
theorem overN {tb : Tables} {e : Env} {s : State} {f : JFrame} {k : Class} {x : Method} {row : NativeRow} (hpc : f.pc = 0) (hk : s.vm.classes[f.method.cls]? = some k)
    (hin : k.name ∈ overriddenIn) (hboot : k.loader = none) (hx : k.methods[f.method.idx]? = some x) (hrow : NativeRow.find? tb.natives k.name x.name x.desc = some row) : overridden tb e s f = some row := by
  unfold overridden
  simp [hpc, hk, hboot, hx, hrow]
  intro h
  exact absurd hin h
theorem resumedN {tb : Tables} {e : Env} {s : State} {f : NFrame} {rest : List Frame} {k : Class} {x : Method} {row : NativeRow} {o : Outcome}
    (hf : s.frames = .native f :: rest) (hk : s.vm.classes[f.method.cls]? = some k) (hboot : k.loader = none) (hx : k.methods[f.method.idx]? = some x)
    (hrow : NativeRow.find? tb.natives k.name x.name x.desc = some row) (ha : f.answer = some o) :
    stepThread tb e s = afterNative e f rest ((row.resume f.stage f.saved o).run e s) := by
  unfold stepThread
  simp only [hf, hk, hx, hrow, ha, hboot, Option.bind_eq_bind, Option.bind_some, Option.pure_def, Option.isNone_none, if_true]
theorem sbN (s : State) (F : List Frame) : (s.setFrames F).me.stackBytes = s.me.stackBytes := by
  unfold State.me State.setFrames
  simp only [Array.getElem?_modify]
  cases s.threads[s.cur]? <;> simp
theorem roomN {s : State} {pl : Platform} {m : MethodId} {a : Array Value} {nf : NFrame} {g : JFrame} {r : List Frame} {F L C Sl : Nat} (hcur : s.cur < s.threads.size) (hw : nf.words ≤ 1024)
    (h : (s.setFrames (.invoking m a :: .java g :: r)).hasRoom pl { frames := F + 1, locals := L + 1024, cells := C, slots := Sl } = true) :
    (s.setFrames (.invoking m a :: .native nf :: .java g :: r)).hasRoom pl { frames := F, locals := L, cells := C, slots := Sl } = true := by
  have hwt : Frame.weight (.native nf) = 1024 := by show max nf.words vmFrameWords = 1024; unfold vmFrameWords; omega
  simp only [State.hasRoom, Bool.and_eq_true, decide_eq_true_eq, State.frames_setFrames _ hcur, State.stackLimits_setFrames, sbN, State.localsInUse, stackWeight, List.map_cons, List.sum_cons, List.length_cons, hwt] at h ⊢
  obtain ⟨⟨⟨⟨a0, a1, a2, a3, a4, a5⟩, b1⟩, c1⟩, d1⟩ := h
  have e : (s.setFrames (.invoking m a :: .native nf :: .java g :: r)).vm = (s.setFrames (.invoking m a :: .java g :: r)).vm := rfl
  refine ⟨⟨⟨⟨?_, by omega, by omega, ?_, ?_, a5⟩, b1⟩, c1⟩, d1⟩
  · rw [e]; omega
  · rw [e]; omega
  · rw [e]; omega
set_option maxRecDepth 100000 in
theorem a_ceil {α : Type} {ySM : MethodName} {bytesM bytesS : ByteArray} {fr lo idx : Nat} {v : UInt64} {rs : List TV} {f : AM UInt64} {k : UInt64 → AM α} {r : Except Nat α × AH} (X : WX l s0 a0 K p s m c cc own nL b R F Lo)
    (hM : AMet l s0 K lam ySM (Cond.code ySM bytesS (2 : Nat) (some .double)) fr lo [vD v] oD f) (hyS : ySM = ⟨"java/lang/StrictMath", "ceil", "(D)D"⟩) (hcwS : Cond.code ySM bytesS (2 : Nat) (some .double) ∈ lw_all) (hiniS : Cond.initialized "java/lang/StrictMath" ∈ lw_all)
    (hcw : Cond.code ⟨"java/lang/Math", "ceil", "(D)D"⟩ bytesM (2 : Nat) (some .double) ∈ lw_all) (hini : Cond.initialized "java/lang/Math" ∈ lw_all) (hlink : Cond.methodLink own idx ⟨"java/lang/Math", "ceil", "(D)D"⟩ ∈ lw_all) (hstat : Cond.static ⟨"java/lang/Math", "ceil", "(D)D"⟩ ∈ lw_all)
    (hfr : fr + 2 ≤ F) (hlo : 8 + 13 + lo + 1024 ≤ Lo) (hsz : ls.size = nL) (hW8 : (rs.map tcat).sum ≤ 8) (hst : st = .double v :: rs.map tvv) (hdg : decode cc pc = .ok (.invokestatic idx, 3)) (hf : bd (ceilN f) k h = some r)
    (kk : ∀ x h', k x h' = some r → AW s0 K lam p l e R s m args below meth c Q b h' (F0 m (pc + 3) ls (.double x :: rs.map tvv))) : AW s0 K lam p l e R s m args below meth c Q b h (F0 m pc ls st) := by
  obtain ⟨X0, -, -, hRc, hRs, hRf, hRl⟩ := X
  rcases bd_some hf with ⟨x, h', hc, hf⟩ | ⟨q, h', hc, he⟩
  case inr => obtain ⟨x, h2, h3, h4, -⟩ := ceilN_some hc; cases h4
  obtain ⟨x', h2, hfx, h4, hnn⟩ := ceilN_some hc
  cases h4
  have hs8 : ((rs.map tvv).map fun v => v.category).sum ≤ 8 := by
    rw [List.map_map]
    have : (fun v => Value.category v) ∘ tvv = tcat := funext tcat_ok
    rw [this]
    exact hW8
  have hinv := ct_S (K := K) (lam := lam) (h := h) (e := e) (R := R) (args := args) (below := below) (meth := meth) (ls := ls) (avs := [vD v]) (st := st) (rest := rs.map tvv) (l := l) X0 (Or.inl rfl) hcw hini hlink hstat ⟨by decide, by decide⟩ (show npar "(D)D" 1 by unfold npar; decide +kernel) hst hdg
  obtain ⟨G, hW, hx, hb, hown, hml⟩ := X0
  intro H locs h1 h2 h3 h4 T hT Y
  obtain ⟨vm₁, mk, X, hnm, hstep⟩ := hinv H locs _ _ T h1 hT Y
  have hWs : s0.WarmedH (T.setVm vm₁).vm := State.WarmedH.trans hW X.warmed
  have hRp : Rp s0 K lam h (T.setVm vm₁).heap := by show Rp s0 K lam h T.heap; rw [hT]; exact h1
  have hb1 := h1.2.1.1
  generalize T.setVm vm₁ = U at X hnm hstep hWs hRp
  have hgsz : (F0 m pc ls (rs.map tvv)).locals.size = c.maxLocals := by show ls.size = _; rw [hsz, hml]
  have hmonr : (F0 m pc ls (rs.map tvv)).monitorRoom = 0 := rfl
  have hgst : (F0 m pc ls (rs.map tvv)).stack = rs.map tvv := rfl
  have hgpc : (F0 m pc ls (rs.map tvv)).pc = pc := rfl
  have hgm : (F0 m pc ls (rs.map tvv)).method = m := rfl
  have hgnx : ∀ w, ({ F0 m pc ls (rs.map tvv) with pc := (F0 m pc ls (rs.map tvv)).pc + 3, stack := w :: (F0 m pc ls (rs.map tvv)).stack } : JFrame) = F0 m (pc + 3) ls (w :: rs.map tvv) := fun _ => rfl
  have hstp : ∀ target, Steps p.tables e below (doInvoke e (U.setTop (F0 m pc ls (rs.map tvv))) [] mk #[.double v]).1 target → Steps p.tables e below (T.setTop (F0 m pc ls st)) target := fun t ht => hstep t ht
  clear hstep hinv
  generalize F0 m pc ls (rs.map tvv) = g at hgsz hmonr hgst hgpc hgm hgnx hstp
  have hdg' : decode c.code g.pc = .ok (.invokestatic idx, 3) := by rw [hb, hgpc]; exact hdg
  obtain ⟨methM, cM, hmethM, hcodeM', -, hlocalsM, -, hlocksM, -, hsigM⟩ := Cond.code_spec hnm (gw (args := args) G hWs hcw)
  obtain ⟨kP, hkP, hkname⟩ := className_of_methodNamed hnm
  obtain ⟨hmnM, hmdM⟩ := name_of_methodNamed hnm hmethM
  have hxP : kP.methods[mk.idx]? = some methM := by simpa [Vm.method?, hkP] using hmethM
  have hbootP : kP.loader = none := Vm.bootOf_findClass (findClass_of_methodNamed hnm) hkP
  have hCS := gw (args := args) G hWs hcwS
  obtain ⟨mS, hnS⟩ := Cond.code_named hCS
  obtain ⟨methS, cSd, hmethS, hcodeS, -, hlocS, -, -, -, -⟩ := Cond.code_spec hnS hCS
  obtain ⟨kS, hkS, -⟩ := className_of_methodNamed hnS
  have hfS : U.vm.findClass "java/lang/StrictMath" = some mS.cls := by have := findClass_of_methodNamed hnS; rw [hyS] at this; exact this
  have hiS : kS.init = .initialized := Cond.initialized_spec hfS hkS (gw (args := args) G hWs hiniS)
  have hmS : kS.findMethod "ceil" "(D)D" = some mS.idx := by
    have h := hnS
    simp only [State.methodNamed?, Option.bind_eq_bind, Option.pure_def] at h
    rw [hyS, hfS] at h
    simp only [Option.bind_some, hkS] at h
    cases hfm : kS.findMethod "ceil" "(D)D" with
    | none => rw [hfm] at h; cases h
    | some j => rw [hfm] at h; simp at h; rw [← h]
  have hA : At U g.method c below := by rw [hgm]; exact X.here
  have htopS := hA.top
  obtain ⟨g₀, hg0⟩ := Option.isSome_iff_exists.mp htopS
  obtain ⟨rr, hr⟩ := State.topJava?_eq_some.mp hg0
  obtain ⟨mid, hmid⟩ := hA.above
  have hcur : U.cur < U.threads.size := State.cur_lt_of_frames hr
  have htail : U.frames.tail = rr := by rw [hr]; rfl
  rw [htail] at hmid
  have htop : U.setTop g = U.setFrames (.java g :: rr) := State.setTop_of_frames _ hr
  have hloS : 2 * g.monitorRoom + (g.stack.map fun v => v.category).sum + (2 + 11) + (lo + 1024) ≤ R.locals := by rw [hmonr, hgst]; omega
  have hloM : 2 * g.monitorRoom + (g.stack.map fun v => v.category).sum + (2 + 11) + 0 ≤ R.locals := by omega
  have hroomS : (U.calling g mS #[.double v]).hasRoom e.platform { frames := fr + 1, locals := lo + 1024, cells := K 0 - aX h, slots := K 1 - aW h } = true :=
    X.room_calling hgsz hmethS hcodeS (R' := { frames := fr + 1, locals := lo + 1024, cells := K 0 - aX h, slots := K 1 - aW h }) (by show fr + 1 + 1 ≤ R.frames; omega) (by rw [hlocS]; exact hloS) (by show _ + (K 0 - aX h) ≤ R.cells; omega) (by show _ + (K 1 - aW h) ≤ R.slots; omega)
  rw [State.calling_eq htopS, htail] at hroomS
  have hroom : (U.calling g mk #[.double v]).hasRoom e.platform {} = true := X.room_calling hgsz hmethM hcodeM' (R' := {}) (by show 0 + 1 ≤ R.frames; omega) (by rw [hlocalsM]; exact hloM) (by show _ + 0 ≤ R.cells; omega) (by show _ + 0 ≤ R.slots; omega)
  have hfull : e.platform.stackFull (U.setTop g).me (U.setTop g).frames cM.maxLocals = false := by
    have hfc := State.frames_calling htopS g mk #[.double v]
    obtain ⟨-, r2, -, r4⟩ := State.hasRoom_stack hroom
    rw [State.localsInUse_invoking hfc (meth := methM) (c := cM) hmethM hcodeM'] at r4
    rw [hfc, htail] at r2
    rw [htail] at r4
    have hw := stackUse_le_stackWeight (.java g :: rr)
    rw [State.calling_eq htopS, State.stackLimits_setFrames] at r2 r4
    rw [htop, State.frames_setFrames _ hcur]
    refine Platform.stackFull_eq_false (by rw [State.stackLimits_setFrames]; simp only [List.length_cons] at r2 ⊢; have : ({} : Room).frames = 0 := rfl; omega) (by rw [State.stackLimits_setFrames]; have : ({} : Room).locals = 0 := rfl; omega)
  have hone := (doInvoke_java (s := U.setTop g) (e := e) (acts := []) (args := #[.double v]) (meth := methM) (code := cM) hmethM hcodeM' hlocksM hfull).1
  rw [hlocalsM] at hone
  have hU : (U.setTop g).pushFrame (.java { method := mk, pc := 0, locals := argsToLocals #[.double v] 2, stack := [], locked := none }) = U.setFrames (.java (entryFrame mk #[.double v] 2) :: .java g :: rr) := by
    rw [State.pushFrame, State.frames_setTop _ hr, htop, State.setFrames_setFrames]
    rfl
  rw [hU] at hone
  have hf1 : (U.setFrames (.java (entryFrame mk #[.double v] 2) :: .java g :: rr)).frames = .java (entryFrame mk #[.double v] 2) :: .java g :: rr := State.frames_setFrames _ hcur
  have hov : overridden p.tables e (U.setFrames (.java (entryFrame mk #[.double v] 2) :: .java g :: rr)) (entryFrame mk #[.double v] 2) = some ceilRowN :=
    overN (k := kP) (x := methM) rfl hkP (by rw [hkname]; decide) hbootP hxP (by rw [hkname, hmnM, hmdM]; exact ceilRowN_at p)
  have hb2 : ∀ F : List Frame, ((U.setFrames F).vm.classes[mk.cls]?.bind fun y => y.methods[mk.idx]?) = some methM := by
    intro F
    show (U.vm.classes[mk.cls]?.bind fun y => y.methods[mk.idx]?) = some methM
    simp [hkP, hxP]
  have hsig2 : parseMethodDescriptor "(D)D" = some { parameters := [.double], returnType := some .double } := by decide +kernel
  have hparams : methM.sig.parameters.length = 1 := by
    have h3 := hsigM
    rw [hsig2] at h3
    rw [← Option.some.inj h3]
    rfl
  have htake : ∀ n : Nat, List.take (1 + n) [Value.double v] = [Value.double v] := fun n => List.take_of_length_le (Nat.le_add_right 1 n)
  obtain ⟨acts₂, hr2⟩ := ceilN_run v e (U.setFrames (.native { method := mk, args := #[.double v] } :: .java g :: rr)) (cS := mS.cls) (kS := kS) (i := mS.idx) hfS hkS hiS hmS
  have hwords : ∀ F : List Frame, (((U.setFrames F).vm.classes[mk.cls]?).bind fun k => (k.methods[mk.idx]?).map fun n => upcallWords k.name n.name).getD 0 = 0 := by
    intro F
    show ((U.vm.classes[mk.cls]?).bind fun k => (k.methods[mk.idx]?).map fun n => upcallWords k.name n.name).getD 0 = 0
    simp [hkP, hxP, hkname, hmnM, upcallWords]
  have hstep2 : (stepThread p.tables e (U.setFrames (.java (entryFrame mk #[.double v] 2) :: .java g :: rr))).1 = (doInvoke e (U.setFrames (.native { method := mk, args := #[.double v], stage := 1, saved := #[], awaiting := true, answer := none, words := 0 } :: .java g :: rr)) acts₂ mS #[.double v]).1 := by
    unfold stepThread
    simp only [hf1, hov]
    have hb3 : (U.vm.classes[mk.cls]?.bind fun x => x.methods[mk.idx]?) = some methM := by simp [hkP, hxP]
    have hw3 : ((U.vm.classes[mk.cls]?).bind fun k => Option.map (fun n => upcallWords k.name n.name) k.methods[mk.idx]?).getD 0 = 0 := by simp [hkP, hxP, hkname, hmnM, upcallWords]
    simp [entryFrame, argsToLocals, Value.category, argCount, hb2, hb3, hparams, htake, hr2, afterNative, hwords, hw3, State.setFrames_setFrames]
  have hfN : (U.setFrames (.native { method := mk, args := #[.double v], stage := 1, saved := #[], awaiting := true, answer := none, words := 0 } :: .java g :: rr)).frames = (.native { method := mk, args := #[.double v], stage := 1, saved := #[], awaiting := true, answer := none, words := 0 } :: .java g :: mid) ++ below := by rw [State.frames_setFrames _ hcur, hmid]; rfl
  have eFirst : (U.setFrames (.native { method := mk, args := #[.double v], stage := 1, saved := #[], awaiting := true, answer := none, words := 0 } :: .java g :: rr)).pushFrame (.invoking mS #[.double v]) = U.setFrames (.invoking mS #[.double v] :: .native { method := mk, args := #[.double v], stage := 1, saved := #[], awaiting := true, answer := none, words := 0 } :: .java g :: rr) := by
    rw [State.pushFrame, State.frames_setFrames _ hcur, State.setFrames_setFrames]
  have happ : (headSpec [Cond.code ySM bytesS (2 : Nat) (some .double)] { frames := fr, cells := K 0 - aX h, slots := K 1 - aW h, locals := lo }).appliesLoose ySM e.platform ((U.setFrames (.native { method := mk, args := #[.double v], stage := 1, saved := #[], awaiting := true, answer := none, words := 0 } :: .java g :: rr)).pushFrame (.invoking mS #[.double v])) = true := by
    rw [eFirst]
    refine (Spec.appliesLoose_iff (State.frames_setFrames _ hcur)).mpr ⟨hA.running, by simpa using hA.runnable, by simpa using hA.alone, hnS, rfl, State.classRipe_of (s := U.setFrames _) hkS hiS, roomN hcur (Nat.zero_le _) hroomS, ?_⟩
    rw [Cond.before_setFrames]
    exact atoms_intro fun w hw => by rw [List.mem_singleton.mp hw]; exact gw G hWs hcwS
  obtain ⟨o, s₂, hsteps, hrun2, hend, hq⟩ := Steps.callFree (hM h _ hfx) p X.admits X.cas X.clock (acts := acts₂) (m := mS) (args := #[.double v]) hfN happ ⟨rfl, hWs, hRp⟩ trivial
  have hq' : APost s0 K lam oD h (.ok x, h') ((U.setFrames (.native { method := mk, args := #[.double v], stage := 1, saved := #[], awaiting := true, answer := none, words := 0 } :: .java g :: rr)).pushFrame (.invoking mS #[.double v])) o s₂ := hq
  rw [eFirst] at hq'
  obtain ⟨L, hL, hW₂, hsm, hR2, hx1, hx2, hor⟩ := hq'
  obtain ⟨e2, q2, q3, q4, q5, q6⟩ := id hsm
  have hW' : U.WarmedH s₂.vm := hW₂
  have hal : U.vm.Alike s₂.vm := hW'.alike
  rcases hor with ⟨x', hx', rfl⟩ | ⟨q, hq, -⟩
  case inr => cases hq
  cases hx'
  rw [State.frames_setFrames _ hcur] at hend
  replace hend : s₂.frames = .native { method := mk, args := #[.double v], stage := 1, saved := #[], awaiting := false, answer := some (.returned (some (.double x))), words := 0 } :: .java g :: rr := hend
  obtain ⟨k', hk', ek⟩ := hal.2.2 _ _ hkP
  have hboot' : k'.loader = none := by rw [ek]; exact hbootP
  have hx' : k'.methods[mk.idx]? = some methM := by rw [ek]; exact hxP
  have hkn' : k'.name = "java/lang/Math" := by rw [ek]; exact hkname
  obtain ⟨acts₃, hr3⟩ := ceilN_resume hnn e s₂
  have hcode2 : s₂.code? g.method = some c := by
    have h1 : s₂.code? g.method = U.code? g.method := by rw [State.code?_eq, State.code?_eq, hal.method?]
    rw [h1]; exact hA.code
  have hfs : handOver s₂ (some (.double x)) (.java g :: rr) = some (.java { g with pc := g.pc + 3, stack := .double x :: g.stack } :: rr) := by
    simp [handOver, hcode2, hdg', Except.toOption]
  have hstep4 : (stepThread p.tables e s₂).1 = s₂.setFrames (.java { g with pc := g.pc + 3, stack := .double x :: g.stack } :: rr) := by
    rw [resumedN (f := { method := mk, args := #[.double v], stage := 1, saved := #[], awaiting := false, answer := some (.returned (some (.double x))), words := 0 }) (o := .returned (some (.double x))) hend hk' hboot' hx' (by rw [hkn', hmnM, hmdM]; exact ceilRowN_at p) rfl]
    show (afterNative e _ _ ((ceilRowN.resume 1 #[] (.returned (some (.double x)))).run e s₂)).1 = _
    rw [hr3]
    exact doReturn_native (f := { method := mk, args := #[.double v], stage := 1, saved := #[], awaiting := false, answer := some (.returned (some (.double x))), words := 0 }) hend rfl hfs
  have e3 : s₂ = ({ U.setFrames s₂.frames with heap := s₂.heap, slotsUsed := s₂.slotsUsed } : State).setVm s₂.vm := by
    have h1 : s₂ = ({ s₂ with vm := (U.setFrames (.invoking mS #[.double v] :: .native { method := mk, args := #[.double v], stage := 1, saved := #[], awaiting := true, answer := none, words := 0 } :: .java g :: rr)).vm } : State).setVm s₂.vm := rfl
    rw [e2, State.setFrames_setFrames] at h1
    exact h1
  have hcs : s₂.curStatus? = some .runnable := by
    rw [e3]
    show (U.setFrames _).curStatus? = _
    simpa using hA.runnable
  have hal2 : s₂.alone = true := by
    rw [e3]
    show (U.setFrames _).alone = _
    simpa using hA.alone
  have hr' : (({ U with heap := s₂.heap, slotsUsed := s₂.slotsUsed } : State).setVm s₂.vm).frames = .java g₀ :: rr := hr
  have hs₂ : s₂.setFrames (.java { g with pc := g.pc + 3, stack := .double x :: g.stack } :: rr) = (({ U with heap := s₂.heap, slotsUsed := s₂.slotsUsed } : State).setVm s₂.vm).setTop { g with pc := g.pc + 3, stack := .double x :: g.stack } := by
    rw [State.setTop_of_frames _ hr']
    conv => lhs; rw [e3]
    have e4 : ∀ F G : List Frame, (({ U.setFrames F with heap := s₂.heap, slotsUsed := s₂.slotsUsed } : State).setVm s₂.vm).setFrames G = (({ U with heap := s₂.heap, slotsUsed := s₂.slotsUsed } : State).setVm s₂.vm).setFrames G := fun F G => by
      show ({ (U.setFrames F).setFrames G with heap := s₂.heap, slotsUsed := s₂.slotsUsed } : State).setVm s₂.vm = _
      rw [State.setFrames_setFrames]; rfl
    exact e4 _ _
  have hsame : U.sameButNew ({ U with heap := s₂.heap, slotsUsed := s₂.slotsUsed } : State) L (aX h' - aX h) (aW h' - aW h) := by
    refine ⟨?_, q2, q3, q4, q5, q6⟩
    obtain ⟨t, ht, -⟩ := State.frames_cons hr
    show ({ U with heap := s₂.heap, slotsUsed := s₂.slotsUsed } : State) = { U.setFrames U.frames with heap := s₂.heap, slotsUsed := s₂.slotsUsed }
    rw [State.setFrames_self ht]
  have Z : Stand p l e R s m args below meth c (({ U with heap := s₂.heap, slotsUsed := s₂.slotsUsed } : State).setVm s₂.vm) (locs ++ L) (aX h - aX b + (aX h' - aX h)) (aW h - aW b + (aW h' - aW h)) :=
    ⟨X.admits, X.cas, X.clock, X.frames, X.room, X.hears, X.method, X.code, (X.here.setHeapUsed s₂.heap s₂.slotsUsed).setVm hW'.alike, X.tail, State.WarmedH.trans X.warmed hW', X.limits, X.bytes, X.same.trans (hsame.setVm s.vm)⟩
  have e1 : aX h - aX b + (aX h' - aX h) = aX h' - aX b := by simp only at hx1; omega
  have e2 : aW h - aW b + (aW h' - aW h) = aW h' - aW b := by simp only at hx2; omega
  rw [e1, e2] at Z
  obtain ⟨t, a1, b1⟩ := kk x h' hf _ (locs ++ L) hR2 (fun z hz => by
      rcases List.mem_append.mp hz with z1 | z1
      · exact h2 z z1
      · exact hL z z1) (by simp only at hx1; omega) (by simp only at hx2; omega) (({ U with heap := s₂.heap, slotsUsed := s₂.slotsUsed } : State).setVm s₂.vm) rfl Z
  refine ⟨t, hstp t ?_, b1⟩
  rw [hone]
  refine Steps.head ⟨hA.running, by simpa using hA.runnable, by simpa using hA.alone⟩ ⟨.java (entryFrame mk #[.double v] 2) :: .java g :: mid, by rw [hf1, hmid]; rfl, by simp, by simp⟩ ?_
  rw [hstep2]
  refine hsteps.trans ?_
  refine Steps.head ⟨hrun2, hcs, hal2⟩ ⟨.native { method := mk, args := #[.double v], stage := 1, saved := #[], awaiting := false, answer := some (.returned (some (.double x))), words := 0 } :: .java g :: mid, by rw [hend, hmid]; rfl, by simp, by simp⟩ ?_
  rw [hstep4, hs₂, hgnx]
  exact a1
end FW16
