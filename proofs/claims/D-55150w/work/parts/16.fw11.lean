/-! synchronized methods of Throwable: their bodies walked by hand -/
/-- the frame of such a method, its receiver's monitor entered -/
def FS (m : MethodId) (a : Nat) (ls : Array Slot) (pc : Nat) (st : List Value) : JFrame := { method := m, pc := pc, locals := ls, stack := st, locked := some a, monitorRoom := 1 }
section FW11
variable {l : Launch} {s0 : State} {a0 : Array Value} {K : Nat → Nat} {lam : Nat → ClassId}
variable {p : Program} {e : Env} {R : Room} {s : State} {m : MethodId} {args : Array Value} {below : List Frame} {meth : Method} {c : Code} {Q : State → Prop}
variable {b h : AH} {cc : ByteArray} {own : String} {nL : Nat} {pc : Nat} {ls : Array Slot} {rest st : List Value} {ρ β σ : Type} {r : Except Nat β × AH} {H : Heap} {locs : List Loc} {cells slots : Nat} {a : Nat}
/-- the entry (as the library's entry of a synchronized body, here over the body's standing) -/
theorem sy_of {x : MethodName} {fr lo : Nat} {cells slots : Nat} {code : ByteArray} {maxL : Nat} {ret : Option FieldType} {P : Array Value → State → Prop} {Qc : Array Value → State → Outcome → State → Prop} (hx : plainFor x = true)
    (hrecv : ∀ args (s : State), P args s → ∃ a cell, args[0]? = some (.ref a) ∧ s.heap[a]? = some cell ∧ cell.enterable s.cur) (hsta : ∀ args (s : State), P args s → (Cond.instanceMethod x).before args s = true)
    (body : ∀ p e s m args below meth c a cell s₁, Stand p l e { frames := fr, cells := cells, slots := slots, locals := lo } (s.setCell a (cell.withEntry s.cur)) m args below meth c s₁ [] 0 0 → p.tables.exec = Jvm.exec → c.code = code → c.maxLocals = maxL → meth.sig.returnType = ret → meth.locks = true → s.methodNamed? x = some m → s.vm.method? m = some meth → args[0]? = some (.ref a) → s.heap[a]? = some cell → cell.enterable s.cur → s₁ = (s.setCell a (cell.withEntry s.cur)).setFrames (.java (entryFrameSync m args maxL a) :: below) → P args s →
      ∃ s₂ o, Steps p.tables e below (s₁.setTop (entryFrameSync m args maxL a)) s₂ ∧ s₂.status = .running ∧ Ended s₂ below o ∧ Qc args s o s₂) :
    MetFree l x (headSpec [Cond.codeSync x code maxL ret] { frames := fr, cells := cells, slots := slots, locals := lo }) P (fun _ _ _ _ _ => True) Qc := by
  intro p e ha hc hk s m args below hf happ hP hK
  obtain ⟨hrun, hable, halone, hname, hhears, hinit, hroom, hpre⟩ := (Spec.appliesLoose_iff hf).mp happ
  obtain ⟨meth, c, hmeth, hcode, hbytes, hlocals, hret, hlocks, -, -⟩ := Cond.codeSync_spec hname (atoms_spec (ws := [Cond.codeSync x code maxL ret]) hpre _ List.mem_cons_self)
  obtain ⟨m9, meth9, hn9, hm9, hst, -⟩ := Cond.instanceMethod_spec (hsta args s hP)
  cases hname.symm.trans hn9
  cases hmeth.symm.trans hm9
  obtain ⟨a, cell, harg, hcell, hent⟩ := hrecv args s hP
  have hcur := State.cur_lt_of_frames hf
  have hcur' : (s.setCell a (cell.withEntry s.cur)).cur < (s.setCell a (cell.withEntry s.cur)).threads.size := hcur
  have hf1 : ((s.setCell a (cell.withEntry s.cur)).setFrames (.java (entryFrameSync m args maxL a) :: below)).frames = .java (entryFrameSync m args maxL a) :: below :=
    State.frames_setFrames _ hcur'
  have ht1 := State.topJava?_of_frames hf1
  have hplain : ((s.setCell a (cell.withEntry s.cur)).setFrames (.java (entryFrameSync m args maxL a) :: below)).plainMethod m := State.plainMethod.of_named (s := s) hx hname hmeth
  have hAt : At ((s.setCell a (cell.withEntry s.cur)).setFrames (.java (entryFrameSync m args maxL a) :: below)) m c below :=
    ⟨by rw [ht1]; rfl, ⟨[], by rw [hf1]; rfl⟩, hrun, by simpa using hable, by simpa using halone,
      by rw [State.code?_eq]; simp [State.setFrames, State.setCell, hmeth, hcode], hplain⟩
  have hX : Stand p l e { frames := fr, cells := cells, slots := slots, locals := lo } (s.setCell a (cell.withEntry s.cur)) m args below meth c ((s.setCell a (cell.withEntry s.cur)).setFrames (.java (entryFrameSync m args maxL a) :: below)) [] 0 0 := by
    obtain ⟨t, ht, -⟩ := State.frames_cons hf
    refine ⟨ha, hc, hk, hf, by rw [State.hasRoom_setCell (x := cell.withEntry s.cur) hcell rfl]; exact hroom, hhears, hmeth, hcode, hAt, by rw [hf1]; rfl,
      State.WarmedH.refl (s.setCell a (cell.withEntry s.cur)), by rw [State.stackLimits_setFrames], by rw [State.stackBytes_setFrames], ?_⟩
    exact (State.sameButNew.refl (s.setCell a (cell.withEntry s.cur)) (x := t) ht).setFrames (.java (entryFrameSync m args maxL a) :: below) hcur
  obtain ⟨s₂, o, hs, hr, he, hp⟩ := body p e s m args below meth c a cell _ hX (by cases p <;> rfl) hbytes hlocals hret hlocks hname hmeth harg hcell hent rfl hP
  have hstep : (stepThread p.tables e s).1 =
      ((s.setCell a (cell.withEntry s.cur)).setFrames (.java (entryFrameSync m args maxL a) :: below)).setTop (entryFrameSync m args maxL a) := by
    have hfull : e.platform.stackFull (s.setFrames below).me (s.setFrames below).frames (c.maxLocals + 2) = false := by
      obtain ⟨-, h1, -, h2⟩ := State.hasRoom_stack hroom
      rw [hf, List.length_cons] at h1
      rw [State.localsInUse_invoking hf hmeth hcode] at h2
      have hw := stackUse_le_stackWeight below
      rw [State.frames_setFrames _ hcur]
      simp only [vmFrameWords] at h2
      exact Platform.stackFull_eq_false (by rw [State.stackLimits_setFrames]; omega) (by rw [State.stackLimits_setFrames]; omega)
    rw [stepThread_invoking hf, (doInvoke_java_sync (s := s.setFrames below) (e := e) (meth := meth) (code := c) (a := a) (cell := cell) hmeth hcode hlocks hst harg hcell hent.either hfull).1,
      State.setTop_self ht1, hlocals]
    show (((s.setFrames below).setCell a (cell.withEntry s.cur)).setFrames (.java (entryFrameSync m args maxL a) :: ((s.setFrames below).setCell a (cell.withEntry s.cur)).frames)) = _
    rw [show ((s.setFrames below).setCell a (cell.withEntry s.cur)).frames = below from State.frames_setFrames _ hcur, State.setCell_setFrames, State.setFrames_setFrames]
  obtain ⟨n, hn, hw⟩ := Steps.head (tb := p.tables) (e := e) ⟨hrun, hable, halone⟩ ⟨[.invoking m args], hf, by simp, by simp⟩ (hstep ▸ hs)
  exact ⟨n, o, hw, hn ▸ hr, hn ▸ he, hn ▸ hp⟩
/-! rows on such a frame -/
theorem sy_aload (hexec : p.tables.exec = Jvm.exec) (hb : c.code = cc) {k : Fin 4} {x : Option Nat} (hdg : decode cc pc = .ok (.aload_n k, 1)) (hl : ls[(k : Nat)]? = some (.val (va_rf x)))
    (k : W p l e R s m args below meth c H locs cells slots Q (FS m a ls (pc + 1) (va_rf x :: rest))) : W p l e R s m args below meth c H locs cells slots Q (FS m a ls pc rest) := by
  intro T hT X
  obtain ⟨t, a1, b1⟩ := k T hT X
  refine ⟨t, ?_, b1⟩
  cases x <;> (simp only [va_rf] at hl a1; unfold FS at a1 ⊢; jvm_step X.here [X.here.top, hexec, hb, hdg, hl, Value.isRef]; exact a1)
theorem sy_ifnonnull (hexec : p.tables.exec = Jvm.exec) (hb : c.code = cc) {x : Option Nat} {off : Int} {tgt : Nat} (hdg : decode cc pc = .ok (.ifnonnull off, 3)) (ht : (pc : Int) + off = (tgt : Int)) (k1 : x ≠ none → W p l e R s m args below meth c H locs cells slots Q (FS m a ls tgt rest)) (k2 : x = none → W p l e R s m args below meth c H locs cells slots Q (FS m a ls (pc + 3) rest)) : W p l e R s m args below meth c H locs cells slots Q (FS m a ls pc (va_rf x :: rest)) := by
  intro T hT X
  cases x with
  | none =>
    obtain ⟨t, a1, b1⟩ := k2 rfl T hT X
    refine ⟨t, ?_, b1⟩
    unfold FS at a1 ⊢
    jvm_step X.here [X.here.top, hexec, hb, hdg, va_rf, Value.isRef]
    exact a1
  | some x =>
    obtain ⟨t, a1, b1⟩ := k1 (fun q => nomatch q) T hT X
    refine ⟨t, ?_, b1⟩
    unfold FS at a1 ⊢
    jvm_step X.here [X.here.top, hexec, hb, hdg, ht, va_rf, Value.isRef]
    exact a1
theorem sy_ifnull (hexec : p.tables.exec = Jvm.exec) (hb : c.code = cc) {x : Option Nat} {off : Int} {tgt : Nat} (hdg : decode cc pc = .ok (.ifnull off, 3)) (ht : (pc : Int) + off = (tgt : Int)) (k1 : x = none → W p l e R s m args below meth c H locs cells slots Q (FS m a ls tgt rest)) (k2 : x ≠ none → W p l e R s m args below meth c H locs cells slots Q (FS m a ls (pc + 3) rest)) : W p l e R s m args below meth c H locs cells slots Q (FS m a ls pc (va_rf x :: rest)) := by
  intro T hT X
  cases x with
  | none =>
    obtain ⟨t, a1, b1⟩ := k1 rfl T hT X
    refine ⟨t, ?_, b1⟩
    unfold FS at a1 ⊢
    jvm_step X.here [X.here.top, hexec, hb, hdg, ht, va_rf, Value.isRef]
    exact a1
  | some x =>
    obtain ⟨t, a1, b1⟩ := k2 (fun q => nomatch q) T hT X
    refine ⟨t, ?_, b1⟩
    unfold FS at a1 ⊢
    jvm_step X.here [X.here.top, hexec, hb, hdg, va_rf, Value.isRef]
    exact a1
theorem sy_acmp_eq (hexec : p.tables.exec = Jvm.exec) (hb : c.code = cc) {rx ry : Option Nat} {off : Int} {tgt : Nat} (hdg : decode cc pc = .ok (.if_acmp .eq off, 3)) (ht : (pc : Int) + off = (tgt : Int))
    (kt : rx = ry → W p l e R s m args below meth c H locs cells slots Q (FS m a ls tgt rest)) (kf : ¬ rx = ry → W p l e R s m args below meth c H locs cells slots Q (FS m a ls (pc + 3) rest)) : W p l e R s m args below meth c H locs cells slots Q (FS m a ls pc (va_rf ry :: va_rf rx :: rest)) := by
  intro T hT X
  by_cases hP : rx = ry
  · obtain ⟨t, a1, b1⟩ := kt hP T hT X
    refine ⟨t, ?_, b1⟩
    subst hP
    unfold FS at a1 ⊢
    cases rx <;> (jvm_step X.here [X.here.top, hexec, hb, hdg, va_rf, Value.asRef?, Op.if_acmp.holds, ht]; exact a1)
  · obtain ⟨t, a1, b1⟩ := kf hP T hT X
    refine ⟨t, ?_, b1⟩
    unfold FS at a1 ⊢
    cases rx with
    | none => cases ry with
      | none => exact absurd rfl hP
      | some y => jvm_step X.here [X.here.top, hexec, hb, hdg, va_rf, Value.asRef?, Op.if_acmp.holds, ht]; exact a1
    | some x => cases ry with
      | none => jvm_step X.here [X.here.top, hexec, hb, hdg, va_rf, Value.asRef?, Op.if_acmp.holds, ht]; exact a1
      | some y =>
        have hxy : ¬ x = y := fun q => hP (by rw [q])
        jvm_step X.here [X.here.top, hexec, hb, hdg, va_rf, Value.asRef?, Op.if_acmp.holds, ht, hxy]; exact a1
theorem sy_acmp_ne (hexec : p.tables.exec = Jvm.exec) (hb : c.code = cc) {rx ry : Option Nat} {off : Int} {tgt : Nat} (hdg : decode cc pc = .ok (.if_acmp .ne off, 3)) (ht : (pc : Int) + off = (tgt : Int))
    (kt : ¬ rx = ry → W p l e R s m args below meth c H locs cells slots Q (FS m a ls tgt rest)) (kf : rx = ry → W p l e R s m args below meth c H locs cells slots Q (FS m a ls (pc + 3) rest)) : W p l e R s m args below meth c H locs cells slots Q (FS m a ls pc (va_rf ry :: va_rf rx :: rest)) := by
  intro T hT X
  by_cases hP : rx = ry
  · obtain ⟨t, a1, b1⟩ := kf hP T hT X
    refine ⟨t, ?_, b1⟩
    subst hP
    unfold FS at a1 ⊢
    cases rx <;> (jvm_step X.here [X.here.top, hexec, hb, hdg, va_rf, Value.asRef?, Op.if_acmp.holds, ht]; exact a1)
  · obtain ⟨t, a1, b1⟩ := kt hP T hT X
    refine ⟨t, ?_, b1⟩
    unfold FS at a1 ⊢
    cases rx with
    | none => cases ry with
      | none => exact absurd rfl hP
      | some y => jvm_step X.here [X.here.top, hexec, hb, hdg, va_rf, Value.asRef?, Op.if_acmp.holds, ht]; exact a1
    | some x => cases ry with
      | none => jvm_step X.here [X.here.top, hexec, hb, hdg, va_rf, Value.asRef?, Op.if_acmp.holds, ht]; exact a1
      | some y =>
        have hxy : ¬ x = y := fun q => hP (by rw [q])
        jvm_step X.here [X.here.top, hexec, hb, hdg, va_rf, Value.asRef?, Op.if_acmp.holds, ht, hxy]; exact a1
theorem sy_goto (hexec : p.tables.exec = Jvm.exec) (hb : c.code = cc) {off : Int} {tgt : Nat} (hdg : decode cc pc = .ok (.goto off, 3)) (ht : (pc : Int) + off = (tgt : Int)) (k : W p l e R s m args below meth c H locs cells slots Q (FS m a ls tgt rest)) : W p l e R s m args below meth c H locs cells slots Q (FS m a ls pc rest) := by
  intro T hT X
  obtain ⟨t, a1, b1⟩ := k T hT X
  refine ⟨t, ?_, b1⟩
  unfold FS at a1 ⊢
  jvm_step X.here [X.here.top, hexec, hb, hdg, ht]
  exact a1
theorem sy_null (hexec : p.tables.exec = Jvm.exec) (hb : c.code = cc) (hdg : decode cc pc = .ok (.aconst_null, 1)) (k : W p l e R s m args below meth c H locs cells slots Q (FS m a ls (pc + 1) (va_rf none :: rest))) : W p l e R s m args below meth c H locs cells slots Q (FS m a ls pc rest) := by
  intro T hT X
  obtain ⟨t, a1, b1⟩ := k T hT X
  refine ⟨t, ?_, b1⟩
  unfold FS at a1 ⊢
  jvm_step X.here [X.here.top, hexec, hb, hdg, Op.aconst_null.sem]
  exact a1
theorem sy_pop (hexec : p.tables.exec = Jvm.exec) (hb : c.code = cc) {va : Value} (hdg : decode cc pc = .ok (.pop, 1)) (hva : va.category = 1)
    (k : W p l e R s m args below meth c H locs cells slots Q (FS m a ls (pc + 1) rest)) : W p l e R s m args below meth c H locs cells slots Q (FS m a ls pc (va :: rest)) := by
  intro T hT X
  obtain ⟨t, a1, b1⟩ := k T hT X
  refine ⟨t, ?_, b1⟩
  unfold FS at a1 ⊢
  jvm_step X.here [X.here.top, hexec, hb, hdg, hva]
  exact a1
theorem sy_iconst0 (hexec : p.tables.exec = Jvm.exec) (hb : c.code = cc) (hdg : decode cc pc = .ok (.iconst 0, 1))
    (k : W p l e R s m args below meth c H locs cells slots Q (FS m a ls (pc + 1) (.int (Int32.ofInt 0) :: rest))) : W p l e R s m args below meth c H locs cells slots Q (FS m a ls pc rest) := by
  intro T hT X
  obtain ⟨t, a1, b1⟩ := k T hT X
  refine ⟨t, ?_, b1⟩
  unfold FS at a1 ⊢
  jvm_step X.here [X.here.top, hexec, hb, hdg]
  exact a1
theorem sy_end {tv : ρ → Option Value} {r1 : Except Nat ρ × AH} {v : ρ} {v' : Option Nat} {rty : FieldType} {cell : Cell} (hs : s.heap[a]? = some cell) (hent : cell.enterable s.cur) (hexec : p.tables.exec = Jvm.exec) (hb : c.code = cc) (hlk : meth.locks = true) (hr : meth.sig.returnType = some rty) (hrt : ∃ n, rty = .object n) (hdg : decode cc pc = .ok (.areturn, 1))
    (h1 : ∀ cellT, H[a]? = some cellT → cellT.left = { cell with slots := cellT.slots } → Rp s0 K lam r1.2 (H.setIfInBounds a cellT.left)) (hl : ∀ z ∈ locs, K 2 ≤ z.base) (hc : cells = aX r1.2 - aX b) (hsl : slots = aW r1.2 - aW b) (hx : aX b ≤ aX r1.2 ∧ aW b ≤ aW r1.2) (hv : r1.1 = .ok v) (hvv : tv v = some (va_rf v')) :
    W p l e R (s.setCell a (cell.withEntry s.cur)) m args below meth c H locs cells slots (fun t => ∃ o, t.status = .running ∧ Ended t below o ∧ APost s0 K lam tv b r1 s o t) (FS m a ls pc [va_rf v']) := by
  intro T hT X
  obtain ⟨fs, cellT, g1, g2, g3, g4, g5, g6⟩ := X.leaveSync hs hent hlk (v := some (va_rf v')) (fun q => by rw [hr] at q; cases q)
  have hs' : (s.setCell a (cell.withEntry s.cur)).heap[a]? = some (cell.withEntry s.cur) := by
    have hlt : a < s.heap.size := (Array.getElem?_eq_some_iff.mp hs).1
    show (s.heap.setIfInBounds a (cell.withEntry s.cur))[a]? = _
    simp [hlt]
  obtain ⟨c', x1, x2, -⟩ := X.cellAt hs'
  cases g1.symm.trans x1
  have hleft : cellT.left = { cell with slots := cellT.slots } := by
    rw [x2, Cell.left_withSlots, Cell.left_withEntry' hent]
  refine ⟨(T.setCell a cellT.left).setFrames fs, ?_, .returned (some (va_rf v')), g3, g4, locs, hl, g5, by rw [← hc, ← hsl]; exact g6, ?_, hx.1, hx.2, Or.inl ⟨v, hv, by rw [hvv]⟩⟩
  · have hmeth' : T.vm.method? m = some meth := X.method'
    obtain ⟨n, rfl⟩ := hrt
    unfold FS
    cases v' <;>
    (simp only [va_rf] at g2
     jvm_step X.here [X.here.top, hexec, hb, hdg, hmeth', hr, va_rf]
     (try refine ⟨rfl, ?_⟩); (try refine ⟨rfl, ?_⟩)
     intro acts
     rw [g2 _ acts rfl rfl rfl]
     exact Steps.refl _)
  · have := h1 cellT (by rw [← hT]; exact g1) hleft
    show Rp s0 K lam r1.2 (T.heap.setIfInBounds a cellT.left)
    rw [hT]; exact this
/-- the receiver's cell as the body has it -/
def SC (s0 : State) (k : Nat) (h : AH) (a : Nat) (cl : Cell) : Prop := s0.vm.findClass (cname k) = some cl.cls ∧ cl.vm = .none ∧ ∀ φ, hasF k φ = true → ∀ x, fdf s0 φ = some x → cl.slots[x.2.2.2.slot]? = some (aF h φ a)
theorem sy_get {φ idx k : Nat} {cl : Cell} {x : Option Nat} {ref : String} (L : LY s0 a0) (hW : s0.WarmedH s.vm) (hexec : p.tables.exec = Jvm.exec) (hb : c.code = cc) (hown : s.vm.findClass own = some m.cls) (hlink : (Cond.fieldLink own idx ref (fnm φ) (fds φ)).before args s = true) (hsame : ref = fcl φ) (hF : hasF k φ = true) (hk : k < 200) (hcell : H[a]? = some cl) (hSC : SC s0 k h a cl) (hp : pR (aF h φ a) = some x) (hdg : decode cc pc = .ok (.getfield idx, 3)) {a1 : Nat} {st : List Value}
    (kk : W p l e R s m args below meth c H locs cells slots Q (FS m a1 ls (pc + 3) (va_rf x :: st))) : W p l e R s m args below meth c H locs cells slots Q (FS m a1 ls pc (.ref a :: st)) := by
  subst hsame
  obtain ⟨cf, kf, fi, fd, q3, q4⟩ : ∃ (cf : ClassId) (kf : Class) (fi : Nat) (fd : Field), s0.fieldFound? (fcl φ) (fnm φ) (fds φ) = some (cf, kf, fi, fd) ∧ fd.isStatic = false := by
    rcases LY.or L hF hk with q | q
    · obtain ⟨c, k, cf, kf, fi, fd, r1, r2, r3, r4, -⟩ := Cond.lays_spec q
      exact ⟨cf, kf, fi, fd, r3, r4⟩
    · obtain ⟨c, k, cf, kf, fi, fd, r1, r2, r3, r4, -⟩ := Cond.laysFinal_spec q
      exact ⟨cf, kf, fi, fd, r3, r4⟩
  obtain ⟨kf', g1, -⟩ := found_w hW q3
  have hs := hSC.2.2 φ hF _ q3
  rw [pR_t hp] at hs
  exact W.getf hexec hb hown hlink g1 q4 hcell (by rw [hSC.2.1]; exact fun q => nomatch q) hs rfl rfl hdg kk
theorem sy_put {φ idx k : Nat} {cl : Cell} {v : Value} {ref : String} (L : LY s0 a0) (C : CA s0) (hW : s0.WarmedH s.vm) (hexec : p.tables.exec = Jvm.exec) (hb : c.code = cc) (hown : s.vm.findClass own = some m.cls) (hlink : (Cond.fieldLink own idx ref (fnm φ) (fds φ)).before args s = true) (hsame : ref = fcl φ) (hfin : ffin φ = false) (hfit : fits (fty φ) v = true) (hF : hasF k φ = true) (hk : k < 200) (hcell : H[a]? = some cl) (hSC : SC s0 k h a cl) (hdg : decode cc pc = .ok (.putfield idx, 3)) {a1 : Nat} {st : List Value}
    (kk : ∀ (H' : Heap) (x : ClassId × Class × Nat × Field), fdf s0 φ = some x → H'[a]? = some (cl.setSlot x.2.2.2.slot v) → H'.size = H.size → (∀ q, q ≠ a → H'[q]? = H[q]?) → W p l e R s m args below meth c H' (locs ++ [⟨a, x.2.2.2.slot⟩]) cells slots Q (FS m a1 ls (pc + 3) st)) : W p l e R s m args below meth c H locs cells slots Q (FS m a1 ls pc (v :: .ref a :: st)) := by
  subst hsame
  have hl0 : (Cond.lays (cname k) (fcl φ) (fnm φ) (fds φ)).before a0 s0 = true := by
    have := L _ φ hF hk
    rwa [if_neg (by rw [hfin]; decide)] at this
  have hl : (Cond.lays (cname k) (fcl φ) (fnm φ) (fds φ)).before args s = true := word_at hW (Or.inl rfl) hl0
  obtain ⟨cC, hC⟩ := hasC C hF hk
  obtain ⟨hfc, kC, hkC, hkind⟩ := classAt_moved hW.alike hC
  have hcc : cl.cls = cC := Option.some.inj (hSC.1.symm.trans hC.1)
  obtain ⟨c9, k9, cf, kf, fi, fd, r1, r2, r3, r4, -⟩ := Cond.lays_spec hl0
  obtain ⟨kf', g1, -⟩ := found_w hW r3
  have hS := u_store (s := s) hfc hkC hkind hl g1 (ty_ok hF hk) (narrow_of_fits hfit) hfit
  exact W.putK hexec hb (f := fd) ⟨hown, hlink, ⟨_, _, _, g1⟩, r4⟩ (by rw [hcc]; exact hS) hcell hSC.2.1 (k2_hasslot (hSC.2.2 φ hF _ r3)) rfl rfl hdg fun H' q1 q2 q3 => kk H' _ r3 q1 q2 q3
theorem hasX {k : Nat} (h : isX k = true) : hasF k 1500 = true ∧ hasF k 1501 = true ∧ hasF k 1504 = true ∧ k < 200 := by
  have hk : k < 40 := (XT_40 h).1
  revert h
  revert k
  decide +kernel
theorem sy_words : nativeFrameWords "java/lang/Throwable" "fillInStackTrace" 2 + 11 ≤ 40 := by decide +kernel
theorem sy_desc : parseMethodDescriptor "(I)Ljava/lang/Throwable;" = some { parameters := [.int], returnType := some (.object "java/lang/Throwable") } := by decide +kernel
theorem sy_fill0 {idx x : Nat} {i : Int32} {cell : Cell} {C0 : String} {x0 y0 : MethodName} (G : GG l s0 a0) (hW : s0.WarmedH s.vm) (hexec : p.tables.exec = Jvm.exec) (hb : c.code = cc) (hml : c.maxLocals = ls.size) (hown : s.vm.findClass "java/lang/Throwable" = some m.cls) (hlink : Cond.methodLink "java/lang/Throwable" idx ⟨"java/lang/Throwable", "fillInStackTrace", "(I)Ljava/lang/Throwable;"⟩ ∈ lw_all) (hinst : Cond.instanceMethod ⟨"java/lang/Throwable", "fillInStackTrace", "(I)Ljava/lang/Throwable;"⟩ ∈ lw_all) (hnat : Cond.native ⟨"java/lang/Throwable", "fillInStackTrace", "(I)Ljava/lang/Throwable;"⟩ ∈ lw_all) (hpriv : Cond.privateMethod ⟨"java/lang/Throwable", "fillInStackTrace", "(I)Ljava/lang/Throwable;"⟩ ∈ lw_tbl) (hsel : Cond.selects C0 x0 y0 ∈ lw_all) (hsc : y0.cls = "java/lang/Throwable")
    (hcell : H[x]? = some cell) (hobj : cell.vm.isStatics = false) (hF : 1 ≤ R.frames) (hLo : (rest.map fun v => v.category).sum + 50 ≤ R.locals) (hdg : decode cc pc = .ok (.invokevirtual idx, 3))
    (k : W p l e R s m args below meth c H locs cells slots Q (FS m a ls (pc + 3) (.ref x :: rest))) : W p l e R s m args below meth c H locs cells slots Q (FS m a ls pc (.int i :: .ref x :: rest)) := by
  intro T hT X
  obtain ⟨mk, methM, hnamed, hmethM, hstM, habM⟩ := Cond.instanceMethod_spec (gw (args := args) G hW hinst)
  obtain ⟨mN, kN, methN, hnamedN, hmethN, hkN, N⟩ := NativeOf.of_instance (gw (args := args) G hW hnat) (gw (args := args) G hW hinst) sy_desc
  cases hnamed.symm.trans hnamedN
  cases hmethM.symm.trans hmethN
  obtain ⟨c2, r2, m2, q1, q2, q3, q4, kP, hkP, hkPi⟩ := Cond.selects_spec (gw (args := args) G hW hsel)
  have em : m2.cls = mk.cls := Option.some.inj ((findClass_of_methodNamed q3).symm.trans (by rw [hsc]; exact findClass_of_methodNamed hnamed))
  rw [em] at hkP
  have hp := Cond.privateMethod_at (gf (args := args) G hW hpriv rfl) mk methM hnamed hmethM
  have hselP : selectMethod e.platform s.vm cell.cls mk = .method mk := selectMethod_private hmethM hp
  obtain ⟨vm₁, X₁, hstep₁⟩ := X.invokevirtual hexec hown (gw G hW hlink) hnamed hmethM hstM hkP hkPi (by decide) (a := x) (cell := cell) (by rw [hT]; exact hcell)
    (fun z h => by rw [h] at hobj; cases hobj) hselP hmethM habM hkP hkPi (g := FS m a ls pc (.int i :: .ref x :: rest)) rfl (argsL := [.int i]) (rest := rest)
    (by rw [N.sig]; rfl) rfl (by rw [hb]; exact hdg)
  have hal : s.vm.Alike vm₁ := X₁.warmed.alike
  obtain ⟨kN₁, N₁⟩ := N.alike hal
  obtain ⟨t, a1, b1⟩ := k (T.setVm vm₁) hT X₁
  have hroom := X₁.notFull (g := FS m a ls pc rest) (by show ls.size = _; rw [hml]) (vars := nativeFrameWords "java/lang/Throwable" "fillInStackTrace" 2) hF (by have := sy_words; show 2 * 1 + (rest.map fun v => v.category).sum + (nativeFrameWords "java/lang/Throwable" "fillInStackTrace" 2 + 11) ≤ R.locals; omega)
  have htr : e.platform.stackTraces = false := by
    rw [X.admits.platform]; exact G.1
  refine ⟨t, hstep₁ t fun acts => ?_, b1⟩
  exact Steps.fillInStackTrace0Off p htr X₁.here acts N₁.cls N₁.meth N₁.boot N₁.className N₁.name N₁.desc N₁.sig N₁.static N₁.native N₁.noCode N₁.noLock hroom (by rw [hb]; exact hdg) a1
end FW11
