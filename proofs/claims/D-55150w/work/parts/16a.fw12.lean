/-! lambdas: the objects of the sites, and calls of them -/
/-- what the class file of a site's hidden class holds (checked by computing) -/
def hfb (σ : Lambda.Shape) (n : String) (cb : ByteArray) (rt : FieldType) (fs : List Nat) (im ic : Nat) : Bool := match σ.file n with
  | none => false
  | some D => match layoutFields D 0, layoutMethods D with
    | some lay, some ms => (match ms[1]? with
      | some fm => (match fm.code with
        | some fc => decide (fc.code.data = cb.data) && decide (fc.maxLocals = 2) && decide (fm.accessFlags = 1) && decide (fm.sig.returnType = some rt)
        | none => false)
      | none => false) && decide (lay.2.1.toList = σ.captured) && decide (fs.length = σ.captured.length) &&
      (fs.zipIdx.all fun q => match D.constantPool[q.1]? with
        | some (.fieldref ci nt) => (match D.constantPool.nameAndType? nt with
          | some (nm, ds) => decide (lay.1.findIdx? (·.name == nm) = some q.2) && (match lay.1[q.2]? with
            | some a => decide (a.slot = q.2) && decide (a.isStatic = false)
            | none => false)
          | none => false)
        | _ => false) &&
      (match D.constantPool[im]? with
        | some (.methodref c nt) => decide (c = ic) && decide (D.constantPool.className? ic = some σ.implClass) && decide (D.constantPool.nameAndType? nt = some (σ.implName, σ.implDesc.toString))
        | _ => false) &&
      (match D.constantPool[ic]? with
        | some (.class_ k) => decide (D.constantPool.string? k = some σ.implClass) && decide (ic ≠ D.thisClass)
        | _ => false)
    | _, _ => false
theorem hf_of {σ : Lambda.Shape} {n : String} {cb : ByteArray} {rt : FieldType} {fs : List Nat} {im ic : Nat} (h : hfb σ n cb rt fs im ic = true) :
    ∃ D lay ms fm fc, σ.file n = some D ∧ layoutFields D 0 = some lay ∧ layoutMethods D = some ms ∧ ms[1]? = some fm ∧ fm.code = some fc ∧ fc.code = cb ∧ fc.maxLocals = 2 ∧ fm.accessFlags = 1 ∧ fm.sig.returnType = some rt ∧ lay.2.1.toList = σ.captured ∧ fs.length = σ.captured.length ∧
      (∀ j i, fs[j]? = some i → ∃ ci nt nm ds a, D.constantPool[i]? = some (.fieldref ci nt) ∧ D.constantPool.nameAndType? nt = some (nm, ds) ∧ lay.1.findIdx? (·.name == nm) = some j ∧ lay.1[j]? = some a ∧ a.slot = j ∧ a.isStatic = false) ∧
      (∃ nt, D.constantPool[im]? = some (.methodref ic nt) ∧ D.constantPool.className? ic = some σ.implClass ∧ D.constantPool.nameAndType? nt = some (σ.implName, σ.implDesc.toString)) ∧ (∃ k, D.constantPool[ic]? = some (.class_ k) ∧ D.constantPool.string? k = some σ.implClass ∧ ic ≠ D.thisClass) := by
  unfold hfb at h
  split at h
  · cases h
  rename_i D hD
  split at h
  rename_i lay ms hl hm
  · simp only [Bool.and_eq_true] at h
    obtain ⟨⟨⟨⟨⟨h1, h2⟩, h3⟩, h4⟩, h5⟩, h6⟩ := h
    split at h1
    rename_i fm hfm
    · split at h1
      rename_i fc hfc
      · simp only [Bool.and_eq_true, decide_eq_true_eq] at h1
        obtain ⟨⟨⟨a1, a2⟩, a3⟩, a4⟩ := h1
        refine ⟨D, lay, ms, fm, fc, hD, hl, hm, hfm, hfc, ByteArray.ext a1, a2, a3, a4, of_decide_eq_true h2, of_decide_eq_true h3, fun j i hj => ?_, ?_, ?_⟩
        · have hq := List.all_eq_true.mp h4 (i, j) (by rw [List.mem_zipIdx_iff_getElem?]; simpa using hj)
          simp only at hq
          split at hq
          rename_i ci nt hci
          · split at hq
            rename_i nm ds hnt
            · simp only [Bool.and_eq_true, decide_eq_true_eq] at hq
              obtain ⟨q1, q2⟩ := hq
              split at q2
              rename_i a ha
              · simp only [Bool.and_eq_true, decide_eq_true_eq] at q2
                exact ⟨ci, nt, nm, ds, a, hci, hnt, q1, ha, q2.1, q2.2⟩
              · cases q2
            · cases hq
          · cases hq
        · split at h5
          rename_i c nt hc
          · simp only [Bool.and_eq_true, decide_eq_true_eq] at h5
            obtain ⟨⟨b1, b2⟩, b3⟩ := h5
            subst b1
            exact ⟨nt, hc, b2, b3⟩
          · cases h5
        · split at h6
          rename_i k hk
          · simp only [Bool.and_eq_true, decide_eq_true_eq] at h6
            exact ⟨k, hk, h6.1, h6.2⟩
          · cases h6
      · cases h1
    · cases h1
  · cases h
/-- what is known of a site at the start -/
def SI (s0 : State) (lam : Nat → ClassId) (t : Nat) (x : MethodName) (pc idx : Nat) (σ : Lambda.Shape) (one : Option Addr) : Prop := s0.lambdaAt? x pc idx σ = some (lam t, one)
section FW12
variable {l : Launch} {s0 : State} {a0 : Array Value} {K : Nat → Nat} {lam : Nat → ClassId}
variable {p : Program} {e : Env} {R : Room} {s : State} {m : MethodId} {args : Array Value} {below : List Frame} {meth : Method} {c : Code} {Q : State → Prop}
variable {b h : AH} {cc : ByteArray} {own : String} {nL : Nat} {pc : Nat} {ls : Array Slot} {rest st : List Value} {ρ β σ' : Type} {r : Except Nat β × AH}
/-- the hidden class, in warmer tables -/
theorem hid_made {t : Nat} {x : MethodName} {pcs idx : Nat} {σ : Lambda.Shape} {one : Option Addr} {cb : ByteArray} {rt : FieldType} {fs : List Nat} {im ic : Nat} {vm : Vm} (G : GG l s0 a0) (hS : SI s0 lam t x pcs idx σ one) (hf : hfb σ x.cls cb rt fs im ic = true) (hW : s0.WarmedH vm) (hobj : Cond.instantiable "java/lang/Object" 0 ∈ lw_tbl) {y : MethodName} (hy : y = ⟨σ.implClass, σ.implName, σ.implDesc.toString⟩) (hyy : y.cls ≠ "java/lang/invoke/MethodHandle" ∧ y.cls ≠ "java/lang/invoke/VarHandle") {mk : MethodId} (hn : s0.methodNamed? y = some mk) :
    ∃ (k : Class) (file : ClassFile) (methk : Method) (ck : Code) (tk : Class) (found : MethodId) (iface : ClassId) (nt : Nat),
      vm.classes[lam t]? = some k ∧ k.name = x.cls ++ "$$Lambda" ∧ k.cf = some file ∧ file.constantPool[im]? = some (.methodref ic nt) ∧ file.constantPool.nameAndType? nt = some (y.name, y.desc) ∧ vm.method? ⟨lam t, 1⟩ = some methk ∧ methk.code = some ck ∧ ck.code = cb ∧ ck.maxLocals = 2 ∧ ck.exceptionTable = #[] ∧ methk.locks = false ∧ methk.accessFlags = 1 ∧ methk.sig.returnType = some rt ∧
      (∀ j i, fs[j]? = some i → ∃ a, vm.fieldReady (lam t) i (lam t) a ∧ a.slot = j ∧ a.isStatic = false) ∧ vm.methodReady (lam t) im mk ∧ vm.classReady (lam t) ic mk.cls ∧ vm.classes[mk.cls]? = some tk ∧ tk.name = y.cls ∧
      vm.findClass σ.iface = some iface ∧ ((methodIn iface σ.name σ.sam.toString true none).ask { classPath := fun _ => none } vm).1 = .ok found ∧ selectMethod {} vm (lam t) found = .method ⟨lam t, 1⟩ ∧ k.instanceTypes.toList = σ.captured ∧ fs.length = σ.captured.length := by
  obtain ⟨md, kd, cfd, i0, p0, lk, hmd, hkd, -, -, -, -, hmade, -, -⟩ := State.lambdaAt?_spec hS
  have hA := hW.alike
  obtain ⟨kd0, hkd0, hnd⟩ := className_of_methodNamed hmd
  cases hkd.symm.trans hkd0
  obtain ⟨kd', hkd', hed⟩ := hA.2.2 _ _ hkd
  obtain ⟨dk, k, ok, tk, file, cf, object, iface, tt, lay, methods, target, found, g1, g2, g3, g4, g5, g6, g7, g8, g9, g10, g11, g12, g13, g14, -, -, -, -, g15, g16, g17, g18, g19, g20⟩ := Lambda.isMade_spec (Lambda.isMade_warmer hW hmade)
  obtain rfl : dk = kd' := Option.some.inj (g1.symm.trans hkd')
  have hdn : dk.name = x.cls := by rw [hed]; exact hnd
  obtain ⟨D, lay', ms', fm, fc, f1, f2, f3, f4, f5, f6, f7, f8, f9, f10, f11, f12, ⟨nt, f13, f14, f15⟩, ⟨kn, f16, f17, f18⟩⟩ := hf_of hf
  rw [hdn, f1] at g4
  cases g4
  cases g9.symm.trans f3
  obtain ⟨o1, o2, o3, o4, -, -, -, o5⟩ := Cond.instantiable_spec (G.2 _ hobj)
  have hoo : object = o1 := Option.some.inj (g5.symm.trans (by rw [hA.findClass]; exact o3))
  subst hoo
  obtain ⟨ok', hok', heo⟩ := hA.2.2 _ _ o4
  cases g7.symm.trans hok'
  have hoz : ok.instanceTypes.size = 0 := by rw [heo]; exact o5
  rw [hoz, f2] at g8
  cases g8
  obtain ⟨bm, hbm, hsame⟩ := g16 1 fm f4
  obtain ⟨s1, s2, s3, s4, x9, y9, s5, s6, s7, s8, s9, s10⟩ := Lambda.sameMethod_spec hsame
  cases f5.symm.trans s5
  subst hy
  have htt : tt = mk.cls := Option.some.inj (g10.symm.trans (by rw [hA.findClass]; exact findClass_of_methodNamed hn))
  subst htt
  have htgt : target = mk := by
    have h1 : (s0.setVm vm).methodFound? σ.implClass σ.implName σ.implDesc.toString = some mk := by rw [State.methodFound?_setVm hA]; exact State.methodFound?_of_named hn hyy
    simp only [State.methodFound?, State.vm_setVm, g10, g11, Option.bind_eq_bind, Option.bind_some] at h1
    rw [g12] at h1
    exact Option.some.inj h1
  subst htgt
  obtain ⟨kt0, hkt0, hnt0⟩ := className_of_methodNamed hn
  obtain ⟨kt1, hkt1, het⟩ := hA.2.2 _ _ hkt0
  cases g11.symm.trans hkt1
  refine ⟨k, file, bm, y9, tk, found, iface, nt, g2, by rw [g14.1, hdn], g3, ?_, ?_, by simp [Vm.method?, g2, hbm], s6, by rw [s9]; exact f6, by rw [s8]; exact f7, s10, ?_, by rw [s4]; exact f8, by rw [s3]; exact f9, fun j i hj => ?_, ⟨k, g2, ?_⟩, ⟨k, g2, ?_⟩, g11, by rw [het]; exact hnt0, g6, g13, g20, ?_, f11⟩
  · rw [g15.2.1]; exact f13
  · rw [g15.2.1]; exact f15
  · simp [Method.locks, Method.isSynchronized, s4, f8, hasFlag, Acc.synchronized]
  · obtain ⟨ci, nt', nm, ds, a, q1, q2, q3, q4, q5, q6⟩ := f12 j i hj
    exact ⟨a, ⟨k, j, k, g2, g19 i _ (Lambda.resolvedOf_field q1 q2 q3), g2, g17 j a q4⟩, q5, q6⟩
  · exact g19 im _ (Lambda.resolvedOf_method f13 f14 g10 g11 f15 g12)
  · exact g19 ic _ (Lambda.resolvedOf_class f16 f18 f17 g10)
  · rw [g18.1]
    have : ok.instanceTypes = #[] := Array.eq_empty_of_size_eq_zero hoz
    rw [this]
    simpa using f10
end FW12
