/-! lambdas: making an object of a site -/
section LS
variable {α : Type}
theorem ls_19 {x : Option CpInfo} {f : Nat → Nat → Option α} {r : α} (h : Lambda.shapeOf?.match_19 (fun _ => Option α) x f (fun _ => none) = some r) : ∃ b nt, x = some (.invokeDynamic b nt) ∧ f b nt = some r := by
  split at h
  · exact ⟨_, _, rfl, h⟩
  · cases h
theorem ls_17 {x : Option CpInfo} {f : Nat → Option α} {r : α} (h : Lambda.shapeOf?.match_17 (fun _ => Option α) x f (fun _ => none) = some r) : ∃ y, f y = some r := by
  split at h
  · exact ⟨_, h⟩
  · cases h
theorem ls_15 {x : Array Nat} {f : Nat → Nat → Nat → Option α} {r : α} (h : Lambda.shapeOf?.match_15 (fun _ => Option α) x f (fun _ => none) = some r) : ∃ a0 a1 a2, f a0 a1 a2 = some r := by
  rcases x with ⟨L⟩
  match L, h with
  | [], h => cases h
  | [_], h => cases h
  | [_, _], h => cases h
  | [a, b, c], h => exact ⟨a, b, c, h⟩
  | _ :: _ :: _ :: _ :: _, h => cases h
theorem ls_9 {x : Option CpInfo} {f : Nat → Option α} {r : α} (h : Lambda.shapeOf?.match_9 (fun _ => Option α) x f (fun _ => none) = some r) : ∃ y, f y = some r := by
  split at h
  · exact ⟨_, h⟩
  · cases h
theorem ls_12 {x : Option CpInfo} {f : Nat → Nat → Option α} {r : α} (h : Lambda.shapeOf?.match_12 (fun _ => Option α) x f (fun _ => none) = some r) : ∃ y z, f y z = some r := by
  split at h
  · exact ⟨_, _, h⟩
  · cases h
theorem ls_6 {x : Option FieldType} {f : String → Option α} {r : α} (h : Lambda.shapeOf?.match_6 (fun _ => Option α) x f (fun _ => none) = some r) : ∃ y, f y = some r := by
  split at h
  · exact ⟨_, h⟩
  · cases h
end LS
theorem ls_site {cf : ClassFile} {index : Nat} {σ : Lambda.Shape} (h : Lambda.shapeOf? cf index = some σ) :
    ∃ (b nt : Nat) (desc : String) (site : MethodDescriptor), cf.constantPool[index]? = some (.invokeDynamic b nt) ∧ cf.constantPool.nameAndType? nt = some (σ.name, desc) ∧ parseMethodDescriptor desc = some site ∧ site.parameters = σ.captured := by
  unfold Lambda.shapeOf? at h
  obtain ⟨b, nt, hc, h⟩ := ls_19 h
  obtain ⟨entries, -, h⟩ := Option.bind_eq_some_iff.mp h
  obtain ⟨bm, -, h⟩ := Option.bind_eq_some_iff.mp h
  obtain ⟨r, h⟩ := ls_17 h
  obtain ⟨_, -, h⟩ := Option.bind_eq_some_iff.mp h
  obtain ⟨a0, a1, a2, h⟩ := ls_15 h
  obtain ⟨d0, h⟩ := ls_9 h
  obtain ⟨kind, r1, h⟩ := ls_12 h
  obtain ⟨d2, h⟩ := ls_9 h
  obtain ⟨⟨name, desc⟩, hnt, h⟩ := Option.bind_eq_some_iff.mp h
  obtain ⟨site, hsite, h⟩ := Option.bind_eq_some_iff.mp h
  obtain ⟨iface, h⟩ := ls_6 h
  obtain ⟨⟨implClass, implName, implDesc, implItf⟩, -, h⟩ := Option.bind_eq_some_iff.mp h
  obtain ⟨x1, -, h⟩ := Option.bind_eq_some_iff.mp h
  obtain ⟨x2, -, h⟩ := Option.bind_eq_some_iff.mp h
  obtain ⟨x3, -, h⟩ := Option.bind_eq_some_iff.mp h
  obtain ⟨x4, -, h⟩ := Option.bind_eq_some_iff.mp h
  obtain ⟨x5, -, h⟩ := Option.bind_eq_some_iff.mp h
  cases h
  exact ⟨b, nt, desc, site, hc, hnt, hsite, rfl⟩
/-- a caught value is of its type -/
def tyb : FieldType → TV → Bool := fun t v => match t, v with
  | .int, .inr (.inl _) => true
  | .object _, .inl _ => true
  | _, _ => false
section FW13
variable {l : Launch} {s0 : State} {a0 : Array Value} {K : Nat → Nat} {lam : Nat → ClassId}
variable {p : Program} {e : Env} {R : Room} {s : State} {m : MethodId} {args : Array Value} {below : List Frame} {meth : Method} {c : Code} {Q : State → Prop}
variable {b h : AH} {cc : ByteArray} {own : String} {nL : Nat} {pc : Nat} {ls : Array Slot} {rest st : List Value} {ρ β σ' : Type} {r : Except Nat β × AH}
theorem si_types {t : Nat} {x : MethodName} {pcs idx : Nat} {σ : Lambda.Shape} {one : Option Addr} {cb : ByteArray} {rt : FieldType} {fs : List Nat} {im ic : Nat} {vm : Vm} (G : GG l s0 a0) (hS : SI s0 lam t x pcs idx σ one) (hf : hfb σ x.cls cb rt fs im ic = true) (hW : s0.WarmedH vm) (hobj : Cond.instantiable "java/lang/Object" 0 ∈ lw_tbl) :
    ∃ k, vm.classes[lam t]? = some k ∧ k.instanceTypes.toList = σ.captured ∧ k.kind = .ordinary ∧ fs.length = σ.captured.length := by
  obtain ⟨md, kd, cfd, i0, p0, lk, hmd, hkd, -, -, -, -, hmade, -, -⟩ := State.lambdaAt?_spec hS
  have hA := hW.alike
  obtain ⟨kd0, hkd0, hnd⟩ := className_of_methodNamed hmd
  cases hkd.symm.trans hkd0
  obtain ⟨kd', hkd', hed⟩ := hA.2.2 _ _ hkd
  obtain ⟨dk, k, ok, tk, file, cf, object, iface, tt, lay, methods, target, found, g1, g2, g3, g4, g5, g6, g7, g8, g9, g10, g11, g12, g13, g14, -, -, -, -, g15, g16, g17, g18, g19, g20⟩ := Lambda.isMade_spec (Lambda.isMade_warmer hW hmade)
  obtain rfl : dk = kd' := Option.some.inj (g1.symm.trans hkd')
  have hdn : dk.name = x.cls := by rw [hed]; exact hnd
  obtain ⟨D, lay', ms', fm, fc, f1, f2, f3, f4, f5, f6, f7, f8, f9, f10, f11, -⟩ := hf_of hf
  rw [hdn, f1] at g4
  cases g4
  obtain ⟨o1, o2, o3, o4, -, -, -, o5⟩ := Cond.instantiable_spec (G.2 _ hobj)
  have hoo : object = o1 := Option.some.inj (g5.symm.trans (by rw [hA.findClass]; exact o3))
  subst hoo
  obtain ⟨ok', hok', heo⟩ := hA.2.2 _ _ o4
  cases g7.symm.trans hok'
  have hoz : ok.instanceTypes.size = 0 := by rw [heo]; exact o5
  rw [hoz, f2] at g8
  cases g8
  refine ⟨k, g2, ?_, g14.2.1, f11⟩
  rw [g18.1]
  have : ok.instanceTypes = #[] := Array.eq_empty_of_size_eq_zero hoz
  rw [this]
  simpa using f10
theorem tyb_ok {ty : FieldType} {v : TV} (h : tyb ty v = true) : narrow ty (tvv v) = tvv v ∧ fits ty (tvv v) = true := by
  rcases v with x | x | x | x | x
  · cases ty <;> first | (simp [tyb] at h; done) | (cases x <;> exact ⟨rfl, rfl⟩)
  · cases ty <;> first | (simp [tyb] at h; done) | exact ⟨rfl, rfl⟩
  · cases ty <;> simp [tyb] at h
  · cases ty <;> simp [tyb] at h
  · cases ty <;> simp [tyb] at h
theorem zip_ok : ∀ (ts : List FieldType) (vs : List TV), ts.length = vs.length → (ts.zip vs).all (fun q => tyb q.1 q.2) = true → (ts.zip (vs.map tvv)).map (fun (t, v) => narrow t v) = vs.map tvv ∧ ∀ (i : Nat) (v : Value), (vs.map tvv)[i]? = some v → ∃ t : FieldType, ts[i]? = some t ∧ fits t v = true
  | [], [], _, _ => ⟨rfl, fun i v h => by simp at h⟩
  | t :: ts, v :: vs, hl, h => by
    simp only [List.zip_cons_cons, List.all_cons, Bool.and_eq_true] at h
    obtain ⟨h1, h2⟩ := h
    obtain ⟨g1, g2⟩ := zip_ok ts vs (by simpa using hl) h2
    obtain ⟨e1, e2⟩ := tyb_ok h1
    refine ⟨by simp only [List.map_cons, List.zip_cons_cons]; rw [e1, g1], fun i w hw => ?_⟩
    cases i with
    | zero => simp at hw; subst hw; exact ⟨t, rfl, e2⟩
    | succ i => simpa using g2 i w (by simpa using hw)
  | [], _ :: _, hl, _ => by simp at hl
  | _ :: _, [], hl, _ => by simp at hl
theorem lw3072 {l : Launch} {e : Env} (h : l.admits e) : e.platform.lambdaLinkWords = 3072 := by
  rw [h.platform]
theorem a_ndyC {F Lo t idx q : Nat} {x : MethodName} {σ : Lambda.Shape} {rs : List TV} (X : WX l s0 a0 K p s m c cc own nL b R F Lo) (hnd : s.methodNamed? x = some m) (hS : SI s0 lam t x pc idx σ (some q)) (hLo : 3080 ≤ Lo) (hsz : ls.size = nL) (hW8 : (rs.map tcat).sum ≤ 8) (hdg : decode cc pc = .ok (.invokedynamic idx, 5)) (kk : AW s0 K lam p l e R s m args below meth c Q b h (F0 m (pc + 5) ls (va_rf (some q) :: rs.map tvv))) : AW s0 K lam p l e R s m args below meth c Q b h (F0 m pc ls (rs.map tvv)) := by
  obtain ⟨⟨G, hW, hx, hb, hown, hml⟩, -, -, hRc, hRs, hRf, hRl⟩ := X
  have hcat : ((rs.map tvv).map fun v => v.category).sum ≤ 8 := by
    rw [List.map_map, show (fun v => Value.category v) ∘ tvv = tcat from funext tcat_ok]; exact hW8
  obtain ⟨md, kd, cfd, i0, p0, lk, hmd, hkd, -, -, -, hfind, -, -, hlk⟩ := State.lambdaAt?_spec hS
  have hmm : md = m := by
    have := State.methodNamed?_setVm (s := s0) hW.alike x
    have h2 : (s0.setVm s.vm).methodNamed? x = some m := hnd
    rw [this, hmd] at h2
    exact Option.some.inj h2
  subst hmm
  obtain ⟨kd', hkd', hed⟩ := hW.alike.2.2 _ _ hkd
  rcases hlk with ⟨a, cell, rfl, h1, -⟩ | ⟨-, h1, -⟩
  · cases h1
    intro H locs g1 g2 g3 g4 T hT Y
    obtain ⟨t, a1, b1⟩ := kk H locs g1 g2 g3 g4 T hT Y
    exact ⟨t, Y.lambdaConstant hx (g := F0 md pc ls (rs.map tvv)) rfl (by show ls.size = _; rw [hsz, hml]) (by rw [hb]; exact hdg) hkd' (by rw [hed]; exact hfind) (by rw [lw3072 Y.admits]; show 2 * 0 + ((rs.map tvv).map fun v => v.category).sum + 3072 ≤ R.locals; omega) a1, b1⟩
  · cases h1
theorem a_ndy {F Lo t idx : Nat} {x : MethodName} {σ : Lambda.Shape} {cb : ByteArray} {rt : FieldType} {fs : List Nat} {im ic : Nat} {avs rs : List TV} {k : Option Nat → AM β} (X : WX l s0 a0 K p s m c cc own nL b R F Lo) (hnd : s.methodNamed? x = some m) (hS : SI s0 lam t x pc idx σ none) (hfb : hfb σ x.cls cb rt fs im ic = true) (hobj : Cond.instantiable "java/lang/Object" 0 ∈ lw_tbl) (ht : 200 ≤ t ∧ t < 1000) (hfl : (flds t).length = avs.length) (hcl : σ.captured.length = avs.length) (hty : (σ.captured.zip avs).all (fun q => tyb q.1 q.2) = true) (hLo : 3088 ≤ Lo) (hsz : ls.size = nL) (hW8 : (rs.map tcat).sum ≤ 8) (hA8 : (avs.map tcat).sum ≤ 8) (hst : st = (avs.map tvv).reverse ++ rs.map tvv)
    (hdg : decode cc pc = .ok (.invokedynamic idx, 5)) (hf : bd (nwL K t (avs.map tvv)) k h = some r)
    (kk : ∀ q h', k (some q) h' = some r → AW s0 K lam p l e R s m args below meth c Q b h' (F0 m (pc + 5) ls (va_rf (some q) :: rs.map tvv))) : AW s0 K lam p l e R s m args below meth c Q b h (F0 m pc ls st) := by
  obtain ⟨⟨G, hW, hx, hb, hown, hml⟩, -, -, hRc, hRs, hRf, hRl⟩ := X
  have hcat : ∀ {vs : List TV}, (vs.map tcat).sum ≤ 8 → ((vs.map tvv).map fun v => v.category).sum ≤ 8 := fun {vs} hv => by
    rw [List.map_map, show (fun v => Value.category v) ∘ tvv = tcat from funext tcat_ok]; exact hv
  have h8 : (st.map fun v => v.category).sum ≤ 16 := by
    rw [hst, List.map_append, List.sum_append, List.map_reverse, List.sum_reverse]
    have := hcat hW8
    have := hcat hA8
    omega
  have hcond : (aX h + 1 ≤ K 0 ∧ aW h + avs.length ≤ K 1) ∧ k (some (aX h)) (mkL t (avs.map tvv) h) = some r := by
    by_cases hc : aX h + 1 ≤ K 0 ∧ aW h + (avs.map tvv).length ≤ K 1
    · simp only [bd, nwL, if_pos hc] at hf; exact ⟨by simpa using hc, hf⟩
    · simp only [bd, nwL, if_neg hc] at hf; cases hf
  obtain ⟨⟨b1, b2⟩, hk⟩ := hcond
  obtain ⟨md, kd, cfd, i0, p0, lk, hmd, hkd, hcfd, hsh, -, hfind, -, -, hlk⟩ := State.lambdaAt?_spec hS
  have hmm : md = m := by
    have := State.methodNamed?_setVm (s := s0) hW.alike x
    have h2 : (s0.setVm s.vm).methodNamed? x = some m := hnd
    rw [this, hmd] at h2
    exact Option.some.inj h2
  subst hmm
  obtain ⟨kd', hkd', hed⟩ := hW.alike.2.2 _ _ hkd
  obtain ⟨bsm, nt, desc, site, hc, hnt, hsite, hpar⟩ := ls_site hsh
  obtain ⟨kc, hkc, hkt, hkk, hfsl⟩ := si_types G hS hfb hW hobj
  obtain ⟨z1, z2⟩ := zip_ok σ.captured avs hcl hty
  rcases hlk with ⟨a, cell, -, h1, -⟩ | ⟨rfl, -, -⟩
  · cases h1
  intro H locs g1 g2 g3 g4 T hT Y
  have hvals : (kc.instanceTypes.toList.zip (avs.map tvv)).map (fun (t, v) => narrow t v) = avs.map tvv := by rw [hkt]; exact z1
  obtain ⟨X', st1⟩ := Y.lambdaMakes hx (g := F0 md pc ls st) rfl (by show ls.size = _; rw [hsz, hml]) (by rw [hb]; exact hdg) (vals := avs.map tvv) (rest := rs.map tvv) hkd' (by rw [hed]; exact hfind) (by rw [hed]; exact hcfd) hc hnt (parseLong_of_parse hsite) (by rw [hpar, hcl]; simp) hst hkc
    (by rw [lw3072 Y.admits]; show 2 * 0 + (st.map fun v => v.category).sum + 3072 ≤ R.locals; omega) (by omega) (by rw [hvals]; simp only [List.length_map]; omega) (fun i v hv => by
      rw [hvals] at hv
      obtain ⟨ty, q1, q2⟩ := z2 i v (by simpa using hv)
      have q3 : kc.instanceTypes[i]? = some ty := by rw [← Array.getElem?_toList, hkt]; exact q1
      simp [State.fitsSlot, State.slotType?, hkc, hkk, q3, q2])
  rw [hvals] at X' st1
  have hz := g1.1
  have ek : aK (mkL t (avs.map tvv) h) (aX h) = t := by simp [aK, mkL]
  have hR : Rp s0 K lam (mkL t (avs.map tvv) h) (T.pushCell { cls := lam t, slots := (avs.map tvv).toArray, vm := .none }).heap := by
    have hp : (T.pushCell { cls := lam t, slots := (avs.map tvv).toArray, vm := .none }).heap = T.heap.push { cls := lam t, slots := (avs.map tvv).toArray, vm := .none } := rfl
    rw [hp, hT]
    refine g1.push (by simp) (fun q hq => by rw [Array.getElem?_push, if_neg (Nat.ne_of_lt hq)]) rfl ⟨b1, by show aW h + (avs.map tvv).length ≤ K 1; simpa using b2⟩ (fun q hq => ⟨by simp [aK, mkL, hq], rfl, fun φ => by simp [aF, mkL, hq], fun _ => rfl⟩) (fun _ q => by rw [ek] at q; omega) (fun _ _ => ?_) (fun q => by rw [ek] at q; omega)
    rw [ek, ← hz]
    refine ⟨{ cls := lam t, slots := (avs.map tvv).toArray, vm := .none }, by simp, rfl, rfl, fun i hi => ?_⟩
    rw [hfl] at hi
    have : aF (mkL t (avs.map tvv) h) (100 * t + i) H.size = (avs.map tvv).getD i .null := by simp [aF, mkL, hz]
    rw [this]
    simp [hi]
  have hg := kk _ _ hk _ locs hR g2 (by show aX b ≤ aX h + 1; omega) (by show aW b ≤ aW h + _; omega)
  have e1 : aX (mkL t (avs.map tvv) h) - aX b = aX h - aX b + 1 := by show aX h + 1 - aX b = _; omega
  have e2 : aW (mkL t (avs.map tvv) h) - aW b = aW h - aW b + (avs.map tvv).toArray.size := by show aW h + (avs.map tvv).length - aW b = _; simp; omega
  rw [e1, e2] at hg
  obtain ⟨t1, a1, c1⟩ := hg _ rfl X'
  refine ⟨t1, st1 t1 ?_, c1⟩
  have e3 : T.heap.size = aX h := by rw [hT]; exact hz
  rw [e3]
  exact a1
end FW13
