/-! rows of natives and class objects -/
section FW10
variable {l : Launch} {s0 : State} {a0 : Array Value} {K : Nat → Nat} {lam : Nat → ClassId}
variable {p : Program} {e : Env} {R : Room} {s : State} {m : MethodId} {args : Array Value} {below : List Frame} {meth : Method} {c : Code} {Q : State → Prop}
variable {b h : AH} {cc : ByteArray} {own : String} {nL : Nat} {pc : Nat} {ls : Array Slot} {rest st : List Value} {ρ β σ : Type} {r : Except Nat β × AH}
theorem aE_cp {a d sp dp n : Nat} {q j : Nat} : aE (cpE a d sp dp n h) q j = if q = d then va_cpy (aE h a) (aE h d) sp dp n j else aE h q j := by
  show (if q = d then va_cpy (aE h a) (aE h d) sp dp n else aE h q) j = _
  by_cases hq : q = d
  · rw [if_pos hq, if_pos hq]
  · rw [if_neg hq, if_neg hq]
theorem Rp.copy {H H' : Heap} (h1 : Rp s0 K lam h H) {a d sp dp n : Nat} {cs cd : Cell} (hk : 1000 ≤ aK h d) (hd : K 2 ≤ d) (hks : aK h a = aK h d) (e1 : H[a]? = some cs) (e2 : H[d]? = some cd) (b1 : sp + n ≤ aN h a) (b2 : dp + n ≤ aN h d)
    (g1 : H'[d]? = some (cd.storeRun dp (cs.stretch sp n))) (g2 : H'.size = H.size) (g3 : ∀ q, q ≠ d → H'[q]? = H[q]?) : Rp s0 K lam (cpE a d sp dp n h) H' := by
  obtain ⟨cs', x1, x2, x3, x4, x5⟩ := h1.2.2.2.2 a (by omega)
  cases e1.symm.trans x1
  obtain ⟨cd', y1, y2, y3, y4, y5⟩ := h1.2.2.2.2 d hk
  cases e2.symm.trans y1
  have hl : (cs.stretch sp n).length = n := by simp [Cell.stretch]
  obtain ⟨f1, f2, f3, -, f5⟩ := cd.storeRun_facts dp (cs.stretch sp n)
  refine h1.upd g2 hd g3 rfl rfl rfl (fun q hq => ⟨rfl, fun ψ => rfl, fun i => by rw [aE_cp, if_neg hq]⟩) (fun _ z => by omega) (fun z => by omega) (fun _ => ⟨_, g1, ?_, ?_, ?_, fun j hj => ?_⟩)
  · show s0.isArrayOf _ _
    obtain ⟨z1, z2⟩ := y2
    exact ⟨by rw [f2]; exact z1, by rw [f1]; exact z2⟩
  · rw [f1, f2]; exact y3
  · rw [f3]; exact y4
  · rw [Cell.storeRun_get _ _ _ _ (by rw [hl]; omega), aE_cp, if_pos rfl, hl]
    unfold va_cpy
    by_cases hj2 : dp ≤ j ∧ j < dp + n
    · rw [if_pos hj2, if_pos hj2]
      have hx := x5 (sp + (j - dp)) (by omega)
      rw [← hks]
      refine ⟨?_, hx.2⟩
      have : j - dp < n := by omega
      simp only [Cell.stretch, List.getElem?_map, List.getElem?_range this, Option.map_some]
      rw [Array.getD_eq_getD_getElem?, hx.1]
      rfl
    · rw [if_neg hj2, if_neg hj2]
      exact y5 j hj
theorem nn_int {z : Int32} (hz : ¬ z < 0) : z.toInt = (z.toNatClampNeg : Int) := by
  have hz0 : (0 : Int) ≤ z.toInt := by
    have := Int32.not_lt.mp hz
    simpa using Int32.le_iff_toInt_le.mp this
  show z.toInt = ((z.toInt.toNat : Nat) : Int)
  omega
theorem acp_words : nativeFrameWords "java/lang/System" "arraycopy" 5 + 11 ≤ 40 := by decide +kernel
theorem a_acp {F Lo idx : Nat} {rs : List TV} {ts : List Nat} {ra rb : Option Nat} {i j n : Int32} {k : Unit → AM β} (X : WX l s0 a0 K p s m c cc own nL b R F Lo) (hlink : Cond.methodLink own idx arraycopyName ∈ lw_all) (hnat : Cond.native arraycopyName ∈ lw_all) (hstat : Cond.static arraycopyName ∈ lw_all) (hini : Cond.initialized "java/lang/System" ∈ lw_all) (hF : 1 ≤ F) (hLo : 48 ≤ Lo) (hsz : ls.size = nL) (hW8 : (rs.map tcat).sum ≤ 8)
    (hts : ∀ t ∈ ts, 1000 ≤ t ∧ refKind (aty t) = false) (hdg : decode cc pc = .ok (.invokestatic idx, 3)) (hf : bd (acp K ts ra i rb j n) k h = some r)
    (kk : ∀ h', k () h' = some r → AW s0 K lam p l e R s m args below meth c Q b h' (F0 m (pc + 3) ls (rs.map tvv))) : AW s0 K lam p l e R s m args below meth c Q b h (F0 m pc ls (.int n :: .int j :: va_rf rb :: .int i :: va_rf ra :: rs.map tvv)) := by
  obtain ⟨⟨G, hW, hx, hb, hown, hml⟩, -, -, hRc, hRs, hRf, hRl⟩ := X
  have hcat : ((rs.map tvv).map fun v => v.category).sum ≤ 8 := by
    rw [List.map_map, show (fun v => Value.category v) ∘ tvv = tcat from funext tcat_ok]; exact hW8
  cases ra with
  | none => simp [bd, acp] at hf
  | some a =>
  cases rb with
  | none => simp [bd, acp] at hf
  | some d =>
    by_cases hc : (aK h a = aK h d ∧ ts.contains (aK h a) = true ∧ K 2 ≤ d) ∧ (¬ i < 0 ∧ ¬ j < 0 ∧ ¬ n < 0) ∧ i.toNatClampNeg + n.toNatClampNeg ≤ aN h a ∧ j.toNatClampNeg + n.toNatClampNeg ≤ aN h d
    · simp only [bd, acp, if_pos hc] at hf
      obtain ⟨⟨k1, k2, k3⟩, ⟨i1, i2, i3⟩, b1, b2⟩ := hc
      obtain ⟨t1, t2⟩ := hts _ (by simpa using k2)
      intro H locs h1 h2 h3 h4 T hT Y
      obtain ⟨cs, x1, x2, x3, x4, x5⟩ := h1.2.2.2.2 a t1
      obtain ⟨cd, y1, y2, y3, y4, y5⟩ := h1.2.2.2.2 d (by omega)
      obtain ⟨v1, ks, v2, sC, v3⟩ := State.isArrayOf_alike hW.alike x2
      obtain ⟨w1, kd, w2, dC, w3⟩ := State.isArrayOf_alike hW.alike y2
      rw [← k1] at w3
      obtain ⟨vm', X', step⟩ := Y.arraycopy hx hown (gw G hW hlink) (gw G hW hnat) (gw G hW hstat) (gw G hW hini) (src := a) (dst := d) (cs := cs) (cd := cd) (srcPos := i) (destPos := j) (n := n) (by rw [hT]; exact x1) (by rw [hT]; exact y1)
        v1 w1 x3.2.1 y3.2.1 v2 w2 v3 w3 (by simp [t2]) i1 i2 i3 (by rw [nn_int i1, nn_int i3, x4]; omega) (by rw [nn_int i2, nn_int i3, y4]; omega)
        (fun vm₁ _ q hq => by
          have hv := x5 (i.toNatClampNeg + q) (by omega)
          rw [Array.getD_eq_getD_getElem?, hv.1]
          refine ⟨hv.2, ?_⟩
          have hv2 := hv.2
          show State.takes _ _ (aE h a (i.toNatClampNeg + q))
          revert hv2
          cases aE h a (i.toNatClampNeg + q) with
          | ref z => intro hv2; exfalso; revert t2 hv2; cases aty (aK h a) <;> simp [refKind, fits]
          | _ => intro _; trivial)
        (g := F0 m pc ls (.int n :: .int j :: .ref d :: .int i :: .ref a :: rs.map tvv)) rfl (by show ls.size = _; rw [hsz, hml]) (rest := rs.map tvv) rfl (by rw [hb]; exact hdg) (by omega) (by have := acp_words; show 2 * 0 + _ + _ ≤ _; omega)
      have hl : d < T.heap.size := (Array.getElem?_eq_some_iff.mp (show T.heap[d]? = some cd by rw [hT]; exact y1)).1
      obtain ⟨t, a1, b9⟩ := kk _ hf ((T.setVm vm').setCell d (copied cs cd i j n)).heap _ (h1.copy (by omega) k3 k1 x1 y1 b1 b2 (by show (T.heap.setIfInBounds d _)[d]? = _; simp [hl]) (by show (T.heap.setIfInBounds d _).size = _; rw [Array.size_setIfInBounds, hT]) (fun q hq => by show (T.heap.setIfInBounds d _)[q]? = _; rw [Array.getElem?_setIfInBounds, if_neg (Ne.symm hq), hT])) (fun z hz => by
        rcases List.mem_append.mp hz with z1 | z1
        · exact h2 z z1
        · obtain ⟨y, -, hy⟩ := List.mem_map.mp z1
          rw [← hy]; exact k3) h3 h4 _ rfl X'
      exact ⟨t, step t a1, b9⟩
    · simp only [bd, acp, if_neg hc] at hf; cases hf
theorem a_acpR {F Lo idx : Nat} {rs : List TV} {ks : List Nat} {ra rb : Option Nat} {i j n : Int32} {k : Unit → AM β} (X : WX l s0 a0 K p s m c cc own nL b R F Lo) (hlink : Cond.methodLink own idx arraycopyName ∈ lw_all) (hnat : Cond.native arraycopyName ∈ lw_all) (hstat : Cond.static arraycopyName ∈ lw_all) (hini : Cond.initialized "java/lang/System" ∈ lw_all) (hF : 1 ≤ F) (hLo : 48 ≤ Lo) (hsz : ls.size = nL) (hW8 : (rs.map tcat).sum ≤ 8)
    (hks : ∀ q ∈ ks, q < 40 ∧ 0 < q ∧ CS s0 q "java/lang/Object") (hdg : decode cc pc = .ok (.invokestatic idx, 3)) (hf : bd (acpR K ks ra i rb j n) k h = some r)
    (kk : ∀ h', k () h' = some r → AW s0 K lam p l e R s m args below meth c Q b h' (F0 m (pc + 3) ls (rs.map tvv))) : AW s0 K lam p l e R s m args below meth c Q b h (F0 m pc ls (.int n :: .int j :: va_rf rb :: .int i :: va_rf ra :: rs.map tvv)) := by
  obtain ⟨⟨G, hW, hx, hb, hown, hml⟩, -, -, hRc, hRs, hRf, hRl⟩ := X
  have hcat : ((rs.map tvv).map fun v => v.category).sum ≤ 8 := by
    rw [List.map_map, show (fun v => Value.category v) ∘ tvv = tcat from funext tcat_ok]; exact hW8
  cases ra with
  | none => simp [bd, acpR] at hf
  | some a =>
  cases rb with
  | none => simp [bd, acpR] at hf
  | some d =>
    by_cases hc : ((aK h a = 1006 ∧ aK h d = 1006 ∧ K 2 ≤ d) ∧ (¬ i < 0 ∧ ¬ j < 0 ∧ ¬ n < 0) ∧ i.toNatClampNeg + n.toNatClampNeg ≤ aN h a ∧ j.toNatClampNeg + n.toNatClampNeg ≤ aN h d) ∧ (List.range n.toNatClampNeg).all (fun q => okv h ks (aE h a (i.toNatClampNeg + q))) = true
    · simp only [bd, acpR, if_pos hc] at hf
      obtain ⟨⟨⟨k1, k2, k3⟩, ⟨i1, i2, i3⟩, b1, b2⟩, hel⟩ := hc
      intro H locs h1 h2 h3 h4 T hT Y
      obtain ⟨cs, x1, x2, x3, x4, x5⟩ := h1.2.2.2.2 a (by omega)
      obtain ⟨cd, y1, y2, y3, y4, y5⟩ := h1.2.2.2.2 d (by omega)
      obtain ⟨v1, ks', v2, sC, v3⟩ := State.isArrayOf_alike hW.alike x2
      obtain ⟨w1, kd, w2, dC, w3⟩ := State.isArrayOf_alike hW.alike y2
      have hra := (y3.2.2 k3).2
      rw [k2] at w3 hra
      rw [k1] at v3
      obtain ⟨kA, comp, r1, r2, r3, -⟩ := va_RA.moved hW.alike hra
      cases w2.symm.trans r1
      cases w3.symm.trans r2
      obtain ⟨vm', X', step⟩ := Y.arraycopy hx hown (gw G hW hlink) (gw G hW hnat) (gw G hW hstat) (gw G hW hini) (src := a) (dst := d) (cs := cs) (cd := cd) (srcPos := i) (destPos := j) (n := n) (by rw [hT]; exact x1) (by rw [hT]; exact y1)
        v1 w1 x3.2.1 y3.2.1 v2 w2 v3 w3 (by rfl) i1 i2 i3 (by rw [nn_int i1, nn_int i3, x4]; omega) (by rw [nn_int i2, nn_int i3, y4]; omega)
        (fun vm₁ hal q hq => by
          have hv := x5 (i.toNatClampNeg + q) (by omega)
          have hko := List.all_eq_true.mp hel q (List.mem_range.mpr hq)
          rw [Array.getD_eq_getD_getElem?, hv.1]
          show fits _ (aE h a (i.toNatClampNeg + q)) = true ∧ State.takes _ _ (aE h a (i.toNatClampNeg + q))
          revert hko
          cases aE h a (i.toNatClampNeg + q) with
          | null => intro _; exact ⟨rfl, trivial⟩
          | ref z =>
            intro hko
            obtain ⟨u1, u2, cV, tV, u3, u4, u5⟩ := hks _ (by simpa [okv] using hko)
            obtain ⟨cellV, g1, g2, g3, g4⟩ := h1.2.2.1 z u2 (by omega)
            obtain ⟨kC, hkC, -⟩ := Vm.findClass_spec (fc_w hW g2)
            obtain ⟨kE, hkE, -⟩ := Vm.findClass_spec r3
            obtain ⟨kC', hkC', -⟩ := hal.2.2 _ _ hkC
            obtain ⟨kE', hkE', -⟩ := hal.2.2 _ _ hkE
            refine ⟨rfl, cellV, (show T.heap[z]? = some cellV by rw [hT]; exact g1), (fun q h => by rw [h] at g3; cases g3.1), ⟨kC', hkC'⟩, ⟨kE', hkE'⟩, ?_⟩
            show vm₁.assignable _ _ = true
            rw [hal.assignable, hW.alike.assignable]
            have e1 : cellV.cls = cV := Option.some.inj (g2.symm.trans u3)
            have e2 : dC = tV := Option.some.inj (r3.symm.trans (fc_w hW u4))
            rw [e1, e2]; exact u5
          | _ => intro hko; simp [okv] at hko)
        (g := F0 m pc ls (.int n :: .int j :: .ref d :: .int i :: .ref a :: rs.map tvv)) rfl (by show ls.size = _; rw [hsz, hml]) (rest := rs.map tvv) rfl (by rw [hb]; exact hdg) (by omega) (by have := acp_words; show 2 * 0 + _ + _ ≤ _; omega)
      have hl : d < T.heap.size := (Array.getElem?_eq_some_iff.mp (show T.heap[d]? = some cd by rw [hT]; exact y1)).1
      obtain ⟨t, a1, b9⟩ := kk _ hf ((T.setVm vm').setCell d (copied cs cd i j n)).heap _ (h1.copy (by omega) k3 (by omega) x1 y1 b1 b2 (by show (T.heap.setIfInBounds d _)[d]? = _; simp [hl]) (by show (T.heap.setIfInBounds d _).size = _; rw [Array.size_setIfInBounds, hT]) (fun q hq => by show (T.heap.setIfInBounds d _)[q]? = _; rw [Array.getElem?_setIfInBounds, if_neg (Ne.symm hq), hT])) (fun z hz => by
        rcases List.mem_append.mp hz with z1 | z1
        · exact h2 z z1
        · obtain ⟨y, -, hy⟩ := List.mem_map.mp z1
          rw [← hy]; exact k3) h3 h4 _ rfl X'
      exact ⟨t, step t a1, b9⟩
    · simp only [bd, acpR, if_neg hc] at hf; cases hf
theorem a_ldcM {C : String} {idx mi : Nat} (X : CX l s0 a0 p s m c cc own nL) (hlink : (Cond.classLink own idx C).before args s = true) (hM : va_Mi C mi s0) (hdg : decode cc pc = .ok (.ldc idx, 2)) (kk : AW s0 K lam p l e R s m args below meth c Q b h (F0 m (pc + 2) ls (va_rf (some mi) :: rest))) : AW s0 K lam p l e R s m args below meth c Q b h (F0 m pc ls rest) := by
  obtain ⟨G, hW, hx, hb, hown, hml⟩ := X
  exact AW.lift (fun _ _ _ _ k => va_ldcM hx hb hown hlink (hM.moved hW.alike) hdg k) kk
theorem gcl_words : nativeFrameWords "java/lang/Object" "getClass" 1 = 3 := by decide +kernel
theorem a_gcl {F Lo idx mi : Nat} {rs : List TV} {ra : Option Nat} {k : Unit → AM β} (X : WX l s0 a0 K p s m c cc own nL b R F Lo) (hM : va_Mi "[Ljava/lang/Object;" mi s0) (hlink : Cond.methodLink own idx ⟨"java/lang/Object", "getClass", "()Ljava/lang/Class;"⟩ ∈ lw_all) (hdecl : Cond.declares ⟨"java/lang/Object", "getClass", "()Ljava/lang/Class;"⟩ ∈ lw_tbl) (hsel : Cond.selects "[Ljava/lang/Object;" ⟨"java/lang/Object", "getClass", "()Ljava/lang/Class;"⟩ ⟨"java/lang/Object", "getClass", "()Ljava/lang/Class;"⟩ ∈ lw_all) (hinst : Cond.instanceMethod ⟨"java/lang/Object", "getClass", "()Ljava/lang/Class;"⟩ ∈ lw_all) (hnat : Cond.native ⟨"java/lang/Object", "getClass", "()Ljava/lang/Class;"⟩ ∈ lw_all)
    (hF : 1 ≤ F) (hLo : 22 ≤ Lo) (hsz : ls.size = nL) (hW8 : (rs.map tcat).sum ≤ 8) (hdg : decode cc pc = .ok (.invokevirtual idx, 3)) (hf : bd (gcl K 1006 ra) k h = some r)
    (kk : k () h = some r → AW s0 K lam p l e R s m args below meth c Q b h (F0 m (pc + 3) ls (va_rf (some mi) :: rs.map tvv))) : AW s0 K lam p l e R s m args below meth c Q b h (F0 m pc ls (va_rf ra :: rs.map tvv)) := by
  obtain ⟨⟨G, hW, hx, hb, hown, hml⟩, -, -, hRc, hRs, hRf, hRl⟩ := X
  have hcat : ((rs.map tvv).map fun v => v.category).sum ≤ 8 := by
    rw [List.map_map, show (fun v => Value.category v) ∘ tvv = tcat from funext tcat_ok]; exact hW8
  cases ra with
  | none => simp [bd, gcl] at hf
  | some a =>
    by_cases hc : aK h a = 1006 ∧ K 2 ≤ a
    · simp only [bd, gcl, if_pos hc] at hf
      intro H locs h1 h2 h3 h4
      obtain ⟨cell, e1, e2, e3, e4, e5⟩ := h1.2.2.2.2 a (by omega)
      obtain ⟨e3n, hra⟩ := e3.2.2 hc.2
      rw [hc.1] at hra
      have hnm := va_nmO (C := "java/lang/Object") (nm := "[Ljava/lang/Object;") (va_RA.moved hW.alike hra) (by decide +kernel)
      exact va_getC hx hb (by rw [hml, hsz]) hown (gw G hW hlink) (gf G hW hdecl rfl) (gw G hW hsel) (gw G hW hinst) (gw G hW hnat) (hM.moved hW.alike) ⟨cell, e1, e3.1, hnm⟩ (by omega) (by omega) hdg (kk hf H locs h1 h2 h3 h4)
    · simp only [bd, gcl, if_neg hc] at hf; cases hf
/-- a cast of a byte array made here -/
theorem a_castB {rr : Option Nat} {k : Unit → AM β} {idx : Nat} (X : CX l s0 a0 p s m c cc own nL) (hlink : (Cond.classLink own idx "[B").before args s = true) (hdg : decode cc pc = .ok (.checkcast idx, 3)) (hf : bd (cka K 1003 rr) k h = some r) (kk : k () h = some r → AW s0 K lam p l e R s m args below meth c Q b h (F0 m (pc + 3) ls (va_rf rr :: rest))) : AW s0 K lam p l e R s m args below meth c Q b h (F0 m pc ls (va_rf rr :: rest)) := by
  obtain ⟨G, hW, hx, hb, hown, hml⟩ := X
  cases rr with
  | none => exact AW.lift (fun _ _ _ _ q => lv_castN hx hb hdg q) (kk hf)
  | some a =>
    by_cases hk : aK h a = 1003 ∧ K 2 ≤ a
    · simp only [bd, cka, if_pos hk] at hf
      intro H locs h1 h2 h3 h4
      obtain ⟨cell, e1, e2, e3, e4, e5⟩ := h1.2.2.2.2 a (by omega)
      obtain ⟨e3n, hra⟩ := e3.2.2 hk.2
      rw [hk.1] at hra
      have r4 : s.vm.findClass "[B" = some cell.cls := va_RA.moved hW.alike hra
      intro T hT X
      obtain ⟨vm', X', st⟩ := X.checkcastYes hx hown hlink (by rw [hT]; exact e1) e3.1 r4 (va_asg _ _) (g := F0 m pc ls (.ref a :: rest)) rfl rfl (by rw [hb]; exact hdg)
      obtain ⟨t, a1, b1⟩ := kk hf H locs h1 h2 h3 h4 (T.setVm vm') hT X'
      exact ⟨t, st t a1, b1⟩
    · simp only [bd, cka, if_neg hk] at hf; cases hf
end FW10
