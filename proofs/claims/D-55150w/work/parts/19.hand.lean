/-! Throwable's synchronized methods as functions, and their walks (by hand) -/
abbrev cT_fill : ByteArray := prog_46_method_18_code
abbrev cT_getCause : ByteArray := prog_46_method_8_code
abbrev cT_initCause : ByteArray := prog_46_method_9_code
def yT_fill : MethodName := ⟨"java/lang/Throwable", "fillInStackTrace", "()Ljava/lang/Throwable;"⟩
def yT_getCause : MethodName := ⟨"java/lang/Throwable", "getCause", "()Ljava/lang/Throwable;"⟩
def yT_initCause : MethodName := ⟨"java/lang/Throwable", "initCause", "(Ljava/lang/Throwable;)Ljava/lang/Throwable;"⟩
theorem np_T_fill : npar yT_fill.desc 0 := by unfold npar; decide +kernel
theorem np_T_getCause : npar yT_getCause.desc 0 := by unfold npar; decide +kernel
theorem np_T_initCause : npar yT_initCause.desc 1 := by unfold npar; decide +kernel
theorem hy_T_fill : yT_fill.cls ≠ "java/lang/invoke/MethodHandle" ∧ yT_fill.cls ≠ "java/lang/invoke/VarHandle" := by decide +kernel
theorem hy_T_getCause : yT_getCause.cls ≠ "java/lang/invoke/MethodHandle" ∧ yT_getCause.cls ≠ "java/lang/invoke/VarHandle" := by decide +kernel
theorem hy_T_initCause : yT_initCause.cls ≠ "java/lang/invoke/MethodHandle" ∧ yT_initCause.cls ≠ "java/lang/invoke/VarHandle" := by decide +kernel
def f_T_fill (K : Nat → Nat) (v0 : Option Nat) : AM (Option Nat) := fun h => match v0 with
  | none => none
  | some a => if isX (aK h a) = true ∧ K 2 ≤ a then (match pR (aF h 1501 a) with
    | none => none
    | some none => (match pR (aF h 1504 a) with
      | some none => some (.ok (some a), h)
      | _ => none)
    | some (some _) => some (.ok (some a), sF 1501 a (va_rf (kO (K 4))) h)) else none
def f_T_getCause (K : Nat → Nat) (v0 : Option Nat) : AM (Option Nat) := fun h => match v0 with
  | none => none
  | some a => if isX (aK h a) = true ∧ K 2 ≤ a then (match pR (aF h 1500 a) with
    | none => none
    | some x => some (.ok (if x = some a then none else x), h)) else none
def f_T_initCause (K : Nat → Nat) (v0 v1 : Option Nat) : AM (Option Nat) := fun h => match v0 with
  | none => none
  | some a => if isX (aK h a) = true ∧ K 2 ≤ a ∧ aF h 1500 a = .ref a ∧ v1 ≠ some a then some (.ok (some a), sF 1500 a (va_rf v1) h) else none
section HAND
variable {l : Launch} {s0 : State} {a0 : Array Value} {K : Nat → Nat} {lam : Nat → ClassId}
theorem dT_f0 : decode cT_fill 0 = .ok (.aload_n 0, 1) := by decide +kernel
theorem dT_f1 : decode cT_fill 1 = .ok (.getfield 17, 3) := by decide +kernel
theorem dT_f4 : decode cT_fill 4 = .ok (.ifnonnull 10, 3) := by decide +kernel
theorem dT_f7 : decode cT_fill 7 = .ok (.aload_n 0, 1) := by decide +kernel
theorem dT_f8 : decode cT_fill 8 = .ok (.getfield 198, 3) := by decide +kernel
theorem dT_f11 : decode cT_fill 11 = .ok (.ifnull 16, 3) := by decide +kernel
theorem dT_f14 : decode cT_fill 14 = .ok (.aload_n 0, 1) := by decide +kernel
theorem dT_f15 : decode cT_fill 15 = .ok (.iconst 0, 1) := by decide +kernel
theorem dT_f16 : decode cT_fill 16 = .ok (.invokevirtual 202, 3) := by decide +kernel
theorem dT_f19 : decode cT_fill 19 = .ok (.pop, 1) := by decide +kernel
theorem dT_f20 : decode cT_fill 20 = .ok (.aload_n 0, 1) := by decide +kernel
theorem dT_f21 : decode cT_fill 21 = .ok (.getstatic 13, 3) := by decide +kernel
theorem dT_f24 : decode cT_fill 24 = .ok (.putfield 17, 3) := by decide +kernel
theorem dT_f27 : decode cT_fill 27 = .ok (.aload_n 0, 1) := by decide +kernel
theorem dT_f28 : decode cT_fill 28 = .ok (.areturn, 1) := by decide +kernel
/-- what stands at the entry of such a body -/
theorem sy_start {b : AH} {s : State} {a : Nat} {cell : Cell} (hR : Rp s0 K lam b s.heap) (hX : isX (aK b a) = true) (ha : K 2 ≤ a) (hcell : s.heap[a]? = some cell) : SC s0 (aK b a) b a (cell.withEntry s.cur) ∧ cell.monitor = {} ∧ cell.vm = .none ∧ s0.vm.findClass (cname (aK b a)) = some cell.cls ∧ (∀ φ, hasF (aK b a) φ = true → ∀ x, fdf s0 φ = some x → cell.slots[x.2.2.2.slot]? = some (aF b φ a)) := by
  obtain ⟨k1, k2⟩ := XT_40 hX
  obtain ⟨cell', e1, e2, e3, e4⟩ := hR.2.2.1 a k2 (by omega)
  cases hcell.symm.trans e1
  obtain ⟨x1, x2⟩ := e3.2.2 ha
  exact ⟨⟨e2, x1, e4⟩, x2, x1, e2, e4⟩
theorem sy_ent {cell : Cell} {t : ThreadId} (h : cell.monitor = {}) : cell.enterable t := by
  left; rw [h]; exact ⟨rfl, rfl⟩
theorem w_T_fill (GA : GA l s0 a0 K lam) (v0 : Option Nat) : AMet l s0 K lam yT_fill (Cond.codeSync yT_fill cT_fill 1 (some (.object "java/lang/Throwable"))) 3 300 [vR v0] oR (f_T_fill K v0) := by
  intro b r hf
  cases v0 with
  | none => simp [f_T_fill] at hf
  | some a =>
  by_cases hc : isX (aK b a) = true ∧ K 2 ≤ a
  · simp only [f_T_fill, if_pos hc] at hf
    obtain ⟨hX, ha⟩ := hc
    obtain ⟨x1, x2, x3, x4⟩ := hasX hX
    refine sy_of (plainFor_of_name (by decide +kernel)) (fun args s hP => ?_) (fun args s hP => gw GA.1 hP.2.1 q433) ?_
    · obtain ⟨rfl, hW, hR⟩ := hP
      obtain ⟨k1, k2⟩ := XT_40 hX
      obtain ⟨cell, e1, e2, e3, e4⟩ := hR.2.2.1 a k2 (by omega)
      exact ⟨a, cell, rfl, e1, sy_ent (e3.2.2 ha).2⟩
    · intro p e s m args below meth c a' cell s₁ X hexec hbytes hml hret hlk hname hmeth harg hcell hent hs₁ hP
      obtain ⟨rfl, hW, hR⟩ := hP
      have ea : a = a' := by simpa [tvv, va_rf] using harg
      subst ea
      obtain ⟨hSC, hmon, hvm, hcls, hsl⟩ := sy_start hR hX ha hcell
      have hlt : a < s.heap.size := (Array.getElem?_eq_some_iff.mp hcell).1
      have hH : s₁.heap = s.heap.setIfInBounds a (cell.withEntry s.cur) := by rw [hs₁]; rfl
      have hc1 : s₁.heap[a]? = some (cell.withEntry s.cur) := by rw [hH]; simp [hlt]
      have ho1 : ∀ q, q ≠ a → s₁.heap[q]? = s.heap[q]? := fun q hq => by rw [hH, Array.getElem?_setIfInBounds, if_neg (Ne.symm hq)]
      have hW' : s0.WarmedH (s.setCell a (cell.withEntry s.cur)).vm := hW
      have hown : (s.setCell a (cell.withEntry s.cur)).vm.findClass "java/lang/Throwable" = some m.cls := findClass_of_methodNamed hname
      have fin : ∀ (H : Heap) (cl : Cell) (locs : List Loc) (h' : AH), H[a]? = some cl → cl = { (cell.withEntry s.cur) with slots := cl.slots } → r = (.ok (some a), h') → aX h' = aX b → aW h' = aW b → (∀ z ∈ locs, K 2 ≤ z.base) → Rp s0 K lam h' (H.setIfInBounds a { cell with slots := cl.slots }) →
          W p l e { frames := 3, cells := K 0 - aX b, slots := K 1 - aW b, locals := 300 } (s.setCell a (cell.withEntry s.cur)) m ([vR (some a)].map tvv).toArray below meth c H locs 0 0 (fun t => ∃ o, t.status = .running ∧ Ended t below o ∧ APost s0 K lam oR b r s o t) (FS m a #[.val (.ref a)] 27 []) := by
        intro H cl locs h' g1 g2 g3 g4 g5 g6 g7
        subst g3
        refine sy_aload (k := 0) (x := some a) hexec hbytes dT_f27 rfl ?_
        refine sy_end (v := some a) (v' := some a) hcell hent hexec hbytes hlk hret ⟨_, rfl⟩ dT_f28 (fun cellT q1 q2 => ?_) g6 (by rw [g4, Nat.sub_self]) (by rw [g5, Nat.sub_self]) ⟨by show aX b ≤ aX h'; omega, by show aW b ≤ aW h'; omega⟩ rfl rfl
        cases g1.symm.trans q1
        rw [q2]; exact g7
      have walk : W p l e { frames := 3, cells := K 0 - aX b, slots := K 1 - aW b, locals := 300 } (s.setCell a (cell.withEntry s.cur)) m ([vR (some a)].map tvv).toArray below meth c s₁.heap [] 0 0 (fun t => ∃ o, t.status = .running ∧ Ended t below o ∧ APost s0 K lam oR b r s o t) (FS m a #[.val (.ref a)] 0 []) := by
        refine sy_aload (k := 0) (x := some a) hexec hbytes dT_f0 rfl ?_
        cases hp : pR (aF b 1501 a) with
        | none => rw [hp] at hf; cases hf
        | some y =>
        rw [hp] at hf
        refine sy_get (φ := 1501) GA.2.1 hW' hexec hbytes hown (gw GA.1 hW' q464) rfl x2 x4 hc1 hSC hp dT_f1 ?_
        refine sy_ifnonnull (tgt := 14) hexec hbytes dT_f4 rfl (fun hy => ?_) (fun hy => ?_)
        · cases y with
          | none => exact absurd rfl hy
          | some y =>
          refine sy_aload (k := 0) (x := some a) hexec hbytes dT_f14 rfl ?_
          refine sy_iconst0 hexec hbytes dT_f15 ?_
          refine sy_fill0 GA.1 hW' hexec hbytes hml hown q446 q448 q450 q447 q412 rfl hc1 (by show cell.vm.isStatics = false; rw [hvm]; rfl) (by show 1 ≤ 3; omega) (by show 0 + 50 ≤ 300; omega) dT_f16 ?_
          refine sy_pop hexec hbytes dT_f19 rfl ?_
          refine sy_aload (k := 0) (x := some a) hexec hbytes dT_f20 rfl ?_
          obtain ⟨cf, kf, fi, f, a9, cell9, z1, z2, z3, z4, z5, z6, z7, z8⟩ := st_UNASSIGNED_STACK GA
          obtain ⟨k', f1, f2, f3⟩ := found_w hW' z1
          refine W.gets hexec hbytes hown (gw GA.1 hW' q428) f1 z2 (by rw [f3]; exact z3) (by rw [f2]; exact z4) (a₁ := a9) (by rw [ho1 a9 (fun q => z8 (by rw [q]; exact ha)), hR.2.1.2 a9 (Nat.lt_of_not_le z8)]; exact z5) (fun q => by rw [q] at z6; cases z6) z7 rfl dT_f21 ?_
          refine sy_put (φ := 1501) (st := []) GA.2.1 GA.2.2.1 hW' hexec hbytes hown (gw GA.1 hW' q464) rfl rfl (fits_rf _ (Or.inr ⟨_, rfl⟩)) x2 x4 hc1 hSC dT_f24 (fun H' x hx q1 q2 q3 => ?_)
          have hr : r = (.ok (some a), sF 1501 a (va_rf (kO (K 4))) b) := (Option.some.inj hf).symm
          have hlt' : a < H'.size := (Array.getElem?_eq_some_iff.mp q1).1
          refine fin H' _ _ _ q1 rfl hr rfl rfl (fun z hz => by rw [List.mem_singleton.mp hz]; exact ha) ?_
          refine hR.field GA.2.1 ha x2 x4 hcell hcls hvm hmon hsl hx ?_ ?_ ?_
          · rw [Array.getElem?_setIfInBounds, if_pos rfl, if_pos hlt']; rfl
          · rw [Array.size_setIfInBounds, q2, hH, Array.size_setIfInBounds]
          · intro q hq
            rw [Array.getElem?_setIfInBounds, if_neg (Ne.symm hq), q3 q hq, ho1 q hq]
        · subst hy
          refine sy_aload (k := 0) (x := some a) hexec hbytes dT_f7 rfl ?_
          cases hp2 : pR (aF b 1504 a) with
          | none => rw [hp2] at hf; cases hf
          | some y2 =>
          rw [hp2] at hf
          cases y2 with
          | some y2 => cases hf
          | none =>
          refine sy_get (φ := 1504) GA.2.1 hW' hexec hbytes hown (gw GA.1 hW' q423) rfl x3 x4 hc1 hSC hp2 dT_f8 ?_
          refine sy_ifnull (tgt := 27) hexec hbytes dT_f11 rfl (fun _ => ?_) (fun hy => absurd rfl hy)
          have hr : r = (.ok (some a), b) := (Option.some.inj hf).symm
          refine fin s₁.heap _ _ _ hc1 rfl hr rfl rfl (fun z hz => nomatch hz) ?_
          have e9 : s₁.heap.setIfInBounds a { cell with slots := (cell.withEntry s.cur).slots } = s.heap := by
            rw [hH]
            apply Array.ext_getElem?
            intro i
            by_cases hi : a = i
            · subst hi; simp [hlt]; obtain ⟨_, hh⟩ := Array.getElem?_eq_some_iff.mp hcell; exact hh.symm
            · simp [Array.getElem?_setIfInBounds, hi]
          rw [e9]; exact hR
      obtain ⟨t, a1, o, b1, b2, b3⟩ := walk s₁ rfl X
      exact ⟨t, o, a1, b1, b2, b3⟩
  · simp only [f_T_fill, if_neg hc] at hf; cases hf
theorem dT_g0 : decode cT_getCause 0 = .ok (.aload_n 0, 1) := by decide +kernel
theorem dT_g1 : decode cT_getCause 1 = .ok (.getfield 7, 3) := by decide +kernel
theorem dT_g4 : decode cT_getCause 4 = .ok (.aload_n 0, 1) := by decide +kernel
theorem dT_g5 : decode cT_getCause 5 = .ok (.if_acmp .ne 7, 3) := by decide +kernel
theorem dT_g8 : decode cT_getCause 8 = .ok (.aconst_null, 1) := by decide +kernel
theorem dT_g9 : decode cT_getCause 9 = .ok (.goto 7, 3) := by decide +kernel
theorem dT_g12 : decode cT_getCause 12 = .ok (.aload_n 0, 1) := by decide +kernel
theorem dT_g13 : decode cT_getCause 13 = .ok (.getfield 7, 3) := by decide +kernel
theorem dT_g16 : decode cT_getCause 16 = .ok (.areturn, 1) := by decide +kernel
theorem dT_i0 : decode cT_initCause 0 = .ok (.aload_n 0, 1) := by decide +kernel
theorem dT_i1 : decode cT_initCause 1 = .ok (.getfield 7, 3) := by decide +kernel
theorem dT_i4 : decode cT_initCause 4 = .ok (.aload_n 0, 1) := by decide +kernel
theorem dT_i5 : decode cT_initCause 5 = .ok (.if_acmp .eq 36, 3) := by decide +kernel
theorem dT_i41 : decode cT_initCause 41 = .ok (.aload_n 1, 1) := by decide +kernel
theorem dT_i42 : decode cT_initCause 42 = .ok (.aload_n 0, 1) := by decide +kernel
theorem dT_i43 : decode cT_initCause 43 = .ok (.if_acmp .ne 14, 3) := by decide +kernel
theorem dT_i57 : decode cT_initCause 57 = .ok (.aload_n 0, 1) := by decide +kernel
theorem dT_i58 : decode cT_initCause 58 = .ok (.aload_n 1, 1) := by decide +kernel
theorem dT_i59 : decode cT_initCause 59 = .ok (.putfield 7, 3) := by decide +kernel
theorem dT_i62 : decode cT_initCause 62 = .ok (.aload_n 0, 1) := by decide +kernel
theorem dT_i63 : decode cT_initCause 63 = .ok (.areturn, 1) := by decide +kernel
theorem sy_same {s s₁ : State} {a : Nat} {cell : Cell} (hcell : s.heap[a]? = some cell) (hH : s₁.heap = s.heap.setIfInBounds a (cell.withEntry s.cur)) : s₁.heap.setIfInBounds a { cell with slots := (cell.withEntry s.cur).slots } = s.heap := by
  have hlt : a < s.heap.size := (Array.getElem?_eq_some_iff.mp hcell).1
  rw [hH]
  apply Array.ext_getElem?
  intro i
  by_cases hi : a = i
  · subst hi; simp [hlt]; obtain ⟨_, hh⟩ := Array.getElem?_eq_some_iff.mp hcell; exact hh.symm
  · simp [Array.getElem?_setIfInBounds, hi]
theorem w_T_getCause (GA : GA l s0 a0 K lam) (v0 : Option Nat) : AMet l s0 K lam yT_getCause (Cond.codeSync yT_getCause cT_getCause 1 (some (.object "java/lang/Throwable"))) 3 300 [vR v0] oR (f_T_getCause K v0) := by
  intro b r hf
  cases v0 with
  | none => simp [f_T_getCause] at hf
  | some a =>
  by_cases hc : isX (aK b a) = true ∧ K 2 ≤ a
  · simp only [f_T_getCause, if_pos hc] at hf
    obtain ⟨hX, ha⟩ := hc
    obtain ⟨x1, x2, x3, x4⟩ := hasX hX
    refine sy_of (plainFor_of_name (by decide +kernel)) (fun args s hP => ?_) (fun args s hP => gw GA.1 hP.2.1 q2986) ?_
    · obtain ⟨rfl, hW, hR⟩ := hP
      obtain ⟨k1, k2⟩ := XT_40 hX
      obtain ⟨cell, e1, e2, e3, e4⟩ := hR.2.2.1 a k2 (by omega)
      exact ⟨a, cell, rfl, e1, sy_ent (e3.2.2 ha).2⟩
    · intro p e s m args below meth c a' cell s₁ X hexec hbytes hml hret hlk hname hmeth harg hcell hent hs₁ hP
      obtain ⟨rfl, hW, hR⟩ := hP
      have ea : a = a' := by simpa [tvv, va_rf] using harg
      subst ea
      obtain ⟨hSC, hmon, hvm, hcls, hsl⟩ := sy_start hR hX ha hcell
      have hlt : a < s.heap.size := (Array.getElem?_eq_some_iff.mp hcell).1
      have hH : s₁.heap = s.heap.setIfInBounds a (cell.withEntry s.cur) := by rw [hs₁]; rfl
      have hc1 : s₁.heap[a]? = some (cell.withEntry s.cur) := by rw [hH]; simp [hlt]
      have hW' : s0.WarmedH (s.setCell a (cell.withEntry s.cur)).vm := hW
      have hown : (s.setCell a (cell.withEntry s.cur)).vm.findClass "java/lang/Throwable" = some m.cls := findClass_of_methodNamed hname
      cases hp : pR (aF b 1500 a) with
      | none => rw [hp] at hf; cases hf
      | some y =>
      rw [hp] at hf
      have hr : r = (.ok (if y = some a then none else y), b) := (Option.some.inj hf).symm
      have fin : ∀ v, v = (if y = some a then none else y) → W p l e { frames := 3, cells := K 0 - aX b, slots := K 1 - aW b, locals := 300 } (s.setCell a (cell.withEntry s.cur)) m ([vR (some a)].map tvv).toArray below meth c s₁.heap [] 0 0 (fun t => ∃ o, t.status = .running ∧ Ended t below o ∧ APost s0 K lam oR b r s o t) (FS m a #[.val (.ref a)] 16 [va_rf v]) := by
        intro v hv
        subst hr
        refine sy_end (v := v) (v' := v) hcell hent hexec hbytes hlk hret ⟨_, rfl⟩ dT_g16 (fun cellT q1 q2 => ?_) (fun z hz => nomatch hz) (by rw [Nat.sub_self]) (by rw [Nat.sub_self]) ⟨Nat.le_refl _, Nat.le_refl _⟩ (by rw [hv]) rfl
        cases hc1.symm.trans q1
        rw [q2, sy_same hcell hH]; exact hR
      have walk : W p l e { frames := 3, cells := K 0 - aX b, slots := K 1 - aW b, locals := 300 } (s.setCell a (cell.withEntry s.cur)) m ([vR (some a)].map tvv).toArray below meth c s₁.heap [] 0 0 (fun t => ∃ o, t.status = .running ∧ Ended t below o ∧ APost s0 K lam oR b r s o t) (FS m a #[.val (.ref a)] 0 []) := by
        refine sy_aload (k := 0) (x := some a) hexec hbytes dT_g0 rfl ?_
        refine sy_get (φ := 1500) GA.2.1 hW' hexec hbytes hown (gw GA.1 hW' q463) rfl x1 x4 hc1 hSC hp dT_g1 ?_
        refine sy_aload (k := 0) (x := some a) hexec hbytes dT_g4 rfl ?_
        refine sy_acmp_ne (tgt := 12) hexec hbytes dT_g5 rfl (fun hy => ?_) (fun hy => ?_)
        · refine sy_aload (k := 0) (x := some a) hexec hbytes dT_g12 rfl ?_
          refine sy_get (φ := 1500) GA.2.1 hW' hexec hbytes hown (gw GA.1 hW' q463) rfl x1 x4 hc1 hSC hp dT_g13 ?_
          exact fin y (by rw [if_neg hy])
        · refine sy_null hexec hbytes dT_g8 ?_
          refine sy_goto (tgt := 16) hexec hbytes dT_g9 rfl ?_
          exact fin none (by rw [if_pos hy])
      obtain ⟨t, a1, o, b1, b2, b3⟩ := walk s₁ rfl X
      exact ⟨t, o, a1, b1, b2, b3⟩
  · simp only [f_T_getCause, if_neg hc] at hf; cases hf
theorem w_T_initCause (GA : GA l s0 a0 K lam) (v0 v1 : Option Nat) : AMet l s0 K lam yT_initCause (Cond.codeSync yT_initCause cT_initCause 2 (some (.object "java/lang/Throwable"))) 3 300 [vR v0, vR v1] oR (f_T_initCause K v0 v1) := by
  intro b r hf
  cases v0 with
  | none => simp [f_T_initCause] at hf
  | some a =>
  by_cases hc : isX (aK b a) = true ∧ K 2 ≤ a ∧ aF b 1500 a = .ref a ∧ v1 ≠ some a
  · simp only [f_T_initCause, if_pos hc] at hf
    obtain ⟨hX, ha, hca, hv1⟩ := hc
    obtain ⟨x1, x2, x3, x4⟩ := hasX hX
    refine sy_of (plainFor_of_name (by decide +kernel)) (fun args s hP => ?_) (fun args s hP => gw GA.1 hP.2.1 q2052) ?_
    · obtain ⟨rfl, hW, hR⟩ := hP
      obtain ⟨k1, k2⟩ := XT_40 hX
      obtain ⟨cell, e1, e2, e3, e4⟩ := hR.2.2.1 a k2 (by omega)
      exact ⟨a, cell, rfl, e1, sy_ent (e3.2.2 ha).2⟩
    · intro p e s m args below meth c a' cell s₁ X hexec hbytes hml hret hlk hname hmeth harg hcell hent hs₁ hP
      obtain ⟨rfl, hW, hR⟩ := hP
      have ea : a = a' := by simpa [tvv, va_rf] using harg
      subst ea
      obtain ⟨hSC, hmon, hvm, hcls, hsl⟩ := sy_start hR hX ha hcell
      have hlt : a < s.heap.size := (Array.getElem?_eq_some_iff.mp hcell).1
      have hH : s₁.heap = s.heap.setIfInBounds a (cell.withEntry s.cur) := by rw [hs₁]; rfl
      have hc1 : s₁.heap[a]? = some (cell.withEntry s.cur) := by rw [hH]; simp [hlt]
      have ho1 : ∀ q, q ≠ a → s₁.heap[q]? = s.heap[q]? := fun q hq => by rw [hH, Array.getElem?_setIfInBounds, if_neg (Ne.symm hq)]
      have hW' : s0.WarmedH (s.setCell a (cell.withEntry s.cur)).vm := hW
      have hown : (s.setCell a (cell.withEntry s.cur)).vm.findClass "java/lang/Throwable" = some m.cls := findClass_of_methodNamed hname
      have hp : pR (aF b 1500 a) = some (some a) := by rw [hca]; rfl
      have hr : r = (.ok (some a), sF 1500 a (va_rf v1) b) := (Option.some.inj hf).symm
      subst hr
      have walk : W p l e { frames := 3, cells := K 0 - aX b, slots := K 1 - aW b, locals := 300 } (s.setCell a (cell.withEntry s.cur)) m ([vR (some a), vR v1].map tvv).toArray below meth c s₁.heap [] 0 0 (fun t => ∃ o, t.status = .running ∧ Ended t below o ∧ APost s0 K lam oR b (.ok (some a), sF 1500 a (va_rf v1) b) s o t) (FS m a #[.val (.ref a), .val (va_rf v1)] 0 []) := by
        refine sy_aload (k := 0) (x := some a) hexec hbytes dT_i0 rfl ?_
        refine sy_get (φ := 1500) GA.2.1 hW' hexec hbytes hown (gw GA.1 hW' q463) rfl x1 x4 hc1 hSC hp dT_i1 ?_
        refine sy_aload (k := 0) (x := some a) hexec hbytes dT_i4 rfl ?_
        refine sy_acmp_eq (tgt := 41) hexec hbytes dT_i5 rfl (fun hy => ?_) (fun hy => absurd rfl hy)
        refine sy_aload (k := 1) (x := v1) hexec hbytes dT_i41 rfl ?_
        refine sy_aload (k := 0) (x := some a) hexec hbytes dT_i42 rfl ?_
        refine sy_acmp_ne (tgt := 57) hexec hbytes dT_i43 rfl (fun hy => ?_) (fun hy => absurd hy hv1)
        refine sy_aload (k := 0) (x := some a) hexec hbytes dT_i57 rfl ?_
        refine sy_aload (k := 1) (x := v1) hexec hbytes dT_i58 rfl ?_
        refine sy_put (φ := 1500) (st := []) GA.2.1 GA.2.2.1 hW' hexec hbytes hown (gw GA.1 hW' q463) rfl rfl (fits_rf _ (Or.inl ⟨_, rfl⟩)) x1 x4 hc1 hSC dT_i59 (fun H' x hx q1 q2 q3 => ?_)
        have hlt' : a < H'.size := (Array.getElem?_eq_some_iff.mp q1).1
        refine sy_aload (k := 0) (x := some a) hexec hbytes dT_i62 rfl ?_
        refine sy_end (v := some a) (v' := some a) hcell hent hexec hbytes hlk hret ⟨_, rfl⟩ dT_i63 (fun cellT g1 g2 => ?_) (fun z hz => by rw [List.mem_singleton.mp hz]; exact ha) (by show 0 = aX b - aX b; rw [Nat.sub_self]) (by show 0 = aW b - aW b; rw [Nat.sub_self]) ⟨Nat.le_refl _, Nat.le_refl _⟩ rfl rfl
        cases q1.symm.trans g1
        rw [g2]
        refine hR.field GA.2.1 ha x1 x4 hcell hcls hvm hmon hsl hx ?_ ?_ ?_
        · rw [Array.getElem?_setIfInBounds, if_pos rfl, if_pos hlt']; rfl
        · rw [Array.size_setIfInBounds, q2, hH, Array.size_setIfInBounds]
        · intro q hq
          rw [Array.getElem?_setIfInBounds, if_neg (Ne.symm hq), q3 q hq, ho1 q hq]
      obtain ⟨t, a1, o, b1, b2, b3⟩ := walk s₁ rfl X
      have e9 : entryFrameSync m ([vR (some a), vR v1].map tvv).toArray 2 a = FS m a #[.val (.ref a), .val (va_rf v1)] 0 [] := by cases v1 <;> rfl
      exact ⟨t, o, by rw [e9]; exact a1, b1, b2, b3⟩
  · simp only [f_T_initCause, if_neg hc] at hf; cases hf
end HAND
