/-! rows of arrays, casts, statics, strings -/
theorem slot_set (cell : Cell) {i : Nat} (v : Value) (h : i < cell.slots.size) : (cell.setSlot i v).slots[i]? = some v := by simp [Cell.setSlot, h]
section FW5
variable {l : Launch} {s0 : State} {a0 : Array Value} {K : Nat → Nat} {lam : Nat → ClassId}
variable {p : Program} {e : Env} {R : Room} {s : State} {m : MethodId} {args : Array Value} {below : List Frame} {meth : Method} {c : Code} {Q : State → Prop}
variable {b h : AH} {cc : ByteArray} {own : String} {nL : Nat} {pc : Nat} {ls : Array Slot} {rest : List Value} {ρ β : Type} {r : Except Nat β × AH}
theorem aE_sE {a j a' j' : Nat} {v : Value} : aE (sE a j v h) a' j' = if a' = a ∧ j' = j then v else aE h a' j' := rfl
theorem Rp.elem {H H' : Heap} (h1 : Rp s0 K lam h H) {a j : Nat} {v : Value} (hk : 1000 ≤ aK h a) (ha : K 2 ≤ a) (hj : j < aN h a) (hv : fits (aty (aK h a)) v = true) {cell : Cell} (e1 : H[a]? = some cell)
    (g1 : H'[a]? = some (cell.setSlot j v)) (g2 : H'.size = H.size) (g3 : ∀ q, q ≠ a → H'[q]? = H[q]?) : Rp s0 K lam (sE a j v h) H' := by
  obtain ⟨cell', e1', e2, e3, e4, e5⟩ := h1.2.2.2.2 a hk
  cases e1.symm.trans e1'
  refine h1.upd g2 ha g3 rfl rfl rfl (fun q hq => ⟨rfl, fun ψ => rfl, fun i => by rw [aE_sE, if_neg (fun z => hq z.1)]⟩) (fun _ z => by omega) (fun z => by omega) (fun _ => ⟨_, g1, ?_, e3, ?_, fun i hi => ?_⟩)
  · exact e2
  · rw [k2_slotsz]; exact e4
  · rw [aE_sE]
    by_cases hij : i = j
    · subst hij
      rw [if_pos ⟨rfl, rfl⟩]
      exact ⟨slot_set cell v (by omega), hv⟩
    · rw [if_neg (fun z => hij z.2), slot_ne cell v (Ne.symm hij)]
      exact e5 i hi
theorem ald_some {α : Type} {pj : Value → Option α} {t : Nat} {rr : Option Nat} {i : Int32} {k : α → AM β} (hf : bd (ald pj t rr i) k h = some r) : ∃ a x, rr = some a ∧ aK h a = t ∧ ¬ (i < 0 ∨ aN h a ≤ i.toNatClampNeg) ∧ pj (aE h a i.toNatClampNeg) = some x ∧ k x h = some r := by
  cases rr with
  | none => simp [bd, ald] at hf
  | some a =>
    by_cases hc : aK h a = t ∧ ¬ (i < 0 ∨ aN h a ≤ i.toNatClampNeg)
    · cases hp : pj (aE h a i.toNatClampNeg) with
      | none => simp only [bd, ald, if_pos hc, hp] at hf; cases hf
      | some x => simp only [bd, ald, if_pos hc, hp] at hf; exact ⟨a, x, rfl, hc.1, hc.2, hp, hf⟩
    · simp only [bd, ald, if_neg hc] at hf; cases hf
theorem ast_some {t : Nat} {rr : Option Nat} {i : Int32} {v : Value} {k : Unit → AM β} (hf : bd (ast K t rr i v) k h = some r) : ∃ a, rr = some a ∧ aK h a = t ∧ K 2 ≤ a ∧ ¬ (i < 0 ∨ aN h a ≤ i.toNatClampNeg) ∧ k () (sE a i.toNatClampNeg v h) = some r := by
  cases rr with
  | none => simp [bd, ast] at hf
  | some a =>
    by_cases hc : (aK h a = t ∧ K 2 ≤ a) ∧ ¬ (i < 0 ∨ aN h a ≤ i.toNatClampNeg)
    · simp only [bd, ast, if_pos hc] at hf; exact ⟨a, rfl, hc.1.1, hc.1.2, hc.2, hf⟩
    · simp only [bd, ast, if_neg hc] at hf; cases hf
theorem asr_some {t : Nat} {ks : List Nat} {rr : Option Nat} {i : Int32} {v : Option Nat} {k : Unit → AM β} (hf : bd (asr K t ks rr i v) k h = some r) : ∃ a, rr = some a ∧ aK h a = t ∧ K 2 ≤ a ∧ ¬ (i < 0 ∨ aN h a ≤ i.toNatClampNeg) ∧ (∀ q, v = some q → ks.contains (aK h q) = true) ∧ k () (sE a i.toNatClampNeg (va_rf v) h) = some r := by
  cases rr with
  | none => simp [bd, asr] at hf
  | some a =>
    by_cases hc : ((aK h a = t ∧ K 2 ≤ a) ∧ ¬ (i < 0 ∨ aN h a ≤ i.toNatClampNeg)) ∧ okr h ks v = true
    · simp only [bd, asr, if_pos hc] at hf; exact ⟨a, rfl, hc.1.1.1, hc.1.1.2, hc.1.2, fun q hq => (by subst hq; exact hc.2), hf⟩
    · simp only [bd, asr, if_neg hc] at hf; cases hf
theorem a_iaload {rr : Option Nat} {i : Int32} {k : Int32 → AM β} (X : CX l s0 a0 p s m c cc own nL) (hdg : decode cc pc = .ok (.iaload, 1)) (hf : bd (ald pI 1001 rr i) k h = some r) (kk : ∀ x, k x h = some r → AW s0 K lam p l e R s m args below meth c Q b h (F0 m (pc + 1) ls (tI x :: rest))) : AW s0 K lam p l e R s m args below meth c Q b h (F0 m pc ls (.int i :: va_rf rr :: rest)) := by
  obtain ⟨a, x, rfl, hk, hi, hp, hf⟩ := ald_some hf
  obtain ⟨G, hW, hx, hb, hown, hml⟩ := X
  intro H locs h1 h2 h3 h4
  obtain ⟨cell, e1, e2, e3, e4, e5⟩ := h1.2.2.2.2 a (by omega)
  have hin : ¬ (i < 0 ∨ cell.slots.size ≤ i.toNatClampNeg) := by rw [e4]; exact hi
  have hs := (e5 i.toNatClampNeg (by omega)).1
  rw [pI_t hp] at hs
  rw [hk] at e2
  exact W.iald hx hb e1 (State.isArrayOf_alike hW.alike e2) e3.2.1 hin hs rfl rfl hdg (kk x hf H locs h1 h2 h3 h4)
theorem a_caload {rr : Option Nat} {i : Int32} {k : Int32 → AM β} (X : CX l s0 a0 p s m c cc own nL) (hdg : decode cc pc = .ok (.caload, 1)) (hf : bd (ald pI 1002 rr i) k h = some r) (kk : ∀ x, k x h = some r → AW s0 K lam p l e R s m args below meth c Q b h (F0 m (pc + 1) ls (tI x :: rest))) : AW s0 K lam p l e R s m args below meth c Q b h (F0 m pc ls (.int i :: va_rf rr :: rest)) := by
  obtain ⟨a, x, rfl, hk, hi, hp, hf⟩ := ald_some hf
  obtain ⟨G, hW, hx, hb, hown, hml⟩ := X
  intro H locs h1 h2 h3 h4
  obtain ⟨cell, e1, e2, e3, e4, e5⟩ := h1.2.2.2.2 a (by omega)
  have hin : ¬ (i < 0 ∨ cell.slots.size ≤ i.toNatClampNeg) := by rw [e4]; exact hi
  have hs := (e5 i.toNatClampNeg (by omega)).1
  rw [pI_t hp] at hs
  rw [hk] at e2
  exact W.cald hx hb e1 (State.isArrayOf_alike hW.alike e2) e3.2.1 hin hs rfl rfl hdg (kk x hf H locs h1 h2 h3 h4)
theorem a_baload {rr : Option Nat} {i : Int32} {k : Int32 → AM β} (X : CX l s0 a0 p s m c cc own nL) (hdg : decode cc pc = .ok (.baload, 1)) (hf : bd (ald pI 1003 rr i) k h = some r) (kk : ∀ x, k x h = some r → AW s0 K lam p l e R s m args below meth c Q b h (F0 m (pc + 1) ls (tI x :: rest))) : AW s0 K lam p l e R s m args below meth c Q b h (F0 m pc ls (.int i :: va_rf rr :: rest)) := by
  obtain ⟨a, x, rfl, hk, hi, hp, hf⟩ := ald_some hf
  obtain ⟨G, hW, hx, hb, hown, hml⟩ := X
  intro H locs h1 h2 h3 h4
  obtain ⟨cell, e1, e2, e3, e4, e5⟩ := h1.2.2.2.2 a (by omega)
  have hin : ¬ (i < 0 ∨ cell.slots.size ≤ i.toNatClampNeg) := by rw [e4]; exact hi
  have hs := (e5 i.toNatClampNeg (by omega)).1
  rw [pI_t hp] at hs
  rw [hk] at e2
  exact W.bald hx hb e1 (State.isArrayOf_alike hW.alike e2) e3.2.1 hin hs rfl rfl hdg (kk x hf H locs h1 h2 h3 h4)
theorem a_laload {rr : Option Nat} {i : Int32} {k : Int64 → AM β} (X : CX l s0 a0 p s m c cc own nL) (hdg : decode cc pc = .ok (.laload, 1)) (hf : bd (ald pJ 1004 rr i) k h = some r) (kk : ∀ x, k x h = some r → AW s0 K lam p l e R s m args below meth c Q b h (F0 m (pc + 1) ls (tJ x :: rest))) : AW s0 K lam p l e R s m args below meth c Q b h (F0 m pc ls (.int i :: va_rf rr :: rest)) := by
  obtain ⟨a, x, rfl, hk, hi, hp, hf⟩ := ald_some hf
  obtain ⟨G, hW, hx, hb, hown, hml⟩ := X
  intro H locs h1 h2 h3 h4
  obtain ⟨cell, e1, e2, e3, e4, e5⟩ := h1.2.2.2.2 a (by omega)
  have hin : ¬ (i < 0 ∨ cell.slots.size ≤ i.toNatClampNeg) := by rw [e4]; exact hi
  have hs := (e5 i.toNatClampNeg (by omega)).1
  rw [pJ_t hp] at hs
  rw [hk] at e2
  exact W.lald hx hb e1 (State.isArrayOf_alike hW.alike e2) e3.2.1 hin hs rfl rfl hdg (kk x hf H locs h1 h2 h3 h4)
theorem a_daload {rr : Option Nat} {i : Int32} {k : UInt64 → AM β} (X : CX l s0 a0 p s m c cc own nL) (hdg : decode cc pc = .ok (.daload, 1)) (hf : bd (ald pD 1005 rr i) k h = some r) (kk : ∀ x, k x h = some r → AW s0 K lam p l e R s m args below meth c Q b h (F0 m (pc + 1) ls (tD x :: rest))) : AW s0 K lam p l e R s m args below meth c Q b h (F0 m pc ls (.int i :: va_rf rr :: rest)) := by
  obtain ⟨a, x, rfl, hk, hi, hp, hf⟩ := ald_some hf
  obtain ⟨G, hW, hx, hb, hown, hml⟩ := X
  intro H locs h1 h2 h3 h4
  obtain ⟨cell, e1, e2, e3, e4, e5⟩ := h1.2.2.2.2 a (by omega)
  have hin : ¬ (i < 0 ∨ cell.slots.size ≤ i.toNatClampNeg) := by rw [e4]; exact hi
  have hs := (e5 i.toNatClampNeg (by omega)).1
  rw [pD_t hp] at hs
  rw [hk] at e2
  exact W.dald hx hb e1 (State.isArrayOf_alike hW.alike e2) e3.2.1 hin hs rfl rfl hdg (kk x hf H locs h1 h2 h3 h4)
theorem a_aaload {rr : Option Nat} {i : Int32} {k : Option Nat → AM β} {t : Nat} {C : String} (ht : 1000 ≤ t) (hty : aty t = .object C) (X : CX l s0 a0 p s m c cc own nL) (hdg : decode cc pc = .ok (.aaload, 1)) (hf : bd (ald pR t rr i) k h = some r) (kk : ∀ x, k x h = some r → AW s0 K lam p l e R s m args below meth c Q b h (F0 m (pc + 1) ls (tR x :: rest))) : AW s0 K lam p l e R s m args below meth c Q b h (F0 m pc ls (.int i :: va_rf rr :: rest)) := by
  obtain ⟨a, x, rfl, hk, hi, hp, hf⟩ := ald_some hf
  obtain ⟨G, hW, hx, hb, hown, hml⟩ := X
  intro H locs h1 h2 h3 h4
  obtain ⟨cell, e1, e2, e3, e4, e5⟩ := h1.2.2.2.2 a (by omega)
  have hin : ¬ (i < 0 ∨ cell.slots.size ≤ i.toNatClampNeg) := by rw [e4]; exact hi
  have hs := (e5 i.toNatClampNeg (by omega)).1
  rw [pR_t hp] at hs
  rw [hk, hty] at e2
  exact W.aald hx hb e1 (State.isArrayOf_alike hW.alike e2) rfl e3.2.1 hin hs rfl rfl hdg (kk x hf H locs h1 h2 h3 h4)
theorem a_iastore {rr : Option Nat} {i : Int32} {x : Int32} {k : Unit → AM β} (X : CX l s0 a0 p s m c cc own nL) (hdg : decode cc pc = .ok (.iastore, 1)) (hf : bd (ast K 1001 rr i (.int x)) k h = some r) (kk : ∀ h', k () h' = some r → AW s0 K lam p l e R s m args below meth c Q b h' (F0 m (pc + 1) ls rest)) : AW s0 K lam p l e R s m args below meth c Q b h (F0 m pc ls (.int x :: .int i :: va_rf rr :: rest)) := by
  obtain ⟨a, rfl, hk, ha, hi, hf⟩ := ast_some hf
  obtain ⟨G, hW, hx, hb, hown, hml⟩ := X
  intro H locs h1 h2 h3 h4
  obtain ⟨cell, e1, e2, e3, e4, e5⟩ := h1.2.2.2.2 a (by omega)
  have hin : ¬ (i < 0 ∨ cell.slots.size ≤ i.toNatClampNeg) := by rw [e4]; exact hi
  rw [hk] at e2
  refine W.iast hx hb e1 (State.isArrayOf_alike hW.alike e2) e3.2.1 hin rfl rfl hdg fun H' q1 q2 q3 => ?_
  refine kk _ hf H' _ (h1.elem (by omega) ha (by omega) (by rw [hk]; exact rfl) e1 q1 q2 q3) (fun z hz => ?_) h3 h4
  rcases List.mem_append.mp hz with z1 | z1
  · exact h2 z z1
  · rw [List.mem_singleton.mp z1]; exact ha
theorem a_castore {rr : Option Nat} {i : Int32} {x : Int32} {k : Unit → AM β} (X : CX l s0 a0 p s m c cc own nL) (hfit : fits .char (.int x) = true) (hdg : decode cc pc = .ok (.castore, 1)) (hf : bd (ast K 1002 rr i (.int x)) k h = some r) (kk : ∀ h', k () h' = some r → AW s0 K lam p l e R s m args below meth c Q b h' (F0 m (pc + 1) ls rest)) : AW s0 K lam p l e R s m args below meth c Q b h (F0 m pc ls (.int x :: .int i :: va_rf rr :: rest)) := by
  obtain ⟨a, rfl, hk, ha, hi, hf⟩ := ast_some hf
  obtain ⟨G, hW, hx, hb, hown, hml⟩ := X
  intro H locs h1 h2 h3 h4
  obtain ⟨cell, e1, e2, e3, e4, e5⟩ := h1.2.2.2.2 a (by omega)
  have hin : ¬ (i < 0 ∨ cell.slots.size ≤ i.toNatClampNeg) := by rw [e4]; exact hi
  rw [hk] at e2
  refine W.cast hx hb e1 (State.isArrayOf_alike hW.alike e2) e3.2.1 hin rfl rfl hdg fun H' q1 q2 q3 => ?_
  refine kk _ hf H' _ (h1.elem (by omega) ha (by omega) (by rw [hk]; exact hfit) e1 (by rw [narrow_of_fits hfit] at q1; exact q1) q2 q3) (fun z hz => ?_) h3 h4
  rcases List.mem_append.mp hz with z1 | z1
  · exact h2 z z1
  · rw [List.mem_singleton.mp z1]; exact ha
theorem a_bastore {rr : Option Nat} {i : Int32} {x : Int32} {k : Unit → AM β} (X : CX l s0 a0 p s m c cc own nL) (hfit : fits .byte (.int x) = true) (hdg : decode cc pc = .ok (.bastore, 1)) (hf : bd (ast K 1003 rr i (.int x)) k h = some r) (kk : ∀ h', k () h' = some r → AW s0 K lam p l e R s m args below meth c Q b h' (F0 m (pc + 1) ls rest)) : AW s0 K lam p l e R s m args below meth c Q b h (F0 m pc ls (.int x :: .int i :: va_rf rr :: rest)) := by
  obtain ⟨a, rfl, hk, ha, hi, hf⟩ := ast_some hf
  obtain ⟨G, hW, hx, hb, hown, hml⟩ := X
  intro H locs h1 h2 h3 h4
  obtain ⟨cell, e1, e2, e3, e4, e5⟩ := h1.2.2.2.2 a (by omega)
  have hin : ¬ (i < 0 ∨ cell.slots.size ≤ i.toNatClampNeg) := by rw [e4]; exact hi
  rw [hk] at e2
  refine W.bast hx hb e1 (State.isArrayOf_alike hW.alike e2) e3.2.1 hin rfl rfl hdg fun H' q1 q2 q3 => ?_
  refine kk _ hf H' _ (h1.elem (by omega) ha (by omega) (by rw [hk]; exact hfit) e1 (by rw [narrow_of_fits hfit] at q1; exact q1) q2 q3) (fun z hz => ?_) h3 h4
  rcases List.mem_append.mp hz with z1 | z1
  · exact h2 z z1
  · rw [List.mem_singleton.mp z1]; exact ha
theorem a_lastore {rr : Option Nat} {i : Int32} {x : Int64} {k : Unit → AM β} (X : CX l s0 a0 p s m c cc own nL) (hdg : decode cc pc = .ok (.lastore, 1)) (hf : bd (ast K 1004 rr i (.long x)) k h = some r) (kk : ∀ h', k () h' = some r → AW s0 K lam p l e R s m args below meth c Q b h' (F0 m (pc + 1) ls rest)) : AW s0 K lam p l e R s m args below meth c Q b h (F0 m pc ls (.long x :: .int i :: va_rf rr :: rest)) := by
  obtain ⟨a, rfl, hk, ha, hi, hf⟩ := ast_some hf
  obtain ⟨G, hW, hx, hb, hown, hml⟩ := X
  intro H locs h1 h2 h3 h4
  obtain ⟨cell, e1, e2, e3, e4, e5⟩ := h1.2.2.2.2 a (by omega)
  have hin : ¬ (i < 0 ∨ cell.slots.size ≤ i.toNatClampNeg) := by rw [e4]; exact hi
  rw [hk] at e2
  refine W.last hx hb e1 (State.isArrayOf_alike hW.alike e2) e3.2.1 hin rfl rfl hdg fun H' q1 q2 q3 => ?_
  refine kk _ hf H' _ (h1.elem (by omega) ha (by omega) (by rw [hk]; exact rfl) e1 q1 q2 q3) (fun z hz => ?_) h3 h4
  rcases List.mem_append.mp hz with z1 | z1
  · exact h2 z z1
  · rw [List.mem_singleton.mp z1]; exact ha
theorem a_dastore {rr : Option Nat} {i : Int32} {x : UInt64} {k : Unit → AM β} (X : CX l s0 a0 p s m c cc own nL) (hdg : decode cc pc = .ok (.dastore, 1)) (hf : bd (ast K 1005 rr i (.double x)) k h = some r) (kk : ∀ h', k () h' = some r → AW s0 K lam p l e R s m args below meth c Q b h' (F0 m (pc + 1) ls rest)) : AW s0 K lam p l e R s m args below meth c Q b h (F0 m pc ls (.double x :: .int i :: va_rf rr :: rest)) := by
  obtain ⟨a, rfl, hk, ha, hi, hf⟩ := ast_some hf
  obtain ⟨G, hW, hx, hb, hown, hml⟩ := X
  intro H locs h1 h2 h3 h4
  obtain ⟨cell, e1, e2, e3, e4, e5⟩ := h1.2.2.2.2 a (by omega)
  have hin : ¬ (i < 0 ∨ cell.slots.size ≤ i.toNatClampNeg) := by rw [e4]; exact hi
  rw [hk] at e2
  refine W.dast hx hb e1 (State.isArrayOf_alike hW.alike e2) e3.2.1 hin rfl rfl hdg fun H' q1 q2 q3 => ?_
  refine kk _ hf H' _ (h1.elem (by omega) ha (by omega) (by rw [hk]; exact rfl) e1 q1 q2 q3) (fun z hz => ?_) h3 h4
  rcases List.mem_append.mp hz with z1 | z1
  · exact h2 z z1
  · rw [List.mem_singleton.mp z1]; exact ha
/-- the kind k's class may stand where C is asked -/
def CS (s0 : State) (k : Nat) (C : String) : Prop := ∃ c t, s0.vm.findClass (cname k) = some c ∧ s0.vm.findClass C = some t ∧ s0.vm.assignable c t = true
theorem CS.of {k : Nat} {C : String} (h : (Cond.castable (cname k) C).before a0 s0 = true) : CS s0 k C := by
  obtain ⟨c0, t0, f1, f2, f3⟩ := Cond.castable_spec h
  exact ⟨c0, t0, f1, f2, f3⟩
theorem CS.self {k : Nat} {cC : ClassId} (h : ClassAt s0 (cname k) cC) : CS s0 k (cname k) := ⟨cC, cC, h.1, h.1, va_assign h⟩
theorem a_aastore {rr v : Option Nat} {i : Int32} {k : Unit → AM β} {t : Nat} {C : String} {ks : List Nat} (ht : 1000 ≤ t) (hty : aty t = .object C) (X : CX l s0 a0 p s m c cc own nL) (hks : ∀ q ∈ ks, q < 40 ∧ 0 < q ∧ CS s0 q C) (hdg : decode cc pc = .ok (.aastore, 1)) (hf : bd (asr K t ks rr i v) k h = some r) (kk : ∀ h', k () h' = some r → AW s0 K lam p l e R s m args below meth c Q b h' (F0 m (pc + 1) ls rest)) : AW s0 K lam p l e R s m args below meth c Q b h (F0 m pc ls (va_rf v :: .int i :: va_rf rr :: rest)) := by
  obtain ⟨a, rfl, hk, ha, hi, hv, hf⟩ := asr_some hf
  obtain ⟨G, hW, hx, hb, hown, hml⟩ := X
  intro H locs h1 h2 h3 h4
  obtain ⟨cell, e1, e2, e3, e4, e5⟩ := h1.2.2.2.2 a (by omega)
  have hin : ¬ (i < 0 ∨ cell.slots.size ≤ i.toNatClampNeg) := by rw [e4]; exact hi
  have hfit : fits (aty (aK h a)) (va_rf v) = true := by rw [hk, hty]; cases v <;> rfl
  have e2' := e2
  rw [hk, hty] at e2'
  have fin : ∀ H' : Heap, H'[a]? = some (cell.setSlot i.toNatClampNeg (va_rf v)) → H'.size = H.size → (∀ q, q ≠ a → H'[q]? = H[q]?) → W p l e R s m args below meth c H' (locs ++ [⟨a, i.toNatClampNeg⟩]) (aX h - aX b) (aW h - aW b) Q (F0 m (pc + 1) ls rest) := by
    intro H' q1 q2 q3
    refine kk _ hf H' _ (h1.elem (by omega) ha (by omega) hfit e1 q1 q2 q3) (fun z hz => ?_) h3 h4
    rcases List.mem_append.mp hz with z1 | z1
    · exact h2 z z1
    · rw [List.mem_singleton.mp z1]; exact ha
  cases v with
  | none => exact va_WaastN (C := C) hx hb e1 (State.isArrayOf_alike hW.alike e2') e3.2.1 hin rfl rfl hdg fin
  | some v =>
    have hkv := hv v rfl
    obtain ⟨k1, k2, cV, tV, f1, f2, f3⟩ := hks _ (by simpa using hkv)
    obtain ⟨cellV, v1, v2, v3, v4⟩ := h1.2.2.1 v k2 (by omega)
    obtain ⟨e3n, hra⟩ := e3.2.2 ha
    rw [hk, hty] at hra
    obtain ⟨kA, comp, r1, r2, r3, r4⟩ := va_RA.moved hW.alike hra
    have hcV : cellV.cls = cV := Option.some.inj (v2.symm.trans f1)
    have f2' := fc_w hW f2
    have hcomp : comp = tV := Option.some.inj (r3.symm.trans f2')
    obtain ⟨kE, hkE, -⟩ := Vm.findClass_spec r3
    obtain ⟨kV, hkV, -⟩ := Vm.findClass_spec (fc_w hW v2)
    refine W.aast hx hb e1 (fun q hq => by rw [e3n] at hq; cases hq) e3.2.1 r1 r2 rfl hkE ⟨fun z => hi (Or.inl z), by rw [e4]; omega⟩ v1 (fun q hq => by rw [hq] at v3; cases v3.1) hkV (by rw [hcV, hcomp, hW.alike.assignable]; exact f3) rfl rfl hdg fin
theorem a_arraylength {rr : Option Nat} {k : Int32 → AM β} (X : CX l s0 a0 p s m c cc own nL) (hdg : decode cc pc = .ok (.arraylength, 1)) (hf : bd (alen rr) k h = some r) (kk : ∀ x, k x h = some r → AW s0 K lam p l e R s m args below meth c Q b h (F0 m (pc + 1) ls (.int x :: rest))) : AW s0 K lam p l e R s m args below meth c Q b h (F0 m pc ls (va_rf rr :: rest)) := by
  cases rr with
  | none => simp [bd, alen] at hf
  | some a =>
    by_cases hk : 1000 ≤ aK h a
    · simp only [bd, alen, if_pos hk] at hf
      obtain ⟨G, hW, hx, hb, hown, hml⟩ := X
      intro H locs h1 h2 h3 h4
      obtain ⟨cell, e1, e2, e3, e4, e5⟩ := h1.2.2.2.2 a hk
      exact W.alen (n := Int32.ofNat (aN h a)) hx hb e1 (State.isArrayOf_alike hW.alike e2) (by rw [e4]) rfl rfl hdg (kk _ hf H locs h1 h2 h3 h4)
    · simp only [bd, alen, if_neg hk] at hf; cases hf
theorem nwA_some {t : Nat} {d : Value} {n : Int32} {k : Option Nat → AM β} (hf : bd (nwA K t d n) k h = some r) : (¬ n < 0 ∧ n.toNatClampNeg ≤ 1000000) ∧ (aX h + 1 ≤ K 0 ∧ aW h + n.toNatClampNeg ≤ K 1) ∧ k (some (aX h)) (mkA t d n.toNatClampNeg h) = some r := by
  by_cases hc : (¬ n < 0 ∧ n.toNatClampNeg ≤ 1000000) ∧ aX h + 1 ≤ K 0 ∧ aW h + n.toNatClampNeg ≤ K 1
  · simp only [bd, nwA, if_pos hc] at hf; exact ⟨hc.1, hc.2, hf⟩
  · simp only [bd, nwA, if_neg hc] at hf; cases hf
theorem Rp.newA {H H' : Heap} (h1 : Rp s0 K lam h H) {t N : Nat} {d : Value} (ht : 1000 ≤ t) (hd : fits (aty t) d = true) {cA : ClassId} (g1 : H'[aX h]? = some (arrV cA N (fun _ => d))) (g2 : H'.size = H.size + 1) (g3 : ∀ q, q < H.size → H'[q]? = H[q]?) (hA : ArrOfT s0 cA (aty t)) (hra : va_RA s0 cA (aty t)) (hbd : aX h + 1 ≤ K 0 ∧ aW h + N ≤ K 1) : Rp s0 K lam (mkA t d N h) H' := by
  have ek : aK (mkA t d N h) (aX h) = t := by simp [aK, mkA]
  refine h1.push g2 g3 rfl hbd (fun q hq => ⟨by simp [aK, mkA, hq], by simp [aN, mkA, hq], fun _ => rfl, fun j => by simp [aE, mkA, hq]⟩) (fun _ q => by rw [ek] at q; omega) (fun _ q => by rw [ek] at q; omega) (fun _ => ?_)
  rw [ek]
  have en : aN (mkA t d N h) (aX h) = N := by simp [aN, mkA]
  refine ⟨_, g1, hA N _, ⟨rfl, hra⟩, by rw [arrV_size, en], fun j hj => ?_⟩
  rw [en] at hj
  have ee : aE (mkA t d N h) (aX h) j = d := by simp [aE, mkA]
  rw [ee]
  exact ⟨arrV_read _ _ hj, hd⟩
theorem a_newarray {n : Int32} {k : Option Nat → AM β} {t : Nat} {d : Value} {atype : ArrayType} (ht : 1000 ≤ t) (hty : newarray.typeOf atype = aty t) (hd : d = defaultValue (aty t)) (hdf : fits (aty t) d = true) (hcb : componentBytes (aty t) ≤ 8) (hra : ∀ cA, s0.vm.findClass ("[" ++ (aty t).toString) = some cA → va_RA s0 cA (aty t)) (X : CX l s0 a0 p s m c cc own nL) (hRc : R.cells = K 0 - aX b) (hRs : R.slots = K 1 - aW b) (harr : (Cond.arrayClass (newarray.typeOf atype)).before args s = true)
    (hdg : decode cc pc = .ok (.newarray atype, 2)) (hf : bd (nwA K t d n) k h = some r) (kk : ∀ q h', k (some q) h' = some r → AW s0 K lam p l e R s m args below meth c Q b h' (F0 m (pc + 2) ls (va_rf (some q) :: rest))) : AW s0 K lam p l e R s m args below meth c Q b h (F0 m pc ls (.int n :: rest)) := by
  obtain ⟨⟨n1, n2⟩, ⟨b1, b2⟩, hk⟩ := nwA_some hf
  obtain ⟨G, hW, hx, hb, hown, hml⟩ := X
  intro H locs h1 h2 h3 h4
  have hbytes : n.toNatClampNeg * componentBytes (newarray.typeOf atype) ≤ 536870912 := by
    rw [hty]
    have := Nat.mul_le_mul n2 hcb
    omega
  refine va_newaK hx hb harr rfl hdg rfl n1 rfl hbytes (by omega) (by omega) h1.1 fun H' cA g1 g2 g3 g4 g5 => ?_
  rw [hty] at g1 g4 g5
  rw [← hd] at g1
  have hR := h1.newA ht hdf g1 (by rw [g2, h1.1]) (fun q hq => g3 q (by rw [← h1.1]; exact hq)) (arrOfT_moved hW.alike.symm g4) (hra cA (fc_r hW g5)) ⟨b1, b2⟩
  have hg := kk _ _ hk H' locs hR h2 (by show aX b ≤ aX h + 1; omega) (by show aW b ≤ aW h + n.toNatClampNeg; omega)
  have e1 : aX (mkA t d n.toNatClampNeg h) - aX b = aX h - aX b + 1 := by show aX h + 1 - aX b = _; omega
  have e2 : aW (mkA t d n.toNatClampNeg h) - aW b = aW h - aW b + n.toNatClampNeg := by show aW h + n.toNatClampNeg - aW b = _; omega
  rw [e1, e2] at hg
  exact hg
theorem a_anewarray {n : Int32} {k : Option Nat → AM β} {t idx : Nat} {C : String} (ht : 1000 ≤ t) (hty : aty t = .object C) (X : CX l s0 a0 p s m c cc own nL) (hRc : R.cells = K 0 - aX b) (hRs : R.slots = K 1 - aW b) (hcl : (Cond.classLink own idx C).before args s = true) (hov : va_AO C s0)
    (hdg : decode cc pc = .ok (.anewarray idx, 3)) (hf : bd (nwA K t .null n) k h = some r) (kk : ∀ q h', k (some q) h' = some r → AW s0 K lam p l e R s m args below meth c Q b h' (F0 m (pc + 3) ls (va_rf (some q) :: rest))) : AW s0 K lam p l e R s m args below meth c Q b h (F0 m pc ls (.int n :: rest)) := by
  obtain ⟨⟨n1, n2⟩, ⟨b1, b2⟩, hk⟩ := nwA_some hf
  obtain ⟨G, hW, hx, hb, hown, hml⟩ := X
  intro H locs h1 h2 h3 h4
  refine W.anew hx hb hown hcl ((hov.moved hW.alike).use (A := args)) rfl hdg rfl n1 (by omega) (by omega) (by omega) fun cA kA comp g1 g2 g3 g4 => ?_
  have hz := h1.1
  have hra : va_RA s cA (.object C) := ⟨kA, comp, g2, g3, g4, g1⟩
  have hAr : ArrOfT s cA (.object C) := fun n z => ⟨fun k h => (by cases h), kA, g2, comp, g3⟩
  have hR : Rp s0 K lam (mkA t .null n.toNatClampNeg h) (H.push { cls := cA, slots := Array.replicate n.toNatClampNeg .null, vm := .none }) := by
    refine h1.newA ht (by rw [hty]; rfl) (cA := cA) ?_ (by simp) (fun q hq => by rw [Array.getElem?_push, if_neg (Nat.ne_of_lt hq)]) (by rw [hty]; exact arrOfT_moved hW.alike.symm hAr) (by rw [hty]; exact hra.moved hW.alike.symm) ⟨b1, b2⟩
    rw [← arrV_new, ← hz]
    simp
  have hg := kk _ _ hk _ locs hR h2 (by show aX b ≤ aX h + 1; omega) (by show aW b ≤ aW h + n.toNatClampNeg; omega)
  have e1 : aX (mkA t .null n.toNatClampNeg h) - aX b = aX h - aX b + 1 := by show aX h + 1 - aX b = _; omega
  have e2 : aW (mkA t .null n.toNatClampNeg h) - aW b = aW h - aW b + n.toNatClampNeg := by show aW h + n.toNatClampNeg - aW b = _; omega
  have e3 : va_rf (some (aX h)) = .ref H.size := by rw [hz]; rfl
  rw [e1, e2, e3] at hg
  exact hg
theorem a_checkcast {rr : Option Nat} {k : Unit → AM β} {idx : Nat} {nm : String} {ks : List Nat} (X : CX l s0 a0 p s m c cc own nL) (hlink : (Cond.classLink own idx nm).before args s = true) (hks : ∀ q ∈ ks, q < 40 ∧ 0 < q ∧ CS s0 q nm) (hdg : decode cc pc = .ok (.checkcast idx, 3)) (hf : bd (ckc ks rr) k h = some r) (kk : k () h = some r → AW s0 K lam p l e R s m args below meth c Q b h (F0 m (pc + 3) ls (va_rf rr :: rest))) : AW s0 K lam p l e R s m args below meth c Q b h (F0 m pc ls (va_rf rr :: rest)) := by
  obtain ⟨G, hW, hx, hb, hown, hml⟩ := X
  cases rr with
  | none => exact AW.lift (fun _ _ _ _ q => lv_castN hx hb hdg q) (kk hf)
  | some a =>
    by_cases hk : ks.contains (aK h a) = true
    · simp only [bd, ckc, if_pos hk] at hf
      obtain ⟨k1, k2, cV, tV, f1, f2, f3⟩ := hks _ (by simpa using hk)
      intro H locs h1 h2 h3 h4
      obtain ⟨cell, e1, e2, e3, e4⟩ := h1.2.2.1 a k2 (by omega)
      have hcV : cell.cls = cV := Option.some.inj (e2.symm.trans f1)
      intro T hT Y
      obtain ⟨vm', X', st⟩ := Y.checkcastYes hx hown hlink (by rw [hT]; exact e1) e3.1 (fc_w hW f2) (by rw [hcV, hW.alike.assignable]; exact f3) (g := F0 m pc ls (.ref a :: rest)) rfl rfl (by rw [hb]; exact hdg)
      obtain ⟨t, a1, b1⟩ := kk hf H locs h1 h2 h3 h4 (T.setVm vm') hT X'
      exact ⟨t, st t a1, b1⟩
    · simp only [bd, ckc, if_neg hk] at hf; cases hf
/-- a cast of an array that was made here, to its own class -/
theorem a_castA {rr : Option Nat} {k : Unit → AM β} {idx t : Nat} {C nm : String} (ht : 1000 ≤ t) (hty : aty t = .object C) (hnm : "[" ++ (FieldType.object C).toString = nm) (X : CX l s0 a0 p s m c cc own nL) (hlink : (Cond.classLink own idx nm).before args s = true) (hdg : decode cc pc = .ok (.checkcast idx, 3)) (hf : bd (cka K t rr) k h = some r) (kk : k () h = some r → AW s0 K lam p l e R s m args below meth c Q b h (F0 m (pc + 3) ls (va_rf rr :: rest))) : AW s0 K lam p l e R s m args below meth c Q b h (F0 m pc ls (va_rf rr :: rest)) := by
  obtain ⟨G, hW, hx, hb, hown, hml⟩ := X
  cases rr with
  | none => exact AW.lift (fun _ _ _ _ q => lv_castN hx hb hdg q) (kk hf)
  | some a =>
    by_cases hk : aK h a = t ∧ K 2 ≤ a
    · simp only [bd, cka, if_pos hk] at hf
      intro H locs h1 h2 h3 h4
      obtain ⟨cell, e1, e2, e3, e4, e5⟩ := h1.2.2.2.2 a (by omega)
      obtain ⟨e3n, hra⟩ := e3.2.2 hk.2
      rw [hk.1, hty] at hra
      obtain ⟨kA, comp, r1, r2, r3, r4⟩ := va_RA.moved hW.alike hra
      rw [hnm] at r4
      intro T hT Y
      obtain ⟨vm', X', st⟩ := Y.checkcastYes hx hown hlink (by rw [hT]; exact e1) e3.1 r4 (va_asg _ _) (g := F0 m pc ls (.ref a :: rest)) rfl rfl (by rw [hb]; exact hdg)
      obtain ⟨t, a1, b1⟩ := kk hf H locs h1 h2 h3 h4 (T.setVm vm') hT X'
      exact ⟨t, st t a1, b1⟩
    · simp only [bd, cka, if_neg hk] at hf; cases hf
theorem a_instanceof {rr : Option Nat} {k : Int32 → AM β} {idx : Nat} {nm : String} {ks ns : List Nat} (X : CX l s0 a0 p s m c cc own nL) (hlink : (Cond.classLink own idx nm).before args s = true) (hks : ∀ q ∈ ks, q < 40 ∧ 0 < q ∧ CS s0 q nm) (hns : ∀ q ∈ ns, q < 40 ∧ 0 < q ∧ va_Nc (cname q) nm s0) (hdg : decode cc pc = .ok (.instanceof idx, 3)) (hf : bd (ins ks ns rr) k h = some r) (kk : ∀ x, k x h = some r → AW s0 K lam p l e R s m args below meth c Q b h (F0 m (pc + 3) ls (.int x :: rest))) : AW s0 K lam p l e R s m args below meth c Q b h (F0 m pc ls (va_rf rr :: rest)) := by
  obtain ⟨G, hW, hx, hb, hown, hml⟩ := X
  cases rr with
  | none => exact AW.lift (fun _ _ _ _ q => lv_instN hx hb hdg q) (kk 0 hf)
  | some a =>
    by_cases hk : ks.contains (aK h a) = true
    · simp only [bd, ins, if_pos hk] at hf
      obtain ⟨k1, k2, cV, tV, f1, f2, f3⟩ := hks _ (by simpa using hk)
      intro H locs h1 h2 h3 h4
      obtain ⟨cell, e1, e2, e3, e4⟩ := h1.2.2.1 a k2 (by omega)
      have hcV : cell.cls = cV := Option.some.inj (e2.symm.trans f1)
      intro T hT Y
      obtain ⟨vm', X', st⟩ := Y.instanceofYes hx hown hlink (by rw [hT]; exact e1) e3.1 (fc_w hW f2) (by rw [hcV, hW.alike.assignable]; exact f3) (g := F0 m pc ls (.ref a :: rest)) rfl rfl (by rw [hb]; exact hdg)
      obtain ⟨t, a1, b1⟩ := kk 1 hf H locs h1 h2 h3 h4 (T.setVm vm') hT X'
      exact ⟨t, st t a1, b1⟩
    · by_cases hn : ns.contains (aK h a) = true
      · simp only [bd, ins, if_neg hk, if_pos hn] at hf
        obtain ⟨k1, k2, hnc⟩ := hns _ (by simpa using hn)
        intro H locs h1 h2 h3 h4
        obtain ⟨cell, e1, e2, e3, e4⟩ := h1.2.2.1 a k2 (by omega)
        exact va_instNo hx hb hown hlink (hnc.moved hW.alike) ⟨cell, e1, e3.1, fc_w hW e2⟩ hdg (kk 0 hf H locs h1 h2 h3 h4)
      · simp only [bd, ins, if_neg hk, if_neg hn] at hf; cases hf
/-- a static that nobody writes -/
theorem a_getstatic {v : Value} {C n d ref : String} {idx : Nat} (X : CX l s0 a0 p s m c cc own nL) (hZ : va_Z C n d v (fun q => K 2 ≤ q) s0 s0.heap) (hlink : (Cond.fieldLink own idx ref n d).before args s = true) (hsame : ∀ x, s.fieldFound? C n d = some x → s.fieldFound? ref n d = some x) (hdg : decode cc pc = .ok (.getstatic idx, 3))
    (kk : AW s0 K lam p l e R s m args below meth c Q b h (F0 m (pc + 3) ls (v :: rest))) : AW s0 K lam p l e R s m args below meth c Q b h (F0 m pc ls rest) := by
  obtain ⟨G, hW, hx, hb, hown, hml⟩ := X
  intro H locs h1 h2 h3 h4
  obtain ⟨cf, kf, fi, f, a, cell, g1, g2, g3, g4, g5, g6, g7, g8⟩ := hZ
  obtain ⟨k', f1, f2, f3⟩ := found_w hW g1
  exact W.gets hx hb hown hlink (hsame _ f1) g2 (by rw [f3]; exact g3) (by rw [f2]; exact g4) (by rw [h1.2.1.2 a (Nat.lt_of_not_le g8)]; exact g5) (fun q => by rw [q] at g6; cases g6) g7 rfl hdg (kk H locs h1 h2 h3 h4)
theorem a_ldcS {q : Nat} {tx : String} {idx : Nat} (X : CX l s0 a0 p s m c cc own nL) (hZ : vk_R own idx tx q s) (hdg : decode cc pc = .ok (.ldc idx, 2)) (kk : AW s0 K lam p l e R s m args below meth c Q b h (F0 m (pc + 2) ls (va_rf (some q) :: rest))) : AW s0 K lam p l e R s m args below meth c Q b h (F0 m pc ls rest) := by
  obtain ⟨G, hW, hx, hb, hown, hml⟩ := X
  exact AW.lift (fun _ _ _ _ k => va_ldcS hx hb hown hZ hdg k) kk
end FW5
