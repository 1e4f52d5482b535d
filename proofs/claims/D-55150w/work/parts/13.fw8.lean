/-! the walks' own bundle, and rows as the printed walks use them -/
theorem ite_t {α : Type} {cn : Prop} [Decidable cn] {A B : AM α} {h : AH} {r : Option (Except Nat α × AH)} (hc : cn) (hf : (if cn then A else B) h = r) : A h = r := by rw [if_pos hc] at hf; exact hf
theorem ite_f {α : Type} {cn : Prop} [Decidable cn] {A B : AM α} {h : AH} {r : Option (Except Nat α × AH)} (hc : ¬ cn) (hf : (if cn then A else B) h = r) : B h = r := by rw [if_neg hc] at hf; exact hf
/-- pc lies in no row of the table -/
def unc (hh : List (Nat × Nat × Nat × Nat)) (pc : Nat) : Bool := hh.all (fun q => !(decide (q.1 ≤ pc) && decide (pc < q.2.1)))
section FW8
variable {l : Launch} {s0 : State} {a0 : Array Value} {K : Nat → Nat} {lam : Nat → ClassId}
variable {p : Program} {e : Env} {R : Room} {s : State} {m : MethodId} {args : Array Value} {below : List Frame} {meth : Method} {c : Code} {Q : State → Prop}
variable {b h : AH} {cc : ByteArray} {own : String} {nL : Nat} {pc : Nat} {ls : Array Slot} {rest st : List Value} {ρ β σ : Type} {r : Except Nat β × AH}
theorem unc_of {tb : List ExceptionTableEntry} {hh : List (Nat × Nat × Nat × Nat)} (ht : tb.map (fun h => (h.startPc, h.endPc, h.handlerPc, h.catchType)) = hh) (hu : unc hh pc = true) : ∀ x ∈ tb, covers x pc = false := by
  intro x hx
  have h1 : (x.startPc, x.endPc, x.handlerPc, x.catchType) ∈ hh := by rw [← ht]; exact List.mem_map.mpr ⟨x, hx, rfl⟩
  have h2 := List.all_eq_true.mp hu _ h1
  simp only [Bool.not_eq_true', Bool.and_eq_false_iff, decide_eq_false_iff_not] at h2
  simp only [covers, Bool.and_eq_false_iff, decide_eq_false_iff_not]
  exact h2
/-- what a walk stands on -/
def WX (l : Launch) (s0 : State) (a0 : Array Value) (K : Nat → Nat) (p : Program) (s : State) (m : MethodId) (c : Code) (cc : ByteArray) (own : String) (nL : Nat) (b : AH) (R : Room) (F Lo : Nat) : Prop :=
  CX l s0 a0 p s m c cc own nL ∧ LY s0 a0 ∧ CA s0 ∧ R.cells = K 0 - aX b ∧ R.slots = K 1 - aW b ∧ F ≤ R.frames ∧ Lo ≤ R.locals
theorem a_callb {y : MethodName} {cw : Cond} {bytes : ByteArray} {maxL : Nat} {ret : Option FieldType} {fr lo F Lo : Nat} {avs rs : List TV} {tv : ρ → Option Value} {f : AM ρ} {k : ρ → AM β} (X : WX l s0 a0 K p s m c cc own nL b R F Lo)
    (hM : AMet l s0 K lam y cw fr lo avs tv f) (hcw : cw = Cond.code y bytes maxL ret ∨ (∃ hh, cw = Cond.codeWith y bytes maxL ret hh) ∨ cw = Cond.codeSync y bytes maxL ret) (hcwt : cw ∈ lw_all) (hini : Cond.initialized y.cls ∈ lw_all) (hfr : fr + 1 ≤ F) (hlo : 8 + (maxL + 11) + lo ≤ Lo)
    {ig : Instr} {len : Nat} (hdg : decode cc pc = .ok (ig, len)) (hsz : ls.size = nL) (hW8 : (rs.map tcat).sum ≤ 8) (hf : bd f k h = some r)
    (hinv : ∀ (H : Heap) (locs : List Loc) (cells slots : Nat) (T : State), Rp s0 K lam h H → T.heap = H → Stand p l e R s m args below meth c T locs cells slots → CT p l e R s m args below meth c y (avs.map tvv).toArray (rs.map tvv) (F0 m pc ls st) T locs cells slots)
    (kx : ∀ q h', r = (.error q, h') → isX (aK h' q) = true → AX s0 K lam p l e R s m args below meth c Q b h' (F0 m pc ls (rs.map tvv)) q)
    (kk : ∀ v h', k v h' = some r → AW s0 K lam p l e R s m args below meth c Q b h' (F0 m (pc + len) ls ((tv v).toList ++ rs.map tvv))) : AW s0 K lam p l e R s m args below meth c Q b h (F0 m pc ls st) := by
  obtain ⟨X, -, -, hRc, hRs, hRf, hRl⟩ := X
  have hs8 : ((rs.map tvv).map fun v => v.category).sum ≤ 8 := by
    rw [List.map_map]
    have : (fun v => Value.category v) ∘ tvv = tcat := funext tcat_ok
    rw [this]
    exact hW8
  rcases bd_some hf with ⟨v, h', hc, hf⟩ | ⟨q, h', hc, he⟩
  · exact a_call X hRc hRs hM hcw hcwt hini (by omega) (by omega) hdg hsz hs8 hc hinv (fun v' ev => by cases ev; exact kk _ _ hf) (fun q ev => by cases ev)
  · exact a_call X hRc hRs hM hcw hcwt hini (by omega) (by omega) hdg hsz hs8 hc hinv (fun v' ev => by cases ev) (fun q ev hX => by cases ev; exact kx _ _ he hX)
/-- a call under a handler -/
theorem a_callt {y : MethodName} {cw : Cond} {bytes : ByteArray} {maxL : Nat} {ret : Option FieldType} {fr lo F Lo : Nat} {avs rs : List TV} {tv : ρ → Option Value} {f : AM ρ} {hd : Nat → AM β} {k : ρ → AM β} (X : WX l s0 a0 K p s m c cc own nL b R F Lo)
    (hM : AMet l s0 K lam y cw fr lo avs tv f) (hcw : cw = Cond.code y bytes maxL ret ∨ (∃ hh, cw = Cond.codeWith y bytes maxL ret hh) ∨ cw = Cond.codeSync y bytes maxL ret) (hcwt : cw ∈ lw_all) (hini : Cond.initialized y.cls ∈ lw_all) (hfr : fr + 1 ≤ F) (hlo : 8 + (maxL + 11) + lo ≤ Lo)
    {ig : Instr} {len : Nat} (hdg : decode cc pc = .ok (ig, len)) (hsz : ls.size = nL) (hW8 : (rs.map tcat).sum ≤ 8) (hf : tc f hd k h = some r)
    (hinv : ∀ (H : Heap) (locs : List Loc) (cells slots : Nat) (T : State), Rp s0 K lam h H → T.heap = H → Stand p l e R s m args below meth c T locs cells slots → CT p l e R s m args below meth c y (avs.map tvv).toArray (rs.map tvv) (F0 m pc ls st) T locs cells slots)
    (kx : ∀ q h', hd q h' = some r → isX (aK h' q) = true → AX s0 K lam p l e R s m args below meth c Q b h' (F0 m pc ls (rs.map tvv)) q)
    (kk : ∀ v h', k v h' = some r → AW s0 K lam p l e R s m args below meth c Q b h' (F0 m (pc + len) ls ((tv v).toList ++ rs.map tvv))) : AW s0 K lam p l e R s m args below meth c Q b h (F0 m pc ls st) := by
  obtain ⟨X, -, -, hRc, hRs, hRf, hRl⟩ := X
  have hs8 : ((rs.map tvv).map fun v => v.category).sum ≤ 8 := by
    rw [List.map_map]
    have : (fun v => Value.category v) ∘ tvv = tcat := funext tcat_ok
    rw [this]
    exact hW8
  rcases tc_some hf with ⟨v, h', hc, hf⟩ | ⟨q, h', hc, hf⟩
  · exact a_call X hRc hRs hM hcw hcwt hini (by omega) (by omega) hdg hsz hs8 hc hinv (fun v' ev => by cases ev; exact kk _ _ hf) (fun q ev => by cases ev)
  · exact a_call X hRc hRs hM hcw hcwt hini (by omega) (by omega) hdg hsz hs8 hc hinv (fun v' ev => by cases ev) (fun q ev hX => by cases ev; exact kx _ _ hf hX)
theorem a_objInit {F Lo idx a : Nat} {rs : List TV} (X : WX l s0 a0 K p s m c cc own nL b R F Lo) (hlink : Cond.methodLink own idx Lib.objectInit ∈ lw_all) (hinst : Cond.instanceMethod Lib.objectInit ∈ lw_all) (hcode : Cond.code Lib.objectInit ⟨#[0xb1]⟩ 1 none ∈ lw_all) (hF : 1 ≤ F) (hLo : 20 ≤ Lo) (hsz : ls.size = nL) (hW8 : (rs.map tcat).sum ≤ 8) (hdg : decode cc pc = .ok (.invokespecial idx, 3))
    (kk : AW s0 K lam p l e R s m args below meth c Q b h (F0 m (pc + 3) ls (rs.map tvv))) : AW s0 K lam p l e R s m args below meth c Q b h (F0 m pc ls (.ref a :: rs.map tvv)) := by
  obtain ⟨X, -, -, hRc, hRs, hRf, hRl⟩ := X
  have hs8 : ((rs.map tvv).map fun v => v.category).sum ≤ 8 := by
    rw [List.map_map]
    have : (fun v => Value.category v) ∘ tvv = tcat := funext tcat_ok
    rw [this]
    exact hW8
  exact AW.lift (fun _ _ _ _ k => W.objInit X.2.2.1 X.2.2.2.1 X.2.2.2.2.1 (gw X.1 X.2.1 hlink) (gw X.1 X.2.1 hinst) (gw X.1 X.2.1 hcode) rfl (by show ls.size = _; rw [hsz, X.2.2.2.2.2]) rfl hdg (by omega) (by show 2 * 0 + _ + 12 ≤ _; omega) k) kk
end FW8
