/-! THE WALK'S JUDGEMENT over an abstract heap, and its rows -/
section FW2
variable {l : Launch} {s0 : State} {a0 : Array Value} {K : Nat → Nat} {lam : Nat → ClassId}
variable {p : Program} {e : Env} {R : Room} {s : State} {m : MethodId} {args : Array Value} {below : List Frame} {meth : Method} {c : Code} {Q : State → Prop}
def AW (s0 : State) (K : Nat → Nat) (lam : Nat → ClassId) (p : Program) (l : Launch) (e : Env) (R : Room) (s : State) (m : MethodId) (args : Array Value) (below : List Frame) (meth : Method) (c : Code) (Q : State → Prop) (b : AH) (h : AH) (g : JFrame) : Prop :=
  ∀ (H : Heap) (locs : List Loc), Rp s0 K lam h H → (∀ z ∈ locs, K 2 ≤ z.base) → aX b ≤ aX h → aW b ≤ aW h → W p l e R s m args below meth c H locs (aX h - aX b) (aW h - aW b) Q g
/-- the same with q thrown over the frame -/
def AX (s0 : State) (K : Nat → Nat) (lam : Nat → ClassId) (p : Program) (l : Launch) (e : Env) (R : Room) (s : State) (m : MethodId) (args : Array Value) (below : List Frame) (meth : Method) (c : Code) (Q : State → Prop) (b : AH) (h : AH) (g : JFrame) (q : Addr) : Prop :=
  ∀ (H : Heap) (locs : List Loc), Rp s0 K lam h H → (∀ z ∈ locs, K 2 ≤ z.base) → aX b ≤ aX h → aW b ≤ aW h → ∀ T : State, T.heap = H → Stand p l e R s m args below meth c T locs (aX h - aX b) (aW h - aW b) → ∃ t, Steps p.tables e below ((T.setTop g).pushFrame (.throwing q)) t ∧ Q t
variable {b h : AH}
theorem AW.lift {g g2 : JFrame} (k : ∀ (H : Heap) (locs : List Loc) (cells slots : Nat), W p l e R s m args below meth c H locs cells slots Q g2 → W p l e R s m args below meth c H locs cells slots Q g) (kk : AW s0 K lam p l e R s m args below meth c Q b h g2) : AW s0 K lam p l e R s m args below meth c Q b h g :=
  fun H locs h1 h2 h3 h4 => k H locs _ _ (kk H locs h1 h2 h3 h4)
/-- a branch: both sides -/
theorem AW.lift2 {g g2 g3 : JFrame} {cnd : Prop} (k : ∀ (H : Heap) (locs : List Loc) (cells slots : Nat), (cnd → W p l e R s m args below meth c H locs cells slots Q g2) → (¬ cnd → W p l e R s m args below meth c H locs cells slots Q g3) → W p l e R s m args below meth c H locs cells slots Q g) (k1 : cnd → AW s0 K lam p l e R s m args below meth c Q b h g2) (k2 : ¬ cnd → AW s0 K lam p l e R s m args below meth c Q b h g3) : AW s0 K lam p l e R s m args below meth c Q b h g :=
  fun H locs h1 h2 h3 h4 => k H locs _ _ (fun q => k1 q H locs h1 h2 h3 h4) (fun q => k2 q H locs h1 h2 h3 h4)
theorem AW.eq {g g2 : JFrame} (e1 : g = g2) (kk : AW s0 K lam p l e R s m args below meth c Q b h g2) : AW s0 K lam p l e R s m args below meth c Q b h g := e1 ▸ kk
/-- the fixed facts of a walk -/
def CX (l : Launch) (s0 : State) (a0 : Array Value) (p : Program) (s : State) (m : MethodId) (c : Code) (cc : ByteArray) (own : String) (nL : Nat) : Prop :=
  GG l s0 a0 ∧ s0.WarmedH s.vm ∧ p.tables.exec = Jvm.exec ∧ c.code = cc ∧ s.vm.findClass own = some m.cls ∧ c.maxLocals = nL
variable {cc : ByteArray} {own : String} {nL : Nat} {pc : Nat} {ls : Array Slot} {rest : List Value} {ρ β : Type} {r : Except Nat ρ × AH}
/-- how each field of each kind is laid out, at the start -/
def LY (s0 : State) (a0 : Array Value) : Prop := ∀ c φ, hasF c φ = true → c < 200 → if ffin φ = true then (Cond.laysFinal (cname c) (fcl φ) (fnm φ) (fds φ)).before a0 s0 = true else (Cond.lays (cname c) (fcl φ) (fnm φ) (fds φ)).before a0 s0 = true
theorem LY.or (L : LY s0 a0) {c φ : Nat} (h : hasF c φ = true) (hc : c < 200) : (Cond.lays (cname c) (fcl φ) (fnm φ) (fds φ)).before a0 s0 = true ∨ (Cond.laysFinal (cname c) (fcl φ) (fnm φ) (fds φ)).before a0 s0 = true := by
  have := L c φ h hc
  split at this
  · exact Or.inr this
  · exact Or.inl this
theorem bd_some {α : Type} {mm : AM α} {k : α → AM β} {h : AH} {r : Except Nat β × AH} (hf : bd mm k h = some r) : (∃ x h', mm h = some (.ok x, h') ∧ k x h' = some r) ∨ (∃ q h', mm h = some (.error q, h') ∧ r = (.error q, h')) := by
  unfold bd at hf
  cases hm : mm h with
  | none => rw [hm] at hf; cases hf
  | some w =>
    obtain ⟨x, h'⟩ := w
    rw [hm] at hf
    cases x with
    | ok x => exact Or.inl ⟨x, h', rfl, hf⟩
    | error q => cases hf; exact Or.inr ⟨q, h', rfl, rfl⟩
theorem tc_some {α : Type} {mm : AM α} {hd : Nat → AM β} {k : α → AM β} {h : AH} {r : Except Nat β × AH} (hf : tc mm hd k h = some r) : (∃ x h', mm h = some (.ok x, h') ∧ k x h' = some r) ∨ (∃ q h', mm h = some (.error q, h') ∧ hd q h' = some r) := by
  unfold tc at hf
  cases hm : mm h with
  | none => rw [hm] at hf; cases hf
  | some w =>
    obtain ⟨x, h'⟩ := w
    rw [hm] at hf
    cases x with
    | ok x => exact Or.inl ⟨x, h', rfl, hf⟩
    | error q => exact Or.inr ⟨q, h', rfl, hf⟩
theorem gt_some {α : Type} {pj : Value → Option α} {φ : Nat} {rr : Option Nat} {h : AH} {k : α → AM β} {r : Except Nat β × AH} (hf : bd (gt pj φ rr) k h = some r) : ∃ a x, rr = some a ∧ hasF (aK h a) φ = true ∧ pj (aF h φ a) = some x ∧ k x h = some r := by
  cases rr with
  | none => simp [bd, gt] at hf
  | some a =>
    by_cases hF : hasF (aK h a) φ = true
    · cases hp : pj (aF h φ a) with
      | none => simp [bd, gt, hF, hp] at hf
      | some x => simp [bd, gt, hF, hp] at hf; exact ⟨a, x, rfl, hF, hp, hf⟩
    · simp [bd, gt, hF] at hf
theorem flds_pos {c φ : Nat} (h : hasF c φ = true) : 0 < c := by
  cases c with
  | zero => simp [hasF, flds] at h
  | succ n => omega
theorem flds_lt {c φ : Nat} (h : hasF c φ = true) (hφ : φ < 20000) : c < 200 := by
  unfold hasF flds at h
  split at h <;> first | omega | (simp at h; done) | (simp at h; omega)
theorem a_get {α : Type} {pj : Value → Option α} {tv : α → Value} (hpj : ∀ {v : Value} {x : α}, pj v = some x → v = tv x) {φ idx : Nat} {rr : Option Nat} {k : α → AM β} {r : Except Nat β × AH} {ref : String}
    (X : CX l s0 a0 p s m c cc own nL) (L : LY s0 a0) (hlink : (Cond.fieldLink own idx ref (fnm φ) (fds φ)).before args s = true) (hsame : ∀ x, s.fieldFound? (fcl φ) (fnm φ) (fds φ) = some x → s.fieldFound? ref (fnm φ) (fds φ) = some x) (hφ : φ < 20000)
    (hdg : decode cc pc = .ok (.getfield idx, 3)) (hf : bd (gt pj φ rr) k h = some r)
    (kk : ∀ x, k x h = some r → AW s0 K lam p l e R s m args below meth c Q b h (F0 m (pc + 3) ls (tv x :: rest))) : AW s0 K lam p l e R s m args below meth c Q b h (F0 m pc ls (va_rf rr :: rest)) := by
  obtain ⟨a, x, rfl, hF, hp, hk⟩ := gt_some hf
  obtain ⟨G, hW, hx, hb, hown, hml⟩ := X
  intro H locs h1 h2 h3 h4
  have hlt : aK h a < 200 := flds_lt hF hφ
  obtain ⟨cell, e1, e2, e3, e4⟩ := h1.2.2.1 a (flds_pos hF) hlt
  obtain ⟨cC, kC, cf, kf, fi, fd, q1, q2, q3, q4⟩ : ∃ (cC : ClassId) (kC : Class) (cf : ClassId) (kf : Class) (fi : Nat) (fd : Field), s0.vm.findClass (cname (aK h a)) = some cC ∧ s0.vm.classes[cC]? = some kC ∧ s0.fieldFound? (fcl φ) (fnm φ) (fds φ) = some (cf, kf, fi, fd) ∧ fd.isStatic = false := by
    rcases LY.or L hF hlt with q | q
    · obtain ⟨c, k, cf, kf, fi, fd, r1, r2, r3, r4, -⟩ := Cond.lays_spec q
      exact ⟨c, k, cf, kf, fi, fd, r1, r2, r3, r4⟩
    · obtain ⟨c, k, cf, kf, fi, fd, r1, r2, r3, r4, -⟩ := Cond.laysFinal_spec q
      exact ⟨c, k, cf, kf, fi, fd, r1, r2, r3, r4⟩
  obtain ⟨kf', g1, -⟩ := found_w hW q3
  have hs := e4 φ hF _ q3
  rw [hpj hp] at hs
  exact W.getf hx hb hown hlink (hsame _ g1) q4 e1 e3.2.1 hs rfl rfl hdg (kk x hk H locs h1 h2 h3 h4)
end FW2
