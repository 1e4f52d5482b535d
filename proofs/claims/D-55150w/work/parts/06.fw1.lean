/-! THE MACHINE'S HEAP AS AN ABSTRACT HEAP; words out of the law's start -/
section FW1
variable {s0 s : State} {a0 args : Array Value} {K : Nat → Nat} {h : AH} {H : Heap}
def fdf (s0 : State) (φ : Nat) : Option (ClassId × Class × Nat × Field) := s0.fieldFound? (fcl φ) (fnm φ) (fds φ)
def RpO (s0 : State) (K : Nat → Nat) (h : AH) (H : Heap) : Prop := ∀ a, 0 < aK h a → aK h a < 200 → ∃ cell : Cell, H[a]? = some cell ∧ s0.vm.findClass (cname (aK h a)) = some cell.cls ∧ (cell.vm.isStatics = false ∧ cell.vm ≠ .unknown ∧ (K 2 ≤ a → cell.vm = .none ∧ cell.monitor = {})) ∧ ∀ φ, hasF (aK h a) φ = true → ∀ x, fdf s0 φ = some x → cell.slots[x.2.2.2.slot]? = some (aF h φ a)
/-- the class of a lambda's objects, by its site's number -/
def RpL (lam : Nat → ClassId) (h : AH) (H : Heap) : Prop := ∀ a, 200 ≤ aK h a → aK h a < 1000 → ∃ cell : Cell, H[a]? = some cell ∧ cell.cls = lam (aK h a) ∧ cell.vm = .none ∧ ∀ i, i < (flds (aK h a)).length → cell.slots[i]? = some (aF h (100 * aK h a + i) a)
def RpA (s0 : State) (K : Nat → Nat) (h : AH) (H : Heap) : Prop := ∀ a, 1000 ≤ aK h a → ∃ cell : Cell, H[a]? = some cell ∧ s0.isArrayOf cell (aty (aK h a)) ∧ (cell.vm.isStatics = false ∧ cell.vm ≠ .unknown ∧ (K 2 ≤ a → cell.vm = .none ∧ va_RA s0 cell.cls (aty (aK h a)))) ∧ cell.slots.size = aN h a ∧ ∀ j, j < aN h a → cell.slots[j]? = some (aE h a j) ∧ fits (aty (aK h a)) (aE h a j) = true
def Rp (s0 : State) (K : Nat → Nat) (lam : Nat → ClassId) (h : AH) (H : Heap) : Prop := H.size = aX h ∧ ((K 2 ≤ aX h ∧ aX h ≤ K 0 ∧ aW h ≤ K 1) ∧ ∀ q : Nat, q < K 2 → H[q]? = s0.heap[q]?) ∧ RpO s0 K h H ∧ RpL lam h H ∧ RpA s0 K h H
variable {lam : Nat → ClassId}
theorem Rp.lt (R : Rp s0 K lam h H) {a : Nat} (hk : 0 < aK h a) : a < aX h := by
  obtain ⟨hz, -, hO, hL, hA⟩ := R
  rw [← hz]
  rcases Nat.lt_or_ge (aK h a) 200 with q | q
  · obtain ⟨c, h1, -⟩ := hO a hk q; exact (Array.getElem?_eq_some_iff.mp h1).1
  · rcases Nat.lt_or_ge (aK h a) 1000 with r | r
    · obtain ⟨c, h1, -⟩ := hL a q r; exact (Array.getElem?_eq_some_iff.mp h1).1
    · obtain ⟨c, h1, -⟩ := hA a r; exact (Array.getElem?_eq_some_iff.mp h1).1
/-- one cell's slots have moved, and the picture's with it -/
theorem Rp.upd {h' : AH} {H' : Heap} (R : Rp s0 K lam h H) (hz : H'.size = H.size) {a : Nat} (ha : K 2 ≤ a) (oq : ∀ q, q ≠ a → H'[q]? = H[q]?) (ex : aX h' = aX h) (ew : aW h' = aW h) (ek : aK h' = aK h)
    (on : ∀ b, b ≠ a → aN h' b = aN h b ∧ (∀ φ, aF h' φ b = aF h φ b) ∧ ∀ j, aE h' b j = aE h b j)
    (cO : 0 < aK h a → aK h a < 200 → ∃ cell : Cell, H'[a]? = some cell ∧ s0.vm.findClass (cname (aK h a)) = some cell.cls ∧ (cell.vm.isStatics = false ∧ cell.vm ≠ .unknown ∧ (K 2 ≤ a → cell.vm = .none ∧ cell.monitor = {})) ∧ ∀ φ, hasF (aK h a) φ = true → ∀ x, fdf s0 φ = some x → cell.slots[x.2.2.2.slot]? = some (aF h' φ a))
    (cL : ¬ (200 ≤ aK h a ∧ aK h a < 1000))
    (cA : 1000 ≤ aK h a → ∃ cell : Cell, H'[a]? = some cell ∧ s0.isArrayOf cell (aty (aK h a)) ∧ (cell.vm.isStatics = false ∧ cell.vm ≠ .unknown ∧ (K 2 ≤ a → cell.vm = .none ∧ va_RA s0 cell.cls (aty (aK h a)))) ∧ cell.slots.size = aN h' a ∧ ∀ j, j < aN h' a → cell.slots[j]? = some (aE h' a j) ∧ fits (aty (aK h a)) (aE h' a j) = true) :
    Rp s0 K lam h' H' := by
  obtain ⟨z, ⟨zk, old⟩, hO, hL, hA⟩ := R
  refine ⟨by rw [hz, ex]; exact z, ⟨(by rw [ex, ew]; exact zk), fun q hq => ?_⟩, fun b h1 h2 => ?_, fun b h1 h2 => ?_, fun b h1 => ?_⟩
  · rw [oq q (fun e => by omega)]; exact old q hq
  · rw [ek] at h1 h2 ⊢
    by_cases hb : b = a
    · subst hb; exact cO h1 h2
    · obtain ⟨cell, e1, e2, e3, e4⟩ := hO b h1 h2
      exact ⟨cell, by rw [oq b hb]; exact e1, e2, e3, fun φ hφ x hx => by rw [(on b hb).2.1 φ]; exact e4 φ hφ x hx⟩
  · rw [ek] at h1 h2 ⊢
    by_cases hb : b = a
    · subst hb; exact absurd ⟨h1, h2⟩ cL
    · obtain ⟨cell, e1, e2, e3, e4⟩ := hL b h1 h2
      exact ⟨cell, by rw [oq b hb]; exact e1, e2, e3, fun i hi => by rw [(on b hb).2.1]; exact e4 i hi⟩
  · rw [ek] at h1 ⊢
    by_cases hb : b = a
    · subst hb; exact cA h1
    · obtain ⟨cell, e1, e2, e3, e4, e5⟩ := hA b h1
      exact ⟨cell, by rw [oq b hb]; exact e1, e2, e3, by rw [(on b hb).1]; exact e4, fun j hj => by rw [(on b hb).2.2 j]; exact e5 j (by rw [← (on b hb).1]; exact hj)⟩
/-- a cell has been made -/
theorem Rp.push {h' : AH} {H' : Heap} (R : Rp s0 K lam h H) (hz : H'.size = H.size + 1) (oq : ∀ q, q < H.size → H'[q]? = H[q]?) (ex : aX h' = aX h + 1) (hbd : aX h + 1 ≤ K 0 ∧ aW h' ≤ K 1)
    (on : ∀ b, b ≠ aX h → aK h' b = aK h b ∧ aN h' b = aN h b ∧ (∀ φ, aF h' φ b = aF h φ b) ∧ ∀ j, aE h' b j = aE h b j)
    (cO : 0 < aK h' (aX h) → aK h' (aX h) < 200 → ∃ cell : Cell, H'[aX h]? = some cell ∧ s0.vm.findClass (cname (aK h' (aX h))) = some cell.cls ∧ (cell.vm = .none ∧ cell.monitor = {}) ∧ ∀ φ, hasF (aK h' (aX h)) φ = true → ∀ x, fdf s0 φ = some x → cell.slots[x.2.2.2.slot]? = some (aF h' φ (aX h)))
    (cL : 200 ≤ aK h' (aX h) → aK h' (aX h) < 1000 → ∃ cell : Cell, H'[aX h]? = some cell ∧ cell.cls = lam (aK h' (aX h)) ∧ cell.vm = .none ∧ ∀ i, i < (flds (aK h' (aX h))).length → cell.slots[i]? = some (aF h' (100 * aK h' (aX h) + i) (aX h)))
    (cA : 1000 ≤ aK h' (aX h) → ∃ cell : Cell, H'[aX h]? = some cell ∧ s0.isArrayOf cell (aty (aK h' (aX h))) ∧ (cell.vm = .none ∧ va_RA s0 cell.cls (aty (aK h' (aX h)))) ∧ cell.slots.size = aN h' (aX h) ∧ ∀ j, j < aN h' (aX h) → cell.slots[j]? = some (aE h' (aX h) j) ∧ fits (aty (aK h' (aX h))) (aE h' (aX h) j) = true) :
    Rp s0 K lam h' H' := by
  have R0 := R
  obtain ⟨z, ⟨zk, old⟩, hO, hL, hA⟩ := R
  have lt : ∀ {b : Nat} {c : Cell}, H[b]? = some c → b < H.size := fun e => (Array.getElem?_eq_some_iff.mp e).1
  refine ⟨by rw [hz, ex, z], ⟨⟨(by rw [ex]; omega), (by rw [ex]; exact hbd.1), hbd.2⟩, fun q hq => ?_⟩, fun b h1 h2 => ?_, fun b h1 h2 => ?_, fun b h1 => ?_⟩
  · rw [oq q (by omega)]; exact old q hq
  · by_cases hb : b = aX h
    · subst hb
      obtain ⟨cell, e1, e2, e3, e4⟩ := cO h1 h2
      exact ⟨cell, e1, e2, ⟨by rw [e3.1]; rfl, (by rw [e3.1]; exact fun q => nomatch q), fun _ => e3⟩, e4⟩
    · rw [(on b hb).1] at h1 h2 ⊢
      obtain ⟨cell, e1, e2, e3, e4⟩ := hO b h1 h2
      exact ⟨cell, by rw [oq b (lt e1)]; exact e1, e2, e3, fun φ hφ x hx => by rw [(on b hb).2.2.1 φ]; exact e4 φ hφ x hx⟩
  · by_cases hb : b = aX h
    · subst hb; exact cL h1 h2
    · rw [(on b hb).1] at h1 h2 ⊢
      obtain ⟨cell, e1, e2, e3, e4⟩ := hL b h1 h2
      exact ⟨cell, by rw [oq b (lt e1)]; exact e1, e2, e3, fun i hi => by rw [(on b hb).2.2.1]; exact e4 i hi⟩
  · by_cases hb : b = aX h
    · subst hb
      obtain ⟨cell, e1, e2, e3, e4, e5⟩ := cA h1
      exact ⟨cell, e1, e2, ⟨by rw [e3.1]; rfl, (by rw [e3.1]; exact fun q => nomatch q), fun _ => e3⟩, e4, e5⟩
    · rw [(on b hb).1] at h1 ⊢
      obtain ⟨cell, e1, e2, e3, e4, e5⟩ := hA b h1
      exact ⟨cell, by rw [oq b (lt e1)]; exact e1, e2, e3, by rw [(on b hb).2.1]; exact e4, fun j hj => by rw [(on b hb).2.2.2 j]; exact e5 j (by rw [← (on b hb).2.1]; exact hj)⟩
/-! words -/
/-- all that is known of the law's start s0 (its argument words a0) -/
def GG (l : Launch) (s0 : State) (a0 : Array Value) : Prop := l.stackTraces = false ∧ (∀ w ∈ lw_tbl, w.before a0 s0 = true)
theorem gw {l : Launch} (G : GG l s0 a0) (hW : s0.WarmedH s.vm) {w : Cond} (hw : w ∈ lw_all) : w.before args s = true := word_at hW (good_of_word (List.mem_filter.mp hw).2) (G.2 w (lw_all_tbl hw))
theorem ride_face {w : Cond} (hW : s0.WarmedH s.vm) (hc : (w.onTables && w.keepsFace) = true) (h : w.before a0 s0 = true) : w.before args s = true := by
  simp only [Bool.and_eq_true] at hc
  have h1 : w.before a0 (s0.setVm s.vm) = true := Cond.before_shiftedFace (State.Shifted.of_warmed hW) w hc.2 h
  exact va_tabs hc.1 (rfl : (s0.setVm s.vm).vm = s.vm) h1
theorem gf {l : Launch} (G : GG l s0 a0) (hW : s0.WarmedH s.vm) {w : Cond} (hw : w ∈ lw_tbl) (hc : (w.onTables && w.keepsFace) = true) : w.before args s = true := ride_face hW hc (G.2 w hw)
theorem gnF {l : Launch} (G : GG l s0 a0) (hW : s0.WarmedH s.vm) {a : String} {i : Nat} {b n d ho : String} (hw : Cond.fieldLinkNest a i b n d ho ∈ lw_tbl) : (Cond.fieldLinkNest a i b n d ho).before args s = true := va_Nw.use rfl (va_Nw.warmF hW (va_Nw.of rfl (G.2 _ hw)))
theorem gnM {l : Launch} (G : GG l s0 a0) (hW : s0.WarmedH s.vm) {a : String} {i : Nat} {x : MethodName} {ho : String} (hw : Cond.methodLinkNest a i x ho ∈ lw_tbl) : (Cond.methodLinkNest a i x ho).before args s = true := va_Nw.use rfl (va_Nw.warmM hW (va_Nw.of rfl (G.2 _ hw)))
theorem found_w (hW : s0.WarmedH s.vm) {C n d : String} {x : ClassId × Class × Nat × Field} (h : s0.fieldFound? C n d = some x) : ∃ k' : Class, s.fieldFound? C n d = some (x.1, k', x.2.2.1, x.2.2.2) ∧ k'.statics = x.2.1.statics ∧ k'.init = x.2.1.init := by
  obtain ⟨cf, k, i, f⟩ := x
  obtain ⟨k', h1, h2⟩ := State.fieldFound?_setVm hW.alike h
  exact ⟨k', by simpa only [State.fieldFound?, State.vm_setVm] using h1, by rw [h2], by rw [h2]⟩
theorem fc_w (hW : s0.WarmedH s.vm) {C : String} {c : ClassId} (h : s0.vm.findClass C = some c) : s.vm.findClass C = some c := by
  rw [hW.alike.findClass]; exact h
theorem fc_r (hW : s0.WarmedH s.vm) {C : String} {c : ClassId} (h : s.vm.findClass C = some c) : s0.vm.findClass C = some c := by
  rw [← hW.alike.findClass]; exact h
end FW1
