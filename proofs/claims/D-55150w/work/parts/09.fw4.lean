/-! rows that write and make; answers; contracts -/
theorem tab_nm : ∀ c, c < 40 → ∀ φ ∈ flds c, ∀ ψ ∈ flds c, φ ≠ ψ → fnm φ ≠ fnm ψ := by decide +kernel
theorem tab_ty : ∀ c, c < 40 → ∀ φ ∈ flds c, parseFieldDescriptor (fds φ) = some (fty φ) := by decide +kernel
theorem tab_df : ∀ c, c < 40 → ∀ φ ∈ flds c, dflt φ = defaultValue (fty φ) := by decide +kernel
theorem hasF_40 {c φ : Nat} (h : hasF c φ = true) (hc : c < 200) : c < 40 ∧ φ ∈ flds c := by
  refine ⟨?_, by simpa [hasF] using h⟩
  unfold hasF flds at h
  split at h <;> first | omega | (simp at h; done)
theorem nm_ap {c φ ψ : Nat} (h : hasF c φ = true) (h' : hasF c ψ = true) (hc : c < 200) (n : φ ≠ ψ) : fnm φ ≠ fnm ψ := tab_nm c (hasF_40 h hc).1 φ (hasF_40 h hc).2 ψ (hasF_40 h' hc).2 n
theorem ty_ok {c φ : Nat} (h : hasF c φ = true) (hc : c < 200) : parseFieldDescriptor (fds φ) = some (fty φ) := tab_ty c (hasF_40 h hc).1 φ (hasF_40 h hc).2
theorem df_ok {c φ : Nat} (h : hasF c φ = true) (hc : c < 200) : dflt φ = defaultValue (fty φ) := tab_df c (hasF_40 h hc).1 φ (hasF_40 h hc).2
section FW4
variable {l : Launch} {s0 : State} {a0 : Array Value} {K : Nat → Nat} {lam : Nat → ClassId}
variable {p : Program} {e : Env} {R : Room} {s : State} {m : MethodId} {args : Array Value} {below : List Frame} {meth : Method} {c : Code} {Q : State → Prop}
variable {b h : AH} {cc : ByteArray} {own : String} {nL : Nat} {pc : Nat} {ls : Array Slot} {rest : List Value} {ρ β : Type} {r : Except Nat β × AH}
/-- the kinds whose objects are made: their classes are plain ones -/
def CA (s0 : State) : Prop := ∀ c, c < 40 → 0 < c → (flds c ≠ [] ∨ isX c = true) → ∃ cC, ClassAt s0 (cname c) cC
theorem pu_some {φ : Nat} {rr : Option Nat} {v : Value} {k : Unit → AM β} (hf : bd (pu K φ rr v) k h = some r) : ∃ a, rr = some a ∧ hasF (aK h a) φ = true ∧ K 2 ≤ a ∧ k () (sF φ a v h) = some r := by
  cases rr with
  | none => simp [bd, pu] at hf
  | some a =>
    by_cases hF : hasF (aK h a) φ = true ∧ K 2 ≤ a
    · simp [bd, pu, hF] at hf; exact ⟨a, rfl, hF.1, hF.2, hf⟩
    · simp [bd, pu, hF] at hf
theorem aF_sF {φ ψ a a' : Nat} {v : Value} : aF (sF φ a v h) ψ a' = if ψ = φ ∧ a' = a then v else aF h ψ a' := rfl
/-- the picture behind a field's store -/
theorem Rp.field {H H' : Heap} (L : LY s0 a0) (h1 : Rp s0 K lam h H) {a φ : Nat} {v : Value} {cell : Cell} (ha : K 2 ≤ a) (hF : hasF (aK h a) φ = true) (hlt : aK h a < 200) (e1 : H[a]? = some cell) (e2 : s0.vm.findClass (cname (aK h a)) = some cell.cls) (e3 : cell.vm = .none) (e3m : cell.monitor = {})
    (e4 : ∀ φ, hasF (aK h a) φ = true → ∀ x, fdf s0 φ = some x → cell.slots[x.2.2.2.slot]? = some (aF h φ a)) {x : ClassId × Class × Nat × Field} (hx : fdf s0 φ = some x)
    (g1 : H'[a]? = some (cell.setSlot x.2.2.2.slot v)) (g2 : H'.size = H.size) (g3 : ∀ q, q ≠ a → H'[q]? = H[q]?) : Rp s0 K lam (sF φ a v h) H' := by
  refine h1.upd g2 ha g3 rfl rfl rfl (fun q hq => ⟨rfl, fun ψ => by rw [aF_sF, if_neg (fun z => hq z.2)], fun _ => rfl⟩) (fun _ _ => ⟨_, g1, e2, ⟨(by show cell.vm.isStatics = false; rw [e3]; rfl), (by show cell.vm ≠ _; rw [e3]; exact fun q => nomatch q), fun _ => ⟨e3, e3m⟩⟩, fun ψ hψ y hy => ?_⟩) (fun z => by omega) (fun z => by omega)
  rw [aF_sF]
  have hsz : x.2.2.2.slot < cell.slots.size := k2_hasslot (e4 φ hF x hx)
  by_cases hφ : ψ = φ
  · subst hφ
    cases hx.symm.trans hy
    rw [if_pos ⟨rfl, rfl⟩]
    simp [Cell.setSlot, hsz]
  · rw [if_neg (fun z => hφ z.1)]
    have hne : y.2.2.2.slot ≠ x.2.2.2.slot := by
      obtain ⟨x1, x2, x3, x4⟩ := x
      obtain ⟨y1, y2, y3, y4⟩ := y
      refine u_apart (LY.or L hψ hlt) (LY.or L hF hlt) hy hx ?_
      rw [(State.fieldFound?_type hy (ty_ok hψ hlt)).1, (State.fieldFound?_type hx (ty_ok hF hlt)).1]
      exact nm_ap hψ hF hlt hφ
    rw [slot_ne cell v (Ne.symm hne)]
    exact e4 ψ hψ y hy
theorem hasC (C : CA s0) {φ k : Nat} (h : hasF k φ = true) (hc : k < 200) : ∃ cC, ClassAt s0 (cname k) cC := by
  refine C k (hasF_40 h hc).1 (flds_pos h) (Or.inl ?_)
  intro q
  have := (hasF_40 h hc).2
  rw [q] at this
  cases this
theorem a_put {φ idx : Nat} {rr : Option Nat} {v : Value} {k : Unit → AM β} {ref : String}
    (X : CX l s0 a0 p s m c cc own nL) (L : LY s0 a0) (C : CA s0) (hlink : (Cond.fieldLink own idx ref (fnm φ) (fds φ)).before args s = true) (hsame : ∀ x, s.fieldFound? (fcl φ) (fnm φ) (fds φ) = some x → s.fieldFound? ref (fnm φ) (fds φ) = some x) (hφ : φ < 20000) (hfin : ffin φ = false)
    (hfit : fits (fty φ) v = true) (hdg : decode cc pc = .ok (.putfield idx, 3)) (hf : bd (pu K φ rr v) k h = some r)
    (kk : ∀ h', k () h' = some r → AW s0 K lam p l e R s m args below meth c Q b h' (F0 m (pc + 3) ls rest)) : AW s0 K lam p l e R s m args below meth c Q b h (F0 m pc ls (v :: va_rf rr :: rest)) := by
  obtain ⟨a, rfl, hF, ha, hk⟩ := pu_some hf
  obtain ⟨G, hW, hx, hb, hown, hml⟩ := X
  intro H locs h1 h2 h3 h4
  have hlt : aK h a < 200 := flds_lt hF hφ
  obtain ⟨cell, e1, e2, e3, e4⟩ := h1.2.2.1 a (flds_pos hF) hlt
  obtain ⟨e3n, e3m⟩ := e3.2.2 ha
  have hl0 : (Cond.lays (cname (aK h a)) (fcl φ) (fnm φ) (fds φ)).before a0 s0 = true := by
    have := L _ φ hF hlt
    rwa [if_neg (by rw [hfin]; decide)] at this
  have hl : (Cond.lays (cname (aK h a)) (fcl φ) (fnm φ) (fds φ)).before args s = true := word_at hW (Or.inl rfl) hl0
  obtain ⟨cC, hC⟩ := hasC C hF hlt
  obtain ⟨hfc, kC, hkC, hkind⟩ := classAt_moved hW.alike hC
  have hcc : cell.cls = cC := Option.some.inj (e2.symm.trans hC.1)
  obtain ⟨c9, k9, cf, kf, fi, fd, r1, r2, r3, r4, -⟩ := Cond.lays_spec hl0
  obtain ⟨kf', g1, -⟩ := found_w hW r3
  have hS := u_store (s := s) hfc hkC hkind hl g1 (ty_ok hF hlt) (narrow_of_fits hfit) hfit
  refine W.putK hx hb (f := fd) ⟨hown, hlink, ⟨_, _, _, hsame _ g1⟩, r4⟩ (by rw [hcc]; exact hS) e1 e3n (k2_hasslot (e4 φ hF _ r3)) rfl rfl hdg fun H' q1 q2 q3 => ?_
  refine kk _ hk H' _ (h1.field L ha hF hlt e1 e2 e3n e3m e4 r3 q1 q2 q3) (fun z hz => ?_) h3 h4
  rcases List.mem_append.mp hz with z1 | z1
  · exact h2 z z1
  · rw [List.mem_singleton.mp z1]; exact ha
theorem a_putN {φ idx : Nat} {rr : Option Nat} {v : Value} {k : Unit → AM β} {ref ho : String}
    (X : CX l s0 a0 p s m c cc own nL) (L : LY s0 a0) (C : CA s0) (hlink : (Cond.fieldLinkNest own idx ref (fnm φ) (fds φ) ho).before args s = true) (hsame : ∀ x, s.fieldFound? (fcl φ) (fnm φ) (fds φ) = some x → s.fieldFound? ref (fnm φ) (fds φ) = some x) (hφ : φ < 20000) (hfin : ffin φ = false)
    (hfit : fits (fty φ) v = true) (hdg : decode cc pc = .ok (.putfield idx, 3)) (hf : bd (pu K φ rr v) k h = some r)
    (kk : ∀ h', k () h' = some r → AW s0 K lam p l e R s m args below meth c Q b h' (F0 m (pc + 3) ls rest)) : AW s0 K lam p l e R s m args below meth c Q b h (F0 m pc ls (v :: va_rf rr :: rest)) := by
  obtain ⟨a, rfl, hF, ha, hk⟩ := pu_some hf
  obtain ⟨G, hW, hx, hb, hown, hml⟩ := X
  intro H locs h1 h2 h3 h4
  have hlt : aK h a < 200 := flds_lt hF hφ
  obtain ⟨cell, e1, e2, e3, e4⟩ := h1.2.2.1 a (flds_pos hF) hlt
  obtain ⟨e3n, e3m⟩ := e3.2.2 ha
  have hl0 : (Cond.lays (cname (aK h a)) (fcl φ) (fnm φ) (fds φ)).before a0 s0 = true := by
    have := L _ φ hF hlt
    rwa [if_neg (by rw [hfin]; decide)] at this
  have hl : (Cond.lays (cname (aK h a)) (fcl φ) (fnm φ) (fds φ)).before args s = true := word_at hW (Or.inl rfl) hl0
  obtain ⟨cC, hC⟩ := hasC C hF hlt
  obtain ⟨hfc, kC, hkC, hkind⟩ := classAt_moved hW.alike hC
  have hcc : cell.cls = cC := Option.some.inj (e2.symm.trans hC.1)
  obtain ⟨c9, k9, cf, kf, fi, fd, r1, r2, r3, r4, -⟩ := Cond.lays_spec hl0
  obtain ⟨kf', g1, -⟩ := found_w hW r3
  have hS := u_store (s := s) hfc hkC hkind hl g1 (ty_ok hF hlt) (narrow_of_fits hfit) hfit
  refine va_WputK hx hb (f := fd) hown hlink (hsame _ g1) r4 (by rw [hcc]; exact hS) e1 e3n (k2_hasslot (e4 φ hF _ r3)) rfl rfl hdg fun H' q1 q2 q3 => ?_
  refine kk _ hk H' _ (h1.field L ha hF hlt e1 e2 e3n e3m e4 r3 q1 q2 q3) (fun z hz => ?_) h3 h4
  rcases List.mem_append.mp hz with z1 | z1
  · exact h2 z z1
  · rw [List.mem_singleton.mp z1]; exact ha
/-- a final field, in its own class's constructor -/
theorem a_putF {φ idx : Nat} {rr : Option Nat} {v : Value} {k : Unit → AM β} {ref : String}
    (X : CX l s0 a0 p s m c cc own nL) (L : LY s0 a0) (C : CA s0) (hlink : (Cond.fieldLink own idx ref (fnm φ) (fds φ)).before args s = true) (hsame : ∀ x, s.fieldFound? (fcl φ) (fnm φ) (fds φ) = some x → s.fieldFound? ref (fnm φ) (fds φ) = some x) (hφ : φ < 20000) (hfin : ffin φ = true) (hin : meth.name = "<init>") (hdecl : fcl φ = own)
    (hfit : fits (fty φ) v = true) (hdg : decode cc pc = .ok (.putfield idx, 3)) (hf : bd (pu K φ rr v) k h = some r)
    (kk : ∀ h', k () h' = some r → AW s0 K lam p l e R s m args below meth c Q b h' (F0 m (pc + 3) ls rest)) : AW s0 K lam p l e R s m args below meth c Q b h (F0 m pc ls (v :: va_rf rr :: rest)) := by
  obtain ⟨a, rfl, hF, ha, hk⟩ := pu_some hf
  obtain ⟨G, hW, hx, hb, hown, hml⟩ := X
  intro H locs h1 h2 h3 h4
  have hlt : aK h a < 200 := flds_lt hF hφ
  obtain ⟨cell, e1, e2, e3, e4⟩ := h1.2.2.1 a (flds_pos hF) hlt
  obtain ⟨e3n, e3m⟩ := e3.2.2 ha
  have hl0 : (Cond.laysFinal (cname (aK h a)) (fcl φ) (fnm φ) (fds φ)).before a0 s0 = true := by
    have := L _ φ hF hlt
    rwa [if_pos hfin] at this
  have hl : (Cond.laysFinal (cname (aK h a)) (fcl φ) (fnm φ) (fds φ)).before args s = true := word_at hW (Or.inl rfl) hl0
  obtain ⟨cC, hC⟩ := hasC C hF hlt
  obtain ⟨hfc, kC, hkC, hkind⟩ := classAt_moved hW.alike hC
  have hcc : cell.cls = cC := Option.some.inj (e2.symm.trans hC.1)
  obtain ⟨c9, k9, cf, kf, fi, fd, r1, r2, r3, r4, -⟩ := Cond.laysFinal_spec hl0
  obtain ⟨kf', g1, -⟩ := found_w hW r3
  have hcf : m.cls = cf := by
    obtain ⟨_, _, c', _, _, _, -, -, hf', -, -, -, hown2, -⟩ := Cond.laysFinal_spec hl
    have e1 : c' = cf := by have := g1.symm.trans hf'; simp at this; exact this.1.symm
    rw [hdecl] at hown2
    rw [← e1]; exact Option.some.inj (hown.symm.trans hown2)
  have hS := u_fits (s := s) hfc hkC hkind (Or.inr hl) g1 (ty_ok hF hlt) (narrow_of_fits hfit) hfit
  refine W.putFinK hx hb (f := fd) hown hlink (hsame _ g1) r4 hcf hin (by rw [hcc]; exact hS) e1 e3n (k2_hasslot (e4 φ hF _ r3)) rfl rfl hdg fun H' q1 q2 q3 => ?_
  refine kk _ hk H' _ (h1.field L ha hF hlt e1 e2 e3n e3m e4 r3 q1 q2 q3) (fun z hz => ?_) h3 h4
  rcases List.mem_append.mp hz with z1 | z1
  · exact h2 z z1
  · rw [List.mem_singleton.mp z1]; exact ha
theorem a_getN {α : Type} {pj : Value → Option α} {tv : α → Value} (hpj : ∀ {v : Value} {x : α}, pj v = some x → v = tv x) {φ idx : Nat} {rr : Option Nat} {k : α → AM β} {ref ho : String}
    (X : CX l s0 a0 p s m c cc own nL) (L : LY s0 a0) (hlink : (Cond.fieldLinkNest own idx ref (fnm φ) (fds φ) ho).before args s = true) (hsame : ∀ x, s.fieldFound? (fcl φ) (fnm φ) (fds φ) = some x → s.fieldFound? ref (fnm φ) (fds φ) = some x) (hφ : φ < 20000)
    (hdg : decode cc pc = .ok (.getfield idx, 3)) (hf : bd (gt pj φ rr) k h = some r)
    (kk : ∀ x, k x h = some r → AW s0 K lam p l e R s m args below meth c Q b h (F0 m (pc + 3) ls (tv x :: rest))) : AW s0 K lam p l e R s m args below meth c Q b h (F0 m pc ls (va_rf rr :: rest)) := by
  obtain ⟨a, x, rfl, hF, hp, hk⟩ := gt_some hf
  obtain ⟨G, hW, hx, hb, hown, hml⟩ := X
  intro H locs h1 h2 h3 h4
  have hlt : aK h a < 200 := flds_lt hF hφ
  obtain ⟨cell, e1, e2, e3, e4⟩ := h1.2.2.1 a (flds_pos hF) hlt
  obtain ⟨cf, kf, fi, fd, q3, q4⟩ : ∃ (cf : ClassId) (kf : Class) (fi : Nat) (fd : Field), s0.fieldFound? (fcl φ) (fnm φ) (fds φ) = some (cf, kf, fi, fd) ∧ fd.isStatic = false := by
    rcases LY.or L hF hlt with q | q
    · obtain ⟨c, k, cf, kf, fi, fd, r1, r2, r3, r4, -⟩ := Cond.lays_spec q
      exact ⟨cf, kf, fi, fd, r3, r4⟩
    · obtain ⟨c, k, cf, kf, fi, fd, r1, r2, r3, r4, -⟩ := Cond.laysFinal_spec q
      exact ⟨cf, kf, fi, fd, r3, r4⟩
  obtain ⟨kf', g1, -⟩ := found_w hW q3
  have hs := e4 φ hF _ q3
  rw [hpj hp] at hs
  exact va_Wgetf hx hb hown hlink (hsame _ g1) q4 e1 e3.2.1 hs rfl rfl hdg (kk x hk H locs h1 h2 h3 h4)
theorem a_new {cK n idx : Nat} {k : Option Nat → AM β} (X : CX l s0 a0 p s m c cc own nL) (L : LY s0 a0) (C : CA s0) (hRc : R.cells = K 0 - aX b) (hRs : R.slots = K 1 - aW b) (hcK : cK < 40 ∧ 0 < cK ∧ flds cK ≠ [])
    (hcl : (Cond.classLink own idx (cname cK)).before args s = true) (hins : (Cond.instantiable (cname cK) n).before args s = true) (hini : (Cond.initialized (cname cK)).before args s = true)
    (hdg : decode cc pc = .ok (.new idx, 3)) (hf : bd (nwO K cK n) k h = some r)
    (kk : ∀ q h', k (some q) h' = some r → AW s0 K lam p l e R s m args below meth c Q b h' (F0 m (pc + 3) ls (va_rf (some q) :: rest))) : AW s0 K lam p l e R s m args below meth c Q b h (F0 m pc ls rest) := by
  obtain ⟨G, hW, hx, hb, hown, hml⟩ := X
  have hcond : (aX h + 1 ≤ K 0 ∧ aW h + n ≤ K 1) ∧ k (some (aX h)) (mkO cK n h) = some r := by
    by_cases hc : aX h + 1 ≤ K 0 ∧ aW h + n ≤ K 1
    · simp [bd, nwO, hc] at hf; exact ⟨hc, hf⟩
    · simp [bd, nwO, hc] at hf
  obtain ⟨⟨b1, b2⟩, hk⟩ := hcond
  intro H locs h1 h2 h3 h4
  obtain ⟨cC, hC⟩ := C cK hcK.1 hcK.2.1 (Or.inl hcK.2.2)
  have hC' := classAt_moved hW.alike hC
  refine W.newcK hx hb hown hcl hins hini rfl hdg (by omega) (by omega) hC'.1 h1.1 fun H' kC g1 g2 g3 g4 => ?_
  have hz : H.size = aX h := h1.1
  have ek : aK (mkO cK n h) (aX h) = cK := by simp [aK, mkO]
  have hR : Rp s0 K lam (mkO cK n h) H' := by
    refine h1.push (by omega) (fun q hq => g4 q (by omega)) rfl ⟨b1, b2⟩ (fun q hq => ⟨by simp [aK, mkO, hq], rfl, fun φ => by simp [aF, mkO, hq], fun _ => rfl⟩) (fun _ _ => ?_) (fun q _ => by rw [ek] at q; omega) (fun q => by rw [ek] at q; omega)
    rw [ek]
    refine ⟨_, g2, hC.1, ⟨rfl, rfl⟩, fun φ hφ x hxx => ?_⟩
    obtain ⟨x1, x2, x3, x4⟩ := x
    obtain ⟨hfc0, k0, hk0, hkind0⟩ := hC
    have t3 := (u_facts hfc0 hk0 (LY.or L hφ (by omega)) hxx).2.2
    obtain ⟨k1, hk1, he1⟩ := hW.alike.2.2 _ _ hk0
    cases g1.symm.trans hk1
    have t4 : kC.instanceTypes = k0.instanceTypes := by rw [he1]
    rw [(State.fieldFound?_type hxx (ty_ok hφ (by omega))).2] at t3
    have ef : aF (mkO cK n h) φ (aX h) = dflt φ := by simp [aF, mkO]
    rw [ef, df_ok hφ (by omega)]
    exact k2_blank (by rw [t4]; exact t3)
  have hg := kk _ _ hk H' locs hR h2 (by show aX b ≤ aX h + 1; omega) (by show aW b ≤ aW h + n; omega)
  have e1 : aX (mkO cK n h) - aX b = aX h - aX b + 1 := by show aX h + 1 - aX b = _; omega
  have e2 : aW (mkO cK n h) - aW b = aW h - aW b + n := by show aW h + n - aW b = _; omega
  rw [e1, e2] at hg
  exact hg
end FW4
