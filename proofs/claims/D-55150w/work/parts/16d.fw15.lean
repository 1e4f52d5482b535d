/-! A CALL THROUGH A CLASS THAT ONLY INHERITS THE METHOD FROM AN INTERFACE; its link and its sameness stand among the premises -/
section FW15
variable {l : Launch} {s0 : State} {a0 : Array Value} {K : Nat → Nat} {lam : Nat → ClassId} {p : Program} {e : Env} {R : Room} {s : State} {m : MethodId} {args : Array Value} {below : List Frame} {meth : Method} {c : Code} {h : AH} {cc : ByteArray} {own : String} {nL pc : Nat} {ls : Array Slot} {st rest : List Value}
theorem gwx (hW : s0.WarmedH s.vm) {w : Cond} (hg : goodWord w = true) (hb : w.before a0 s0 = true) : w.before args s = true := word_at hW (good_of_word hg) hb
theorem ct_Ub {x x2 y : MethodName} {cw : Cond} {bytes : ByteArray} {maxL : Nat} {ret : Option FieldType} {idx a cK : Nat} {avs : List TV} (hk : aK h a = cK) (hc0 : 0 < cK ∧ cK < 200) (X : CX l s0 a0 p s m c cc own nL) (hcw : cw = Cond.code y bytes maxL ret ∨ (∃ hh, cw = Cond.codeWith y bytes maxL ret hh) ∨ cw = Cond.codeSync y bytes maxL ret) (hcwt : cw ∈ lw_all) (hlink : (Cond.methodLink own idx x).before a0 s0 = true) (hlg : goodWord (Cond.methodLink own idx x) = true) (hsame : (Cond.sameMethod x.cls x2.cls x.name x.desc).before a0 s0 = true) (hsg : goodWord (Cond.sameMethod x.cls x2.cls x.name x.desc) = true) (hx2 : x2.name = x.name ∧ x2.desc = x.desc) (hd0 : va_Decl s x2) (howner : x2.cls ≠ "java/lang/invoke/MethodHandle" ∧ x2.cls ≠ "java/lang/invoke/VarHandle") (hinst : Cond.instanceMethod y ∈ lw_all) (hsel : Cond.selects (cname cK) x2 y ∈ lw_all)
    (hn : npar x.desc avs.length) (hst : st = (avs.map tvv).reverse ++ .ref a :: rest) (hdg : decode cc pc = .ok (.invokevirtual idx, 3)) :
    ∀ (H : Heap) (locs : List Loc) (cells slots : Nat) (T : State), Rp s0 K lam h H → T.heap = H → Stand p l e R s m args below meth c T locs cells slots → CT p l e R s m args below meth c y ((vR (some a) :: avs).map tvv).toArray rest (F0 m pc ls st) T locs cells slots := by
  obtain ⟨G, hW, hx, hb, hown, hml⟩ := X
  intro H locs cells slots T h1 hT Y
  obtain ⟨x2c, x2n, x2d⟩ := x2
  obtain ⟨rfl, rfl⟩ := hx2
  have hlink' := gwx (args := args) hW hlg hlink
  have hsame' := gwx (args := args) hW hsg hsame
  obtain ⟨r0, rM, hn0, hrm, hstR, hsigR⟩ := hd0
  obtain ⟨cn, ck, r1, hcn, hck, hni, hf, hn1⟩ := Cond.sameMethod_found hsame'
  cases hn0.symm.trans hn1
  obtain ⟨mk, methM, hnamed, hmethM, -, habM⟩ := Cond.instanceMethod_spec (gw (args := args) G hW hinst)
  obtain ⟨cell, e1, e2, e3⟩ := h1.recv hk hc0.1 hc0.2
  have hcls := fc_w hW e3
  obtain ⟨c2, r2, m2, q1, q2, q3, q4, kP, hkP, hkPi⟩ := Cond.selects_spec (gw (args := args) G hW hsel)
  cases hcls.symm.trans q1
  have q2' := State.methodFound?_of_named hn0 howner
  cases q2'.symm.trans q2
  cases hnamed.symm.trans q3
  have hselP : selectMethod e.platform s.vm cell.cls r0 = .method mk := by rw [Launch.admits_selectMethod Y.admits]; exact q4
  obtain ⟨vm₁, X₁, hstep₁⟩ := Y.invokevirtualUp hx hown hlink' hsame' howner hn0 hrm hstR (a := a) (cell := cell) (by rw [hT]; exact e1)
    (fun z q => by rw [q] at e2; cases e2) hselP hmethM habM hkP hkPi (g := F0 m pc ls st) rfl (argsL := avs.map tvv) (rest := rest) (by rw [List.length_map]; exact hn.of hsigR) hst (by rw [hb]; exact hdg)
  exact ⟨vm₁, mk, X₁, X₁.named hnamed, fun target q => hstep₁ _ fun acts => by rw [doInvoke_state]; exact q⟩
end FW15
