/-! typed locals, and the rows of loads and stores -/
abbrev TV : Type := (Option Nat) ⊕ (Int32 ⊕ (Int64 ⊕ (UInt32 ⊕ UInt64)))
abbrev vR (r : Option Nat) : TV := .inl r
abbrev vI (x : Int32) : TV := .inr (.inl x)
abbrev vJ (x : Int64) : TV := .inr (.inr (.inl x))
abbrev vF (x : UInt32) : TV := .inr (.inr (.inr (.inl x)))
abbrev vD (x : UInt64) : TV := .inr (.inr (.inr (.inr x)))
def tvv : TV → Value := fun v => match v with
  | .inl r => va_rf r
  | .inr (.inl x) => .int x
  | .inr (.inr (.inl x)) => .long x
  | .inr (.inr (.inr (.inl x))) => .float x
  | .inr (.inr (.inr (.inr x))) => .double x
def tcat : TV → Nat := fun v => match v with
  | .inl _ => 1
  | .inr (.inl _) => 1
  | .inr (.inr (.inl _)) => 2
  | .inr (.inr (.inr (.inl _))) => 1
  | .inr (.inr (.inr (.inr _))) => 2
theorem cat_rf (r : Option Nat) : (va_rf r).category = 1 := by cases r <;> rfl
theorem tcat_ok (v : TV) : (tvv v).category = tcat v := by
  rcases v with r | x | x | x | x
  · exact cat_rf r
  all_goals rfl
abbrev tvm (q : Nat × TV) : Nat × Value := (q.1, tvv q.2)
def LV (ls : Array Slot) (n : Nat) (l : List (Nat × TV)) : Prop := lv_has ls n (l.map tvm)
theorem LV.at {ls : Array Slot} {n : Nat} {l : List (Nat × TV)} (h : LV ls n l) (k : Nat) {i : Nat} {v : TV} (hk : l[k]? = some (i, v)) : ls[i]? = some (.val (tvv v)) := lv_at h k (by rw [List.getElem?_map, hk]; rfl)
theorem LV.sub {ls : Array Slot} {n : Nat} {l l' : List (Nat × TV)} (h : LV ls n l) (ks : List Nat) (hl : ks.filterMap (fun k => l[k]?) = l') : LV ls n l' := by
  refine ⟨h.1, h.2.1, fun q hq => ?_⟩
  obtain ⟨w, hw, rfl⟩ := List.mem_map.mp hq
  rw [← hl] at hw
  obtain ⟨k, -, hk⟩ := List.mem_filterMap.mp hw
  exact h.2.2 _ (List.mem_map.mpr ⟨w, List.mem_of_getElem? hk, rfl⟩)
def lst1 (i : Nat) (v : TV) (l : List (Nat × TV)) : List (Nat × TV) := (i, v) :: l.filter (fun q => !(q.1 == i) && !(q.1 + 1 == i && tcat q.2 == 2))
def lst2 (i : Nat) (v : TV) (l : List (Nat × TV)) : List (Nat × TV) := (i, v) :: l.filter (fun q => !(q.1 == i) && (!(q.1 == i + 1) && !(q.1 + 1 == i && tcat q.2 == 2)))
theorem lst1_map (i : Nat) (v : TV) (l : List (Nat × TV)) : (i, tvv v) :: (l.map tvm).filter (fun q => !(q.1 == i) && !(q.1 + 1 == i && q.2.category == 2)) = (lst1 i v l).map tvm := by
  unfold lst1
  rw [List.map_cons, List.filter_map]
  congr 2
  apply List.filter_congr
  intro q _
  show _ = (!(q.1 == i) && !(q.1 + 1 == i && tcat q.2 == 2))
  rw [← tcat_ok]
  rfl
theorem lst2_map (i : Nat) (v : TV) (l : List (Nat × TV)) : (i, tvv v) :: (l.map tvm).filter (fun q => !(q.1 == i) && (!(q.1 == i + 1) && !(q.1 + 1 == i && q.2.category == 2))) = (lst2 i v l).map tvm := by
  unfold lst2
  rw [List.map_cons, List.filter_map]
  congr 2
  apply List.filter_congr
  intro q _
  show _ = (!(q.1 == i) && (!(q.1 == i + 1) && !(q.1 + 1 == i && tcat q.2 == 2)))
  rw [← tcat_ok]
  rfl
/-! a method's first locals -/
def tar : Nat → List TV → List (Nat × TV) := fun i l => match l with
  | [] => []
  | v :: vs => (i, v) :: tar (i + tcat v) vs
theorem tar_ok : ∀ (vs : List TV) (i : Nat), lv_args i (vs.map tvv) = (tar i vs).map tvm
  | [], _ => rfl
  | v :: vs, i => by
    show (i, tvv v) :: lv_args (if (tvv v).category = 2 then i + 2 else i + 1) (vs.map tvv) = (i, tvv v) :: (tar (i + tcat v) vs).map tvm
    rw [tcat_ok]
    rcases v with r | x | x | x | x <;> exact congrArg _ (tar_ok vs _)
def tlen : List TV → Nat := fun l => match l with
  | [] => 0
  | v :: vs => tcat v + tlen vs
theorem tlen_ok : ∀ (vs : List TV), (lg_sl (vs.map tvv)).length = tlen vs
  | [] => rfl
  | v :: vs => by
    have h : lg_sl ((v :: vs).map tvv) = (if (tvv v).category = 2 then [Slot.val (tvv v), .second] else [.val (tvv v)]) ++ lg_sl (vs.map tvv) := rfl
    rw [h, List.length_append, tlen_ok vs, tcat_ok]
    rcases v with r | x | x | x | x <;> rfl
theorem LV.entry (vs : List TV) {n : Nat} (h : tlen vs ≤ n) (m : MethodId) : ∃ ls, entryFrame m (vs.map tvv).toArray n = F0 m 0 ls [] ∧ LV ls n (tar 0 vs) := by
  refine ⟨_, lg_entry_eq m (vs.map tvv) n, ?_⟩
  unfold LV
  rw [← tar_ok]
  exact lv_entry (vs.map tvv) (by rw [tlen_ok]; exact h)
section FW3
variable {l : Launch} {s0 : State} {a0 : Array Value} {K : Nat → Nat} {lam : Nat → ClassId}
variable {p : Program} {e : Env} {R : Room} {s : State} {m : MethodId} {args : Array Value} {below : List Frame} {meth : Method} {c : Code} {Q : State → Prop}
variable {b h : AH} {cc : ByteArray} {own : String} {nL : Nat} {pc : Nat} {ls : Array Slot} {rest : List Value} {lv lv' : List (Nat × TV)}
theorem a_iload_n (X : CX l s0 a0 p s m c cc own nL) {j : Fin 4} {i : Nat} {x : Int32} (hdg : decode cc pc = .ok (.iload_n j, 1)) (hi : (j : Nat) = i) (hl : LV ls nL lv) (k : Nat) (hk : lv[k]? = some (i, vI x)) (kk : AW s0 K lam p l e R s m args below meth c Q b h (F0 m (pc + 1) ls (.int x :: rest))) : AW s0 K lam p l e R s m args below meth c Q b h (F0 m pc ls rest) :=
  AW.lift (fun _ _ _ _ q => lv_iload_n X.2.2.1 X.2.2.2.1 hdg hi (hl.at k hk) q) kk
theorem a_iload (X : CX l s0 a0 p s m c cc own nL) {i : Nat} {x : Int32} (hdg : decode cc pc = .ok (.iload i, 2)) (hl : LV ls nL lv) (k : Nat) (hk : lv[k]? = some (i, vI x)) (kk : AW s0 K lam p l e R s m args below meth c Q b h (F0 m (pc + 2) ls (.int x :: rest))) : AW s0 K lam p l e R s m args below meth c Q b h (F0 m pc ls rest) :=
  AW.lift (fun _ _ _ _ q => lv_iload X.2.2.1 X.2.2.2.1 hdg (hl.at k hk) q) kk
theorem a_lload_n (X : CX l s0 a0 p s m c cc own nL) {j : Fin 4} {i : Nat} {x : Int64} (hdg : decode cc pc = .ok (.lload_n j, 1)) (hi : (j : Nat) = i) (hl : LV ls nL lv) (k : Nat) (hk : lv[k]? = some (i, vJ x)) (kk : AW s0 K lam p l e R s m args below meth c Q b h (F0 m (pc + 1) ls (.long x :: rest))) : AW s0 K lam p l e R s m args below meth c Q b h (F0 m pc ls rest) :=
  AW.lift (fun _ _ _ _ q => lv_lload_n X.2.2.1 X.2.2.2.1 hdg hi (hl.at k hk) q) kk
theorem a_lload (X : CX l s0 a0 p s m c cc own nL) {i : Nat} {x : Int64} (hdg : decode cc pc = .ok (.lload i, 2)) (hl : LV ls nL lv) (k : Nat) (hk : lv[k]? = some (i, vJ x)) (kk : AW s0 K lam p l e R s m args below meth c Q b h (F0 m (pc + 2) ls (.long x :: rest))) : AW s0 K lam p l e R s m args below meth c Q b h (F0 m pc ls rest) :=
  AW.lift (fun _ _ _ _ q => lv_lload X.2.2.1 X.2.2.2.1 hdg (hl.at k hk) q) kk
theorem a_fload_n (X : CX l s0 a0 p s m c cc own nL) {j : Fin 4} {i : Nat} {x : UInt32} (hdg : decode cc pc = .ok (.fload_n j, 1)) (hi : (j : Nat) = i) (hl : LV ls nL lv) (k : Nat) (hk : lv[k]? = some (i, vF x)) (kk : AW s0 K lam p l e R s m args below meth c Q b h (F0 m (pc + 1) ls (.float x :: rest))) : AW s0 K lam p l e R s m args below meth c Q b h (F0 m pc ls rest) :=
  AW.lift (fun _ _ _ _ q => lv_fload_n X.2.2.1 X.2.2.2.1 hdg hi (hl.at k hk) q) kk
theorem a_fload (X : CX l s0 a0 p s m c cc own nL) {i : Nat} {x : UInt32} (hdg : decode cc pc = .ok (.fload i, 2)) (hl : LV ls nL lv) (k : Nat) (hk : lv[k]? = some (i, vF x)) (kk : AW s0 K lam p l e R s m args below meth c Q b h (F0 m (pc + 2) ls (.float x :: rest))) : AW s0 K lam p l e R s m args below meth c Q b h (F0 m pc ls rest) :=
  AW.lift (fun _ _ _ _ q => lv_fload X.2.2.1 X.2.2.2.1 hdg (hl.at k hk) q) kk
theorem a_dload_n (X : CX l s0 a0 p s m c cc own nL) {j : Fin 4} {i : Nat} {x : UInt64} (hdg : decode cc pc = .ok (.dload_n j, 1)) (hi : (j : Nat) = i) (hl : LV ls nL lv) (k : Nat) (hk : lv[k]? = some (i, vD x)) (kk : AW s0 K lam p l e R s m args below meth c Q b h (F0 m (pc + 1) ls (.double x :: rest))) : AW s0 K lam p l e R s m args below meth c Q b h (F0 m pc ls rest) :=
  AW.lift (fun _ _ _ _ q => lv_dload_n X.2.2.1 X.2.2.2.1 hdg hi (hl.at k hk) q) kk
theorem a_dload (X : CX l s0 a0 p s m c cc own nL) {i : Nat} {x : UInt64} (hdg : decode cc pc = .ok (.dload i, 2)) (hl : LV ls nL lv) (k : Nat) (hk : lv[k]? = some (i, vD x)) (kk : AW s0 K lam p l e R s m args below meth c Q b h (F0 m (pc + 2) ls (.double x :: rest))) : AW s0 K lam p l e R s m args below meth c Q b h (F0 m pc ls rest) :=
  AW.lift (fun _ _ _ _ q => lv_dload X.2.2.1 X.2.2.2.1 hdg (hl.at k hk) q) kk
theorem a_aload_n (X : CX l s0 a0 p s m c cc own nL) {j : Fin 4} {i : Nat} {x : Option Nat} (hdg : decode cc pc = .ok (.aload_n j, 1)) (hi : (j : Nat) = i) (hl : LV ls nL lv) (k : Nat) (hk : lv[k]? = some (i, vR x)) (kk : AW s0 K lam p l e R s m args below meth c Q b h (F0 m (pc + 1) ls (va_rf x :: rest))) : AW s0 K lam p l e R s m args below meth c Q b h (F0 m pc ls rest) := by
  cases x with
  | none => exact AW.lift (fun _ _ _ _ q => lv_aload_nN X.2.2.1 X.2.2.2.1 hdg hi (hl.at k hk) q) kk
  | some x => exact AW.lift (fun _ _ _ _ q => lv_aload_n X.2.2.1 X.2.2.2.1 hdg hi (hl.at k hk) q) kk
theorem a_aload (X : CX l s0 a0 p s m c cc own nL) {i : Nat} {x : Option Nat} (hdg : decode cc pc = .ok (.aload i, 2)) (hl : LV ls nL lv) (k : Nat) (hk : lv[k]? = some (i, vR x)) (kk : AW s0 K lam p l e R s m args below meth c Q b h (F0 m (pc + 2) ls (va_rf x :: rest))) : AW s0 K lam p l e R s m args below meth c Q b h (F0 m pc ls rest) := by
  cases x with
  | none => exact AW.lift (fun _ _ _ _ q => lv_aloadN X.2.2.1 X.2.2.2.1 hdg (hl.at k hk) q) kk
  | some x => exact AW.lift (fun _ _ _ _ q => lv_aload X.2.2.1 X.2.2.2.1 hdg (hl.at k hk) q) kk
theorem a_istore_n (X : CX l s0 a0 p s m c cc own nL) {j : Fin 4} {i : Nat} {x : Int32} (hdg : decode cc pc = .ok (.istore_n j, 1)) (hi : (j : Nat) = i) (hl : LV ls nL lv) (hn : i < nL) (he : lst1 i (vI x) lv = lv') (kk : ∀ ls, LV ls nL lv' → AW s0 K lam p l e R s m args below meth c Q b h (F0 m (pc + 1) ls rest)) : AW s0 K lam p l e R s m args below meth c Q b h (F0 m pc ls (.int x :: rest)) :=
  fun H locs h1 h2 h3 h4 => lv_istore_n X.2.2.1 X.2.2.2.1 hdg hi hl hn (lst1_map i (vI x) lv) (fun ls' h' => kk ls' (he ▸ h') H locs h1 h2 h3 h4)
theorem a_istore (X : CX l s0 a0 p s m c cc own nL) {i : Nat} {x : Int32} (hdg : decode cc pc = .ok (.istore i, 2)) (hl : LV ls nL lv) (hn : i < nL) (he : lst1 i (vI x) lv = lv') (kk : ∀ ls, LV ls nL lv' → AW s0 K lam p l e R s m args below meth c Q b h (F0 m (pc + 2) ls rest)) : AW s0 K lam p l e R s m args below meth c Q b h (F0 m pc ls (.int x :: rest)) :=
  fun H locs h1 h2 h3 h4 => lv_istore X.2.2.1 X.2.2.2.1 hdg hl hn (lst1_map i (vI x) lv) (fun ls' h' => kk ls' (he ▸ h') H locs h1 h2 h3 h4)
theorem a_fstore_n (X : CX l s0 a0 p s m c cc own nL) {j : Fin 4} {i : Nat} {x : UInt32} (hdg : decode cc pc = .ok (.fstore_n j, 1)) (hi : (j : Nat) = i) (hl : LV ls nL lv) (hn : i < nL) (he : lst1 i (vF x) lv = lv') (kk : ∀ ls, LV ls nL lv' → AW s0 K lam p l e R s m args below meth c Q b h (F0 m (pc + 1) ls rest)) : AW s0 K lam p l e R s m args below meth c Q b h (F0 m pc ls (.float x :: rest)) :=
  fun H locs h1 h2 h3 h4 => lv_fstore_n X.2.2.1 X.2.2.2.1 hdg hi hl hn (lst1_map i (vF x) lv) (fun ls' h' => kk ls' (he ▸ h') H locs h1 h2 h3 h4)
theorem a_fstore (X : CX l s0 a0 p s m c cc own nL) {i : Nat} {x : UInt32} (hdg : decode cc pc = .ok (.fstore i, 2)) (hl : LV ls nL lv) (hn : i < nL) (he : lst1 i (vF x) lv = lv') (kk : ∀ ls, LV ls nL lv' → AW s0 K lam p l e R s m args below meth c Q b h (F0 m (pc + 2) ls rest)) : AW s0 K lam p l e R s m args below meth c Q b h (F0 m pc ls (.float x :: rest)) :=
  fun H locs h1 h2 h3 h4 => lv_fstore X.2.2.1 X.2.2.2.1 hdg hl hn (lst1_map i (vF x) lv) (fun ls' h' => kk ls' (he ▸ h') H locs h1 h2 h3 h4)
theorem a_lstore_n (X : CX l s0 a0 p s m c cc own nL) {j : Fin 4} {i : Nat} {x : Int64} (hdg : decode cc pc = .ok (.lstore_n j, 1)) (hi : (j : Nat) = i) (hl : LV ls nL lv) (hn : i + 1 < nL) (he : lst2 i (vJ x) lv = lv') (kk : ∀ ls, LV ls nL lv' → AW s0 K lam p l e R s m args below meth c Q b h (F0 m (pc + 1) ls rest)) : AW s0 K lam p l e R s m args below meth c Q b h (F0 m pc ls (.long x :: rest)) :=
  fun H locs h1 h2 h3 h4 => lv_lstore_n X.2.2.1 X.2.2.2.1 hdg hi hl hn (lst2_map i (vJ x) lv) (fun ls' h' => kk ls' (he ▸ h') H locs h1 h2 h3 h4)
theorem a_lstore (X : CX l s0 a0 p s m c cc own nL) {i : Nat} {x : Int64} (hdg : decode cc pc = .ok (.lstore i, 2)) (hl : LV ls nL lv) (hn : i + 1 < nL) (he : lst2 i (vJ x) lv = lv') (kk : ∀ ls, LV ls nL lv' → AW s0 K lam p l e R s m args below meth c Q b h (F0 m (pc + 2) ls rest)) : AW s0 K lam p l e R s m args below meth c Q b h (F0 m pc ls (.long x :: rest)) :=
  fun H locs h1 h2 h3 h4 => lv_lstore X.2.2.1 X.2.2.2.1 hdg hl hn (lst2_map i (vJ x) lv) (fun ls' h' => kk ls' (he ▸ h') H locs h1 h2 h3 h4)
theorem a_dstore_n (X : CX l s0 a0 p s m c cc own nL) {j : Fin 4} {i : Nat} {x : UInt64} (hdg : decode cc pc = .ok (.dstore_n j, 1)) (hi : (j : Nat) = i) (hl : LV ls nL lv) (hn : i + 1 < nL) (he : lst2 i (vD x) lv = lv') (kk : ∀ ls, LV ls nL lv' → AW s0 K lam p l e R s m args below meth c Q b h (F0 m (pc + 1) ls rest)) : AW s0 K lam p l e R s m args below meth c Q b h (F0 m pc ls (.double x :: rest)) :=
  fun H locs h1 h2 h3 h4 => lv_dstore_n X.2.2.1 X.2.2.2.1 hdg hi hl hn (lst2_map i (vD x) lv) (fun ls' h' => kk ls' (he ▸ h') H locs h1 h2 h3 h4)
theorem a_dstore (X : CX l s0 a0 p s m c cc own nL) {i : Nat} {x : UInt64} (hdg : decode cc pc = .ok (.dstore i, 2)) (hl : LV ls nL lv) (hn : i + 1 < nL) (he : lst2 i (vD x) lv = lv') (kk : ∀ ls, LV ls nL lv' → AW s0 K lam p l e R s m args below meth c Q b h (F0 m (pc + 2) ls rest)) : AW s0 K lam p l e R s m args below meth c Q b h (F0 m pc ls (.double x :: rest)) :=
  fun H locs h1 h2 h3 h4 => lv_dstore X.2.2.1 X.2.2.2.1 hdg hl hn (lst2_map i (vD x) lv) (fun ls' h' => kk ls' (he ▸ h') H locs h1 h2 h3 h4)
theorem a_astore_n (X : CX l s0 a0 p s m c cc own nL) {j : Fin 4} {i : Nat} {x : Option Nat} (hdg : decode cc pc = .ok (.astore_n j, 1)) (hi : (j : Nat) = i) (hl : LV ls nL lv) (hn : i < nL) (he : lst1 i (vR x) lv = lv') (kk : ∀ ls, LV ls nL lv' → AW s0 K lam p l e R s m args below meth c Q b h (F0 m (pc + 1) ls rest)) : AW s0 K lam p l e R s m args below meth c Q b h (F0 m pc ls (va_rf x :: rest)) := by
  cases x with
  | none => exact fun H locs h1 h2 h3 h4 => lv_astore_nN X.2.2.1 X.2.2.2.1 hdg hi hl hn (lst1_map i (vR none) lv) (fun ls' h' => kk ls' (he ▸ h') H locs h1 h2 h3 h4)
  | some x => exact fun H locs h1 h2 h3 h4 => lv_astore_n X.2.2.1 X.2.2.2.1 hdg hi hl hn (lst1_map i (vR (some x)) lv) (fun ls' h' => kk ls' (he ▸ h') H locs h1 h2 h3 h4)
theorem a_astore (X : CX l s0 a0 p s m c cc own nL) {i : Nat} {x : Option Nat} (hdg : decode cc pc = .ok (.astore i, 2)) (hl : LV ls nL lv) (hn : i < nL) (he : lst1 i (vR x) lv = lv') (kk : ∀ ls, LV ls nL lv' → AW s0 K lam p l e R s m args below meth c Q b h (F0 m (pc + 2) ls rest)) : AW s0 K lam p l e R s m args below meth c Q b h (F0 m pc ls (va_rf x :: rest)) := by
  cases x with
  | none => exact fun H locs h1 h2 h3 h4 => lv_astoreN X.2.2.1 X.2.2.2.1 hdg hl hn (lst1_map i (vR none) lv) (fun ls' h' => kk ls' (he ▸ h') H locs h1 h2 h3 h4)
  | some x => exact fun H locs h1 h2 h3 h4 => lv_astore X.2.2.1 X.2.2.2.1 hdg hl hn (lst1_map i (vR (some x)) lv) (fun ls' h' => kk ls' (he ▸ h') H locs h1 h2 h3 h4)
theorem a_iinc (X : CX l s0 a0 p s m c cc own nL) {i k : Nat} {n : Int} {x v : Int32} (hdg : decode cc pc = .ok (.iinc i n, 3)) (hl : LV ls nL lv) (hk : lv[k]? = some (i, vI x)) (hv : x + Int32.ofInt n = v) (hn : i < nL) (he : lst1 i (vI v) lv = lv') (kk : ∀ ls, LV ls nL lv' → AW s0 K lam p l e R s m args below meth c Q b h (F0 m (pc + 3) ls rest)) : AW s0 K lam p l e R s m args below meth c Q b h (F0 m pc ls rest) :=
  fun H locs h1 h2 h3 h4 => lv_iinc X.2.2.1 X.2.2.2.1 hdg hl (k := k) (by rw [List.getElem?_map, hk]; rfl) hv hn (lst1_map i (vI v) lv) (fun ls' h' => kk ls' (he ▸ h') H locs h1 h2 h3 h4)
theorem a_ifnull (X : CX l s0 a0 p s m c cc own nL) {x : Option Nat} {off : Int} {tgt : Nat} (hdg : decode cc pc = .ok (.ifnull off, 3)) (ht : (pc : Int) + off = (tgt : Int)) (k1 : x = none → AW s0 K lam p l e R s m args below meth c Q b h (F0 m tgt ls rest)) (k2 : ¬ x = none → AW s0 K lam p l e R s m args below meth c Q b h (F0 m (pc + 3) ls rest)) : AW s0 K lam p l e R s m args below meth c Q b h (F0 m pc ls (va_rf x :: rest)) := by
  cases x with
  | none => exact AW.lift (fun _ _ _ _ q => lv_ifnullN X.2.2.1 X.2.2.2.1 hdg ht q) (k1 rfl)
  | some x => exact AW.lift (fun _ _ _ _ q => lv_ifnull X.2.2.1 X.2.2.2.1 hdg q) (k2 (fun q => by cases q))
theorem a_ifnonnull (X : CX l s0 a0 p s m c cc own nL) {x : Option Nat} {off : Int} {tgt : Nat} (hdg : decode cc pc = .ok (.ifnonnull off, 3)) (ht : (pc : Int) + off = (tgt : Int)) (k1 : ¬ x = none → AW s0 K lam p l e R s m args below meth c Q b h (F0 m tgt ls rest)) (k2 : x = none → AW s0 K lam p l e R s m args below meth c Q b h (F0 m (pc + 3) ls rest)) : AW s0 K lam p l e R s m args below meth c Q b h (F0 m pc ls (va_rf x :: rest)) := by
  cases x with
  | none => exact AW.lift (fun _ _ _ _ q => lv_ifnonnullN X.2.2.1 X.2.2.2.1 hdg q) (k2 rfl)
  | some x => exact AW.lift (fun _ _ _ _ q => lv_ifnonnull X.2.2.1 X.2.2.2.1 hdg ht q) (k1 (fun q => by cases q))
theorem a_null (X : CX l s0 a0 p s m c cc own nL) (hdg : decode cc pc = .ok (.aconst_null, 1)) (kk : AW s0 K lam p l e R s m args below meth c Q b h (F0 m (pc + 1) ls (va_rf none :: rest))) : AW s0 K lam p l e R s m args below meth c Q b h (F0 m pc ls rest) := AW.lift (fun _ _ _ _ q => lv_null X.2.2.1 X.2.2.2.1 hdg q) kk
end FW3
