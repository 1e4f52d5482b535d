/-! THE ABSTRACT HEAP AND ITS PROGRAMS (pure). kind tags: 0 unknown; 1..199 objects by class; 200..299 objects of lambda sites; 1000.. arrays -/
abbrev AH : Type := (Nat → Nat) × (Nat → Nat) × (Nat → Nat → Value) × (Nat → Nat → Value) × Nat × Nat
def aK (h : AH) : Nat → Nat := h.1
def aN (h : AH) : Nat → Nat := h.2.1
def aF (h : AH) : Nat → Nat → Value := h.2.2.1
def aE (h : AH) : Nat → Nat → Value := h.2.2.2.1
def aX (h : AH) : Nat := h.2.2.2.2.1
def aW (h : AH) : Nat := h.2.2.2.2.2
abbrev AM (α : Type) : Type := AH → Option (Except Nat α × AH)
def rt {α : Type} (x : α) : AM α := fun h => some (.ok x, h)
def th {α : Type} (q : Nat) : AM α := fun h => some (.error q, h)
def fl {α : Type} : AM α := fun _ => none
def bd {α β : Type} (m : AM α) (k : α → AM β) : AM β := fun h => match m h with
  | none => none
  | some (.error q, h') => some (.error q, h')
  | some (.ok x, h') => k x h'
def tc {α β : Type} (m : AM α) (hd : Nat → AM β) (k : α → AM β) : AM β := fun h => match m h with
  | none => none
  | some (.error q, h') => hd q h'
  | some (.ok x, h') => k x h'
def chk {α : Type} (b : Bool) (m : AM α) : AM α := fun h => if b = true then m h else none
def pI : Value → Option Int32 := fun v => match v with | .int x => some x | _ => none
def pJ : Value → Option Int64 := fun v => match v with | .long x => some x | _ => none
def pF : Value → Option UInt32 := fun v => match v with | .float x => some x | _ => none
def pD : Value → Option UInt64 := fun v => match v with | .double x => some x | _ => none
def pR : Value → Option (Option Nat) := fun v => match v with | .null => some none | .ref a => some (some a) | _ => none
def tI (x : Int32) : Value := .int x
def tJ (x : Int64) : Value := .long x
def tF (x : UInt32) : Value := .float x
def tD (x : UInt64) : Value := .double x
def tR (r : Option Nat) : Value := va_rf r
theorem pI_t {v : Value} {x : Int32} (h : pI v = some x) : v = tI x := by
  cases v <;> simp [pI] at h <;> simp [tI, h]
theorem pJ_t {v : Value} {x : Int64} (h : pJ v = some x) : v = tJ x := by
  cases v <;> simp [pJ] at h <;> simp [tJ, h]
theorem pF_t {v : Value} {x : UInt32} (h : pF v = some x) : v = tF x := by
  cases v <;> simp [pF] at h <;> simp [tF, h]
theorem pD_t {v : Value} {x : UInt64} (h : pD v = some x) : v = tD x := by
  cases v <;> simp [pD] at h <;> simp [tD, h]
theorem pR_t {v : Value} {x : Option Nat} (h : pR v = some x) : v = tR x := by
  cases v <;> simp [pR] at h <;> subst h <;> rfl
/-- answers as the machine has them -/
def oI (x : Int32) : Option Value := some (.int x)
def oJ (x : Int64) : Option Value := some (.long x)
def oF (x : UInt32) : Option Value := some (.float x)
def oD (x : UInt64) : Option Value := some (.double x)
def oR (x : Option Nat) : Option Value := some (va_rf x)
def oV (_ : Unit) : Option Value := none
def gt {α : Type} (p : Value → Option α) (φ : Nat) (r : Option Nat) : AM α := fun h => match r with
  | none => none
  | some a => if hasF (aK h a) φ = true then (match p (aF h φ a) with | none => none | some x => some (.ok x, h)) else none
def sF (φ a : Nat) (v : Value) (h : AH) : AH := (aK h, aN h, fun ψ b => if ψ = φ ∧ b = a then v else aF h ψ b, aE h, aX h, aW h)
def pu (K : Nat → Nat) (φ : Nat) (r : Option Nat) (v : Value) : AM Unit := fun h => match r with
  | none => none
  | some a => if hasF (aK h a) φ = true ∧ K 2 ≤ a then some (.ok (), sF φ a v h) else none
def mkO (c n : Nat) (h : AH) : AH := (fun b => if b = aX h then c else aK h b, aN h, fun φ b => if b = aX h then dflt φ else aF h φ b, aE h, aX h + 1, aW h + n)
def nwO (K : Nat → Nat) (c n : Nat) : AM (Option Nat) := fun h => if aX h + 1 ≤ K 0 ∧ aW h + n ≤ K 1 then some (.ok (some (aX h)), mkO c n h) else none
def mkA (t : Nat) (d : Value) (n : Nat) (h : AH) : AH := (fun b => if b = aX h then t else aK h b, fun b => if b = aX h then n else aN h b, aF h, fun b j => if b = aX h then d else aE h b j, aX h + 1, aW h + n)
def nwA (K : Nat → Nat) (t : Nat) (d : Value) (n : Int32) : AM (Option Nat) := fun h => if (¬ n < 0 ∧ n.toNatClampNeg ≤ 1000000) ∧ aX h + 1 ≤ K 0 ∧ aW h + n.toNatClampNeg ≤ K 1 then some (.ok (some (aX h)), mkA t d n.toNatClampNeg h) else none
def ald {α : Type} (p : Value → Option α) (t : Nat) (r : Option Nat) (i : Int32) : AM α := fun h => match r with
  | none => none
  | some a => if aK h a = t ∧ ¬ (i < 0 ∨ aN h a ≤ i.toNatClampNeg) then (match p (aE h a i.toNatClampNeg) with | none => none | some x => some (.ok x, h)) else none
def sE (a j : Nat) (v : Value) (h : AH) : AH := (aK h, aN h, aF h, fun b i => if b = a ∧ i = j then v else aE h b i, aX h, aW h)
def ast (K : Nat → Nat) (t : Nat) (r : Option Nat) (i : Int32) (v : Value) : AM Unit := fun h => match r with
  | none => none
  | some a => if (aK h a = t ∧ K 2 ≤ a) ∧ ¬ (i < 0 ∨ aN h a ≤ i.toNatClampNeg) then some (.ok (), sE a i.toNatClampNeg v h) else none
def okr (h : AH) (ks : List Nat) : Option Nat → Bool := fun v => match v with
  | none => true
  | some b => ks.contains (aK h b)
/-- a reference stored into an array of references: null, or of a kind that fits -/
def asr (K : Nat → Nat) (t : Nat) (ks : List Nat) (r : Option Nat) (i : Int32) (v : Option Nat) : AM Unit := fun h => match r with
  | none => none
  | some a => if ((aK h a = t ∧ K 2 ≤ a) ∧ ¬ (i < 0 ∨ aN h a ≤ i.toNatClampNeg)) ∧ okr h ks v = true then some (.ok (), sE a i.toNatClampNeg (va_rf v) h) else none
def alen (r : Option Nat) : AM Int32 := fun h => match r with
  | none => none
  | some a => if 1000 ≤ aK h a then some (.ok (Int32.ofNat (aN h a)), h) else none
/-- a cast that holds -/
def ckc (ks : List Nat) (r : Option Nat) : AM Unit := fun h => match r with
  | none => some (.ok (), h)
  | some a => if ks.contains (aK h a) = true then some (.ok (), h) else none
def cka (K : Nat → Nat) (t : Nat) (r : Option Nat) : AM Unit := fun h => match r with
  | none => some (.ok (), h)
  | some a => if aK h a = t ∧ K 2 ≤ a then some (.ok (), h) else none
def ins (yes no : List Nat) (r : Option Nat) : AM Int32 := fun h => match r with
  | none => some (.ok 0, h)
  | some a => if yes.contains (aK h a) = true then some (.ok 1, h) else if no.contains (aK h a) = true then some (.ok 0, h) else none
/-- a call through an object: by its kind -/
def dv {α : Type} (r : Option Nat) (c : Nat) (m e : AM α) : AM α := fun h => match r with
  | none => none
  | some a => if aK h a = c then m h else e h
/-- an object thrown: of a kind that is thrown -/
def thr {α : Type} (r : Option Nat) : AM α := fun h => match r with
  | none => none
  | some a => if isX (aK h a) = true then some (.error a, h) else none
/-- a handler: of the kinds 'yes' it takes, those of 'no' it passes on -/
def cat {β : Type} (yes no : List Nat) (q : Nat) (hb : AM β) : AM β := fun h => if yes.contains (aK h q) = true then hb h else if no.contains (aK h q) = true then some (.error q, h) else none
/-- copying within or between arrays of one kind -/
def cpE (a b sp dp n : Nat) (h : AH) : AH := (aK h, aN h, aF h, fun c => if c = b then va_cpy (aE h a) (aE h b) sp dp n else aE h c, aX h, aW h)
def acp (K : Nat → Nat) (ts : List Nat) (r : Option Nat) (i : Int32) (r2 : Option Nat) (j n : Int32) : AM Unit := fun h => match r, r2 with
  | some a, some b => if (aK h a = aK h b ∧ ts.contains (aK h a) = true ∧ K 2 ≤ b) ∧ (¬ i < 0 ∧ ¬ j < 0 ∧ ¬ n < 0) ∧ i.toNatClampNeg + n.toNatClampNeg ≤ aN h a ∧ j.toNatClampNeg + n.toNatClampNeg ≤ aN h b then some (.ok (), cpE a b i.toNatClampNeg j.toNatClampNeg n.toNatClampNeg h) else none
  | _, _ => none
def FU : Nat := 4096

/-! further steps of printed functions -/
def kO : Nat → Option Nat := fun n => match n with
  | 0 => none
  | n + 1 => some n
def nz {α : Type} (r : Option Nat) (m : AM α) : AM α := fun h => match r with
  | none => none
  | some _ => m h
def ctc {β : Type} (yes no : List Nat) (q : Nat) (hb rest : AM β) : AM β := fun h => if yes.contains (aK h q) = true then hb h else if no.contains (aK h q) = true then rest h else none
def thc {β : Type} (r : Option Nat) (hd : Nat → AM β) : AM β := fun h => match r with
  | none => none
  | some a => if isX (aK h a) = true then hd a h else none
/-- the class of an array made here -/
def gcl (K : Nat → Nat) (t : Nat) (r : Option Nat) : AM Unit := fun h => match r with
  | none => none
  | some a => if aK h a = t ∧ K 2 ≤ a then some (.ok (), h) else none
/-- an object of a lambda's site -/
def mkL (t : Nat) (vs : List Value) (h : AH) : AH := (fun b => if b = aX h then t else aK h b, aN h, fun φ b => if b = aX h then vs.getD (φ - 100 * t) .null else aF h φ b, aE h, aX h + 1, aW h + vs.length)
def nwL (K : Nat → Nat) (t : Nat) (vs : List Value) : AM (Option Nat) := fun h => if aX h + 1 ≤ K 0 ∧ aW h + vs.length ≤ K 1 then some (.ok (some (aX h)), mkL t vs h) else none
/-- what a lambda's object has caught -/
def gL {α : Type} (p : Value → Option α) (t i : Nat) (r : Option Nat) : AM α := fun h => match r with
  | none => none
  | some a => if aK h a = t then (match p (aF h (100 * t + i) a) with | none => none | some x => some (.ok x, h)) else none
def okv (h : AH) (ks : List Nat) : Value → Bool := fun v => match v with
  | .null => true
  | .ref b => ks.contains (aK h b)
  | _ => false
/-- copying references between arrays of Object -/
def acpR (K : Nat → Nat) (ks : List Nat) (r : Option Nat) (i : Int32) (r2 : Option Nat) (j n : Int32) : AM Unit := fun h => match r, r2 with
  | some a, some b => if ((aK h a = 1006 ∧ aK h b = 1006 ∧ K 2 ≤ b) ∧ (¬ i < 0 ∧ ¬ j < 0 ∧ ¬ n < 0) ∧ i.toNatClampNeg + n.toNatClampNeg ≤ aN h a ∧ j.toNatClampNeg + n.toNatClampNeg ≤ aN h b) ∧ (List.range n.toNatClampNeg).all (fun q => okv h ks (aE h a (i.toNatClampNeg + q))) = true then some (.ok (), cpE a b i.toNatClampNeg j.toNatClampNeg n.toNatClampNeg h) else none
  | _, _ => none
