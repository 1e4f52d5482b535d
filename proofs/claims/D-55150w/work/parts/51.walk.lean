section WK
variable {l : Launch} {s0 : State} {a0 : Array Value} {K : Nat → Nat} {lam : Nat → ClassId}
variable {p : Program} {e : Env} {R : Room} {s : State} {m : MethodId} {args : Array Value} {below : List Frame} {meth : Method} {c : Code} {b : AH}
theorem w_L_law_j2446 {r : Except Nat (Int32) × AH} (GA : GA l s0 a0 K lam) (Z : WZL r l s0 a0 K p s m c cL_law yL_law.cls 9 b R 23 3398 meth [] (some (.boolean)) yL_law) (v0 : Option Nat) (v1 : Option Nat) (v2 : Option Nat) (v3 : Option Nat) (v4 : Option Nat) (v5 : Int32)  (rc28 : Int32 → AM (Int32)) (hrc28 : ∀ (v5 : Int32) (h : AH) (ls : Array Slot), LV ls 9 [(0, vR v0), (1, vR v1), (2, vR v2), (3, vR v3), (4, vR v4), (5, vI v5)] → rc28 v5 h = some r → AW s0 K lam p l e R s m args below meth c (AQ s0 K lam below oI b r s) b h (F0 m 28 ls [])) {h : AH} {ls : Array Slot} (hl : LV ls 9 [(0, vR v0), (1, vR v1), (2, vR v2), (3, vR v3), (4, vR v4), (5, vI v5)]) (hf : f_L_law_j2446 K rc28 v0 v1 v2 v3 v4 v5 h = some r) : AW s0 K lam p l e R s m args below meth c (AQ s0 K lam below oI b r s) b h (F0 m 2446 ls []) := by
  unfold f_L_law_j2446 at hf
  have X := Z.1.1
  refine a_iinc (pc := 2446) (v := (v5 + (5 : Int32))) X dL_law_2446 hl (k := 5) rfl rfl (by decide) (lv' := [(5, vI (v5 + (5 : Int32))), (0, vR v0), (1, vR v1), (2, vR v2), (3, vR v3), (4, vR v4)]) rfl (fun ls hl => ?_)
  refine AW.lift (fun _ _ _ _ k => lv_goto (pc := 2449) (tgt := 28) X.2.2.1 X.2.2.2.1 dL_law_2449 rfl k) ?_
  exact hrc28 (v5 + (5 : Int32)) _ _ (hl.sub [1, 2, 3, 4, 5, 0] rfl) hf
theorem w_L_law_j253 {r : Except Nat (Int32) × AH} (GA : GA l s0 a0 K lam) (Z : WZL r l s0 a0 K p s m c cL_law yL_law.cls 9 b R 23 3398 meth [] (some (.boolean)) yL_law) (v0 : Option Nat) (v1 : Option Nat) (v2 : Option Nat) (v3 : Option Nat) (v4 : Option Nat) (v5 : Int32)  (rc28 : Int32 → AM (Int32)) (hrc28 : ∀ (v5 : Int32) (h : AH) (ls : Array Slot), LV ls 9 [(0, vR v0), (1, vR v1), (2, vR v2), (3, vR v3), (4, vR v4), (5, vI v5)] → rc28 v5 h = some r → AW s0 K lam p l e R s m args below meth c (AQ s0 K lam below oI b r s) b h (F0 m 28 ls [])) {h : AH} {ls : Array Slot} (hl : LV ls 9 [(0, vR v0), (1, vR v1), (2, vR v2), (3, vR v3), (4, vR v4), (5, vI v5)]) (hf : f_L_law_j253 K rc28 v0 v1 v2 v3 v4 v5 h = some r) : AW s0 K lam p l e R s m args below meth c (AQ s0 K lam below oI b r s) b h (F0 m 253 ls []) := by
  unfold f_L_law_j253 at hf
  have X := Z.1.1
  refine AW.lift (fun _ _ _ _ k => lv_goto (pc := 253) (tgt := 2446) X.2.2.1 X.2.2.2.1 dL_law_253 rfl k) ?_
  exact w_L_law_j2446 GA Z v0 v1 v2 v3 v4 v5  rc28 hrc28 (hl.sub [0, 1, 2, 3, 4, 5] rfl) hf
theorem w_L_law_j321 {r : Except Nat (Int32) × AH} (GA : GA l s0 a0 K lam) (Z : WZL r l s0 a0 K p s m c cL_law yL_law.cls 9 b R 23 3398 meth [] (some (.boolean)) yL_law) (v0 : Option Nat) (v1 : Option Nat) (v2 : Option Nat) (v3 : Option Nat) (v4 : Option Nat) (v5 : Int32)  (rc28 : Int32 → AM (Int32)) (hrc28 : ∀ (v5 : Int32) (h : AH) (ls : Array Slot), LV ls 9 [(0, vR v0), (1, vR v1), (2, vR v2), (3, vR v3), (4, vR v4), (5, vI v5)] → rc28 v5 h = some r → AW s0 K lam p l e R s m args below meth c (AQ s0 K lam below oI b r s) b h (F0 m 28 ls [])) {h : AH} {ls : Array Slot} (hl : LV ls 9 [(0, vR v0), (1, vR v1), (2, vR v2), (3, vR v3), (4, vR v4), (5, vI v5)]) (hf : f_L_law_j321 K rc28 v0 v1 v2 v3 v4 v5 h = some r) : AW s0 K lam p l e R s m args below meth c (AQ s0 K lam below oI b r s) b h (F0 m 321 ls []) := by
  unfold f_L_law_j321 at hf
  have X := Z.1.1
  refine AW.lift (fun _ _ _ _ k => lv_goto (pc := 321) (tgt := 2446) X.2.2.1 X.2.2.2.1 dL_law_321 rfl k) ?_
  exact w_L_law_j2446 GA Z v0 v1 v2 v3 v4 v5  rc28 hrc28 (hl.sub [0, 1, 2, 3, 4, 5] rfl) hf
theorem w_L_law_j377 {r : Except Nat (Int32) × AH} (GA : GA l s0 a0 K lam) (Z : WZL r l s0 a0 K p s m c cL_law yL_law.cls 9 b R 23 3398 meth [] (some (.boolean)) yL_law) (v0 : Option Nat) (v1 : Option Nat) (v2 : Option Nat) (v3 : Option Nat) (v4 : Option Nat) (v5 : Int32)  (rc28 : Int32 → AM (Int32)) (hrc28 : ∀ (v5 : Int32) (h : AH) (ls : Array Slot), LV ls 9 [(0, vR v0), (1, vR v1), (2, vR v2), (3, vR v3), (4, vR v4), (5, vI v5)] → rc28 v5 h = some r → AW s0 K lam p l e R s m args below meth c (AQ s0 K lam below oI b r s) b h (F0 m 28 ls [])) {h : AH} {ls : Array Slot} (hl : LV ls 9 [(0, vR v0), (1, vR v1), (2, vR v2), (3, vR v3), (4, vR v4), (5, vI v5)]) (hf : f_L_law_j377 K rc28 v0 v1 v2 v3 v4 v5 h = some r) : AW s0 K lam p l e R s m args below meth c (AQ s0 K lam below oI b r s) b h (F0 m 377 ls []) := by
  unfold f_L_law_j377 at hf
  have X := Z.1.1
  refine AW.lift (fun _ _ _ _ k => lv_goto (pc := 377) (tgt := 2446) X.2.2.1 X.2.2.2.1 dL_law_377 rfl k) ?_
  exact w_L_law_j2446 GA Z v0 v1 v2 v3 v4 v5  rc28 hrc28 (hl.sub [0, 1, 2, 3, 4, 5] rfl) hf
theorem w_L_law_j445 {r : Except Nat (Int32) × AH} (GA : GA l s0 a0 K lam) (Z : WZL r l s0 a0 K p s m c cL_law yL_law.cls 9 b R 23 3398 meth [] (some (.boolean)) yL_law) (v0 : Option Nat) (v1 : Option Nat) (v2 : Option Nat) (v3 : Option Nat) (v4 : Option Nat) (v5 : Int32)  (rc28 : Int32 → AM (Int32)) (hrc28 : ∀ (v5 : Int32) (h : AH) (ls : Array Slot), LV ls 9 [(0, vR v0), (1, vR v1), (2, vR v2), (3, vR v3), (4, vR v4), (5, vI v5)] → rc28 v5 h = some r → AW s0 K lam p l e R s m args below meth c (AQ s0 K lam below oI b r s) b h (F0 m 28 ls [])) {h : AH} {ls : Array Slot} (hl : LV ls 9 [(0, vR v0), (1, vR v1), (2, vR v2), (3, vR v3), (4, vR v4), (5, vI v5)]) (hf : f_L_law_j445 K rc28 v0 v1 v2 v3 v4 v5 h = some r) : AW s0 K lam p l e R s m args below meth c (AQ s0 K lam below oI b r s) b h (F0 m 445 ls []) := by
  unfold f_L_law_j445 at hf
  have X := Z.1.1
  refine AW.lift (fun _ _ _ _ k => lv_goto (pc := 445) (tgt := 2446) X.2.2.1 X.2.2.2.1 dL_law_445 rfl k) ?_
  exact w_L_law_j2446 GA Z v0 v1 v2 v3 v4 v5  rc28 hrc28 (hl.sub [0, 1, 2, 3, 4, 5] rfl) hf
theorem w_L_law_j513 {r : Except Nat (Int32) × AH} (GA : GA l s0 a0 K lam) (Z : WZL r l s0 a0 K p s m c cL_law yL_law.cls 9 b R 23 3398 meth [] (some (.boolean)) yL_law) (v0 : Option Nat) (v1 : Option Nat) (v2 : Option Nat) (v3 : Option Nat) (v4 : Option Nat) (v5 : Int32)  (rc28 : Int32 → AM (Int32)) (hrc28 : ∀ (v5 : Int32) (h : AH) (ls : Array Slot), LV ls 9 [(0, vR v0), (1, vR v1), (2, vR v2), (3, vR v3), (4, vR v4), (5, vI v5)] → rc28 v5 h = some r → AW s0 K lam p l e R s m args below meth c (AQ s0 K lam below oI b r s) b h (F0 m 28 ls [])) {h : AH} {ls : Array Slot} (hl : LV ls 9 [(0, vR v0), (1, vR v1), (2, vR v2), (3, vR v3), (4, vR v4), (5, vI v5)]) (hf : f_L_law_j513 K rc28 v0 v1 v2 v3 v4 v5 h = some r) : AW s0 K lam p l e R s m args below meth c (AQ s0 K lam below oI b r s) b h (F0 m 513 ls []) := by
  unfold f_L_law_j513 at hf
  have X := Z.1.1
  refine AW.lift (fun _ _ _ _ k => lv_goto (pc := 513) (tgt := 2446) X.2.2.1 X.2.2.2.1 dL_law_513 rfl k) ?_
  exact w_L_law_j2446 GA Z v0 v1 v2 v3 v4 v5  rc28 hrc28 (hl.sub [0, 1, 2, 3, 4, 5] rfl) hf
theorem w_L_law_j569 {r : Except Nat (Int32) × AH} (GA : GA l s0 a0 K lam) (Z : WZL r l s0 a0 K p s m c cL_law yL_law.cls 9 b R 23 3398 meth [] (some (.boolean)) yL_law) (v0 : Option Nat) (v1 : Option Nat) (v2 : Option Nat) (v3 : Option Nat) (v4 : Option Nat) (v5 : Int32)  (rc28 : Int32 → AM (Int32)) (hrc28 : ∀ (v5 : Int32) (h : AH) (ls : Array Slot), LV ls 9 [(0, vR v0), (1, vR v1), (2, vR v2), (3, vR v3), (4, vR v4), (5, vI v5)] → rc28 v5 h = some r → AW s0 K lam p l e R s m args below meth c (AQ s0 K lam below oI b r s) b h (F0 m 28 ls [])) {h : AH} {ls : Array Slot} (hl : LV ls 9 [(0, vR v0), (1, vR v1), (2, vR v2), (3, vR v3), (4, vR v4), (5, vI v5)]) (hf : f_L_law_j569 K rc28 v0 v1 v2 v3 v4 v5 h = some r) : AW s0 K lam p l e R s m args below meth c (AQ s0 K lam below oI b r s) b h (F0 m 569 ls []) := by
  unfold f_L_law_j569 at hf
  have X := Z.1.1
  refine AW.lift (fun _ _ _ _ k => lv_goto (pc := 569) (tgt := 2446) X.2.2.1 X.2.2.2.1 dL_law_569 rfl k) ?_
  exact w_L_law_j2446 GA Z v0 v1 v2 v3 v4 v5  rc28 hrc28 (hl.sub [0, 1, 2, 3, 4, 5] rfl) hf
theorem w_L_law_j625 {r : Except Nat (Int32) × AH} (GA : GA l s0 a0 K lam) (Z : WZL r l s0 a0 K p s m c cL_law yL_law.cls 9 b R 23 3398 meth [] (some (.boolean)) yL_law) (v0 : Option Nat) (v1 : Option Nat) (v2 : Option Nat) (v3 : Option Nat) (v4 : Option Nat) (v5 : Int32)  (rc28 : Int32 → AM (Int32)) (hrc28 : ∀ (v5 : Int32) (h : AH) (ls : Array Slot), LV ls 9 [(0, vR v0), (1, vR v1), (2, vR v2), (3, vR v3), (4, vR v4), (5, vI v5)] → rc28 v5 h = some r → AW s0 K lam p l e R s m args below meth c (AQ s0 K lam below oI b r s) b h (F0 m 28 ls [])) {h : AH} {ls : Array Slot} (hl : LV ls 9 [(0, vR v0), (1, vR v1), (2, vR v2), (3, vR v3), (4, vR v4), (5, vI v5)]) (hf : f_L_law_j625 K rc28 v0 v1 v2 v3 v4 v5 h = some r) : AW s0 K lam p l e R s m args below meth c (AQ s0 K lam below oI b r s) b h (F0 m 625 ls []) := by
  unfold f_L_law_j625 at hf
  have X := Z.1.1
  refine AW.lift (fun _ _ _ _ k => lv_goto (pc := 625) (tgt := 2446) X.2.2.1 X.2.2.2.1 dL_law_625 rfl k) ?_
  exact w_L_law_j2446 GA Z v0 v1 v2 v3 v4 v5  rc28 hrc28 (hl.sub [0, 1, 2, 3, 4, 5] rfl) hf
theorem w_L_law_j669 {r : Except Nat (Int32) × AH} (GA : GA l s0 a0 K lam) (Z : WZL r l s0 a0 K p s m c cL_law yL_law.cls 9 b R 23 3398 meth [] (some (.boolean)) yL_law) (v0 : Option Nat) (v1 : Option Nat) (v2 : Option Nat) (v3 : Option Nat) (v4 : Option Nat) (v5 : Int32)  (rc28 : Int32 → AM (Int32)) (hrc28 : ∀ (v5 : Int32) (h : AH) (ls : Array Slot), LV ls 9 [(0, vR v0), (1, vR v1), (2, vR v2), (3, vR v3), (4, vR v4), (5, vI v5)] → rc28 v5 h = some r → AW s0 K lam p l e R s m args below meth c (AQ s0 K lam below oI b r s) b h (F0 m 28 ls [])) {h : AH} {ls : Array Slot} (hl : LV ls 9 [(0, vR v0), (1, vR v1), (2, vR v2), (3, vR v3), (4, vR v4), (5, vI v5)]) (hf : f_L_law_j669 K rc28 v0 v1 v2 v3 v4 v5 h = some r) : AW s0 K lam p l e R s m args below meth c (AQ s0 K lam below oI b r s) b h (F0 m 669 ls []) := by
  unfold f_L_law_j669 at hf
  have X := Z.1.1
  refine AW.lift (fun _ _ _ _ k => lv_goto (pc := 669) (tgt := 2446) X.2.2.1 X.2.2.2.1 dL_law_669 rfl k) ?_
  exact w_L_law_j2446 GA Z v0 v1 v2 v3 v4 v5  rc28 hrc28 (hl.sub [0, 1, 2, 3, 4, 5] rfl) hf
theorem w_L_law_j737 {r : Except Nat (Int32) × AH} (GA : GA l s0 a0 K lam) (Z : WZL r l s0 a0 K p s m c cL_law yL_law.cls 9 b R 23 3398 meth [] (some (.boolean)) yL_law) (v0 : Option Nat) (v1 : Option Nat) (v2 : Option Nat) (v3 : Option Nat) (v4 : Option Nat) (v5 : Int32)  (rc28 : Int32 → AM (Int32)) (hrc28 : ∀ (v5 : Int32) (h : AH) (ls : Array Slot), LV ls 9 [(0, vR v0), (1, vR v1), (2, vR v2), (3, vR v3), (4, vR v4), (5, vI v5)] → rc28 v5 h = some r → AW s0 K lam p l e R s m args below meth c (AQ s0 K lam below oI b r s) b h (F0 m 28 ls [])) {h : AH} {ls : Array Slot} (hl : LV ls 9 [(0, vR v0), (1, vR v1), (2, vR v2), (3, vR v3), (4, vR v4), (5, vI v5)]) (hf : f_L_law_j737 K rc28 v0 v1 v2 v3 v4 v5 h = some r) : AW s0 K lam p l e R s m args below meth c (AQ s0 K lam below oI b r s) b h (F0 m 737 ls []) := by
  unfold f_L_law_j737 at hf
  have X := Z.1.1
  refine AW.lift (fun _ _ _ _ k => lv_goto (pc := 737) (tgt := 2446) X.2.2.1 X.2.2.2.1 dL_law_737 rfl k) ?_
  exact w_L_law_j2446 GA Z v0 v1 v2 v3 v4 v5  rc28 hrc28 (hl.sub [0, 1, 2, 3, 4, 5] rfl) hf
theorem w_L_law_j805 {r : Except Nat (Int32) × AH} (GA : GA l s0 a0 K lam) (Z : WZL r l s0 a0 K p s m c cL_law yL_law.cls 9 b R 23 3398 meth [] (some (.boolean)) yL_law) (v0 : Option Nat) (v1 : Option Nat) (v2 : Option Nat) (v3 : Option Nat) (v4 : Option Nat) (v5 : Int32)  (rc28 : Int32 → AM (Int32)) (hrc28 : ∀ (v5 : Int32) (h : AH) (ls : Array Slot), LV ls 9 [(0, vR v0), (1, vR v1), (2, vR v2), (3, vR v3), (4, vR v4), (5, vI v5)] → rc28 v5 h = some r → AW s0 K lam p l e R s m args below meth c (AQ s0 K lam below oI b r s) b h (F0 m 28 ls [])) {h : AH} {ls : Array Slot} (hl : LV ls 9 [(0, vR v0), (1, vR v1), (2, vR v2), (3, vR v3), (4, vR v4), (5, vI v5)]) (hf : f_L_law_j805 K rc28 v0 v1 v2 v3 v4 v5 h = some r) : AW s0 K lam p l e R s m args below meth c (AQ s0 K lam below oI b r s) b h (F0 m 805 ls []) := by
  unfold f_L_law_j805 at hf
  have X := Z.1.1
  refine AW.lift (fun _ _ _ _ k => lv_goto (pc := 805) (tgt := 2446) X.2.2.1 X.2.2.2.1 dL_law_805 rfl k) ?_
  exact w_L_law_j2446 GA Z v0 v1 v2 v3 v4 v5  rc28 hrc28 (hl.sub [0, 1, 2, 3, 4, 5] rfl) hf
theorem w_L_law_j861 {r : Except Nat (Int32) × AH} (GA : GA l s0 a0 K lam) (Z : WZL r l s0 a0 K p s m c cL_law yL_law.cls 9 b R 23 3398 meth [] (some (.boolean)) yL_law) (v0 : Option Nat) (v1 : Option Nat) (v2 : Option Nat) (v3 : Option Nat) (v4 : Option Nat) (v5 : Int32)  (rc28 : Int32 → AM (Int32)) (hrc28 : ∀ (v5 : Int32) (h : AH) (ls : Array Slot), LV ls 9 [(0, vR v0), (1, vR v1), (2, vR v2), (3, vR v3), (4, vR v4), (5, vI v5)] → rc28 v5 h = some r → AW s0 K lam p l e R s m args below meth c (AQ s0 K lam below oI b r s) b h (F0 m 28 ls [])) {h : AH} {ls : Array Slot} (hl : LV ls 9 [(0, vR v0), (1, vR v1), (2, vR v2), (3, vR v3), (4, vR v4), (5, vI v5)]) (hf : f_L_law_j861 K rc28 v0 v1 v2 v3 v4 v5 h = some r) : AW s0 K lam p l e R s m args below meth c (AQ s0 K lam below oI b r s) b h (F0 m 861 ls []) := by
  unfold f_L_law_j861 at hf
  have X := Z.1.1
  refine AW.lift (fun _ _ _ _ k => lv_goto (pc := 861) (tgt := 2446) X.2.2.1 X.2.2.2.1 dL_law_861 rfl k) ?_
  exact w_L_law_j2446 GA Z v0 v1 v2 v3 v4 v5  rc28 hrc28 (hl.sub [0, 1, 2, 3, 4, 5] rfl) hf
theorem w_L_law_j917 {r : Except Nat (Int32) × AH} (GA : GA l s0 a0 K lam) (Z : WZL r l s0 a0 K p s m c cL_law yL_law.cls 9 b R 23 3398 meth [] (some (.boolean)) yL_law) (v0 : Option Nat) (v1 : Option Nat) (v2 : Option Nat) (v3 : Option Nat) (v4 : Option Nat) (v5 : Int32)  (rc28 : Int32 → AM (Int32)) (hrc28 : ∀ (v5 : Int32) (h : AH) (ls : Array Slot), LV ls 9 [(0, vR v0), (1, vR v1), (2, vR v2), (3, vR v3), (4, vR v4), (5, vI v5)] → rc28 v5 h = some r → AW s0 K lam p l e R s m args below meth c (AQ s0 K lam below oI b r s) b h (F0 m 28 ls [])) {h : AH} {ls : Array Slot} (hl : LV ls 9 [(0, vR v0), (1, vR v1), (2, vR v2), (3, vR v3), (4, vR v4), (5, vI v5)]) (hf : f_L_law_j917 K rc28 v0 v1 v2 v3 v4 v5 h = some r) : AW s0 K lam p l e R s m args below meth c (AQ s0 K lam below oI b r s) b h (F0 m 917 ls []) := by
  unfold f_L_law_j917 at hf
  have X := Z.1.1
  refine AW.lift (fun _ _ _ _ k => lv_goto (pc := 917) (tgt := 2446) X.2.2.1 X.2.2.2.1 dL_law_917 rfl k) ?_
  exact w_L_law_j2446 GA Z v0 v1 v2 v3 v4 v5  rc28 hrc28 (hl.sub [0, 1, 2, 3, 4, 5] rfl) hf
theorem w_L_law_j997 {r : Except Nat (Int32) × AH} (GA : GA l s0 a0 K lam) (Z : WZL r l s0 a0 K p s m c cL_law yL_law.cls 9 b R 23 3398 meth [] (some (.boolean)) yL_law) (v0 : Option Nat) (v1 : Option Nat) (v2 : Option Nat) (v3 : Option Nat) (v4 : Option Nat) (v5 : Int32)  (rc28 : Int32 → AM (Int32)) (hrc28 : ∀ (v5 : Int32) (h : AH) (ls : Array Slot), LV ls 9 [(0, vR v0), (1, vR v1), (2, vR v2), (3, vR v3), (4, vR v4), (5, vI v5)] → rc28 v5 h = some r → AW s0 K lam p l e R s m args below meth c (AQ s0 K lam below oI b r s) b h (F0 m 28 ls [])) {h : AH} {ls : Array Slot} (hl : LV ls 9 [(0, vR v0), (1, vR v1), (2, vR v2), (3, vR v3), (4, vR v4), (5, vI v5)]) (hf : f_L_law_j997 K rc28 v0 v1 v2 v3 v4 v5 h = some r) : AW s0 K lam p l e R s m args below meth c (AQ s0 K lam below oI b r s) b h (F0 m 997 ls []) := by
  unfold f_L_law_j997 at hf
  have X := Z.1.1
  refine AW.lift (fun _ _ _ _ k => lv_goto (pc := 997) (tgt := 2446) X.2.2.1 X.2.2.2.1 dL_law_997 rfl k) ?_
  exact w_L_law_j2446 GA Z v0 v1 v2 v3 v4 v5  rc28 hrc28 (hl.sub [0, 1, 2, 3, 4, 5] rfl) hf
theorem w_L_law_j1065 {r : Except Nat (Int32) × AH} (GA : GA l s0 a0 K lam) (Z : WZL r l s0 a0 K p s m c cL_law yL_law.cls 9 b R 23 3398 meth [] (some (.boolean)) yL_law) (v0 : Option Nat) (v1 : Option Nat) (v2 : Option Nat) (v3 : Option Nat) (v4 : Option Nat) (v5 : Int32)  (rc28 : Int32 → AM (Int32)) (hrc28 : ∀ (v5 : Int32) (h : AH) (ls : Array Slot), LV ls 9 [(0, vR v0), (1, vR v1), (2, vR v2), (3, vR v3), (4, vR v4), (5, vI v5)] → rc28 v5 h = some r → AW s0 K lam p l e R s m args below meth c (AQ s0 K lam below oI b r s) b h (F0 m 28 ls [])) {h : AH} {ls : Array Slot} (hl : LV ls 9 [(0, vR v0), (1, vR v1), (2, vR v2), (3, vR v3), (4, vR v4), (5, vI v5)]) (hf : f_L_law_j1065 K rc28 v0 v1 v2 v3 v4 v5 h = some r) : AW s0 K lam p l e R s m args below meth c (AQ s0 K lam below oI b r s) b h (F0 m 1065 ls []) := by
  unfold f_L_law_j1065 at hf
  have X := Z.1.1
  refine AW.lift (fun _ _ _ _ k => lv_goto (pc := 1065) (tgt := 2446) X.2.2.1 X.2.2.2.1 dL_law_1065 rfl k) ?_
  exact w_L_law_j2446 GA Z v0 v1 v2 v3 v4 v5  rc28 hrc28 (hl.sub [0, 1, 2, 3, 4, 5] rfl) hf
theorem w_L_law_j1133 {r : Except Nat (Int32) × AH} (GA : GA l s0 a0 K lam) (Z : WZL r l s0 a0 K p s m c cL_law yL_law.cls 9 b R 23 3398 meth [] (some (.boolean)) yL_law) (v0 : Option Nat) (v1 : Option Nat) (v2 : Option Nat) (v3 : Option Nat) (v4 : Option Nat) (v5 : Int32)  (rc28 : Int32 → AM (Int32)) (hrc28 : ∀ (v5 : Int32) (h : AH) (ls : Array Slot), LV ls 9 [(0, vR v0), (1, vR v1), (2, vR v2), (3, vR v3), (4, vR v4), (5, vI v5)] → rc28 v5 h = some r → AW s0 K lam p l e R s m args below meth c (AQ s0 K lam below oI b r s) b h (F0 m 28 ls [])) {h : AH} {ls : Array Slot} (hl : LV ls 9 [(0, vR v0), (1, vR v1), (2, vR v2), (3, vR v3), (4, vR v4), (5, vI v5)]) (hf : f_L_law_j1133 K rc28 v0 v1 v2 v3 v4 v5 h = some r) : AW s0 K lam p l e R s m args below meth c (AQ s0 K lam below oI b r s) b h (F0 m 1133 ls []) := by
  unfold f_L_law_j1133 at hf
  have X := Z.1.1
  refine AW.lift (fun _ _ _ _ k => lv_goto (pc := 1133) (tgt := 2446) X.2.2.1 X.2.2.2.1 dL_law_1133 rfl k) ?_
  exact w_L_law_j2446 GA Z v0 v1 v2 v3 v4 v5  rc28 hrc28 (hl.sub [0, 1, 2, 3, 4, 5] rfl) hf
theorem w_L_law_j1229 {r : Except Nat (Int32) × AH} (GA : GA l s0 a0 K lam) (Z : WZL r l s0 a0 K p s m c cL_law yL_law.cls 9 b R 23 3398 meth [] (some (.boolean)) yL_law) (v0 : Option Nat) (v1 : Option Nat) (v2 : Option Nat) (v3 : Option Nat) (v4 : Option Nat) (v5 : Int32)  (rc28 : Int32 → AM (Int32)) (hrc28 : ∀ (v5 : Int32) (h : AH) (ls : Array Slot), LV ls 9 [(0, vR v0), (1, vR v1), (2, vR v2), (3, vR v3), (4, vR v4), (5, vI v5)] → rc28 v5 h = some r → AW s0 K lam p l e R s m args below meth c (AQ s0 K lam below oI b r s) b h (F0 m 28 ls [])) {h : AH} {ls : Array Slot} (hl : LV ls 9 [(0, vR v0), (1, vR v1), (2, vR v2), (3, vR v3), (4, vR v4), (5, vI v5)]) (hf : f_L_law_j1229 K rc28 v0 v1 v2 v3 v4 v5 h = some r) : AW s0 K lam p l e R s m args below meth c (AQ s0 K lam below oI b r s) b h (F0 m 1229 ls []) := by
  unfold f_L_law_j1229 at hf
  have X := Z.1.1
  refine AW.lift (fun _ _ _ _ k => lv_goto (pc := 1229) (tgt := 2446) X.2.2.1 X.2.2.2.1 dL_law_1229 rfl k) ?_
  exact w_L_law_j2446 GA Z v0 v1 v2 v3 v4 v5  rc28 hrc28 (hl.sub [0, 1, 2, 3, 4, 5] rfl) hf
theorem w_L_law_j1196 {r : Except Nat (Int32) × AH} (GA : GA l s0 a0 K lam) (Z : WZL r l s0 a0 K p s m c cL_law yL_law.cls 9 b R 23 3398 meth [] (some (.boolean)) yL_law) (v0 : Option Nat) (v1 : Option Nat) (v2 : Option Nat) (v3 : Option Nat) (v4 : Option Nat) (v5 : Int32) (v6 : Int32) (t0 : Int32) (t1 : Int32) (t2 : Int32) (t3 : Option Nat) (rc28 : Int32 → AM (Int32)) (hrc28 : ∀ (v5 : Int32) (h : AH) (ls : Array Slot), LV ls 9 [(0, vR v0), (1, vR v1), (2, vR v2), (3, vR v3), (4, vR v4), (5, vI v5)] → rc28 v5 h = some r → AW s0 K lam p l e R s m args below meth c (AQ s0 K lam below oI b r s) b h (F0 m 28 ls [])) {h : AH} {ls : Array Slot} (hl : LV ls 9 [(0, vR v0), (1, vR v1), (2, vR v2), (3, vR v3), (4, vR v4), (5, vI v5), (6, vI v6)]) (hf : f_L_law_j1196 K rc28 v0 v1 v2 v3 v4 v5 v6 t0 t1 t2 t3 h = some r) : AW s0 K lam p l e R s m args below meth c (AQ s0 K lam below oI b r s) b h (F0 m 1196 ls [.int t0, .int t1, .int t2, va_rf t3]) := by
  unfold f_L_law_j1196 at hf
  have X := Z.1.1
  obtain ⟨a1196, rfl, ⟨hk, hf⟩ | ⟨-, hf⟩⟩ := dv_some hf
  rotate_left
  · exact fl_none hf
  refine a_callb (pc := 1196) (rs := []) (avs := [vR (some a1196), vI t2, vI t1, vI t0]) Z.1 (w_X4_socks GA (some a1196) t2 t1 t0) (Or.inl rfl) q3275 q86 (by decide) (by decide) dL_law_1196 hl.1 (Nat.le_of_ble_eq_true rfl) hf (ct_V hk ⟨by decide, by decide⟩ X (Or.inl rfl) q3275 q3272 q3273 q3274 hy_X4_socks np_X4_socks rfl dL_law_1196) (fun q h he hX => absurd he (Z.2.1 q h)) (fun x1196 h hf => ?kk1196)
  refine AW.eq (g2 := F0 m 1199 ls [.int x1196]) rfl ?_
  refine a_istore (pc := 1199) X dL_law_1199 hl (by decide) (lv' := [(7, vI x1196), (0, vR v0), (1, vR v1), (2, vR v2), (3, vR v3), (4, vR v4), (5, vI v5), (6, vI v6)]) rfl (fun ls hl => ?_)
  refine a_aload_n (pc := 1201) X dL_law_1201 rfl hl 3 rfl ?_
  obtain ⟨a1202, rfl, ⟨hk, hf⟩ | ⟨-, hf⟩⟩ := dv_some hf
  rotate_left
  · exact fl_none hf
  refine a_callb (pc := 1202) (rs := []) (avs := [vR (some a1202)]) Z.1 (w_X4_thrown GA (some a1202)) (Or.inl rfl) q3104 q86 (by decide) (by decide) dL_law_1202 hl.1 (Nat.le_of_ble_eq_true rfl) hf (ct_V hk ⟨by decide, by decide⟩ X (Or.inl rfl) q3104 q3101 q3102 q3103 hy_X4_thrown np_X4_thrown rfl dL_law_1202) (fun q h he hX => absurd he (Z.2.1 q h)) (fun x1202 h hf => ?kk1202)
  refine AW.eq (g2 := F0 m 1205 ls [.int x1202]) rfl ?_
  refine a_iload (pc := 1205) X dL_law_1205 hl 7 rfl ?_
  refine AW.lift2 (fun _ _ _ _ k1 k2 => lv_icmp_eq (pc := 1207) (tgt := 1212) X.2.2.1 X.2.2.2.1 dL_law_1207 rfl k1 k2) (fun c => ?_) (fun c => ?_)
  · have hf := ite_t c hf
    refine a_iload (pc := 1212) X dL_law_1212 hl 7 rfl ?_
    refine AW.lift2 (fun _ _ _ _ k1 k2 => lv_if_ne (pc := 1214) (tgt := 1229) X.2.2.1 X.2.2.2.1 dL_law_1214 rfl k2 k1) (fun c => ?_) (fun c => ?_)
    · have hf := ite_t c hf
      refine a_aload_n (pc := 1217) X dL_law_1217 rfl hl 4 rfl ?_
      refine AW.lift (fun _ _ _ _ k => lv_iconst (pc := 1218) (v := (0 : Int32)) X.2.2.1 X.2.2.2.1 dL_law_1218 rfl k) ?_
      refine a_laload (pc := 1219) X dL_law_1219 hf (fun x1219 hf => ?_)
      refine a_iload (pc := 1220) X dL_law_1220 hl 0 rfl ?_
      refine AW.lift (fun _ _ _ _ k => lv_i2l (pc := 1222) X.2.2.1 X.2.2.2.1 dL_law_1222 rfl k) ?_
      refine AW.lift (fun _ _ _ _ k => W.lcmp (pc := 1223) X.2.2.1 X.2.2.2.1 dL_law_1223 k) ?_
      refine AW.lift2 (fun _ _ _ _ k1 k2 => lv_if_eq (pc := 1224) (tgt := 1229) X.2.2.1 X.2.2.2.1 dL_law_1224 rfl k1 k2) (fun c => ?_) (fun c => ?_)
      · have hf := ite_t c hf
        exact w_L_law_j1229 GA Z v0 v1 (some a1202) v3 v4 v5  rc28 hrc28 (hl.sub [1, 2, 3, 4, 5, 6] rfl) hf
      · have hf := ite_f c hf
        refine AW.lift (fun _ _ _ _ k => lv_iconst (pc := 1227) (v := (0 : Int32)) X.2.2.1 X.2.2.2.1 dL_law_1227 rfl k) ?_
        exact a_zreturn X Z.2.2.1 rfl Z.2.2.2.1 dL_law_1228 hf
    · have hf := ite_f c hf
      exact w_L_law_j1229 GA Z v0 v1 (some a1202) v3 v4 v5  rc28 hrc28 (hl.sub [1, 2, 3, 4, 5, 6] rfl) hf
  · have hf := ite_f c hf
    refine AW.lift (fun _ _ _ _ k => lv_iconst (pc := 1210) (v := (0 : Int32)) X.2.2.1 X.2.2.2.1 dL_law_1210 rfl k) ?_
    exact a_zreturn X Z.2.2.1 rfl Z.2.2.2.1 dL_law_1211 hf
theorem w_L_law_j1163 {r : Except Nat (Int32) × AH} (GA : GA l s0 a0 K lam) (Z : WZL r l s0 a0 K p s m c cL_law yL_law.cls 9 b R 23 3398 meth [] (some (.boolean)) yL_law) (v0 : Option Nat) (v1 : Option Nat) (v2 : Option Nat) (v3 : Option Nat) (v4 : Option Nat) (v5 : Int32) (t0 : Int32) (t1 : Int32) (t2 : Int32) (t3 : Option Nat) (rc28 : Int32 → AM (Int32)) (hrc28 : ∀ (v5 : Int32) (h : AH) (ls : Array Slot), LV ls 9 [(0, vR v0), (1, vR v1), (2, vR v2), (3, vR v3), (4, vR v4), (5, vI v5)] → rc28 v5 h = some r → AW s0 K lam p l e R s m args below meth c (AQ s0 K lam below oI b r s) b h (F0 m 28 ls [])) {h : AH} {ls : Array Slot} (hl : LV ls 9 [(0, vR v0), (1, vR v1), (2, vR v2), (3, vR v3), (4, vR v4), (5, vI v5)]) (hf : f_L_law_j1163 K rc28 v0 v1 v2 v3 v4 v5 t0 t1 t2 t3 h = some r) : AW s0 K lam p l e R s m args below meth c (AQ s0 K lam below oI b r s) b h (F0 m 1163 ls [.int t0, .int t1, .int t2, va_rf t3]) := by
  unfold f_L_law_j1163 at hf
  have X := Z.1.1
  refine a_aload_n (pc := 1163) X dL_law_1163 rfl hl 3 rfl ?_
  refine a_callb (pc := 1164) (rs := []) (avs := [vR t3, vI t2, vI t1, vI t0, vR v3]) Z.1 (w_X0_socks GA t3 t2 t1 t0 v3) (Or.inr (Or.inl ⟨_, rfl⟩)) q2317 q73 (by decide) (by decide) dL_law_1164 hl.1 (Nat.le_of_ble_eq_true rfl) hf (ct_S X (Or.inr (Or.inl ⟨_, rfl⟩)) q2317 q73 q2315 q2316 hy_X0_socks np_X0_socks rfl dL_law_1164) (fun q h he hX => absurd he (Z.2.1 q h)) (fun x1164 h hf => ?kk1164)
  refine AW.eq (g2 := F0 m 1167 ls [.int x1164]) rfl ?_
  refine a_istore (pc := 1167) X dL_law_1167 hl (by decide) (lv' := [(6, vI x1164), (0, vR v0), (1, vR v1), (2, vR v2), (3, vR v3), (4, vR v4), (5, vI v5)]) rfl (fun ls hl => ?_)
  refine a_aload_n (pc := 1169) X dL_law_1169 rfl hl 3 rfl ?_
  refine a_aload_n (pc := 1170) X dL_law_1170 rfl hl 1 rfl ?_
  refine a_iload (pc := 1171) X dL_law_1171 hl 6 rfl ?_
  refine AW.lift (fun _ _ _ _ k => lv_iconst (pc := 1173) (v := (1 : Int32)) X.2.2.1 X.2.2.2.1 dL_law_1173 rfl k) ?_
  refine AW.lift (fun _ _ _ _ k => lv_iadd (pc := 1174) X.2.2.1 X.2.2.2.1 dL_law_1174 k) ?_
  refine a_iaload (pc := 1175) X dL_law_1175 hf (fun x1175 hf => ?_)
  refine a_aload_n (pc := 1176) X dL_law_1176 rfl hl 1 rfl ?_
  refine a_iload (pc := 1177) X dL_law_1177 hl 6 rfl ?_
  refine AW.lift (fun _ _ _ _ k => lv_iconst (pc := 1179) (v := (2 : Int32)) X.2.2.1 X.2.2.2.1 dL_law_1179 rfl k) ?_
  refine AW.lift (fun _ _ _ _ k => lv_iadd (pc := 1180) X.2.2.1 X.2.2.2.1 dL_law_1180 k) ?_
  refine a_iaload (pc := 1181) X dL_law_1181 hf (fun x1181 hf => ?_)
  refine a_aload_n (pc := 1182) X dL_law_1182 rfl hl 1 rfl ?_
  refine a_iload (pc := 1183) X dL_law_1183 hl 6 rfl ?_
  refine AW.lift (fun _ _ _ _ k => lv_iconst (pc := 1185) (v := (3 : Int32)) X.2.2.1 X.2.2.2.1 dL_law_1185 rfl k) ?_
  refine AW.lift (fun _ _ _ _ k => lv_iadd (pc := 1186) X.2.2.1 X.2.2.2.1 dL_law_1186 k) ?_
  refine a_iaload (pc := 1187) X dL_law_1187 hf (fun x1187 hf => ?_)
  refine AW.lift2 (fun _ _ _ _ k1 k2 => lv_if_eq (pc := 1188) (tgt := 1195) X.2.2.1 X.2.2.2.1 dL_law_1188 rfl k1 k2) (fun c => ?_) (fun c => ?_)
  · have hf := ite_t c hf
    refine AW.lift (fun _ _ _ _ k => lv_iconst (pc := 1195) (v := (0 : Int32)) X.2.2.1 X.2.2.2.1 dL_law_1195 rfl k) ?_
    exact w_L_law_j1196 GA Z v0 v1 v2 v3 v4 v5 x1164 (0 : Int32) x1181 x1175 v2 rc28 hrc28 (hl.sub [1, 2, 3, 4, 5, 6, 0] rfl) hf
  · have hf := ite_f c hf
    refine AW.lift (fun _ _ _ _ k => lv_iconst (pc := 1191) (v := (1 : Int32)) X.2.2.1 X.2.2.2.1 dL_law_1191 rfl k) ?_
    refine AW.lift (fun _ _ _ _ k => lv_goto (pc := 1192) (tgt := 1196) X.2.2.1 X.2.2.2.1 dL_law_1192 rfl k) ?_
    exact w_L_law_j1196 GA Z v0 v1 v2 v3 v4 v5 x1164 (1 : Int32) x1181 x1175 v2 rc28 hrc28 (hl.sub [1, 2, 3, 4, 5, 6, 0] rfl) hf
theorem w_L_law_j1273 {r : Except Nat (Int32) × AH} (GA : GA l s0 a0 K lam) (Z : WZL r l s0 a0 K p s m c cL_law yL_law.cls 9 b R 23 3398 meth [] (some (.boolean)) yL_law) (v0 : Option Nat) (v1 : Option Nat) (v2 : Option Nat) (v3 : Option Nat) (v4 : Option Nat) (v5 : Int32)  (rc28 : Int32 → AM (Int32)) (hrc28 : ∀ (v5 : Int32) (h : AH) (ls : Array Slot), LV ls 9 [(0, vR v0), (1, vR v1), (2, vR v2), (3, vR v3), (4, vR v4), (5, vI v5)] → rc28 v5 h = some r → AW s0 K lam p l e R s m args below meth c (AQ s0 K lam below oI b r s) b h (F0 m 28 ls [])) {h : AH} {ls : Array Slot} (hl : LV ls 9 [(0, vR v0), (1, vR v1), (2, vR v2), (3, vR v3), (4, vR v4), (5, vI v5)]) (hf : f_L_law_j1273 K rc28 v0 v1 v2 v3 v4 v5 h = some r) : AW s0 K lam p l e R s m args below meth c (AQ s0 K lam below oI b r s) b h (F0 m 1273 ls []) := by
  unfold f_L_law_j1273 at hf
  have X := Z.1.1
  refine AW.lift (fun _ _ _ _ k => lv_goto (pc := 1273) (tgt := 2446) X.2.2.1 X.2.2.2.1 dL_law_1273 rfl k) ?_
  exact w_L_law_j2446 GA Z v0 v1 v2 v3 v4 v5  rc28 hrc28 (hl.sub [0, 1, 2, 3, 4, 5] rfl) hf
theorem w_L_law_j1329 {r : Except Nat (Int32) × AH} (GA : GA l s0 a0 K lam) (Z : WZL r l s0 a0 K p s m c cL_law yL_law.cls 9 b R 23 3398 meth [] (some (.boolean)) yL_law) (v0 : Option Nat) (v1 : Option Nat) (v2 : Option Nat) (v3 : Option Nat) (v4 : Option Nat) (v5 : Int32)  (rc28 : Int32 → AM (Int32)) (hrc28 : ∀ (v5 : Int32) (h : AH) (ls : Array Slot), LV ls 9 [(0, vR v0), (1, vR v1), (2, vR v2), (3, vR v3), (4, vR v4), (5, vI v5)] → rc28 v5 h = some r → AW s0 K lam p l e R s m args below meth c (AQ s0 K lam below oI b r s) b h (F0 m 28 ls [])) {h : AH} {ls : Array Slot} (hl : LV ls 9 [(0, vR v0), (1, vR v1), (2, vR v2), (3, vR v3), (4, vR v4), (5, vI v5)]) (hf : f_L_law_j1329 K rc28 v0 v1 v2 v3 v4 v5 h = some r) : AW s0 K lam p l e R s m args below meth c (AQ s0 K lam below oI b r s) b h (F0 m 1329 ls []) := by
  unfold f_L_law_j1329 at hf
  have X := Z.1.1
  refine AW.lift (fun _ _ _ _ k => lv_goto (pc := 1329) (tgt := 2446) X.2.2.1 X.2.2.2.1 dL_law_1329 rfl k) ?_
  exact w_L_law_j2446 GA Z v0 v1 v2 v3 v4 v5  rc28 hrc28 (hl.sub [0, 1, 2, 3, 4, 5] rfl) hf
theorem w_L_law_j1373 {r : Except Nat (Int32) × AH} (GA : GA l s0 a0 K lam) (Z : WZL r l s0 a0 K p s m c cL_law yL_law.cls 9 b R 23 3398 meth [] (some (.boolean)) yL_law) (v0 : Option Nat) (v1 : Option Nat) (v2 : Option Nat) (v3 : Option Nat) (v4 : Option Nat) (v5 : Int32)  (rc28 : Int32 → AM (Int32)) (hrc28 : ∀ (v5 : Int32) (h : AH) (ls : Array Slot), LV ls 9 [(0, vR v0), (1, vR v1), (2, vR v2), (3, vR v3), (4, vR v4), (5, vI v5)] → rc28 v5 h = some r → AW s0 K lam p l e R s m args below meth c (AQ s0 K lam below oI b r s) b h (F0 m 28 ls [])) {h : AH} {ls : Array Slot} (hl : LV ls 9 [(0, vR v0), (1, vR v1), (2, vR v2), (3, vR v3), (4, vR v4), (5, vI v5)]) (hf : f_L_law_j1373 K rc28 v0 v1 v2 v3 v4 v5 h = some r) : AW s0 K lam p l e R s m args below meth c (AQ s0 K lam below oI b r s) b h (F0 m 1373 ls []) := by
  unfold f_L_law_j1373 at hf
  have X := Z.1.1
  refine AW.lift (fun _ _ _ _ k => lv_goto (pc := 1373) (tgt := 2446) X.2.2.1 X.2.2.2.1 dL_law_1373 rfl k) ?_
  exact w_L_law_j2446 GA Z v0 v1 v2 v3 v4 v5  rc28 hrc28 (hl.sub [0, 1, 2, 3, 4, 5] rfl) hf
theorem w_L_law_j1441 {r : Except Nat (Int32) × AH} (GA : GA l s0 a0 K lam) (Z : WZL r l s0 a0 K p s m c cL_law yL_law.cls 9 b R 23 3398 meth [] (some (.boolean)) yL_law) (v0 : Option Nat) (v1 : Option Nat) (v2 : Option Nat) (v3 : Option Nat) (v4 : Option Nat) (v5 : Int32)  (rc28 : Int32 → AM (Int32)) (hrc28 : ∀ (v5 : Int32) (h : AH) (ls : Array Slot), LV ls 9 [(0, vR v0), (1, vR v1), (2, vR v2), (3, vR v3), (4, vR v4), (5, vI v5)] → rc28 v5 h = some r → AW s0 K lam p l e R s m args below meth c (AQ s0 K lam below oI b r s) b h (F0 m 28 ls [])) {h : AH} {ls : Array Slot} (hl : LV ls 9 [(0, vR v0), (1, vR v1), (2, vR v2), (3, vR v3), (4, vR v4), (5, vI v5)]) (hf : f_L_law_j1441 K rc28 v0 v1 v2 v3 v4 v5 h = some r) : AW s0 K lam p l e R s m args below meth c (AQ s0 K lam below oI b r s) b h (F0 m 1441 ls []) := by
  unfold f_L_law_j1441 at hf
  have X := Z.1.1
  refine AW.lift (fun _ _ _ _ k => lv_goto (pc := 1441) (tgt := 2446) X.2.2.1 X.2.2.2.1 dL_law_1441 rfl k) ?_
  exact w_L_law_j2446 GA Z v0 v1 v2 v3 v4 v5  rc28 hrc28 (hl.sub [0, 1, 2, 3, 4, 5] rfl) hf
theorem w_L_law_j1497 {r : Except Nat (Int32) × AH} (GA : GA l s0 a0 K lam) (Z : WZL r l s0 a0 K p s m c cL_law yL_law.cls 9 b R 23 3398 meth [] (some (.boolean)) yL_law) (v0 : Option Nat) (v1 : Option Nat) (v2 : Option Nat) (v3 : Option Nat) (v4 : Option Nat) (v5 : Int32)  (rc28 : Int32 → AM (Int32)) (hrc28 : ∀ (v5 : Int32) (h : AH) (ls : Array Slot), LV ls 9 [(0, vR v0), (1, vR v1), (2, vR v2), (3, vR v3), (4, vR v4), (5, vI v5)] → rc28 v5 h = some r → AW s0 K lam p l e R s m args below meth c (AQ s0 K lam below oI b r s) b h (F0 m 28 ls [])) {h : AH} {ls : Array Slot} (hl : LV ls 9 [(0, vR v0), (1, vR v1), (2, vR v2), (3, vR v3), (4, vR v4), (5, vI v5)]) (hf : f_L_law_j1497 K rc28 v0 v1 v2 v3 v4 v5 h = some r) : AW s0 K lam p l e R s m args below meth c (AQ s0 K lam below oI b r s) b h (F0 m 1497 ls []) := by
  unfold f_L_law_j1497 at hf
  have X := Z.1.1
  refine AW.lift (fun _ _ _ _ k => lv_goto (pc := 1497) (tgt := 2446) X.2.2.1 X.2.2.2.1 dL_law_1497 rfl k) ?_
  exact w_L_law_j2446 GA Z v0 v1 v2 v3 v4 v5  rc28 hrc28 (hl.sub [0, 1, 2, 3, 4, 5] rfl) hf
theorem w_L_law_j1589 {r : Except Nat (Int32) × AH} (GA : GA l s0 a0 K lam) (Z : WZL r l s0 a0 K p s m c cL_law yL_law.cls 9 b R 23 3398 meth [] (some (.boolean)) yL_law) (v0 : Option Nat) (v1 : Option Nat) (v2 : Option Nat) (v3 : Option Nat) (v4 : Option Nat) (v5 : Int32)  (rc28 : Int32 → AM (Int32)) (hrc28 : ∀ (v5 : Int32) (h : AH) (ls : Array Slot), LV ls 9 [(0, vR v0), (1, vR v1), (2, vR v2), (3, vR v3), (4, vR v4), (5, vI v5)] → rc28 v5 h = some r → AW s0 K lam p l e R s m args below meth c (AQ s0 K lam below oI b r s) b h (F0 m 28 ls [])) {h : AH} {ls : Array Slot} (hl : LV ls 9 [(0, vR v0), (1, vR v1), (2, vR v2), (3, vR v3), (4, vR v4), (5, vI v5)]) (hf : f_L_law_j1589 K rc28 v0 v1 v2 v3 v4 v5 h = some r) : AW s0 K lam p l e R s m args below meth c (AQ s0 K lam below oI b r s) b h (F0 m 1589 ls []) := by
  unfold f_L_law_j1589 at hf
  have X := Z.1.1
  refine AW.lift (fun _ _ _ _ k => lv_goto (pc := 1589) (tgt := 2446) X.2.2.1 X.2.2.2.1 dL_law_1589 rfl k) ?_
  exact w_L_law_j2446 GA Z v0 v1 v2 v3 v4 v5  rc28 hrc28 (hl.sub [0, 1, 2, 3, 4, 5] rfl) hf
theorem w_L_law_j1645 {r : Except Nat (Int32) × AH} (GA : GA l s0 a0 K lam) (Z : WZL r l s0 a0 K p s m c cL_law yL_law.cls 9 b R 23 3398 meth [] (some (.boolean)) yL_law) (v0 : Option Nat) (v1 : Option Nat) (v2 : Option Nat) (v3 : Option Nat) (v4 : Option Nat) (v5 : Int32)  (rc28 : Int32 → AM (Int32)) (hrc28 : ∀ (v5 : Int32) (h : AH) (ls : Array Slot), LV ls 9 [(0, vR v0), (1, vR v1), (2, vR v2), (3, vR v3), (4, vR v4), (5, vI v5)] → rc28 v5 h = some r → AW s0 K lam p l e R s m args below meth c (AQ s0 K lam below oI b r s) b h (F0 m 28 ls [])) {h : AH} {ls : Array Slot} (hl : LV ls 9 [(0, vR v0), (1, vR v1), (2, vR v2), (3, vR v3), (4, vR v4), (5, vI v5)]) (hf : f_L_law_j1645 K rc28 v0 v1 v2 v3 v4 v5 h = some r) : AW s0 K lam p l e R s m args below meth c (AQ s0 K lam below oI b r s) b h (F0 m 1645 ls []) := by
  unfold f_L_law_j1645 at hf
  have X := Z.1.1
  refine AW.lift (fun _ _ _ _ k => lv_goto (pc := 1645) (tgt := 2446) X.2.2.1 X.2.2.2.1 dL_law_1645 rfl k) ?_
  exact w_L_law_j2446 GA Z v0 v1 v2 v3 v4 v5  rc28 hrc28 (hl.sub [0, 1, 2, 3, 4, 5] rfl) hf
theorem w_L_law_j1713 {r : Except Nat (Int32) × AH} (GA : GA l s0 a0 K lam) (Z : WZL r l s0 a0 K p s m c cL_law yL_law.cls 9 b R 23 3398 meth [] (some (.boolean)) yL_law) (v0 : Option Nat) (v1 : Option Nat) (v2 : Option Nat) (v3 : Option Nat) (v4 : Option Nat) (v5 : Int32)  (rc28 : Int32 → AM (Int32)) (hrc28 : ∀ (v5 : Int32) (h : AH) (ls : Array Slot), LV ls 9 [(0, vR v0), (1, vR v1), (2, vR v2), (3, vR v3), (4, vR v4), (5, vI v5)] → rc28 v5 h = some r → AW s0 K lam p l e R s m args below meth c (AQ s0 K lam below oI b r s) b h (F0 m 28 ls [])) {h : AH} {ls : Array Slot} (hl : LV ls 9 [(0, vR v0), (1, vR v1), (2, vR v2), (3, vR v3), (4, vR v4), (5, vI v5)]) (hf : f_L_law_j1713 K rc28 v0 v1 v2 v3 v4 v5 h = some r) : AW s0 K lam p l e R s m args below meth c (AQ s0 K lam below oI b r s) b h (F0 m 1713 ls []) := by
  unfold f_L_law_j1713 at hf
  have X := Z.1.1
  refine AW.lift (fun _ _ _ _ k => lv_goto (pc := 1713) (tgt := 2446) X.2.2.1 X.2.2.2.1 dL_law_1713 rfl k) ?_
  exact w_L_law_j2446 GA Z v0 v1 v2 v3 v4 v5  rc28 hrc28 (hl.sub [0, 1, 2, 3, 4, 5] rfl) hf
theorem w_L_law_j1757 {r : Except Nat (Int32) × AH} (GA : GA l s0 a0 K lam) (Z : WZL r l s0 a0 K p s m c cL_law yL_law.cls 9 b R 23 3398 meth [] (some (.boolean)) yL_law) (v0 : Option Nat) (v1 : Option Nat) (v2 : Option Nat) (v3 : Option Nat) (v4 : Option Nat) (v5 : Int32)  (rc28 : Int32 → AM (Int32)) (hrc28 : ∀ (v5 : Int32) (h : AH) (ls : Array Slot), LV ls 9 [(0, vR v0), (1, vR v1), (2, vR v2), (3, vR v3), (4, vR v4), (5, vI v5)] → rc28 v5 h = some r → AW s0 K lam p l e R s m args below meth c (AQ s0 K lam below oI b r s) b h (F0 m 28 ls [])) {h : AH} {ls : Array Slot} (hl : LV ls 9 [(0, vR v0), (1, vR v1), (2, vR v2), (3, vR v3), (4, vR v4), (5, vI v5)]) (hf : f_L_law_j1757 K rc28 v0 v1 v2 v3 v4 v5 h = some r) : AW s0 K lam p l e R s m args below meth c (AQ s0 K lam below oI b r s) b h (F0 m 1757 ls []) := by
  unfold f_L_law_j1757 at hf
  have X := Z.1.1
  refine AW.lift (fun _ _ _ _ k => lv_goto (pc := 1757) (tgt := 2446) X.2.2.1 X.2.2.2.1 dL_law_1757 rfl k) ?_
  exact w_L_law_j2446 GA Z v0 v1 v2 v3 v4 v5  rc28 hrc28 (hl.sub [0, 1, 2, 3, 4, 5] rfl) hf
theorem w_L_law_j1813 {r : Except Nat (Int32) × AH} (GA : GA l s0 a0 K lam) (Z : WZL r l s0 a0 K p s m c cL_law yL_law.cls 9 b R 23 3398 meth [] (some (.boolean)) yL_law) (v0 : Option Nat) (v1 : Option Nat) (v2 : Option Nat) (v3 : Option Nat) (v4 : Option Nat) (v5 : Int32)  (rc28 : Int32 → AM (Int32)) (hrc28 : ∀ (v5 : Int32) (h : AH) (ls : Array Slot), LV ls 9 [(0, vR v0), (1, vR v1), (2, vR v2), (3, vR v3), (4, vR v4), (5, vI v5)] → rc28 v5 h = some r → AW s0 K lam p l e R s m args below meth c (AQ s0 K lam below oI b r s) b h (F0 m 28 ls [])) {h : AH} {ls : Array Slot} (hl : LV ls 9 [(0, vR v0), (1, vR v1), (2, vR v2), (3, vR v3), (4, vR v4), (5, vI v5)]) (hf : f_L_law_j1813 K rc28 v0 v1 v2 v3 v4 v5 h = some r) : AW s0 K lam p l e R s m args below meth c (AQ s0 K lam below oI b r s) b h (F0 m 1813 ls []) := by
  unfold f_L_law_j1813 at hf
  have X := Z.1.1
  refine AW.lift (fun _ _ _ _ k => lv_goto (pc := 1813) (tgt := 2446) X.2.2.1 X.2.2.2.1 dL_law_1813 rfl k) ?_
  exact w_L_law_j2446 GA Z v0 v1 v2 v3 v4 v5  rc28 hrc28 (hl.sub [0, 1, 2, 3, 4, 5] rfl) hf
theorem w_L_law_j1869 {r : Except Nat (Int32) × AH} (GA : GA l s0 a0 K lam) (Z : WZL r l s0 a0 K p s m c cL_law yL_law.cls 9 b R 23 3398 meth [] (some (.boolean)) yL_law) (v0 : Option Nat) (v1 : Option Nat) (v2 : Option Nat) (v3 : Option Nat) (v4 : Option Nat) (v5 : Int32)  (rc28 : Int32 → AM (Int32)) (hrc28 : ∀ (v5 : Int32) (h : AH) (ls : Array Slot), LV ls 9 [(0, vR v0), (1, vR v1), (2, vR v2), (3, vR v3), (4, vR v4), (5, vI v5)] → rc28 v5 h = some r → AW s0 K lam p l e R s m args below meth c (AQ s0 K lam below oI b r s) b h (F0 m 28 ls [])) {h : AH} {ls : Array Slot} (hl : LV ls 9 [(0, vR v0), (1, vR v1), (2, vR v2), (3, vR v3), (4, vR v4), (5, vI v5)]) (hf : f_L_law_j1869 K rc28 v0 v1 v2 v3 v4 v5 h = some r) : AW s0 K lam p l e R s m args below meth c (AQ s0 K lam below oI b r s) b h (F0 m 1869 ls []) := by
  unfold f_L_law_j1869 at hf
  have X := Z.1.1
  refine AW.lift (fun _ _ _ _ k => lv_goto (pc := 1869) (tgt := 2446) X.2.2.1 X.2.2.2.1 dL_law_1869 rfl k) ?_
  exact w_L_law_j2446 GA Z v0 v1 v2 v3 v4 v5  rc28 hrc28 (hl.sub [0, 1, 2, 3, 4, 5] rfl) hf
theorem w_L_law_j1925 {r : Except Nat (Int32) × AH} (GA : GA l s0 a0 K lam) (Z : WZL r l s0 a0 K p s m c cL_law yL_law.cls 9 b R 23 3398 meth [] (some (.boolean)) yL_law) (v0 : Option Nat) (v1 : Option Nat) (v2 : Option Nat) (v3 : Option Nat) (v4 : Option Nat) (v5 : Int32)  (rc28 : Int32 → AM (Int32)) (hrc28 : ∀ (v5 : Int32) (h : AH) (ls : Array Slot), LV ls 9 [(0, vR v0), (1, vR v1), (2, vR v2), (3, vR v3), (4, vR v4), (5, vI v5)] → rc28 v5 h = some r → AW s0 K lam p l e R s m args below meth c (AQ s0 K lam below oI b r s) b h (F0 m 28 ls [])) {h : AH} {ls : Array Slot} (hl : LV ls 9 [(0, vR v0), (1, vR v1), (2, vR v2), (3, vR v3), (4, vR v4), (5, vI v5)]) (hf : f_L_law_j1925 K rc28 v0 v1 v2 v3 v4 v5 h = some r) : AW s0 K lam p l e R s m args below meth c (AQ s0 K lam below oI b r s) b h (F0 m 1925 ls []) := by
  unfold f_L_law_j1925 at hf
  have X := Z.1.1
  refine AW.lift (fun _ _ _ _ k => lv_goto (pc := 1925) (tgt := 2446) X.2.2.1 X.2.2.2.1 dL_law_1925 rfl k) ?_
  exact w_L_law_j2446 GA Z v0 v1 v2 v3 v4 v5  rc28 hrc28 (hl.sub [0, 1, 2, 3, 4, 5] rfl) hf
theorem w_L_law_j1991 {r : Except Nat (Int32) × AH} (GA : GA l s0 a0 K lam) (Z : WZL r l s0 a0 K p s m c cL_law yL_law.cls 9 b R 23 3398 meth [] (some (.boolean)) yL_law) (v0 : Option Nat) (v1 : Option Nat) (v2 : Option Nat) (v3 : Option Nat) (v4 : Option Nat) (v5 : Int32)  (rc28 : Int32 → AM (Int32)) (hrc28 : ∀ (v5 : Int32) (h : AH) (ls : Array Slot), LV ls 9 [(0, vR v0), (1, vR v1), (2, vR v2), (3, vR v3), (4, vR v4), (5, vI v5)] → rc28 v5 h = some r → AW s0 K lam p l e R s m args below meth c (AQ s0 K lam below oI b r s) b h (F0 m 28 ls [])) {h : AH} {ls : Array Slot} (hl : LV ls 9 [(0, vR v0), (1, vR v1), (2, vR v2), (3, vR v3), (4, vR v4), (5, vI v5)]) (hf : f_L_law_j1991 K rc28 v0 v1 v2 v3 v4 v5 h = some r) : AW s0 K lam p l e R s m args below meth c (AQ s0 K lam below oI b r s) b h (F0 m 1991 ls []) := by
  unfold f_L_law_j1991 at hf
  have X := Z.1.1
  refine AW.lift (fun _ _ _ _ k => lv_goto (pc := 1991) (tgt := 2446) X.2.2.1 X.2.2.2.1 dL_law_1991 rfl k) ?_
  exact w_L_law_j2446 GA Z v0 v1 v2 v3 v4 v5  rc28 hrc28 (hl.sub [0, 1, 2, 3, 4, 5] rfl) hf
theorem w_L_law_j2056 {r : Except Nat (Int32) × AH} (GA : GA l s0 a0 K lam) (Z : WZL r l s0 a0 K p s m c cL_law yL_law.cls 9 b R 23 3398 meth [] (some (.boolean)) yL_law) (v0 : Option Nat) (v1 : Option Nat) (v2 : Option Nat) (v3 : Option Nat) (v4 : Option Nat) (v5 : Int32)  (rc28 : Int32 → AM (Int32)) (hrc28 : ∀ (v5 : Int32) (h : AH) (ls : Array Slot), LV ls 9 [(0, vR v0), (1, vR v1), (2, vR v2), (3, vR v3), (4, vR v4), (5, vI v5)] → rc28 v5 h = some r → AW s0 K lam p l e R s m args below meth c (AQ s0 K lam below oI b r s) b h (F0 m 28 ls [])) {h : AH} {ls : Array Slot} (hl : LV ls 9 [(0, vR v0), (1, vR v1), (2, vR v2), (3, vR v3), (4, vR v4), (5, vI v5)]) (hf : f_L_law_j2056 K rc28 v0 v1 v2 v3 v4 v5 h = some r) : AW s0 K lam p l e R s m args below meth c (AQ s0 K lam below oI b r s) b h (F0 m 2056 ls []) := by
  unfold f_L_law_j2056 at hf
  have X := Z.1.1
  refine AW.lift (fun _ _ _ _ k => lv_goto (pc := 2056) (tgt := 2446) X.2.2.1 X.2.2.2.1 dL_law_2056 rfl k) ?_
  exact w_L_law_j2446 GA Z v0 v1 v2 v3 v4 v5  rc28 hrc28 (hl.sub [0, 1, 2, 3, 4, 5] rfl) hf
theorem w_L_law_j2112 {r : Except Nat (Int32) × AH} (GA : GA l s0 a0 K lam) (Z : WZL r l s0 a0 K p s m c cL_law yL_law.cls 9 b R 23 3398 meth [] (some (.boolean)) yL_law) (v0 : Option Nat) (v1 : Option Nat) (v2 : Option Nat) (v3 : Option Nat) (v4 : Option Nat) (v5 : Int32)  (rc28 : Int32 → AM (Int32)) (hrc28 : ∀ (v5 : Int32) (h : AH) (ls : Array Slot), LV ls 9 [(0, vR v0), (1, vR v1), (2, vR v2), (3, vR v3), (4, vR v4), (5, vI v5)] → rc28 v5 h = some r → AW s0 K lam p l e R s m args below meth c (AQ s0 K lam below oI b r s) b h (F0 m 28 ls [])) {h : AH} {ls : Array Slot} (hl : LV ls 9 [(0, vR v0), (1, vR v1), (2, vR v2), (3, vR v3), (4, vR v4), (5, vI v5)]) (hf : f_L_law_j2112 K rc28 v0 v1 v2 v3 v4 v5 h = some r) : AW s0 K lam p l e R s m args below meth c (AQ s0 K lam below oI b r s) b h (F0 m 2112 ls []) := by
  unfold f_L_law_j2112 at hf
  have X := Z.1.1
  refine AW.lift (fun _ _ _ _ k => lv_goto (pc := 2112) (tgt := 2446) X.2.2.1 X.2.2.2.1 dL_law_2112 rfl k) ?_
  exact w_L_law_j2446 GA Z v0 v1 v2 v3 v4 v5  rc28 hrc28 (hl.sub [0, 1, 2, 3, 4, 5] rfl) hf
theorem w_L_law_j2170 {r : Except Nat (Int32) × AH} (GA : GA l s0 a0 K lam) (Z : WZL r l s0 a0 K p s m c cL_law yL_law.cls 9 b R 23 3398 meth [] (some (.boolean)) yL_law) (v0 : Option Nat) (v1 : Option Nat) (v2 : Option Nat) (v3 : Option Nat) (v4 : Option Nat) (v5 : Int32)  (rc28 : Int32 → AM (Int32)) (hrc28 : ∀ (v5 : Int32) (h : AH) (ls : Array Slot), LV ls 9 [(0, vR v0), (1, vR v1), (2, vR v2), (3, vR v3), (4, vR v4), (5, vI v5)] → rc28 v5 h = some r → AW s0 K lam p l e R s m args below meth c (AQ s0 K lam below oI b r s) b h (F0 m 28 ls [])) {h : AH} {ls : Array Slot} (hl : LV ls 9 [(0, vR v0), (1, vR v1), (2, vR v2), (3, vR v3), (4, vR v4), (5, vI v5)]) (hf : f_L_law_j2170 K rc28 v0 v1 v2 v3 v4 v5 h = some r) : AW s0 K lam p l e R s m args below meth c (AQ s0 K lam below oI b r s) b h (F0 m 2170 ls []) := by
  unfold f_L_law_j2170 at hf
  have X := Z.1.1
  refine AW.lift (fun _ _ _ _ k => lv_goto (pc := 2170) (tgt := 2446) X.2.2.1 X.2.2.2.1 dL_law_2170 rfl k) ?_
  exact w_L_law_j2446 GA Z v0 v1 v2 v3 v4 v5  rc28 hrc28 (hl.sub [0, 1, 2, 3, 4, 5] rfl) hf
theorem w_L_law_j2214 {r : Except Nat (Int32) × AH} (GA : GA l s0 a0 K lam) (Z : WZL r l s0 a0 K p s m c cL_law yL_law.cls 9 b R 23 3398 meth [] (some (.boolean)) yL_law) (v0 : Option Nat) (v1 : Option Nat) (v2 : Option Nat) (v3 : Option Nat) (v4 : Option Nat) (v5 : Int32)  (rc28 : Int32 → AM (Int32)) (hrc28 : ∀ (v5 : Int32) (h : AH) (ls : Array Slot), LV ls 9 [(0, vR v0), (1, vR v1), (2, vR v2), (3, vR v3), (4, vR v4), (5, vI v5)] → rc28 v5 h = some r → AW s0 K lam p l e R s m args below meth c (AQ s0 K lam below oI b r s) b h (F0 m 28 ls [])) {h : AH} {ls : Array Slot} (hl : LV ls 9 [(0, vR v0), (1, vR v1), (2, vR v2), (3, vR v3), (4, vR v4), (5, vI v5)]) (hf : f_L_law_j2214 K rc28 v0 v1 v2 v3 v4 v5 h = some r) : AW s0 K lam p l e R s m args below meth c (AQ s0 K lam below oI b r s) b h (F0 m 2214 ls []) := by
  unfold f_L_law_j2214 at hf
  have X := Z.1.1
  refine AW.lift (fun _ _ _ _ k => lv_goto (pc := 2214) (tgt := 2446) X.2.2.1 X.2.2.2.1 dL_law_2214 rfl k) ?_
  exact w_L_law_j2446 GA Z v0 v1 v2 v3 v4 v5  rc28 hrc28 (hl.sub [0, 1, 2, 3, 4, 5] rfl) hf
theorem w_L_law_j2258 {r : Except Nat (Int32) × AH} (GA : GA l s0 a0 K lam) (Z : WZL r l s0 a0 K p s m c cL_law yL_law.cls 9 b R 23 3398 meth [] (some (.boolean)) yL_law) (v0 : Option Nat) (v1 : Option Nat) (v2 : Option Nat) (v3 : Option Nat) (v4 : Option Nat) (v5 : Int32)  (rc28 : Int32 → AM (Int32)) (hrc28 : ∀ (v5 : Int32) (h : AH) (ls : Array Slot), LV ls 9 [(0, vR v0), (1, vR v1), (2, vR v2), (3, vR v3), (4, vR v4), (5, vI v5)] → rc28 v5 h = some r → AW s0 K lam p l e R s m args below meth c (AQ s0 K lam below oI b r s) b h (F0 m 28 ls [])) {h : AH} {ls : Array Slot} (hl : LV ls 9 [(0, vR v0), (1, vR v1), (2, vR v2), (3, vR v3), (4, vR v4), (5, vI v5)]) (hf : f_L_law_j2258 K rc28 v0 v1 v2 v3 v4 v5 h = some r) : AW s0 K lam p l e R s m args below meth c (AQ s0 K lam below oI b r s) b h (F0 m 2258 ls []) := by
  unfold f_L_law_j2258 at hf
  have X := Z.1.1
  refine AW.lift (fun _ _ _ _ k => lv_goto (pc := 2258) (tgt := 2446) X.2.2.1 X.2.2.2.1 dL_law_2258 rfl k) ?_
  exact w_L_law_j2446 GA Z v0 v1 v2 v3 v4 v5  rc28 hrc28 (hl.sub [0, 1, 2, 3, 4, 5] rfl) hf
theorem w_L_law_j2342 {r : Except Nat (Int32) × AH} (GA : GA l s0 a0 K lam) (Z : WZL r l s0 a0 K p s m c cL_law yL_law.cls 9 b R 23 3398 meth [] (some (.boolean)) yL_law) (v0 : Option Nat) (v1 : Option Nat) (v2 : Option Nat) (v3 : Option Nat) (v4 : Option Nat) (v5 : Int32)  (rc28 : Int32 → AM (Int32)) (hrc28 : ∀ (v5 : Int32) (h : AH) (ls : Array Slot), LV ls 9 [(0, vR v0), (1, vR v1), (2, vR v2), (3, vR v3), (4, vR v4), (5, vI v5)] → rc28 v5 h = some r → AW s0 K lam p l e R s m args below meth c (AQ s0 K lam below oI b r s) b h (F0 m 28 ls [])) {h : AH} {ls : Array Slot} (hl : LV ls 9 [(0, vR v0), (1, vR v1), (2, vR v2), (3, vR v3), (4, vR v4), (5, vI v5)]) (hf : f_L_law_j2342 K rc28 v0 v1 v2 v3 v4 v5 h = some r) : AW s0 K lam p l e R s m args below meth c (AQ s0 K lam below oI b r s) b h (F0 m 2342 ls []) := by
  unfold f_L_law_j2342 at hf
  have X := Z.1.1
  refine AW.lift (fun _ _ _ _ k => lv_goto (pc := 2342) (tgt := 2446) X.2.2.1 X.2.2.2.1 dL_law_2342 rfl k) ?_
  exact w_L_law_j2446 GA Z v0 v1 v2 v3 v4 v5  rc28 hrc28 (hl.sub [0, 1, 2, 3, 4, 5] rfl) hf
theorem w_L_law_j2309 {r : Except Nat (Int32) × AH} (GA : GA l s0 a0 K lam) (Z : WZL r l s0 a0 K p s m c cL_law yL_law.cls 9 b R 23 3398 meth [] (some (.boolean)) yL_law) (v0 : Option Nat) (v1 : Option Nat) (v2 : Option Nat) (v3 : Option Nat) (v4 : Option Nat) (v5 : Int32) (v6 : Int32) (t0 : Int32) (t1 : Int32) (t2 : Option Nat) (rc28 : Int32 → AM (Int32)) (hrc28 : ∀ (v5 : Int32) (h : AH) (ls : Array Slot), LV ls 9 [(0, vR v0), (1, vR v1), (2, vR v2), (3, vR v3), (4, vR v4), (5, vI v5)] → rc28 v5 h = some r → AW s0 K lam p l e R s m args below meth c (AQ s0 K lam below oI b r s) b h (F0 m 28 ls [])) {h : AH} {ls : Array Slot} (hl : LV ls 9 [(0, vR v0), (1, vR v1), (2, vR v2), (3, vR v3), (4, vR v4), (5, vI v5), (6, vI v6)]) (hf : f_L_law_j2309 K rc28 v0 v1 v2 v3 v4 v5 v6 t0 t1 t2 h = some r) : AW s0 K lam p l e R s m args below meth c (AQ s0 K lam below oI b r s) b h (F0 m 2309 ls [.int t0, .int t1, va_rf t2]) := by
  unfold f_L_law_j2309 at hf
  have X := Z.1.1
  obtain ⟨a2309, rfl, ⟨hk, hf⟩ | ⟨-, hf⟩⟩ := dv_some hf
  rotate_left
  · exact fl_none hf
  refine a_callb (pc := 2309) (rs := []) (avs := [vR (some a2309), vI t1, vI t0]) Z.1 (w_X4_reason GA (some a2309) t1 t0) (Or.inl rfl) q3456 q86 (by decide) (by decide) dL_law_2309 hl.1 (Nat.le_of_ble_eq_true rfl) hf (ct_V hk ⟨by decide, by decide⟩ X (Or.inl rfl) q3456 q3453 q3454 q3455 hy_X4_reason np_X4_reason rfl dL_law_2309) (fun q h he hX => absurd he (Z.2.1 q h)) (fun x2309 h hf => ?kk2309)
  refine AW.eq (g2 := F0 m 2312 ls [.int x2309]) rfl ?_
  refine a_istore (pc := 2312) X dL_law_2312 hl (by decide) (lv' := [(7, vI x2309), (0, vR v0), (1, vR v1), (2, vR v2), (3, vR v3), (4, vR v4), (5, vI v5), (6, vI v6)]) rfl (fun ls hl => ?_)
  refine a_aload_n (pc := 2314) X dL_law_2314 rfl hl 3 rfl ?_
  obtain ⟨a2315, rfl, ⟨hk, hf⟩ | ⟨-, hf⟩⟩ := dv_some hf
  rotate_left
  · exact fl_none hf
  refine a_callb (pc := 2315) (rs := []) (avs := [vR (some a2315)]) Z.1 (w_X4_thrown GA (some a2315)) (Or.inl rfl) q3104 q86 (by decide) (by decide) dL_law_2315 hl.1 (Nat.le_of_ble_eq_true rfl) hf (ct_V hk ⟨by decide, by decide⟩ X (Or.inl rfl) q3104 q3101 q3102 q3103 hy_X4_thrown np_X4_thrown rfl dL_law_2315) (fun q h he hX => absurd he (Z.2.1 q h)) (fun x2315 h hf => ?kk2315)
  refine AW.eq (g2 := F0 m 2318 ls [.int x2315]) rfl ?_
  refine a_iload (pc := 2318) X dL_law_2318 hl 7 rfl ?_
  refine AW.lift2 (fun _ _ _ _ k1 k2 => lv_icmp_eq (pc := 2320) (tgt := 2325) X.2.2.1 X.2.2.2.1 dL_law_2320 rfl k1 k2) (fun c => ?_) (fun c => ?_)
  · have hf := ite_t c hf
    refine a_iload (pc := 2325) X dL_law_2325 hl 7 rfl ?_
    refine AW.lift2 (fun _ _ _ _ k1 k2 => lv_if_ne (pc := 2327) (tgt := 2342) X.2.2.1 X.2.2.2.1 dL_law_2327 rfl k2 k1) (fun c => ?_) (fun c => ?_)
    · have hf := ite_t c hf
      refine a_aload_n (pc := 2330) X dL_law_2330 rfl hl 4 rfl ?_
      refine AW.lift (fun _ _ _ _ k => lv_iconst (pc := 2331) (v := (0 : Int32)) X.2.2.1 X.2.2.2.1 dL_law_2331 rfl k) ?_
      refine a_laload (pc := 2332) X dL_law_2332 hf (fun x2332 hf => ?_)
      refine a_iload (pc := 2333) X dL_law_2333 hl 0 rfl ?_
      refine AW.lift (fun _ _ _ _ k => lv_i2l (pc := 2335) X.2.2.1 X.2.2.2.1 dL_law_2335 rfl k) ?_
      refine AW.lift (fun _ _ _ _ k => W.lcmp (pc := 2336) X.2.2.1 X.2.2.2.1 dL_law_2336 k) ?_
      refine AW.lift2 (fun _ _ _ _ k1 k2 => lv_if_eq (pc := 2337) (tgt := 2342) X.2.2.1 X.2.2.2.1 dL_law_2337 rfl k1 k2) (fun c => ?_) (fun c => ?_)
      · have hf := ite_t c hf
        exact w_L_law_j2342 GA Z v0 v1 (some a2315) v3 v4 v5  rc28 hrc28 (hl.sub [1, 2, 3, 4, 5, 6] rfl) hf
      · have hf := ite_f c hf
        refine AW.lift (fun _ _ _ _ k => lv_iconst (pc := 2340) (v := (0 : Int32)) X.2.2.1 X.2.2.2.1 dL_law_2340 rfl k) ?_
        exact a_zreturn X Z.2.2.1 rfl Z.2.2.2.1 dL_law_2341 hf
    · have hf := ite_f c hf
      exact w_L_law_j2342 GA Z v0 v1 (some a2315) v3 v4 v5  rc28 hrc28 (hl.sub [1, 2, 3, 4, 5, 6] rfl) hf
  · have hf := ite_f c hf
    refine AW.lift (fun _ _ _ _ k => lv_iconst (pc := 2323) (v := (0 : Int32)) X.2.2.1 X.2.2.2.1 dL_law_2323 rfl k) ?_
    exact a_zreturn X Z.2.2.1 rfl Z.2.2.2.1 dL_law_2324 hf
theorem w_L_law_j2282 {r : Except Nat (Int32) × AH} (GA : GA l s0 a0 K lam) (Z : WZL r l s0 a0 K p s m c cL_law yL_law.cls 9 b R 23 3398 meth [] (some (.boolean)) yL_law) (v0 : Option Nat) (v1 : Option Nat) (v2 : Option Nat) (v3 : Option Nat) (v4 : Option Nat) (v5 : Int32) (t0 : Int32) (t1 : Int32) (t2 : Option Nat) (rc28 : Int32 → AM (Int32)) (hrc28 : ∀ (v5 : Int32) (h : AH) (ls : Array Slot), LV ls 9 [(0, vR v0), (1, vR v1), (2, vR v2), (3, vR v3), (4, vR v4), (5, vI v5)] → rc28 v5 h = some r → AW s0 K lam p l e R s m args below meth c (AQ s0 K lam below oI b r s) b h (F0 m 28 ls [])) {h : AH} {ls : Array Slot} (hl : LV ls 9 [(0, vR v0), (1, vR v1), (2, vR v2), (3, vR v3), (4, vR v4), (5, vI v5)]) (hf : f_L_law_j2282 K rc28 v0 v1 v2 v3 v4 v5 t0 t1 t2 h = some r) : AW s0 K lam p l e R s m args below meth c (AQ s0 K lam below oI b r s) b h (F0 m 2282 ls [.int t0, .int t1, va_rf t2]) := by
  unfold f_L_law_j2282 at hf
  have X := Z.1.1
  refine a_aload_n (pc := 2282) X dL_law_2282 rfl hl 3 rfl ?_
  refine a_callb (pc := 2283) (rs := []) (avs := [vR t2, vI t1, vI t0, vR v3]) Z.1 (w_X0_reason GA t2 t1 t0 v3) (Or.inr (Or.inl ⟨_, rfl⟩)) q2974 q73 (by decide) (by decide) dL_law_2283 hl.1 (Nat.le_of_ble_eq_true rfl) hf (ct_S X (Or.inr (Or.inl ⟨_, rfl⟩)) q2974 q73 q2972 q2973 hy_X0_reason np_X0_reason rfl dL_law_2283) (fun q h he hX => absurd he (Z.2.1 q h)) (fun x2283 h hf => ?kk2283)
  refine AW.eq (g2 := F0 m 2286 ls [.int x2283]) rfl ?_
  refine a_istore (pc := 2286) X dL_law_2286 hl (by decide) (lv' := [(6, vI x2283), (0, vR v0), (1, vR v1), (2, vR v2), (3, vR v3), (4, vR v4), (5, vI v5)]) rfl (fun ls hl => ?_)
  refine a_aload_n (pc := 2288) X dL_law_2288 rfl hl 3 rfl ?_
  refine a_aload_n (pc := 2289) X dL_law_2289 rfl hl 1 rfl ?_
  refine a_iload (pc := 2290) X dL_law_2290 hl 6 rfl ?_
  refine AW.lift (fun _ _ _ _ k => lv_iconst (pc := 2292) (v := (1 : Int32)) X.2.2.1 X.2.2.2.1 dL_law_2292 rfl k) ?_
  refine AW.lift (fun _ _ _ _ k => lv_iadd (pc := 2293) X.2.2.1 X.2.2.2.1 dL_law_2293 k) ?_
  refine a_iaload (pc := 2294) X dL_law_2294 hf (fun x2294 hf => ?_)
  refine a_aload_n (pc := 2295) X dL_law_2295 rfl hl 1 rfl ?_
  refine a_iload (pc := 2296) X dL_law_2296 hl 6 rfl ?_
  refine AW.lift (fun _ _ _ _ k => lv_iconst (pc := 2298) (v := (2 : Int32)) X.2.2.1 X.2.2.2.1 dL_law_2298 rfl k) ?_
  refine AW.lift (fun _ _ _ _ k => lv_iadd (pc := 2299) X.2.2.1 X.2.2.2.1 dL_law_2299 k) ?_
  refine a_iaload (pc := 2300) X dL_law_2300 hf (fun x2300 hf => ?_)
  refine AW.lift2 (fun _ _ _ _ k1 k2 => lv_if_eq (pc := 2301) (tgt := 2308) X.2.2.1 X.2.2.2.1 dL_law_2301 rfl k1 k2) (fun c => ?_) (fun c => ?_)
  · have hf := ite_t c hf
    refine AW.lift (fun _ _ _ _ k => lv_iconst (pc := 2308) (v := (0 : Int32)) X.2.2.1 X.2.2.2.1 dL_law_2308 rfl k) ?_
    exact w_L_law_j2309 GA Z v0 v1 v2 v3 v4 v5 x2283 (0 : Int32) x2294 v2 rc28 hrc28 (hl.sub [1, 2, 3, 4, 5, 6, 0] rfl) hf
  · have hf := ite_f c hf
    refine AW.lift (fun _ _ _ _ k => lv_iconst (pc := 2304) (v := (1 : Int32)) X.2.2.1 X.2.2.2.1 dL_law_2304 rfl k) ?_
    refine AW.lift (fun _ _ _ _ k => lv_goto (pc := 2305) (tgt := 2309) X.2.2.1 X.2.2.2.1 dL_law_2305 rfl k) ?_
    exact w_L_law_j2309 GA Z v0 v1 v2 v3 v4 v5 x2283 (1 : Int32) x2294 v2 rc28 hrc28 (hl.sub [1, 2, 3, 4, 5, 6, 0] rfl) hf
theorem w_L_law_j2386 {r : Except Nat (Int32) × AH} (GA : GA l s0 a0 K lam) (Z : WZL r l s0 a0 K p s m c cL_law yL_law.cls 9 b R 23 3398 meth [] (some (.boolean)) yL_law) (v0 : Option Nat) (v1 : Option Nat) (v2 : Option Nat) (v3 : Option Nat) (v4 : Option Nat) (v5 : Int32)  (rc28 : Int32 → AM (Int32)) (hrc28 : ∀ (v5 : Int32) (h : AH) (ls : Array Slot), LV ls 9 [(0, vR v0), (1, vR v1), (2, vR v2), (3, vR v3), (4, vR v4), (5, vI v5)] → rc28 v5 h = some r → AW s0 K lam p l e R s m args below meth c (AQ s0 K lam below oI b r s) b h (F0 m 28 ls [])) {h : AH} {ls : Array Slot} (hl : LV ls 9 [(0, vR v0), (1, vR v1), (2, vR v2), (3, vR v3), (4, vR v4), (5, vI v5)]) (hf : f_L_law_j2386 K rc28 v0 v1 v2 v3 v4 v5 h = some r) : AW s0 K lam p l e R s m args below meth c (AQ s0 K lam below oI b r s) b h (F0 m 2386 ls []) := by
  unfold f_L_law_j2386 at hf
  have X := Z.1.1
  refine AW.lift (fun _ _ _ _ k => lv_goto (pc := 2386) (tgt := 2446) X.2.2.1 X.2.2.2.1 dL_law_2386 rfl k) ?_
  exact w_L_law_j2446 GA Z v0 v1 v2 v3 v4 v5  rc28 hrc28 (hl.sub [0, 1, 2, 3, 4, 5] rfl) hf
theorem w_L_law_j2443 {r : Except Nat (Int32) × AH} (GA : GA l s0 a0 K lam) (Z : WZL r l s0 a0 K p s m c cL_law yL_law.cls 9 b R 23 3398 meth [] (some (.boolean)) yL_law) (v0 : Option Nat) (v1 : Option Nat) (v2 : Option Nat) (v3 : Option Nat) (v4 : Option Nat) (v5 : Int32)  (rc28 : Int32 → AM (Int32)) (hrc28 : ∀ (v5 : Int32) (h : AH) (ls : Array Slot), LV ls 9 [(0, vR v0), (1, vR v1), (2, vR v2), (3, vR v3), (4, vR v4), (5, vI v5)] → rc28 v5 h = some r → AW s0 K lam p l e R s m args below meth c (AQ s0 K lam below oI b r s) b h (F0 m 28 ls [])) {h : AH} {ls : Array Slot} (hl : LV ls 9 [(0, vR v0), (1, vR v1), (2, vR v2), (3, vR v3), (4, vR v4), (5, vI v5)]) (hf : f_L_law_j2443 K rc28 v0 v1 v2 v3 v4 v5 h = some r) : AW s0 K lam p l e R s m args below meth c (AQ s0 K lam below oI b r s) b h (F0 m 2443 ls []) := by
  unfold f_L_law_j2443 at hf
  have X := Z.1.1
  refine AW.lift (fun _ _ _ _ k => lv_goto (pc := 2443) (tgt := 2446) X.2.2.1 X.2.2.2.1 dL_law_2443 rfl k) ?_
  exact w_L_law_j2446 GA Z v0 v1 v2 v3 v4 v5  rc28 hrc28 (hl.sub [0, 1, 2, 3, 4, 5] rfl) hf
theorem w_L_law_b28 {r : Except Nat (Int32) × AH} (GA : GA l s0 a0 K lam) (Z : WZL r l s0 a0 K p s m c cL_law yL_law.cls 9 b R 23 3398 meth [] (some (.boolean)) yL_law) (v0 : Option Nat) (v1 : Option Nat) (v2 : Option Nat) (v3 : Option Nat) (v4 : Option Nat) (v5 : Int32)  (rc28 : Int32 → AM (Int32)) (hrc28 : ∀ (v5 : Int32) (h : AH) (ls : Array Slot), LV ls 9 [(0, vR v0), (1, vR v1), (2, vR v2), (3, vR v3), (4, vR v4), (5, vI v5)] → rc28 v5 h = some r → AW s0 K lam p l e R s m args below meth c (AQ s0 K lam below oI b r s) b h (F0 m 28 ls [])) {h : AH} {ls : Array Slot} (hl : LV ls 9 [(0, vR v0), (1, vR v1), (2, vR v2), (3, vR v3), (4, vR v4), (5, vI v5)]) (hf : f_L_law_b28 K rc28 v0 v1 v2 v3 v4 v5 h = some r) : AW s0 K lam p l e R s m args below meth c (AQ s0 K lam below oI b r s) b h (F0 m 28 ls []) := by
  unfold f_L_law_b28 at hf
  have X := Z.1.1
  refine a_iload (pc := 28) X dL_law_28 hl 5 rfl ?_
  refine a_aload_n (pc := 30) X dL_law_30 rfl hl 0 rfl ?_
  refine a_arraylength (pc := 31) X dL_law_31 hf (fun x31 hf => ?_)
  refine AW.lift (fun _ _ _ _ k => lv_iconst (pc := 32) (v := (5 : Int32)) X.2.2.1 X.2.2.2.1 dL_law_32 rfl k) ?_
  refine AW.lift (fun _ _ _ _ k => lv_isub (pc := 33) X.2.2.1 X.2.2.2.1 dL_law_33 k) ?_
  refine AW.lift2 (fun _ _ _ _ k1 k2 => lv_icmp_gt (pc := 34) (tgt := 2452) X.2.2.1 X.2.2.2.1 dL_law_34 rfl k1 k2) (fun c => ?_) (fun c => ?_)
  · have hf := ite_t c hf
    refine AW.lift (fun _ _ _ _ k => lv_iconst (pc := 2452) (v := (1 : Int32)) X.2.2.1 X.2.2.2.1 dL_law_2452 rfl k) ?_
    exact a_zreturn X Z.2.2.1 rfl Z.2.2.2.1 dL_law_2453 hf
  · have hf := ite_f c hf
    refine a_aload_n (pc := 37) X dL_law_37 rfl hl 0 rfl ?_
    refine a_iload (pc := 38) X dL_law_38 hl 5 rfl ?_
    refine a_iaload (pc := 40) X dL_law_40 hf (fun x40 hf => ?_)
    refine AW.lift (fun _ _ _ _ k => lv_bipush (pc := 41) (v := (63 : Int32)) X.2.2.1 X.2.2.2.1 dL_law_41 rfl k) ?_
    refine AW.lift (fun _ _ _ _ k => lv_iand (pc := 43) X.2.2.1 X.2.2.2.1 dL_law_43 k) ?_
    by_cases c0 : (x40 &&& (63 : Int32)) = (0 : Int32)
    · have hf := ite_t c0 hf
      refine AW.lift (fun _ _ _ _ k => lv_tableIn (pc := 44) (tgt := 212) (off := 168) X.2.2.1 X.2.2.2.1 dL_law_44 (by rw [c0]; decide) (by rw [c0]; decide) (by rw [c0]; rfl) rfl k) ?_
      refine a_aload_n (pc := 212) X dL_law_212 rfl hl 1 rfl ?_
      refine a_aload_n (pc := 213) X dL_law_213 rfl hl 3 rfl ?_
      refine a_callb (pc := 214) (rs := []) (avs := [vR v1, vR v3]) Z.1 (w_X0_mat GA v1 v3) (Or.inr (Or.inl ⟨_, rfl⟩)) q1708 q73 (by decide) (by decide) dL_law_214 hl.1 (Nat.le_of_ble_eq_true rfl) hf (ct_S X (Or.inr (Or.inl ⟨_, rfl⟩)) q1708 q73 q1706 q1707 hy_X0_mat np_X0_mat rfl dL_law_214) (fun q h he hX => absurd he (Z.2.1 q h)) (fun x214 h hf => ?kk214)
      refine AW.eq (g2 := F0 m 217 ls [.int x214]) rfl ?_
      refine a_istore (pc := 217) X dL_law_217 hl (by decide) (lv' := [(6, vI x214), (0, vR v0), (1, vR v1), (2, vR v2), (3, vR v3), (4, vR v4), (5, vI v5)]) rfl (fun ls hl => ?_)
      refine a_aload_n (pc := 219) X dL_law_219 rfl hl 3 rfl ?_
      obtain ⟨a220, rfl, ⟨hk, hf⟩ | ⟨-, hf⟩⟩ := dv_some hf
      rotate_left
      · exact fl_none hf
      refine a_callb (pc := 220) (rs := []) (avs := [vR (some a220)]) Z.1 (w_X4_mat GA (some a220)) (Or.inl rfl) q3108 q86 (by decide) (by decide) dL_law_220 hl.1 (Nat.le_of_ble_eq_true rfl) hf (ct_V hk ⟨by decide, by decide⟩ X (Or.inl rfl) q3108 q3105 q3106 q3107 hy_X4_mat np_X4_mat rfl dL_law_220) (fun q h he hX => absurd he (Z.2.1 q h)) (fun x220 h hf => ?kk220)
      refine AW.eq (g2 := F0 m 223 ls [.int x220]) rfl ?_
      refine a_istore (pc := 223) X dL_law_223 hl (by decide) (lv' := [(7, vI x220), (6, vI x214), (0, vR v0), (1, vR v1), (2, vR (some a220)), (3, vR v3), (4, vR v4), (5, vI v5)]) rfl (fun ls hl => ?_)
      refine a_aload_n (pc := 225) X dL_law_225 rfl hl 4 rfl ?_
      rcases dv_someS hf with ⟨hk, hf⟩ | ⟨-, hf⟩
      rotate_left
      · exact fl_none hf
      refine a_callb (pc := 226) (rs := []) (avs := [vR (some a220)]) Z.1 (w_X4_thrown GA (some a220)) (Or.inl rfl) q3104 q86 (by decide) (by decide) dL_law_226 hl.1 (Nat.le_of_ble_eq_true rfl) hf (ct_V hk ⟨by decide, by decide⟩ X (Or.inl rfl) q3104 q3101 q3102 q3103 hy_X4_thrown np_X4_thrown rfl dL_law_226) (fun q h he hX => absurd he (Z.2.1 q h)) (fun x226 h hf => ?kk226)
      refine AW.eq (g2 := F0 m 229 ls [.int x226]) rfl ?_
      refine a_iload (pc := 229) X dL_law_229 hl 1 rfl ?_
      refine AW.lift2 (fun _ _ _ _ k1 k2 => lv_icmp_eq (pc := 231) (tgt := 236) X.2.2.1 X.2.2.2.1 dL_law_231 rfl k1 k2) (fun c => ?_) (fun c => ?_)
      · have hf := ite_t c hf
        refine a_iload (pc := 236) X dL_law_236 hl 1 rfl ?_
        refine AW.lift2 (fun _ _ _ _ k1 k2 => lv_if_ne (pc := 238) (tgt := 253) X.2.2.1 X.2.2.2.1 dL_law_238 rfl k2 k1) (fun c => ?_) (fun c => ?_)
        · have hf := ite_t c hf
          refine a_aload_n (pc := 241) X dL_law_241 rfl hl 5 rfl ?_
          refine AW.lift (fun _ _ _ _ k => lv_iconst (pc := 242) (v := (0 : Int32)) X.2.2.1 X.2.2.2.1 dL_law_242 rfl k) ?_
          refine a_laload (pc := 243) X dL_law_243 hf (fun x243 hf => ?_)
          refine a_iload (pc := 244) X dL_law_244 hl 0 rfl ?_
          refine AW.lift (fun _ _ _ _ k => lv_i2l (pc := 246) X.2.2.1 X.2.2.2.1 dL_law_246 rfl k) ?_
          refine AW.lift (fun _ _ _ _ k => W.lcmp (pc := 247) X.2.2.1 X.2.2.2.1 dL_law_247 k) ?_
          refine AW.lift2 (fun _ _ _ _ k1 k2 => lv_if_eq (pc := 248) (tgt := 253) X.2.2.1 X.2.2.2.1 dL_law_248 rfl k1 k2) (fun c => ?_) (fun c => ?_)
          · have hf := ite_t c hf
            exact w_L_law_j253 GA Z v0 v1 (some a220) v3 v4 v5  rc28 hrc28 (hl.sub [2, 3, 4, 5, 6, 7] rfl) hf
          · have hf := ite_f c hf
            refine AW.lift (fun _ _ _ _ k => lv_iconst (pc := 251) (v := (0 : Int32)) X.2.2.1 X.2.2.2.1 dL_law_251 rfl k) ?_
            exact a_zreturn X Z.2.2.1 rfl Z.2.2.2.1 dL_law_252 hf
        · have hf := ite_f c hf
          exact w_L_law_j253 GA Z v0 v1 (some a220) v3 v4 v5  rc28 hrc28 (hl.sub [2, 3, 4, 5, 6, 7] rfl) hf
      · have hf := ite_f c hf
        refine AW.lift (fun _ _ _ _ k => lv_iconst (pc := 234) (v := (0 : Int32)) X.2.2.1 X.2.2.2.1 dL_law_234 rfl k) ?_
        exact a_zreturn X Z.2.2.1 rfl Z.2.2.2.1 dL_law_235 hf
    have hf := ite_f c0 hf
    by_cases c1 : (x40 &&& (63 : Int32)) = (1 : Int32)
    · have hf := ite_t c1 hf
      refine AW.lift (fun _ _ _ _ k => lv_tableIn (pc := 44) (tgt := 256) (off := 212) X.2.2.1 X.2.2.2.1 dL_law_44 (by rw [c1]; decide) (by rw [c1]; decide) (by rw [c1]; rfl) rfl k) ?_
      refine a_aload_n (pc := 256) X dL_law_256 rfl hl 1 rfl ?_
      refine a_aload_n (pc := 257) X dL_law_257 rfl hl 0 rfl ?_
      refine a_iload (pc := 258) X dL_law_258 hl 5 rfl ?_
      refine AW.lift (fun _ _ _ _ k => lv_iconst (pc := 260) (v := (1 : Int32)) X.2.2.1 X.2.2.2.1 dL_law_260 rfl k) ?_
      refine AW.lift (fun _ _ _ _ k => lv_iadd (pc := 261) X.2.2.1 X.2.2.2.1 dL_law_261 k) ?_
      refine a_iaload (pc := 262) X dL_law_262 hf (fun x262 hf => ?_)
      refine a_aload_n (pc := 263) X dL_law_263 rfl hl 0 rfl ?_
      refine a_iload (pc := 264) X dL_law_264 hl 5 rfl ?_
      refine AW.lift (fun _ _ _ _ k => lv_iconst (pc := 266) (v := (2 : Int32)) X.2.2.1 X.2.2.2.1 dL_law_266 rfl k) ?_
      refine AW.lift (fun _ _ _ _ k => lv_iadd (pc := 267) X.2.2.1 X.2.2.2.1 dL_law_267 k) ?_
      refine a_iaload (pc := 268) X dL_law_268 hf (fun x268 hf => ?_)
      refine a_aload_n (pc := 269) X dL_law_269 rfl hl 3 rfl ?_
      refine a_callb (pc := 270) (rs := []) (avs := [vR v1, vI x262, vI x268, vR v3]) Z.1 (w_X0_fix GA v1 x262 x268 v3) (Or.inr (Or.inl ⟨_, rfl⟩)) q1785 q73 (by decide) (by decide) dL_law_270 hl.1 (Nat.le_of_ble_eq_true rfl) hf (ct_S X (Or.inr (Or.inl ⟨_, rfl⟩)) q1785 q73 q1783 q1784 hy_X0_fix np_X0_fix rfl dL_law_270) (fun q h he hX => absurd he (Z.2.1 q h)) (fun x270 h hf => ?kk270)
      refine AW.eq (g2 := F0 m 273 ls [.int x270]) rfl ?_
      refine a_istore (pc := 273) X dL_law_273 hl (by decide) (lv' := [(6, vI x270), (0, vR v0), (1, vR v1), (2, vR v2), (3, vR v3), (4, vR v4), (5, vI v5)]) rfl (fun ls hl => ?_)
      refine a_aload_n (pc := 275) X dL_law_275 rfl hl 3 rfl ?_
      refine a_aload_n (pc := 276) X dL_law_276 rfl hl 1 rfl ?_
      refine a_iload (pc := 277) X dL_law_277 hl 6 rfl ?_
      refine AW.lift (fun _ _ _ _ k => lv_iconst (pc := 279) (v := (1 : Int32)) X.2.2.1 X.2.2.2.1 dL_law_279 rfl k) ?_
      refine AW.lift (fun _ _ _ _ k => lv_iadd (pc := 280) X.2.2.1 X.2.2.2.1 dL_law_280 k) ?_
      refine a_iaload (pc := 281) X dL_law_281 hf (fun x281 hf => ?_)
      refine a_aload_n (pc := 282) X dL_law_282 rfl hl 1 rfl ?_
      refine a_iload (pc := 283) X dL_law_283 hl 6 rfl ?_
      refine AW.lift (fun _ _ _ _ k => lv_iconst (pc := 285) (v := (2 : Int32)) X.2.2.1 X.2.2.2.1 dL_law_285 rfl k) ?_
      refine AW.lift (fun _ _ _ _ k => lv_iadd (pc := 286) X.2.2.1 X.2.2.2.1 dL_law_286 k) ?_
      refine a_iaload (pc := 287) X dL_law_287 hf (fun x287 hf => ?_)
      obtain ⟨a288, rfl, ⟨hk, hf⟩ | ⟨-, hf⟩⟩ := dv_some hf
      rotate_left
      · exact fl_none hf
      refine a_callb (pc := 288) (rs := []) (avs := [vR (some a288), vI x281, vI x287]) Z.1 (w_X4_fix GA (some a288) x281 x287) (Or.inl rfl) q3131 q86 (by decide) (by decide) dL_law_288 hl.1 (Nat.le_of_ble_eq_true rfl) hf (ct_V hk ⟨by decide, by decide⟩ X (Or.inl rfl) q3131 q3128 q3129 q3130 hy_X4_fix np_X4_fix rfl dL_law_288) (fun q h he hX => absurd he (Z.2.1 q h)) (fun x288 h hf => ?kk288)
      refine AW.eq (g2 := F0 m 291 ls [.int x288]) rfl ?_
      refine a_istore (pc := 291) X dL_law_291 hl (by decide) (lv' := [(7, vI x288), (6, vI x270), (0, vR v0), (1, vR v1), (2, vR (some a288)), (3, vR v3), (4, vR v4), (5, vI v5)]) rfl (fun ls hl => ?_)
      refine a_aload_n (pc := 293) X dL_law_293 rfl hl 4 rfl ?_
      rcases dv_someS hf with ⟨hk, hf⟩ | ⟨-, hf⟩
      rotate_left
      · exact fl_none hf
      refine a_callb (pc := 294) (rs := []) (avs := [vR (some a288)]) Z.1 (w_X4_thrown GA (some a288)) (Or.inl rfl) q3104 q86 (by decide) (by decide) dL_law_294 hl.1 (Nat.le_of_ble_eq_true rfl) hf (ct_V hk ⟨by decide, by decide⟩ X (Or.inl rfl) q3104 q3101 q3102 q3103 hy_X4_thrown np_X4_thrown rfl dL_law_294) (fun q h he hX => absurd he (Z.2.1 q h)) (fun x294 h hf => ?kk294)
      refine AW.eq (g2 := F0 m 297 ls [.int x294]) rfl ?_
      refine a_iload (pc := 297) X dL_law_297 hl 1 rfl ?_
      refine AW.lift2 (fun _ _ _ _ k1 k2 => lv_icmp_eq (pc := 299) (tgt := 304) X.2.2.1 X.2.2.2.1 dL_law_299 rfl k1 k2) (fun c => ?_) (fun c => ?_)
      · have hf := ite_t c hf
        refine a_iload (pc := 304) X dL_law_304 hl 1 rfl ?_
        refine AW.lift2 (fun _ _ _ _ k1 k2 => lv_if_ne (pc := 306) (tgt := 321) X.2.2.1 X.2.2.2.1 dL_law_306 rfl k2 k1) (fun c => ?_) (fun c => ?_)
        · have hf := ite_t c hf
          refine a_aload_n (pc := 309) X dL_law_309 rfl hl 5 rfl ?_
          refine AW.lift (fun _ _ _ _ k => lv_iconst (pc := 310) (v := (0 : Int32)) X.2.2.1 X.2.2.2.1 dL_law_310 rfl k) ?_
          refine a_laload (pc := 311) X dL_law_311 hf (fun x311 hf => ?_)
          refine a_iload (pc := 312) X dL_law_312 hl 0 rfl ?_
          refine AW.lift (fun _ _ _ _ k => lv_i2l (pc := 314) X.2.2.1 X.2.2.2.1 dL_law_314 rfl k) ?_
          refine AW.lift (fun _ _ _ _ k => W.lcmp (pc := 315) X.2.2.1 X.2.2.2.1 dL_law_315 k) ?_
          refine AW.lift2 (fun _ _ _ _ k1 k2 => lv_if_eq (pc := 316) (tgt := 321) X.2.2.1 X.2.2.2.1 dL_law_316 rfl k1 k2) (fun c => ?_) (fun c => ?_)
          · have hf := ite_t c hf
            exact w_L_law_j321 GA Z v0 v1 (some a288) v3 v4 v5  rc28 hrc28 (hl.sub [2, 3, 4, 5, 6, 7] rfl) hf
          · have hf := ite_f c hf
            refine AW.lift (fun _ _ _ _ k => lv_iconst (pc := 319) (v := (0 : Int32)) X.2.2.1 X.2.2.2.1 dL_law_319 rfl k) ?_
            exact a_zreturn X Z.2.2.1 rfl Z.2.2.2.1 dL_law_320 hf
        · have hf := ite_f c hf
          exact w_L_law_j321 GA Z v0 v1 (some a288) v3 v4 v5  rc28 hrc28 (hl.sub [2, 3, 4, 5, 6, 7] rfl) hf
      · have hf := ite_f c hf
        refine AW.lift (fun _ _ _ _ k => lv_iconst (pc := 302) (v := (0 : Int32)) X.2.2.1 X.2.2.2.1 dL_law_302 rfl k) ?_
        exact a_zreturn X Z.2.2.1 rfl Z.2.2.2.1 dL_law_303 hf
    have hf := ite_f c1 hf
    by_cases c2 : (x40 &&& (63 : Int32)) = (2 : Int32)
    · have hf := ite_t c2 hf
      refine AW.lift (fun _ _ _ _ k => lv_tableIn (pc := 44) (tgt := 324) (off := 280) X.2.2.1 X.2.2.2.1 dL_law_44 (by rw [c2]; decide) (by rw [c2]; decide) (by rw [c2]; rfl) rfl k) ?_
      refine a_aload_n (pc := 324) X dL_law_324 rfl hl 1 rfl ?_
      refine a_aload_n (pc := 325) X dL_law_325 rfl hl 0 rfl ?_
      refine a_iload (pc := 326) X dL_law_326 hl 5 rfl ?_
      refine AW.lift (fun _ _ _ _ k => lv_iconst (pc := 328) (v := (1 : Int32)) X.2.2.1 X.2.2.2.1 dL_law_328 rfl k) ?_
      refine AW.lift (fun _ _ _ _ k => lv_iadd (pc := 329) X.2.2.1 X.2.2.2.1 dL_law_329 k) ?_
      refine a_iaload (pc := 330) X dL_law_330 hf (fun x330 hf => ?_)
      refine a_aload_n (pc := 331) X dL_law_331 rfl hl 3 rfl ?_
      refine a_callb (pc := 332) (rs := []) (avs := [vR v1, vI x330, vR v3]) Z.1 (w_X0_open GA v1 x330 v3) (Or.inr (Or.inl ⟨_, rfl⟩)) q1853 q73 (by decide) (by decide) dL_law_332 hl.1 (Nat.le_of_ble_eq_true rfl) hf (ct_S X (Or.inr (Or.inl ⟨_, rfl⟩)) q1853 q73 q1851 q1852 hy_X0_open np_X0_open rfl dL_law_332) (fun q h he hX => absurd he (Z.2.1 q h)) (fun x332 h hf => ?kk332)
      refine AW.eq (g2 := F0 m 335 ls [.int x332]) rfl ?_
      refine a_istore (pc := 335) X dL_law_335 hl (by decide) (lv' := [(6, vI x332), (0, vR v0), (1, vR v1), (2, vR v2), (3, vR v3), (4, vR v4), (5, vI v5)]) rfl (fun ls hl => ?_)
      refine a_aload_n (pc := 337) X dL_law_337 rfl hl 3 rfl ?_
      refine a_aload_n (pc := 338) X dL_law_338 rfl hl 1 rfl ?_
      refine a_iload (pc := 339) X dL_law_339 hl 6 rfl ?_
      refine AW.lift (fun _ _ _ _ k => lv_iconst (pc := 341) (v := (1 : Int32)) X.2.2.1 X.2.2.2.1 dL_law_341 rfl k) ?_
      refine AW.lift (fun _ _ _ _ k => lv_iadd (pc := 342) X.2.2.1 X.2.2.2.1 dL_law_342 k) ?_
      refine a_iaload (pc := 343) X dL_law_343 hf (fun x343 hf => ?_)
      obtain ⟨a344, rfl, ⟨hk, hf⟩ | ⟨-, hf⟩⟩ := dv_some hf
      rotate_left
      · exact fl_none hf
      refine a_callb (pc := 344) (rs := []) (avs := [vR (some a344), vI x343]) Z.1 (w_X4_open GA (some a344) x343) (Or.inl rfl) q3166 q86 (by decide) (by decide) dL_law_344 hl.1 (Nat.le_of_ble_eq_true rfl) hf (ct_V hk ⟨by decide, by decide⟩ X (Or.inl rfl) q3166 q3163 q3164 q3165 hy_X4_open np_X4_open rfl dL_law_344) (fun q h he hX => absurd he (Z.2.1 q h)) (fun x344 h hf => ?kk344)
      refine AW.eq (g2 := F0 m 347 ls [.int x344]) rfl ?_
      refine a_istore (pc := 347) X dL_law_347 hl (by decide) (lv' := [(7, vI x344), (6, vI x332), (0, vR v0), (1, vR v1), (2, vR (some a344)), (3, vR v3), (4, vR v4), (5, vI v5)]) rfl (fun ls hl => ?_)
      refine a_aload_n (pc := 349) X dL_law_349 rfl hl 4 rfl ?_
      rcases dv_someS hf with ⟨hk, hf⟩ | ⟨-, hf⟩
      rotate_left
      · exact fl_none hf
      refine a_callb (pc := 350) (rs := []) (avs := [vR (some a344)]) Z.1 (w_X4_thrown GA (some a344)) (Or.inl rfl) q3104 q86 (by decide) (by decide) dL_law_350 hl.1 (Nat.le_of_ble_eq_true rfl) hf (ct_V hk ⟨by decide, by decide⟩ X (Or.inl rfl) q3104 q3101 q3102 q3103 hy_X4_thrown np_X4_thrown rfl dL_law_350) (fun q h he hX => absurd he (Z.2.1 q h)) (fun x350 h hf => ?kk350)
      refine AW.eq (g2 := F0 m 353 ls [.int x350]) rfl ?_
      refine a_iload (pc := 353) X dL_law_353 hl 1 rfl ?_
      refine AW.lift2 (fun _ _ _ _ k1 k2 => lv_icmp_eq (pc := 355) (tgt := 360) X.2.2.1 X.2.2.2.1 dL_law_355 rfl k1 k2) (fun c => ?_) (fun c => ?_)
      · have hf := ite_t c hf
        refine a_iload (pc := 360) X dL_law_360 hl 1 rfl ?_
        refine AW.lift2 (fun _ _ _ _ k1 k2 => lv_if_ne (pc := 362) (tgt := 377) X.2.2.1 X.2.2.2.1 dL_law_362 rfl k2 k1) (fun c => ?_) (fun c => ?_)
        · have hf := ite_t c hf
          refine a_aload_n (pc := 365) X dL_law_365 rfl hl 5 rfl ?_
          refine AW.lift (fun _ _ _ _ k => lv_iconst (pc := 366) (v := (0 : Int32)) X.2.2.1 X.2.2.2.1 dL_law_366 rfl k) ?_
          refine a_laload (pc := 367) X dL_law_367 hf (fun x367 hf => ?_)
          refine a_iload (pc := 368) X dL_law_368 hl 0 rfl ?_
          refine AW.lift (fun _ _ _ _ k => lv_i2l (pc := 370) X.2.2.1 X.2.2.2.1 dL_law_370 rfl k) ?_
          refine AW.lift (fun _ _ _ _ k => W.lcmp (pc := 371) X.2.2.1 X.2.2.2.1 dL_law_371 k) ?_
          refine AW.lift2 (fun _ _ _ _ k1 k2 => lv_if_eq (pc := 372) (tgt := 377) X.2.2.1 X.2.2.2.1 dL_law_372 rfl k1 k2) (fun c => ?_) (fun c => ?_)
          · have hf := ite_t c hf
            exact w_L_law_j377 GA Z v0 v1 (some a344) v3 v4 v5  rc28 hrc28 (hl.sub [2, 3, 4, 5, 6, 7] rfl) hf
          · have hf := ite_f c hf
            refine AW.lift (fun _ _ _ _ k => lv_iconst (pc := 375) (v := (0 : Int32)) X.2.2.1 X.2.2.2.1 dL_law_375 rfl k) ?_
            exact a_zreturn X Z.2.2.1 rfl Z.2.2.2.1 dL_law_376 hf
        · have hf := ite_f c hf
          exact w_L_law_j377 GA Z v0 v1 (some a344) v3 v4 v5  rc28 hrc28 (hl.sub [2, 3, 4, 5, 6, 7] rfl) hf
      · have hf := ite_f c hf
        refine AW.lift (fun _ _ _ _ k => lv_iconst (pc := 358) (v := (0 : Int32)) X.2.2.1 X.2.2.2.1 dL_law_358 rfl k) ?_
        exact a_zreturn X Z.2.2.1 rfl Z.2.2.2.1 dL_law_359 hf
    have hf := ite_f c2 hf
    by_cases c3 : (x40 &&& (63 : Int32)) = (3 : Int32)
    · have hf := ite_t c3 hf
      refine AW.lift (fun _ _ _ _ k => lv_tableIn (pc := 44) (tgt := 380) (off := 336) X.2.2.1 X.2.2.2.1 dL_law_44 (by rw [c3]; decide) (by rw [c3]; decide) (by rw [c3]; rfl) rfl k) ?_
      refine a_aload_n (pc := 380) X dL_law_380 rfl hl 1 rfl ?_
      refine a_aload_n (pc := 381) X dL_law_381 rfl hl 0 rfl ?_
      refine a_iload (pc := 382) X dL_law_382 hl 5 rfl ?_
      refine AW.lift (fun _ _ _ _ k => lv_iconst (pc := 384) (v := (1 : Int32)) X.2.2.1 X.2.2.2.1 dL_law_384 rfl k) ?_
      refine AW.lift (fun _ _ _ _ k => lv_iadd (pc := 385) X.2.2.1 X.2.2.2.1 dL_law_385 k) ?_
      refine a_iaload (pc := 386) X dL_law_386 hf (fun x386 hf => ?_)
      refine a_aload_n (pc := 387) X dL_law_387 rfl hl 0 rfl ?_
      refine a_iload (pc := 388) X dL_law_388 hl 5 rfl ?_
      refine AW.lift (fun _ _ _ _ k => lv_iconst (pc := 390) (v := (2 : Int32)) X.2.2.1 X.2.2.2.1 dL_law_390 rfl k) ?_
      refine AW.lift (fun _ _ _ _ k => lv_iadd (pc := 391) X.2.2.1 X.2.2.2.1 dL_law_391 k) ?_
      refine a_iaload (pc := 392) X dL_law_392 hf (fun x392 hf => ?_)
      refine a_aload_n (pc := 393) X dL_law_393 rfl hl 3 rfl ?_
      refine a_callb (pc := 394) (rs := []) (avs := [vR v1, vI x386, vI x392, vR v3]) Z.1 (w_X0_matOf GA v1 x386 x392 v3) (Or.inr (Or.inl ⟨_, rfl⟩)) q1872 q73 (by decide) (by decide) dL_law_394 hl.1 (Nat.le_of_ble_eq_true rfl) hf (ct_S X (Or.inr (Or.inl ⟨_, rfl⟩)) q1872 q73 q1870 q1871 hy_X0_matOf np_X0_matOf rfl dL_law_394) (fun q h he hX => absurd he (Z.2.1 q h)) (fun x394 h hf => ?kk394)
      refine AW.eq (g2 := F0 m 397 ls [.int x394]) rfl ?_
      refine a_istore (pc := 397) X dL_law_397 hl (by decide) (lv' := [(6, vI x394), (0, vR v0), (1, vR v1), (2, vR v2), (3, vR v3), (4, vR v4), (5, vI v5)]) rfl (fun ls hl => ?_)
      refine a_aload_n (pc := 399) X dL_law_399 rfl hl 3 rfl ?_
      refine a_aload_n (pc := 400) X dL_law_400 rfl hl 1 rfl ?_
      refine a_iload (pc := 401) X dL_law_401 hl 6 rfl ?_
      refine AW.lift (fun _ _ _ _ k => lv_iconst (pc := 403) (v := (1 : Int32)) X.2.2.1 X.2.2.2.1 dL_law_403 rfl k) ?_
      refine AW.lift (fun _ _ _ _ k => lv_iadd (pc := 404) X.2.2.1 X.2.2.2.1 dL_law_404 k) ?_
      refine a_iaload (pc := 405) X dL_law_405 hf (fun x405 hf => ?_)
      refine a_aload_n (pc := 406) X dL_law_406 rfl hl 1 rfl ?_
      refine a_iload (pc := 407) X dL_law_407 hl 6 rfl ?_
      refine AW.lift (fun _ _ _ _ k => lv_iconst (pc := 409) (v := (2 : Int32)) X.2.2.1 X.2.2.2.1 dL_law_409 rfl k) ?_
      refine AW.lift (fun _ _ _ _ k => lv_iadd (pc := 410) X.2.2.1 X.2.2.2.1 dL_law_410 k) ?_
      refine a_iaload (pc := 411) X dL_law_411 hf (fun x411 hf => ?_)
      obtain ⟨a412, rfl, ⟨hk, hf⟩ | ⟨-, hf⟩⟩ := dv_some hf
      rotate_left
      · exact fl_none hf
      refine a_callb (pc := 412) (rs := []) (avs := [vR (some a412), vI x405, vI x411]) Z.1 (w_X4_matOf GA (some a412) x405 x411) (Or.inl rfl) q3174 q86 (by decide) (by decide) dL_law_412 hl.1 (Nat.le_of_ble_eq_true rfl) hf (ct_V hk ⟨by decide, by decide⟩ X (Or.inl rfl) q3174 q3171 q3172 q3173 hy_X4_matOf np_X4_matOf rfl dL_law_412) (fun q h he hX => absurd he (Z.2.1 q h)) (fun x412 h hf => ?kk412)
      refine AW.eq (g2 := F0 m 415 ls [.int x412]) rfl ?_
      refine a_istore (pc := 415) X dL_law_415 hl (by decide) (lv' := [(7, vI x412), (6, vI x394), (0, vR v0), (1, vR v1), (2, vR (some a412)), (3, vR v3), (4, vR v4), (5, vI v5)]) rfl (fun ls hl => ?_)
      refine a_aload_n (pc := 417) X dL_law_417 rfl hl 4 rfl ?_
      rcases dv_someS hf with ⟨hk, hf⟩ | ⟨-, hf⟩
      rotate_left
      · exact fl_none hf
      refine a_callb (pc := 418) (rs := []) (avs := [vR (some a412)]) Z.1 (w_X4_thrown GA (some a412)) (Or.inl rfl) q3104 q86 (by decide) (by decide) dL_law_418 hl.1 (Nat.le_of_ble_eq_true rfl) hf (ct_V hk ⟨by decide, by decide⟩ X (Or.inl rfl) q3104 q3101 q3102 q3103 hy_X4_thrown np_X4_thrown rfl dL_law_418) (fun q h he hX => absurd he (Z.2.1 q h)) (fun x418 h hf => ?kk418)
      refine AW.eq (g2 := F0 m 421 ls [.int x418]) rfl ?_
      refine a_iload (pc := 421) X dL_law_421 hl 1 rfl ?_
      refine AW.lift2 (fun _ _ _ _ k1 k2 => lv_icmp_eq (pc := 423) (tgt := 428) X.2.2.1 X.2.2.2.1 dL_law_423 rfl k1 k2) (fun c => ?_) (fun c => ?_)
      · have hf := ite_t c hf
        refine a_iload (pc := 428) X dL_law_428 hl 1 rfl ?_
        refine AW.lift2 (fun _ _ _ _ k1 k2 => lv_if_ne (pc := 430) (tgt := 445) X.2.2.1 X.2.2.2.1 dL_law_430 rfl k2 k1) (fun c => ?_) (fun c => ?_)
        · have hf := ite_t c hf
          refine a_aload_n (pc := 433) X dL_law_433 rfl hl 5 rfl ?_
          refine AW.lift (fun _ _ _ _ k => lv_iconst (pc := 434) (v := (0 : Int32)) X.2.2.1 X.2.2.2.1 dL_law_434 rfl k) ?_
          refine a_laload (pc := 435) X dL_law_435 hf (fun x435 hf => ?_)
          refine a_iload (pc := 436) X dL_law_436 hl 0 rfl ?_
          refine AW.lift (fun _ _ _ _ k => lv_i2l (pc := 438) X.2.2.1 X.2.2.2.1 dL_law_438 rfl k) ?_
          refine AW.lift (fun _ _ _ _ k => W.lcmp (pc := 439) X.2.2.1 X.2.2.2.1 dL_law_439 k) ?_
          refine AW.lift2 (fun _ _ _ _ k1 k2 => lv_if_eq (pc := 440) (tgt := 445) X.2.2.1 X.2.2.2.1 dL_law_440 rfl k1 k2) (fun c => ?_) (fun c => ?_)
          · have hf := ite_t c hf
            exact w_L_law_j445 GA Z v0 v1 (some a412) v3 v4 v5  rc28 hrc28 (hl.sub [2, 3, 4, 5, 6, 7] rfl) hf
          · have hf := ite_f c hf
            refine AW.lift (fun _ _ _ _ k => lv_iconst (pc := 443) (v := (0 : Int32)) X.2.2.1 X.2.2.2.1 dL_law_443 rfl k) ?_
            exact a_zreturn X Z.2.2.1 rfl Z.2.2.2.1 dL_law_444 hf
        · have hf := ite_f c hf
          exact w_L_law_j445 GA Z v0 v1 (some a412) v3 v4 v5  rc28 hrc28 (hl.sub [2, 3, 4, 5, 6, 7] rfl) hf
      · have hf := ite_f c hf
        refine AW.lift (fun _ _ _ _ k => lv_iconst (pc := 426) (v := (0 : Int32)) X.2.2.1 X.2.2.2.1 dL_law_426 rfl k) ?_
        exact a_zreturn X Z.2.2.1 rfl Z.2.2.2.1 dL_law_427 hf
    have hf := ite_f c3 hf
    by_cases c4 : (x40 &&& (63 : Int32)) = (4 : Int32)
    · have hf := ite_t c4 hf
      refine AW.lift (fun _ _ _ _ k => lv_tableIn (pc := 44) (tgt := 448) (off := 404) X.2.2.1 X.2.2.2.1 dL_law_44 (by rw [c4]; decide) (by rw [c4]; decide) (by rw [c4]; rfl) rfl k) ?_
      refine a_aload_n (pc := 448) X dL_law_448 rfl hl 1 rfl ?_
      refine a_aload_n (pc := 449) X dL_law_449 rfl hl 0 rfl ?_
      refine a_iload (pc := 450) X dL_law_450 hl 5 rfl ?_
      refine AW.lift (fun _ _ _ _ k => lv_iconst (pc := 452) (v := (1 : Int32)) X.2.2.1 X.2.2.2.1 dL_law_452 rfl k) ?_
      refine AW.lift (fun _ _ _ _ k => lv_iadd (pc := 453) X.2.2.1 X.2.2.2.1 dL_law_453 k) ?_
      refine a_iaload (pc := 454) X dL_law_454 hf (fun x454 hf => ?_)
      refine a_aload_n (pc := 455) X dL_law_455 rfl hl 0 rfl ?_
      refine a_iload (pc := 456) X dL_law_456 hl 5 rfl ?_
      refine AW.lift (fun _ _ _ _ k => lv_iconst (pc := 458) (v := (2 : Int32)) X.2.2.1 X.2.2.2.1 dL_law_458 rfl k) ?_
      refine AW.lift (fun _ _ _ _ k => lv_iadd (pc := 459) X.2.2.1 X.2.2.2.1 dL_law_459 k) ?_
      refine a_iaload (pc := 460) X dL_law_460 hf (fun x460 hf => ?_)
      refine a_aload_n (pc := 461) X dL_law_461 rfl hl 3 rfl ?_
      refine a_callb (pc := 462) (rs := []) (avs := [vR v1, vI x454, vI x460, vR v3]) Z.1 (w_X0_wear GA v1 x454 x460 v3) (Or.inr (Or.inl ⟨_, rfl⟩)) q1946 q73 (by decide) (by decide) dL_law_462 hl.1 (Nat.le_of_ble_eq_true rfl) hf (ct_S X (Or.inr (Or.inl ⟨_, rfl⟩)) q1946 q73 q1944 q1945 hy_X0_wear np_X0_wear rfl dL_law_462) (fun q h he hX => absurd he (Z.2.1 q h)) (fun x462 h hf => ?kk462)
      refine AW.eq (g2 := F0 m 465 ls [.int x462]) rfl ?_
      refine a_istore (pc := 465) X dL_law_465 hl (by decide) (lv' := [(6, vI x462), (0, vR v0), (1, vR v1), (2, vR v2), (3, vR v3), (4, vR v4), (5, vI v5)]) rfl (fun ls hl => ?_)
      refine a_aload_n (pc := 467) X dL_law_467 rfl hl 3 rfl ?_
      refine a_aload_n (pc := 468) X dL_law_468 rfl hl 1 rfl ?_
      refine a_iload (pc := 469) X dL_law_469 hl 6 rfl ?_
      refine AW.lift (fun _ _ _ _ k => lv_iconst (pc := 471) (v := (1 : Int32)) X.2.2.1 X.2.2.2.1 dL_law_471 rfl k) ?_
      refine AW.lift (fun _ _ _ _ k => lv_iadd (pc := 472) X.2.2.1 X.2.2.2.1 dL_law_472 k) ?_
      refine a_iaload (pc := 473) X dL_law_473 hf (fun x473 hf => ?_)
      refine a_aload_n (pc := 474) X dL_law_474 rfl hl 1 rfl ?_
      refine a_iload (pc := 475) X dL_law_475 hl 6 rfl ?_
      refine AW.lift (fun _ _ _ _ k => lv_iconst (pc := 477) (v := (2 : Int32)) X.2.2.1 X.2.2.2.1 dL_law_477 rfl k) ?_
      refine AW.lift (fun _ _ _ _ k => lv_iadd (pc := 478) X.2.2.1 X.2.2.2.1 dL_law_478 k) ?_
      refine a_iaload (pc := 479) X dL_law_479 hf (fun x479 hf => ?_)
      obtain ⟨a480, rfl, ⟨hk, hf⟩ | ⟨-, hf⟩⟩ := dv_some hf
      rotate_left
      · exact fl_none hf
      refine a_callb (pc := 480) (rs := []) (avs := [vR (some a480), vI x473, vI x479]) Z.1 (w_X4_wear GA (some a480) x473 x479) (Or.inl rfl) q3190 q86 (by decide) (by decide) dL_law_480 hl.1 (Nat.le_of_ble_eq_true rfl) hf (ct_V hk ⟨by decide, by decide⟩ X (Or.inl rfl) q3190 q3187 q3188 q3189 hy_X4_wear np_X4_wear rfl dL_law_480) (fun q h he hX => absurd he (Z.2.1 q h)) (fun x480 h hf => ?kk480)
      refine AW.eq (g2 := F0 m 483 ls [.int x480]) rfl ?_
      refine a_istore (pc := 483) X dL_law_483 hl (by decide) (lv' := [(7, vI x480), (6, vI x462), (0, vR v0), (1, vR v1), (2, vR (some a480)), (3, vR v3), (4, vR v4), (5, vI v5)]) rfl (fun ls hl => ?_)
      refine a_aload_n (pc := 485) X dL_law_485 rfl hl 4 rfl ?_
      rcases dv_someS hf with ⟨hk, hf⟩ | ⟨-, hf⟩
      rotate_left
      · exact fl_none hf
      refine a_callb (pc := 486) (rs := []) (avs := [vR (some a480)]) Z.1 (w_X4_thrown GA (some a480)) (Or.inl rfl) q3104 q86 (by decide) (by decide) dL_law_486 hl.1 (Nat.le_of_ble_eq_true rfl) hf (ct_V hk ⟨by decide, by decide⟩ X (Or.inl rfl) q3104 q3101 q3102 q3103 hy_X4_thrown np_X4_thrown rfl dL_law_486) (fun q h he hX => absurd he (Z.2.1 q h)) (fun x486 h hf => ?kk486)
      refine AW.eq (g2 := F0 m 489 ls [.int x486]) rfl ?_
      refine a_iload (pc := 489) X dL_law_489 hl 1 rfl ?_
      refine AW.lift2 (fun _ _ _ _ k1 k2 => lv_icmp_eq (pc := 491) (tgt := 496) X.2.2.1 X.2.2.2.1 dL_law_491 rfl k1 k2) (fun c => ?_) (fun c => ?_)
      · have hf := ite_t c hf
        refine a_iload (pc := 496) X dL_law_496 hl 1 rfl ?_
        refine AW.lift2 (fun _ _ _ _ k1 k2 => lv_if_ne (pc := 498) (tgt := 513) X.2.2.1 X.2.2.2.1 dL_law_498 rfl k2 k1) (fun c => ?_) (fun c => ?_)
        · have hf := ite_t c hf
          refine a_aload_n (pc := 501) X dL_law_501 rfl hl 5 rfl ?_
          refine AW.lift (fun _ _ _ _ k => lv_iconst (pc := 502) (v := (0 : Int32)) X.2.2.1 X.2.2.2.1 dL_law_502 rfl k) ?_
          refine a_laload (pc := 503) X dL_law_503 hf (fun x503 hf => ?_)
          refine a_iload (pc := 504) X dL_law_504 hl 0 rfl ?_
          refine AW.lift (fun _ _ _ _ k => lv_i2l (pc := 506) X.2.2.1 X.2.2.2.1 dL_law_506 rfl k) ?_
          refine AW.lift (fun _ _ _ _ k => W.lcmp (pc := 507) X.2.2.1 X.2.2.2.1 dL_law_507 k) ?_
          refine AW.lift2 (fun _ _ _ _ k1 k2 => lv_if_eq (pc := 508) (tgt := 513) X.2.2.1 X.2.2.2.1 dL_law_508 rfl k1 k2) (fun c => ?_) (fun c => ?_)
          · have hf := ite_t c hf
            exact w_L_law_j513 GA Z v0 v1 (some a480) v3 v4 v5  rc28 hrc28 (hl.sub [2, 3, 4, 5, 6, 7] rfl) hf
          · have hf := ite_f c hf
            refine AW.lift (fun _ _ _ _ k => lv_iconst (pc := 511) (v := (0 : Int32)) X.2.2.1 X.2.2.2.1 dL_law_511 rfl k) ?_
            exact a_zreturn X Z.2.2.1 rfl Z.2.2.2.1 dL_law_512 hf
        · have hf := ite_f c hf
          exact w_L_law_j513 GA Z v0 v1 (some a480) v3 v4 v5  rc28 hrc28 (hl.sub [2, 3, 4, 5, 6, 7] rfl) hf
      · have hf := ite_f c hf
        refine AW.lift (fun _ _ _ _ k => lv_iconst (pc := 494) (v := (0 : Int32)) X.2.2.1 X.2.2.2.1 dL_law_494 rfl k) ?_
        exact a_zreturn X Z.2.2.1 rfl Z.2.2.2.1 dL_law_495 hf
    have hf := ite_f c4 hf
    by_cases c5 : (x40 &&& (63 : Int32)) = (5 : Int32)
    · have hf := ite_t c5 hf
      refine AW.lift (fun _ _ _ _ k => lv_tableIn (pc := 44) (tgt := 516) (off := 472) X.2.2.1 X.2.2.2.1 dL_law_44 (by rw [c5]; decide) (by rw [c5]; decide) (by rw [c5]; rfl) rfl k) ?_
      refine a_aload_n (pc := 516) X dL_law_516 rfl hl 1 rfl ?_
      refine a_aload_n (pc := 517) X dL_law_517 rfl hl 0 rfl ?_
      refine a_iload (pc := 518) X dL_law_518 hl 5 rfl ?_
      refine AW.lift (fun _ _ _ _ k => lv_iconst (pc := 520) (v := (1 : Int32)) X.2.2.1 X.2.2.2.1 dL_law_520 rfl k) ?_
      refine AW.lift (fun _ _ _ _ k => lv_iadd (pc := 521) X.2.2.1 X.2.2.2.1 dL_law_521 k) ?_
      refine a_iaload (pc := 522) X dL_law_522 hf (fun x522 hf => ?_)
      refine a_aload_n (pc := 523) X dL_law_523 rfl hl 3 rfl ?_
      refine a_callb (pc := 524) (rs := []) (avs := [vR v1, vI x522, vR v3]) Z.1 (w_X0_bearsAgain GA v1 x522 v3) (Or.inr (Or.inl ⟨_, rfl⟩)) q1953 q73 (by decide) (by decide) dL_law_524 hl.1 (Nat.le_of_ble_eq_true rfl) hf (ct_S X (Or.inr (Or.inl ⟨_, rfl⟩)) q1953 q73 q1951 q1952 hy_X0_bearsAgain np_X0_bearsAgain rfl dL_law_524) (fun q h he hX => absurd he (Z.2.1 q h)) (fun x524 h hf => ?kk524)
      refine AW.eq (g2 := F0 m 527 ls [.int x524]) rfl ?_
      refine a_istore (pc := 527) X dL_law_527 hl (by decide) (lv' := [(6, vI x524), (0, vR v0), (1, vR v1), (2, vR v2), (3, vR v3), (4, vR v4), (5, vI v5)]) rfl (fun ls hl => ?_)
      refine a_aload_n (pc := 529) X dL_law_529 rfl hl 3 rfl ?_
      refine a_aload_n (pc := 530) X dL_law_530 rfl hl 1 rfl ?_
      refine a_iload (pc := 531) X dL_law_531 hl 6 rfl ?_
      refine AW.lift (fun _ _ _ _ k => lv_iconst (pc := 533) (v := (1 : Int32)) X.2.2.1 X.2.2.2.1 dL_law_533 rfl k) ?_
      refine AW.lift (fun _ _ _ _ k => lv_iadd (pc := 534) X.2.2.1 X.2.2.2.1 dL_law_534 k) ?_
      refine a_iaload (pc := 535) X dL_law_535 hf (fun x535 hf => ?_)
      obtain ⟨a536, rfl, ⟨hk, hf⟩ | ⟨-, hf⟩⟩ := dv_some hf
      rotate_left
      · exact fl_none hf
      refine a_callb (pc := 536) (rs := []) (avs := [vR (some a536), vI x535]) Z.1 (w_X4_bearsAgain GA (some a536) x535) (Or.inl rfl) q3194 q86 (by decide) (by decide) dL_law_536 hl.1 (Nat.le_of_ble_eq_true rfl) hf (ct_V hk ⟨by decide, by decide⟩ X (Or.inl rfl) q3194 q3191 q3192 q3193 hy_X4_bearsAgain np_X4_bearsAgain rfl dL_law_536) (fun q h he hX => absurd he (Z.2.1 q h)) (fun x536 h hf => ?kk536)
      refine AW.eq (g2 := F0 m 539 ls [.int x536]) rfl ?_
      refine a_istore (pc := 539) X dL_law_539 hl (by decide) (lv' := [(7, vI x536), (6, vI x524), (0, vR v0), (1, vR v1), (2, vR (some a536)), (3, vR v3), (4, vR v4), (5, vI v5)]) rfl (fun ls hl => ?_)
      refine a_aload_n (pc := 541) X dL_law_541 rfl hl 4 rfl ?_
      rcases dv_someS hf with ⟨hk, hf⟩ | ⟨-, hf⟩
      rotate_left
      · exact fl_none hf
      refine a_callb (pc := 542) (rs := []) (avs := [vR (some a536)]) Z.1 (w_X4_thrown GA (some a536)) (Or.inl rfl) q3104 q86 (by decide) (by decide) dL_law_542 hl.1 (Nat.le_of_ble_eq_true rfl) hf (ct_V hk ⟨by decide, by decide⟩ X (Or.inl rfl) q3104 q3101 q3102 q3103 hy_X4_thrown np_X4_thrown rfl dL_law_542) (fun q h he hX => absurd he (Z.2.1 q h)) (fun x542 h hf => ?kk542)
      refine AW.eq (g2 := F0 m 545 ls [.int x542]) rfl ?_
      refine a_iload (pc := 545) X dL_law_545 hl 1 rfl ?_
      refine AW.lift2 (fun _ _ _ _ k1 k2 => lv_icmp_eq (pc := 547) (tgt := 552) X.2.2.1 X.2.2.2.1 dL_law_547 rfl k1 k2) (fun c => ?_) (fun c => ?_)
      · have hf := ite_t c hf
        refine a_iload (pc := 552) X dL_law_552 hl 1 rfl ?_
        refine AW.lift2 (fun _ _ _ _ k1 k2 => lv_if_ne (pc := 554) (tgt := 569) X.2.2.1 X.2.2.2.1 dL_law_554 rfl k2 k1) (fun c => ?_) (fun c => ?_)
        · have hf := ite_t c hf
          refine a_aload_n (pc := 557) X dL_law_557 rfl hl 5 rfl ?_
          refine AW.lift (fun _ _ _ _ k => lv_iconst (pc := 558) (v := (0 : Int32)) X.2.2.1 X.2.2.2.1 dL_law_558 rfl k) ?_
          refine a_laload (pc := 559) X dL_law_559 hf (fun x559 hf => ?_)
          refine a_iload (pc := 560) X dL_law_560 hl 0 rfl ?_
          refine AW.lift (fun _ _ _ _ k => lv_i2l (pc := 562) X.2.2.1 X.2.2.2.1 dL_law_562 rfl k) ?_
          refine AW.lift (fun _ _ _ _ k => W.lcmp (pc := 563) X.2.2.1 X.2.2.2.1 dL_law_563 k) ?_
          refine AW.lift2 (fun _ _ _ _ k1 k2 => lv_if_eq (pc := 564) (tgt := 569) X.2.2.1 X.2.2.2.1 dL_law_564 rfl k1 k2) (fun c => ?_) (fun c => ?_)
          · have hf := ite_t c hf
            exact w_L_law_j569 GA Z v0 v1 (some a536) v3 v4 v5  rc28 hrc28 (hl.sub [2, 3, 4, 5, 6, 7] rfl) hf
          · have hf := ite_f c hf
            refine AW.lift (fun _ _ _ _ k => lv_iconst (pc := 567) (v := (0 : Int32)) X.2.2.1 X.2.2.2.1 dL_law_567 rfl k) ?_
            exact a_zreturn X Z.2.2.1 rfl Z.2.2.2.1 dL_law_568 hf
        · have hf := ite_f c hf
          exact w_L_law_j569 GA Z v0 v1 (some a536) v3 v4 v5  rc28 hrc28 (hl.sub [2, 3, 4, 5, 6, 7] rfl) hf
      · have hf := ite_f c hf
        refine AW.lift (fun _ _ _ _ k => lv_iconst (pc := 550) (v := (0 : Int32)) X.2.2.1 X.2.2.2.1 dL_law_550 rfl k) ?_
        exact a_zreturn X Z.2.2.1 rfl Z.2.2.2.1 dL_law_551 hf
    have hf := ite_f c5 hf
    by_cases c6 : (x40 &&& (63 : Int32)) = (6 : Int32)
    · have hf := ite_t c6 hf
      refine AW.lift (fun _ _ _ _ k => lv_tableIn (pc := 44) (tgt := 572) (off := 528) X.2.2.1 X.2.2.2.1 dL_law_44 (by rw [c6]; decide) (by rw [c6]; decide) (by rw [c6]; rfl) rfl k) ?_
      refine a_aload_n (pc := 572) X dL_law_572 rfl hl 1 rfl ?_
      refine a_aload_n (pc := 573) X dL_law_573 rfl hl 0 rfl ?_
      refine a_iload (pc := 574) X dL_law_574 hl 5 rfl ?_
      refine AW.lift (fun _ _ _ _ k => lv_iconst (pc := 576) (v := (1 : Int32)) X.2.2.1 X.2.2.2.1 dL_law_576 rfl k) ?_
      refine AW.lift (fun _ _ _ _ k => lv_iadd (pc := 577) X.2.2.1 X.2.2.2.1 dL_law_577 k) ?_
      refine a_iaload (pc := 578) X dL_law_578 hf (fun x578 hf => ?_)
      refine a_aload_n (pc := 579) X dL_law_579 rfl hl 3 rfl ?_
      refine a_callb (pc := 580) (rs := []) (avs := [vR v1, vI x578, vR v3]) Z.1 (w_X0_lasts GA v1 x578 v3) (Or.inr (Or.inl ⟨_, rfl⟩)) q1960 q73 (by decide) (by decide) dL_law_580 hl.1 (Nat.le_of_ble_eq_true rfl) hf (ct_S X (Or.inr (Or.inl ⟨_, rfl⟩)) q1960 q73 q1958 q1959 hy_X0_lasts np_X0_lasts rfl dL_law_580) (fun q h he hX => absurd he (Z.2.1 q h)) (fun x580 h hf => ?kk580)
      refine AW.eq (g2 := F0 m 583 ls [.int x580]) rfl ?_
      refine a_istore (pc := 583) X dL_law_583 hl (by decide) (lv' := [(6, vI x580), (0, vR v0), (1, vR v1), (2, vR v2), (3, vR v3), (4, vR v4), (5, vI v5)]) rfl (fun ls hl => ?_)
      refine a_aload_n (pc := 585) X dL_law_585 rfl hl 3 rfl ?_
      refine a_aload_n (pc := 586) X dL_law_586 rfl hl 1 rfl ?_
      refine a_iload (pc := 587) X dL_law_587 hl 6 rfl ?_
      refine AW.lift (fun _ _ _ _ k => lv_iconst (pc := 589) (v := (1 : Int32)) X.2.2.1 X.2.2.2.1 dL_law_589 rfl k) ?_
      refine AW.lift (fun _ _ _ _ k => lv_iadd (pc := 590) X.2.2.1 X.2.2.2.1 dL_law_590 k) ?_
      refine a_iaload (pc := 591) X dL_law_591 hf (fun x591 hf => ?_)
      obtain ⟨a592, rfl, ⟨hk, hf⟩ | ⟨-, hf⟩⟩ := dv_some hf
      rotate_left
      · exact fl_none hf
      refine a_callb (pc := 592) (rs := []) (avs := [vR (some a592), vI x591]) Z.1 (w_X4_lasts GA (some a592) x591) (Or.inl rfl) q3361 q86 (by decide) (by decide) dL_law_592 hl.1 (Nat.le_of_ble_eq_true rfl) hf (ct_V hk ⟨by decide, by decide⟩ X (Or.inl rfl) q3361 q3358 q3359 q3360 hy_X4_lasts np_X4_lasts rfl dL_law_592) (fun q h he hX => absurd he (Z.2.1 q h)) (fun x592 h hf => ?kk592)
      refine AW.eq (g2 := F0 m 595 ls [.int x592]) rfl ?_
      refine a_istore (pc := 595) X dL_law_595 hl (by decide) (lv' := [(7, vI x592), (6, vI x580), (0, vR v0), (1, vR v1), (2, vR (some a592)), (3, vR v3), (4, vR v4), (5, vI v5)]) rfl (fun ls hl => ?_)
      refine a_aload_n (pc := 597) X dL_law_597 rfl hl 4 rfl ?_
      rcases dv_someS hf with ⟨hk, hf⟩ | ⟨-, hf⟩
      rotate_left
      · exact fl_none hf
      refine a_callb (pc := 598) (rs := []) (avs := [vR (some a592)]) Z.1 (w_X4_thrown GA (some a592)) (Or.inl rfl) q3104 q86 (by decide) (by decide) dL_law_598 hl.1 (Nat.le_of_ble_eq_true rfl) hf (ct_V hk ⟨by decide, by decide⟩ X (Or.inl rfl) q3104 q3101 q3102 q3103 hy_X4_thrown np_X4_thrown rfl dL_law_598) (fun q h he hX => absurd he (Z.2.1 q h)) (fun x598 h hf => ?kk598)
      refine AW.eq (g2 := F0 m 601 ls [.int x598]) rfl ?_
      refine a_iload (pc := 601) X dL_law_601 hl 1 rfl ?_
      refine AW.lift2 (fun _ _ _ _ k1 k2 => lv_icmp_eq (pc := 603) (tgt := 608) X.2.2.1 X.2.2.2.1 dL_law_603 rfl k1 k2) (fun c => ?_) (fun c => ?_)
      · have hf := ite_t c hf
        refine a_iload (pc := 608) X dL_law_608 hl 1 rfl ?_
        refine AW.lift2 (fun _ _ _ _ k1 k2 => lv_if_ne (pc := 610) (tgt := 625) X.2.2.1 X.2.2.2.1 dL_law_610 rfl k2 k1) (fun c => ?_) (fun c => ?_)
        · have hf := ite_t c hf
          refine a_aload_n (pc := 613) X dL_law_613 rfl hl 5 rfl ?_
          refine AW.lift (fun _ _ _ _ k => lv_iconst (pc := 614) (v := (0 : Int32)) X.2.2.1 X.2.2.2.1 dL_law_614 rfl k) ?_
          refine a_laload (pc := 615) X dL_law_615 hf (fun x615 hf => ?_)
          refine a_iload (pc := 616) X dL_law_616 hl 0 rfl ?_
          refine AW.lift (fun _ _ _ _ k => lv_i2l (pc := 618) X.2.2.1 X.2.2.2.1 dL_law_618 rfl k) ?_
          refine AW.lift (fun _ _ _ _ k => W.lcmp (pc := 619) X.2.2.1 X.2.2.2.1 dL_law_619 k) ?_
          refine AW.lift2 (fun _ _ _ _ k1 k2 => lv_if_eq (pc := 620) (tgt := 625) X.2.2.1 X.2.2.2.1 dL_law_620 rfl k1 k2) (fun c => ?_) (fun c => ?_)
          · have hf := ite_t c hf
            exact w_L_law_j625 GA Z v0 v1 (some a592) v3 v4 v5  rc28 hrc28 (hl.sub [2, 3, 4, 5, 6, 7] rfl) hf
          · have hf := ite_f c hf
            refine AW.lift (fun _ _ _ _ k => lv_iconst (pc := 623) (v := (0 : Int32)) X.2.2.1 X.2.2.2.1 dL_law_623 rfl k) ?_
            exact a_zreturn X Z.2.2.1 rfl Z.2.2.2.1 dL_law_624 hf
        · have hf := ite_f c hf
          exact w_L_law_j625 GA Z v0 v1 (some a592) v3 v4 v5  rc28 hrc28 (hl.sub [2, 3, 4, 5, 6, 7] rfl) hf
      · have hf := ite_f c hf
        refine AW.lift (fun _ _ _ _ k => lv_iconst (pc := 606) (v := (0 : Int32)) X.2.2.1 X.2.2.2.1 dL_law_606 rfl k) ?_
        exact a_zreturn X Z.2.2.1 rfl Z.2.2.2.1 dL_law_607 hf
    have hf := ite_f c6 hf
    by_cases c7 : (x40 &&& (63 : Int32)) = (7 : Int32)
    · have hf := ite_t c7 hf
      refine AW.lift (fun _ _ _ _ k => lv_tableIn (pc := 44) (tgt := 628) (off := 584) X.2.2.1 X.2.2.2.1 dL_law_44 (by rw [c7]; decide) (by rw [c7]; decide) (by rw [c7]; rfl) rfl k) ?_
      refine a_aload_n (pc := 628) X dL_law_628 rfl hl 1 rfl ?_
      refine a_aload_n (pc := 629) X dL_law_629 rfl hl 3 rfl ?_
      refine a_callb (pc := 630) (rs := []) (avs := [vR v1, vR v3]) Z.1 (w_X0_bestMat GA v1 v3) (Or.inr (Or.inl ⟨_, rfl⟩)) q1983 q73 (by decide) (by decide) dL_law_630 hl.1 (Nat.le_of_ble_eq_true rfl) hf (ct_S X (Or.inr (Or.inl ⟨_, rfl⟩)) q1983 q73 q1981 q1982 hy_X0_bestMat np_X0_bestMat rfl dL_law_630) (fun q h he hX => absurd he (Z.2.1 q h)) (fun x630 h hf => ?kk630)
      refine AW.eq (g2 := F0 m 633 ls [.int x630]) rfl ?_
      refine a_istore (pc := 633) X dL_law_633 hl (by decide) (lv' := [(6, vI x630), (0, vR v0), (1, vR v1), (2, vR v2), (3, vR v3), (4, vR v4), (5, vI v5)]) rfl (fun ls hl => ?_)
      refine a_aload_n (pc := 635) X dL_law_635 rfl hl 3 rfl ?_
      obtain ⟨a636, rfl, ⟨hk, hf⟩ | ⟨-, hf⟩⟩ := dv_some hf
      rotate_left
      · exact fl_none hf
      refine a_callb (pc := 636) (rs := []) (avs := [vR (some a636)]) Z.1 (w_X4_bestMat GA (some a636)) (Or.inl rfl) q3198 q86 (by decide) (by decide) dL_law_636 hl.1 (Nat.le_of_ble_eq_true rfl) hf (ct_V hk ⟨by decide, by decide⟩ X (Or.inl rfl) q3198 q3195 q3196 q3197 hy_X4_bestMat np_X4_bestMat rfl dL_law_636) (fun q h he hX => absurd he (Z.2.1 q h)) (fun x636 h hf => ?kk636)
      refine AW.eq (g2 := F0 m 639 ls [.int x636]) rfl ?_
      refine a_istore (pc := 639) X dL_law_639 hl (by decide) (lv' := [(7, vI x636), (6, vI x630), (0, vR v0), (1, vR v1), (2, vR (some a636)), (3, vR v3), (4, vR v4), (5, vI v5)]) rfl (fun ls hl => ?_)
      refine a_aload_n (pc := 641) X dL_law_641 rfl hl 4 rfl ?_
      rcases dv_someS hf with ⟨hk, hf⟩ | ⟨-, hf⟩
      rotate_left
      · exact fl_none hf
      refine a_callb (pc := 642) (rs := []) (avs := [vR (some a636)]) Z.1 (w_X4_thrown GA (some a636)) (Or.inl rfl) q3104 q86 (by decide) (by decide) dL_law_642 hl.1 (Nat.le_of_ble_eq_true rfl) hf (ct_V hk ⟨by decide, by decide⟩ X (Or.inl rfl) q3104 q3101 q3102 q3103 hy_X4_thrown np_X4_thrown rfl dL_law_642) (fun q h he hX => absurd he (Z.2.1 q h)) (fun x642 h hf => ?kk642)
      refine AW.eq (g2 := F0 m 645 ls [.int x642]) rfl ?_
      refine a_iload (pc := 645) X dL_law_645 hl 1 rfl ?_
      refine AW.lift2 (fun _ _ _ _ k1 k2 => lv_icmp_eq (pc := 647) (tgt := 652) X.2.2.1 X.2.2.2.1 dL_law_647 rfl k1 k2) (fun c => ?_) (fun c => ?_)
      · have hf := ite_t c hf
        refine a_iload (pc := 652) X dL_law_652 hl 1 rfl ?_
        refine AW.lift2 (fun _ _ _ _ k1 k2 => lv_if_ne (pc := 654) (tgt := 669) X.2.2.1 X.2.2.2.1 dL_law_654 rfl k2 k1) (fun c => ?_) (fun c => ?_)
        · have hf := ite_t c hf
          refine a_aload_n (pc := 657) X dL_law_657 rfl hl 5 rfl ?_
          refine AW.lift (fun _ _ _ _ k => lv_iconst (pc := 658) (v := (0 : Int32)) X.2.2.1 X.2.2.2.1 dL_law_658 rfl k) ?_
          refine a_laload (pc := 659) X dL_law_659 hf (fun x659 hf => ?_)
          refine a_iload (pc := 660) X dL_law_660 hl 0 rfl ?_
          refine AW.lift (fun _ _ _ _ k => lv_i2l (pc := 662) X.2.2.1 X.2.2.2.1 dL_law_662 rfl k) ?_
          refine AW.lift (fun _ _ _ _ k => W.lcmp (pc := 663) X.2.2.1 X.2.2.2.1 dL_law_663 k) ?_
          refine AW.lift2 (fun _ _ _ _ k1 k2 => lv_if_eq (pc := 664) (tgt := 669) X.2.2.1 X.2.2.2.1 dL_law_664 rfl k1 k2) (fun c => ?_) (fun c => ?_)
          · have hf := ite_t c hf
            exact w_L_law_j669 GA Z v0 v1 (some a636) v3 v4 v5  rc28 hrc28 (hl.sub [2, 3, 4, 5, 6, 7] rfl) hf
          · have hf := ite_f c hf
            refine AW.lift (fun _ _ _ _ k => lv_iconst (pc := 667) (v := (0 : Int32)) X.2.2.1 X.2.2.2.1 dL_law_667 rfl k) ?_
            exact a_zreturn X Z.2.2.1 rfl Z.2.2.2.1 dL_law_668 hf
        · have hf := ite_f c hf
          exact w_L_law_j669 GA Z v0 v1 (some a636) v3 v4 v5  rc28 hrc28 (hl.sub [2, 3, 4, 5, 6, 7] rfl) hf
      · have hf := ite_f c hf
        refine AW.lift (fun _ _ _ _ k => lv_iconst (pc := 650) (v := (0 : Int32)) X.2.2.1 X.2.2.2.1 dL_law_650 rfl k) ?_
        exact a_zreturn X Z.2.2.1 rfl Z.2.2.2.1 dL_law_651 hf
    have hf := ite_f c7 hf
    by_cases c8 : (x40 &&& (63 : Int32)) = (8 : Int32)
    · have hf := ite_t c8 hf
      refine AW.lift (fun _ _ _ _ k => lv_tableIn (pc := 44) (tgt := 672) (off := 628) X.2.2.1 X.2.2.2.1 dL_law_44 (by rw [c8]; decide) (by rw [c8]; decide) (by rw [c8]; rfl) rfl k) ?_
      refine a_aload_n (pc := 672) X dL_law_672 rfl hl 1 rfl ?_
      refine a_aload_n (pc := 673) X dL_law_673 rfl hl 0 rfl ?_
      refine a_iload (pc := 674) X dL_law_674 hl 5 rfl ?_
      refine AW.lift (fun _ _ _ _ k => lv_iconst (pc := 676) (v := (1 : Int32)) X.2.2.1 X.2.2.2.1 dL_law_676 rfl k) ?_
      refine AW.lift (fun _ _ _ _ k => lv_iadd (pc := 677) X.2.2.1 X.2.2.2.1 dL_law_677 k) ?_
      refine a_iaload (pc := 678) X dL_law_678 hf (fun x678 hf => ?_)
      refine a_aload_n (pc := 679) X dL_law_679 rfl hl 0 rfl ?_
      refine a_iload (pc := 680) X dL_law_680 hl 5 rfl ?_
      refine AW.lift (fun _ _ _ _ k => lv_iconst (pc := 682) (v := (2 : Int32)) X.2.2.1 X.2.2.2.1 dL_law_682 rfl k) ?_
      refine AW.lift (fun _ _ _ _ k => lv_iadd (pc := 683) X.2.2.1 X.2.2.2.1 dL_law_683 k) ?_
      refine a_iaload (pc := 684) X dL_law_684 hf (fun x684 hf => ?_)
      refine a_aload_n (pc := 685) X dL_law_685 rfl hl 3 rfl ?_
      refine a_callb (pc := 686) (rs := []) (avs := [vR v1, vI x678, vI x684, vR v3]) Z.1 (w_X0_jumper GA v1 x678 x684 v3) (Or.inr (Or.inl ⟨_, rfl⟩)) q1995 q73 (by decide) (by decide) dL_law_686 hl.1 (Nat.le_of_ble_eq_true rfl) hf (ct_S X (Or.inr (Or.inl ⟨_, rfl⟩)) q1995 q73 q1993 q1994 hy_X0_jumper np_X0_jumper rfl dL_law_686) (fun q h he hX => absurd he (Z.2.1 q h)) (fun x686 h hf => ?kk686)
      refine AW.eq (g2 := F0 m 689 ls [.int x686]) rfl ?_
      refine a_istore (pc := 689) X dL_law_689 hl (by decide) (lv' := [(6, vI x686), (0, vR v0), (1, vR v1), (2, vR v2), (3, vR v3), (4, vR v4), (5, vI v5)]) rfl (fun ls hl => ?_)
      refine a_aload_n (pc := 691) X dL_law_691 rfl hl 3 rfl ?_
      refine a_aload_n (pc := 692) X dL_law_692 rfl hl 1 rfl ?_
      refine a_iload (pc := 693) X dL_law_693 hl 6 rfl ?_
      refine AW.lift (fun _ _ _ _ k => lv_iconst (pc := 695) (v := (1 : Int32)) X.2.2.1 X.2.2.2.1 dL_law_695 rfl k) ?_
      refine AW.lift (fun _ _ _ _ k => lv_iadd (pc := 696) X.2.2.1 X.2.2.2.1 dL_law_696 k) ?_
      refine a_iaload (pc := 697) X dL_law_697 hf (fun x697 hf => ?_)
      refine a_aload_n (pc := 698) X dL_law_698 rfl hl 1 rfl ?_
      refine a_iload (pc := 699) X dL_law_699 hl 6 rfl ?_
      refine AW.lift (fun _ _ _ _ k => lv_iconst (pc := 701) (v := (2 : Int32)) X.2.2.1 X.2.2.2.1 dL_law_701 rfl k) ?_
      refine AW.lift (fun _ _ _ _ k => lv_iadd (pc := 702) X.2.2.1 X.2.2.2.1 dL_law_702 k) ?_
      refine a_iaload (pc := 703) X dL_law_703 hf (fun x703 hf => ?_)
      obtain ⟨a704, rfl, ⟨hk, hf⟩ | ⟨-, hf⟩⟩ := dv_some hf
      rotate_left
      · exact fl_none hf
      refine a_callb (pc := 704) (rs := []) (avs := [vR (some a704), vI x697, vI x703]) Z.1 (w_X4_jumper GA (some a704) x697 x703) (Or.inl rfl) q3202 q86 (by decide) (by decide) dL_law_704 hl.1 (Nat.le_of_ble_eq_true rfl) hf (ct_V hk ⟨by decide, by decide⟩ X (Or.inl rfl) q3202 q3199 q3200 q3201 hy_X4_jumper np_X4_jumper rfl dL_law_704) (fun q h he hX => absurd he (Z.2.1 q h)) (fun x704 h hf => ?kk704)
      refine AW.eq (g2 := F0 m 707 ls [.int x704]) rfl ?_
      refine a_istore (pc := 707) X dL_law_707 hl (by decide) (lv' := [(7, vI x704), (6, vI x686), (0, vR v0), (1, vR v1), (2, vR (some a704)), (3, vR v3), (4, vR v4), (5, vI v5)]) rfl (fun ls hl => ?_)
      refine a_aload_n (pc := 709) X dL_law_709 rfl hl 4 rfl ?_
      rcases dv_someS hf with ⟨hk, hf⟩ | ⟨-, hf⟩
      rotate_left
      · exact fl_none hf
      refine a_callb (pc := 710) (rs := []) (avs := [vR (some a704)]) Z.1 (w_X4_thrown GA (some a704)) (Or.inl rfl) q3104 q86 (by decide) (by decide) dL_law_710 hl.1 (Nat.le_of_ble_eq_true rfl) hf (ct_V hk ⟨by decide, by decide⟩ X (Or.inl rfl) q3104 q3101 q3102 q3103 hy_X4_thrown np_X4_thrown rfl dL_law_710) (fun q h he hX => absurd he (Z.2.1 q h)) (fun x710 h hf => ?kk710)
      refine AW.eq (g2 := F0 m 713 ls [.int x710]) rfl ?_
      refine a_iload (pc := 713) X dL_law_713 hl 1 rfl ?_
      refine AW.lift2 (fun _ _ _ _ k1 k2 => lv_icmp_eq (pc := 715) (tgt := 720) X.2.2.1 X.2.2.2.1 dL_law_715 rfl k1 k2) (fun c => ?_) (fun c => ?_)
      · have hf := ite_t c hf
        refine a_iload (pc := 720) X dL_law_720 hl 1 rfl ?_
        refine AW.lift2 (fun _ _ _ _ k1 k2 => lv_if_ne (pc := 722) (tgt := 737) X.2.2.1 X.2.2.2.1 dL_law_722 rfl k2 k1) (fun c => ?_) (fun c => ?_)
        · have hf := ite_t c hf
          refine a_aload_n (pc := 725) X dL_law_725 rfl hl 5 rfl ?_
          refine AW.lift (fun _ _ _ _ k => lv_iconst (pc := 726) (v := (0 : Int32)) X.2.2.1 X.2.2.2.1 dL_law_726 rfl k) ?_
          refine a_laload (pc := 727) X dL_law_727 hf (fun x727 hf => ?_)
          refine a_iload (pc := 728) X dL_law_728 hl 0 rfl ?_
          refine AW.lift (fun _ _ _ _ k => lv_i2l (pc := 730) X.2.2.1 X.2.2.2.1 dL_law_730 rfl k) ?_
          refine AW.lift (fun _ _ _ _ k => W.lcmp (pc := 731) X.2.2.1 X.2.2.2.1 dL_law_731 k) ?_
          refine AW.lift2 (fun _ _ _ _ k1 k2 => lv_if_eq (pc := 732) (tgt := 737) X.2.2.1 X.2.2.2.1 dL_law_732 rfl k1 k2) (fun c => ?_) (fun c => ?_)
          · have hf := ite_t c hf
            exact w_L_law_j737 GA Z v0 v1 (some a704) v3 v4 v5  rc28 hrc28 (hl.sub [2, 3, 4, 5, 6, 7] rfl) hf
          · have hf := ite_f c hf
            refine AW.lift (fun _ _ _ _ k => lv_iconst (pc := 735) (v := (0 : Int32)) X.2.2.1 X.2.2.2.1 dL_law_735 rfl k) ?_
            exact a_zreturn X Z.2.2.1 rfl Z.2.2.2.1 dL_law_736 hf
        · have hf := ite_f c hf
          exact w_L_law_j737 GA Z v0 v1 (some a704) v3 v4 v5  rc28 hrc28 (hl.sub [2, 3, 4, 5, 6, 7] rfl) hf
      · have hf := ite_f c hf
        refine AW.lift (fun _ _ _ _ k => lv_iconst (pc := 718) (v := (0 : Int32)) X.2.2.1 X.2.2.2.1 dL_law_718 rfl k) ?_
        exact a_zreturn X Z.2.2.1 rfl Z.2.2.2.1 dL_law_719 hf
    have hf := ite_f c8 hf
    by_cases c9 : (x40 &&& (63 : Int32)) = (9 : Int32)
    · have hf := ite_t c9 hf
      refine AW.lift (fun _ _ _ _ k => lv_tableIn (pc := 44) (tgt := 740) (off := 696) X.2.2.1 X.2.2.2.1 dL_law_44 (by rw [c9]; decide) (by rw [c9]; decide) (by rw [c9]; rfl) rfl k) ?_
      refine a_aload_n (pc := 740) X dL_law_740 rfl hl 1 rfl ?_
      refine a_aload_n (pc := 741) X dL_law_741 rfl hl 0 rfl ?_
      refine a_iload (pc := 742) X dL_law_742 hl 5 rfl ?_
      refine AW.lift (fun _ _ _ _ k => lv_iconst (pc := 744) (v := (1 : Int32)) X.2.2.1 X.2.2.2.1 dL_law_744 rfl k) ?_
      refine AW.lift (fun _ _ _ _ k => lv_iadd (pc := 745) X.2.2.1 X.2.2.2.1 dL_law_745 k) ?_
      refine a_iaload (pc := 746) X dL_law_746 hf (fun x746 hf => ?_)
      refine a_aload_n (pc := 747) X dL_law_747 rfl hl 0 rfl ?_
      refine a_iload (pc := 748) X dL_law_748 hl 5 rfl ?_
      refine AW.lift (fun _ _ _ _ k => lv_iconst (pc := 750) (v := (2 : Int32)) X.2.2.1 X.2.2.2.1 dL_law_750 rfl k) ?_
      refine AW.lift (fun _ _ _ _ k => lv_iadd (pc := 751) X.2.2.1 X.2.2.2.1 dL_law_751 k) ?_
      refine a_iaload (pc := 752) X dL_law_752 hf (fun x752 hf => ?_)
      refine a_aload_n (pc := 753) X dL_law_753 rfl hl 3 rfl ?_
      refine a_callb (pc := 754) (rs := []) (avs := [vR v1, vI x746, vI x752, vR v3]) Z.1 (w_X0_up GA v1 x746 x752 v3) (Or.inr (Or.inl ⟨_, rfl⟩)) q2009 q73 (by decide) (by decide) dL_law_754 hl.1 (Nat.le_of_ble_eq_true rfl) hf (ct_S X (Or.inr (Or.inl ⟨_, rfl⟩)) q2009 q73 q2007 q2008 hy_X0_up np_X0_up rfl dL_law_754) (fun q h he hX => absurd he (Z.2.1 q h)) (fun x754 h hf => ?kk754)
      refine AW.eq (g2 := F0 m 757 ls [.int x754]) rfl ?_
      refine a_istore (pc := 757) X dL_law_757 hl (by decide) (lv' := [(6, vI x754), (0, vR v0), (1, vR v1), (2, vR v2), (3, vR v3), (4, vR v4), (5, vI v5)]) rfl (fun ls hl => ?_)
      refine a_aload_n (pc := 759) X dL_law_759 rfl hl 3 rfl ?_
      refine a_aload_n (pc := 760) X dL_law_760 rfl hl 1 rfl ?_
      refine a_iload (pc := 761) X dL_law_761 hl 6 rfl ?_
      refine AW.lift (fun _ _ _ _ k => lv_iconst (pc := 763) (v := (1 : Int32)) X.2.2.1 X.2.2.2.1 dL_law_763 rfl k) ?_
      refine AW.lift (fun _ _ _ _ k => lv_iadd (pc := 764) X.2.2.1 X.2.2.2.1 dL_law_764 k) ?_
      refine a_iaload (pc := 765) X dL_law_765 hf (fun x765 hf => ?_)
      refine a_aload_n (pc := 766) X dL_law_766 rfl hl 1 rfl ?_
      refine a_iload (pc := 767) X dL_law_767 hl 6 rfl ?_
      refine AW.lift (fun _ _ _ _ k => lv_iconst (pc := 769) (v := (2 : Int32)) X.2.2.1 X.2.2.2.1 dL_law_769 rfl k) ?_
      refine AW.lift (fun _ _ _ _ k => lv_iadd (pc := 770) X.2.2.1 X.2.2.2.1 dL_law_770 k) ?_
      refine a_iaload (pc := 771) X dL_law_771 hf (fun x771 hf => ?_)
      obtain ⟨a772, rfl, ⟨hk, hf⟩ | ⟨-, hf⟩⟩ := dv_some hf
      rotate_left
      · exact fl_none hf
      refine a_callb (pc := 772) (rs := []) (avs := [vR (some a772), vI x765, vI x771]) Z.1 (w_X4_up GA (some a772) x765 x771) (Or.inl rfl) q3213 q86 (by decide) (by decide) dL_law_772 hl.1 (Nat.le_of_ble_eq_true rfl) hf (ct_V hk ⟨by decide, by decide⟩ X (Or.inl rfl) q3213 q3210 q3211 q3212 hy_X4_up np_X4_up rfl dL_law_772) (fun q h he hX => absurd he (Z.2.1 q h)) (fun x772 h hf => ?kk772)
      refine AW.eq (g2 := F0 m 775 ls [.int x772]) rfl ?_
      refine a_istore (pc := 775) X dL_law_775 hl (by decide) (lv' := [(7, vI x772), (6, vI x754), (0, vR v0), (1, vR v1), (2, vR (some a772)), (3, vR v3), (4, vR v4), (5, vI v5)]) rfl (fun ls hl => ?_)
      refine a_aload_n (pc := 777) X dL_law_777 rfl hl 4 rfl ?_
      rcases dv_someS hf with ⟨hk, hf⟩ | ⟨-, hf⟩
      rotate_left
      · exact fl_none hf
      refine a_callb (pc := 778) (rs := []) (avs := [vR (some a772)]) Z.1 (w_X4_thrown GA (some a772)) (Or.inl rfl) q3104 q86 (by decide) (by decide) dL_law_778 hl.1 (Nat.le_of_ble_eq_true rfl) hf (ct_V hk ⟨by decide, by decide⟩ X (Or.inl rfl) q3104 q3101 q3102 q3103 hy_X4_thrown np_X4_thrown rfl dL_law_778) (fun q h he hX => absurd he (Z.2.1 q h)) (fun x778 h hf => ?kk778)
      refine AW.eq (g2 := F0 m 781 ls [.int x778]) rfl ?_
      refine a_iload (pc := 781) X dL_law_781 hl 1 rfl ?_
      refine AW.lift2 (fun _ _ _ _ k1 k2 => lv_icmp_eq (pc := 783) (tgt := 788) X.2.2.1 X.2.2.2.1 dL_law_783 rfl k1 k2) (fun c => ?_) (fun c => ?_)
      · have hf := ite_t c hf
        refine a_iload (pc := 788) X dL_law_788 hl 1 rfl ?_
        refine AW.lift2 (fun _ _ _ _ k1 k2 => lv_if_ne (pc := 790) (tgt := 805) X.2.2.1 X.2.2.2.1 dL_law_790 rfl k2 k1) (fun c => ?_) (fun c => ?_)
        · have hf := ite_t c hf
          refine a_aload_n (pc := 793) X dL_law_793 rfl hl 5 rfl ?_
          refine AW.lift (fun _ _ _ _ k => lv_iconst (pc := 794) (v := (0 : Int32)) X.2.2.1 X.2.2.2.1 dL_law_794 rfl k) ?_
          refine a_laload (pc := 795) X dL_law_795 hf (fun x795 hf => ?_)
          refine a_iload (pc := 796) X dL_law_796 hl 0 rfl ?_
          refine AW.lift (fun _ _ _ _ k => lv_i2l (pc := 798) X.2.2.1 X.2.2.2.1 dL_law_798 rfl k) ?_
          refine AW.lift (fun _ _ _ _ k => W.lcmp (pc := 799) X.2.2.1 X.2.2.2.1 dL_law_799 k) ?_
          refine AW.lift2 (fun _ _ _ _ k1 k2 => lv_if_eq (pc := 800) (tgt := 805) X.2.2.1 X.2.2.2.1 dL_law_800 rfl k1 k2) (fun c => ?_) (fun c => ?_)
          · have hf := ite_t c hf
            exact w_L_law_j805 GA Z v0 v1 (some a772) v3 v4 v5  rc28 hrc28 (hl.sub [2, 3, 4, 5, 6, 7] rfl) hf
          · have hf := ite_f c hf
            refine AW.lift (fun _ _ _ _ k => lv_iconst (pc := 803) (v := (0 : Int32)) X.2.2.1 X.2.2.2.1 dL_law_803 rfl k) ?_
            exact a_zreturn X Z.2.2.1 rfl Z.2.2.2.1 dL_law_804 hf
        · have hf := ite_f c hf
          exact w_L_law_j805 GA Z v0 v1 (some a772) v3 v4 v5  rc28 hrc28 (hl.sub [2, 3, 4, 5, 6, 7] rfl) hf
      · have hf := ite_f c hf
        refine AW.lift (fun _ _ _ _ k => lv_iconst (pc := 786) (v := (0 : Int32)) X.2.2.1 X.2.2.2.1 dL_law_786 rfl k) ?_
        exact a_zreturn X Z.2.2.1 rfl Z.2.2.2.1 dL_law_787 hf
    have hf := ite_f c9 hf
    by_cases c10 : (x40 &&& (63 : Int32)) = (10 : Int32)
    · have hf := ite_t c10 hf
      refine AW.lift (fun _ _ _ _ k => lv_tableIn (pc := 44) (tgt := 808) (off := 764) X.2.2.1 X.2.2.2.1 dL_law_44 (by rw [c10]; decide) (by rw [c10]; decide) (by rw [c10]; rfl) rfl k) ?_
      refine a_aload_n (pc := 808) X dL_law_808 rfl hl 1 rfl ?_
      refine a_aload_n (pc := 809) X dL_law_809 rfl hl 0 rfl ?_
      refine a_iload (pc := 810) X dL_law_810 hl 5 rfl ?_
      refine AW.lift (fun _ _ _ _ k => lv_iconst (pc := 812) (v := (1 : Int32)) X.2.2.1 X.2.2.2.1 dL_law_812 rfl k) ?_
      refine AW.lift (fun _ _ _ _ k => lv_iadd (pc := 813) X.2.2.1 X.2.2.2.1 dL_law_813 k) ?_
      refine a_iaload (pc := 814) X dL_law_814 hf (fun x814 hf => ?_)
      refine a_aload_n (pc := 815) X dL_law_815 rfl hl 3 rfl ?_
      refine a_callb (pc := 816) (rs := []) (avs := [vR v1, vI x814, vR v3]) Z.1 (w_X0_down GA v1 x814 v3) (Or.inr (Or.inl ⟨_, rfl⟩)) q2177 q73 (by decide) (by decide) dL_law_816 hl.1 (Nat.le_of_ble_eq_true rfl) hf (ct_S X (Or.inr (Or.inl ⟨_, rfl⟩)) q2177 q73 q2175 q2176 hy_X0_down np_X0_down rfl dL_law_816) (fun q h he hX => absurd he (Z.2.1 q h)) (fun x816 h hf => ?kk816)
      refine AW.eq (g2 := F0 m 819 ls [.int x816]) rfl ?_
      refine a_istore (pc := 819) X dL_law_819 hl (by decide) (lv' := [(6, vI x816), (0, vR v0), (1, vR v1), (2, vR v2), (3, vR v3), (4, vR v4), (5, vI v5)]) rfl (fun ls hl => ?_)
      refine a_aload_n (pc := 821) X dL_law_821 rfl hl 3 rfl ?_
      refine a_aload_n (pc := 822) X dL_law_822 rfl hl 1 rfl ?_
      refine a_iload (pc := 823) X dL_law_823 hl 6 rfl ?_
      refine AW.lift (fun _ _ _ _ k => lv_iconst (pc := 825) (v := (1 : Int32)) X.2.2.1 X.2.2.2.1 dL_law_825 rfl k) ?_
      refine AW.lift (fun _ _ _ _ k => lv_iadd (pc := 826) X.2.2.1 X.2.2.2.1 dL_law_826 k) ?_
      refine a_iaload (pc := 827) X dL_law_827 hf (fun x827 hf => ?_)
      obtain ⟨a828, rfl, ⟨hk, hf⟩ | ⟨-, hf⟩⟩ := dv_some hf
      rotate_left
      · exact fl_none hf
      refine a_callb (pc := 828) (rs := []) (avs := [vR (some a828), vI x827]) Z.1 (w_X4_down GA (some a828) x827) (Or.inl rfl) q3233 q86 (by decide) (by decide) dL_law_828 hl.1 (Nat.le_of_ble_eq_true rfl) hf (ct_V hk ⟨by decide, by decide⟩ X (Or.inl rfl) q3233 q3230 q3231 q3232 hy_X4_down np_X4_down rfl dL_law_828) (fun q h he hX => absurd he (Z.2.1 q h)) (fun x828 h hf => ?kk828)
      refine AW.eq (g2 := F0 m 831 ls [.int x828]) rfl ?_
      refine a_istore (pc := 831) X dL_law_831 hl (by decide) (lv' := [(7, vI x828), (6, vI x816), (0, vR v0), (1, vR v1), (2, vR (some a828)), (3, vR v3), (4, vR v4), (5, vI v5)]) rfl (fun ls hl => ?_)
      refine a_aload_n (pc := 833) X dL_law_833 rfl hl 4 rfl ?_
      rcases dv_someS hf with ⟨hk, hf⟩ | ⟨-, hf⟩
      rotate_left
      · exact fl_none hf
      refine a_callb (pc := 834) (rs := []) (avs := [vR (some a828)]) Z.1 (w_X4_thrown GA (some a828)) (Or.inl rfl) q3104 q86 (by decide) (by decide) dL_law_834 hl.1 (Nat.le_of_ble_eq_true rfl) hf (ct_V hk ⟨by decide, by decide⟩ X (Or.inl rfl) q3104 q3101 q3102 q3103 hy_X4_thrown np_X4_thrown rfl dL_law_834) (fun q h he hX => absurd he (Z.2.1 q h)) (fun x834 h hf => ?kk834)
      refine AW.eq (g2 := F0 m 837 ls [.int x834]) rfl ?_
      refine a_iload (pc := 837) X dL_law_837 hl 1 rfl ?_
      refine AW.lift2 (fun _ _ _ _ k1 k2 => lv_icmp_eq (pc := 839) (tgt := 844) X.2.2.1 X.2.2.2.1 dL_law_839 rfl k1 k2) (fun c => ?_) (fun c => ?_)
      · have hf := ite_t c hf
        refine a_iload (pc := 844) X dL_law_844 hl 1 rfl ?_
        refine AW.lift2 (fun _ _ _ _ k1 k2 => lv_if_ne (pc := 846) (tgt := 861) X.2.2.1 X.2.2.2.1 dL_law_846 rfl k2 k1) (fun c => ?_) (fun c => ?_)
        · have hf := ite_t c hf
          refine a_aload_n (pc := 849) X dL_law_849 rfl hl 5 rfl ?_
          refine AW.lift (fun _ _ _ _ k => lv_iconst (pc := 850) (v := (0 : Int32)) X.2.2.1 X.2.2.2.1 dL_law_850 rfl k) ?_
          refine a_laload (pc := 851) X dL_law_851 hf (fun x851 hf => ?_)
          refine a_iload (pc := 852) X dL_law_852 hl 0 rfl ?_
          refine AW.lift (fun _ _ _ _ k => lv_i2l (pc := 854) X.2.2.1 X.2.2.2.1 dL_law_854 rfl k) ?_
          refine AW.lift (fun _ _ _ _ k => W.lcmp (pc := 855) X.2.2.1 X.2.2.2.1 dL_law_855 k) ?_
          refine AW.lift2 (fun _ _ _ _ k1 k2 => lv_if_eq (pc := 856) (tgt := 861) X.2.2.1 X.2.2.2.1 dL_law_856 rfl k1 k2) (fun c => ?_) (fun c => ?_)
          · have hf := ite_t c hf
            exact w_L_law_j861 GA Z v0 v1 (some a828) v3 v4 v5  rc28 hrc28 (hl.sub [2, 3, 4, 5, 6, 7] rfl) hf
          · have hf := ite_f c hf
            refine AW.lift (fun _ _ _ _ k => lv_iconst (pc := 859) (v := (0 : Int32)) X.2.2.1 X.2.2.2.1 dL_law_859 rfl k) ?_
            exact a_zreturn X Z.2.2.1 rfl Z.2.2.2.1 dL_law_860 hf
        · have hf := ite_f c hf
          exact w_L_law_j861 GA Z v0 v1 (some a828) v3 v4 v5  rc28 hrc28 (hl.sub [2, 3, 4, 5, 6, 7] rfl) hf
      · have hf := ite_f c hf
        refine AW.lift (fun _ _ _ _ k => lv_iconst (pc := 842) (v := (0 : Int32)) X.2.2.1 X.2.2.2.1 dL_law_842 rfl k) ?_
        exact a_zreturn X Z.2.2.1 rfl Z.2.2.2.1 dL_law_843 hf
    have hf := ite_f c10 hf
    by_cases c11 : (x40 &&& (63 : Int32)) = (11 : Int32)
    · have hf := ite_t c11 hf
      refine AW.lift (fun _ _ _ _ k => lv_tableIn (pc := 44) (tgt := 864) (off := 820) X.2.2.1 X.2.2.2.1 dL_law_44 (by rw [c11]; decide) (by rw [c11]; decide) (by rw [c11]; rfl) rfl k) ?_
      refine a_aload_n (pc := 864) X dL_law_864 rfl hl 1 rfl ?_
      refine a_aload_n (pc := 865) X dL_law_865 rfl hl 0 rfl ?_
      refine a_iload (pc := 866) X dL_law_866 hl 5 rfl ?_
      refine AW.lift (fun _ _ _ _ k => lv_iconst (pc := 868) (v := (1 : Int32)) X.2.2.1 X.2.2.2.1 dL_law_868 rfl k) ?_
      refine AW.lift (fun _ _ _ _ k => lv_iadd (pc := 869) X.2.2.1 X.2.2.2.1 dL_law_869 k) ?_
      refine a_iaload (pc := 870) X dL_law_870 hf (fun x870 hf => ?_)
      refine a_aload_n (pc := 871) X dL_law_871 rfl hl 3 rfl ?_
      refine a_callb (pc := 872) (rs := []) (avs := [vR v1, vI x870, vR v3]) Z.1 (w_X0_leave GA v1 x870 v3) (Or.inr (Or.inl ⟨_, rfl⟩)) q2199 q73 (by decide) (by decide) dL_law_872 hl.1 (Nat.le_of_ble_eq_true rfl) hf (ct_S X (Or.inr (Or.inl ⟨_, rfl⟩)) q2199 q73 q2197 q2198 hy_X0_leave np_X0_leave rfl dL_law_872) (fun q h he hX => absurd he (Z.2.1 q h)) (fun x872 h hf => ?kk872)
      refine AW.eq (g2 := F0 m 875 ls [.int x872]) rfl ?_
      refine a_istore (pc := 875) X dL_law_875 hl (by decide) (lv' := [(6, vI x872), (0, vR v0), (1, vR v1), (2, vR v2), (3, vR v3), (4, vR v4), (5, vI v5)]) rfl (fun ls hl => ?_)
      refine a_aload_n (pc := 877) X dL_law_877 rfl hl 3 rfl ?_
      refine a_aload_n (pc := 878) X dL_law_878 rfl hl 1 rfl ?_
      refine a_iload (pc := 879) X dL_law_879 hl 6 rfl ?_
      refine AW.lift (fun _ _ _ _ k => lv_iconst (pc := 881) (v := (1 : Int32)) X.2.2.1 X.2.2.2.1 dL_law_881 rfl k) ?_
      refine AW.lift (fun _ _ _ _ k => lv_iadd (pc := 882) X.2.2.1 X.2.2.2.1 dL_law_882 k) ?_
      refine a_iaload (pc := 883) X dL_law_883 hf (fun x883 hf => ?_)
      obtain ⟨a884, rfl, ⟨hk, hf⟩ | ⟨-, hf⟩⟩ := dv_some hf
      rotate_left
      · exact fl_none hf
      refine a_callb (pc := 884) (rs := []) (avs := [vR (some a884), vI x883]) Z.1 (w_X4_leave GA (some a884) x883) (Or.inl rfl) q3241 q86 (by decide) (by decide) dL_law_884 hl.1 (Nat.le_of_ble_eq_true rfl) hf (ct_V hk ⟨by decide, by decide⟩ X (Or.inl rfl) q3241 q3238 q3239 q3240 hy_X4_leave np_X4_leave rfl dL_law_884) (fun q h he hX => absurd he (Z.2.1 q h)) (fun x884 h hf => ?kk884)
      refine AW.eq (g2 := F0 m 887 ls [.int x884]) rfl ?_
      refine a_istore (pc := 887) X dL_law_887 hl (by decide) (lv' := [(7, vI x884), (6, vI x872), (0, vR v0), (1, vR v1), (2, vR (some a884)), (3, vR v3), (4, vR v4), (5, vI v5)]) rfl (fun ls hl => ?_)
      refine a_aload_n (pc := 889) X dL_law_889 rfl hl 4 rfl ?_
      rcases dv_someS hf with ⟨hk, hf⟩ | ⟨-, hf⟩
      rotate_left
      · exact fl_none hf
      refine a_callb (pc := 890) (rs := []) (avs := [vR (some a884)]) Z.1 (w_X4_thrown GA (some a884)) (Or.inl rfl) q3104 q86 (by decide) (by decide) dL_law_890 hl.1 (Nat.le_of_ble_eq_true rfl) hf (ct_V hk ⟨by decide, by decide⟩ X (Or.inl rfl) q3104 q3101 q3102 q3103 hy_X4_thrown np_X4_thrown rfl dL_law_890) (fun q h he hX => absurd he (Z.2.1 q h)) (fun x890 h hf => ?kk890)
      refine AW.eq (g2 := F0 m 893 ls [.int x890]) rfl ?_
      refine a_iload (pc := 893) X dL_law_893 hl 1 rfl ?_
      refine AW.lift2 (fun _ _ _ _ k1 k2 => lv_icmp_eq (pc := 895) (tgt := 900) X.2.2.1 X.2.2.2.1 dL_law_895 rfl k1 k2) (fun c => ?_) (fun c => ?_)
      · have hf := ite_t c hf
        refine a_iload (pc := 900) X dL_law_900 hl 1 rfl ?_
        refine AW.lift2 (fun _ _ _ _ k1 k2 => lv_if_ne (pc := 902) (tgt := 917) X.2.2.1 X.2.2.2.1 dL_law_902 rfl k2 k1) (fun c => ?_) (fun c => ?_)
        · have hf := ite_t c hf
          refine a_aload_n (pc := 905) X dL_law_905 rfl hl 5 rfl ?_
          refine AW.lift (fun _ _ _ _ k => lv_iconst (pc := 906) (v := (0 : Int32)) X.2.2.1 X.2.2.2.1 dL_law_906 rfl k) ?_
          refine a_laload (pc := 907) X dL_law_907 hf (fun x907 hf => ?_)
          refine a_iload (pc := 908) X dL_law_908 hl 0 rfl ?_
          refine AW.lift (fun _ _ _ _ k => lv_i2l (pc := 910) X.2.2.1 X.2.2.2.1 dL_law_910 rfl k) ?_
          refine AW.lift (fun _ _ _ _ k => W.lcmp (pc := 911) X.2.2.1 X.2.2.2.1 dL_law_911 k) ?_
          refine AW.lift2 (fun _ _ _ _ k1 k2 => lv_if_eq (pc := 912) (tgt := 917) X.2.2.1 X.2.2.2.1 dL_law_912 rfl k1 k2) (fun c => ?_) (fun c => ?_)
          · have hf := ite_t c hf
            exact w_L_law_j917 GA Z v0 v1 (some a884) v3 v4 v5  rc28 hrc28 (hl.sub [2, 3, 4, 5, 6, 7] rfl) hf
          · have hf := ite_f c hf
            refine AW.lift (fun _ _ _ _ k => lv_iconst (pc := 915) (v := (0 : Int32)) X.2.2.1 X.2.2.2.1 dL_law_915 rfl k) ?_
            exact a_zreturn X Z.2.2.1 rfl Z.2.2.2.1 dL_law_916 hf
        · have hf := ite_f c hf
          exact w_L_law_j917 GA Z v0 v1 (some a884) v3 v4 v5  rc28 hrc28 (hl.sub [2, 3, 4, 5, 6, 7] rfl) hf
      · have hf := ite_f c hf
        refine AW.lift (fun _ _ _ _ k => lv_iconst (pc := 898) (v := (0 : Int32)) X.2.2.1 X.2.2.2.1 dL_law_898 rfl k) ?_
        exact a_zreturn X Z.2.2.1 rfl Z.2.2.2.1 dL_law_899 hf
    have hf := ite_f c11 hf
    by_cases c12 : (x40 &&& (63 : Int32)) = (12 : Int32)
    · have hf := ite_t c12 hf
      refine AW.lift (fun _ _ _ _ k => lv_tableIn (pc := 44) (tgt := 920) (off := 876) X.2.2.1 X.2.2.2.1 dL_law_44 (by rw [c12]; decide) (by rw [c12]; decide) (by rw [c12]; rfl) rfl k) ?_
      refine a_aload_n (pc := 920) X dL_law_920 rfl hl 1 rfl ?_
      refine a_aload_n (pc := 921) X dL_law_921 rfl hl 0 rfl ?_
      refine a_iload (pc := 922) X dL_law_922 hl 5 rfl ?_
      refine AW.lift (fun _ _ _ _ k => lv_iconst (pc := 924) (v := (1 : Int32)) X.2.2.1 X.2.2.2.1 dL_law_924 rfl k) ?_
      refine AW.lift (fun _ _ _ _ k => lv_iadd (pc := 925) X.2.2.1 X.2.2.2.1 dL_law_925 k) ?_
      refine a_iaload (pc := 926) X dL_law_926 hf (fun x926 hf => ?_)
      refine a_aload_n (pc := 927) X dL_law_927 rfl hl 0 rfl ?_
      refine a_iload (pc := 928) X dL_law_928 hl 5 rfl ?_
      refine AW.lift (fun _ _ _ _ k => lv_iconst (pc := 930) (v := (2 : Int32)) X.2.2.1 X.2.2.2.1 dL_law_930 rfl k) ?_
      refine AW.lift (fun _ _ _ _ k => lv_iadd (pc := 931) X.2.2.1 X.2.2.2.1 dL_law_931 k) ?_
      refine a_iaload (pc := 932) X dL_law_932 hf (fun x932 hf => ?_)
      refine a_aload_n (pc := 933) X dL_law_933 rfl hl 0 rfl ?_
      refine a_iload (pc := 934) X dL_law_934 hl 5 rfl ?_
      refine AW.lift (fun _ _ _ _ k => lv_iconst (pc := 936) (v := (3 : Int32)) X.2.2.1 X.2.2.2.1 dL_law_936 rfl k) ?_
      refine AW.lift (fun _ _ _ _ k => lv_iadd (pc := 937) X.2.2.1 X.2.2.2.1 dL_law_937 k) ?_
      refine a_iaload (pc := 938) X dL_law_938 hf (fun x938 hf => ?_)
      refine a_aload_n (pc := 939) X dL_law_939 rfl hl 3 rfl ?_
      refine a_callb (pc := 940) (rs := []) (avs := [vR v1, vI x926, vI x932, vI x938, vR v3]) Z.1 (w_X0_stock GA v1 x926 x932 x938 v3) (Or.inr (Or.inl ⟨_, rfl⟩)) q2218 q73 (by decide) (by decide) dL_law_940 hl.1 (Nat.le_of_ble_eq_true rfl) hf (ct_S X (Or.inr (Or.inl ⟨_, rfl⟩)) q2218 q73 q2216 q2217 hy_X0_stock np_X0_stock rfl dL_law_940) (fun q h he hX => absurd he (Z.2.1 q h)) (fun x940 h hf => ?kk940)
      refine AW.eq (g2 := F0 m 943 ls [.int x940]) rfl ?_
      refine a_istore (pc := 943) X dL_law_943 hl (by decide) (lv' := [(6, vI x940), (0, vR v0), (1, vR v1), (2, vR v2), (3, vR v3), (4, vR v4), (5, vI v5)]) rfl (fun ls hl => ?_)
      refine a_aload_n (pc := 945) X dL_law_945 rfl hl 3 rfl ?_
      refine a_aload_n (pc := 946) X dL_law_946 rfl hl 1 rfl ?_
      refine a_iload (pc := 947) X dL_law_947 hl 6 rfl ?_
      refine AW.lift (fun _ _ _ _ k => lv_iconst (pc := 949) (v := (1 : Int32)) X.2.2.1 X.2.2.2.1 dL_law_949 rfl k) ?_
      refine AW.lift (fun _ _ _ _ k => lv_iadd (pc := 950) X.2.2.1 X.2.2.2.1 dL_law_950 k) ?_
      refine a_iaload (pc := 951) X dL_law_951 hf (fun x951 hf => ?_)
      refine a_aload_n (pc := 952) X dL_law_952 rfl hl 1 rfl ?_
      refine a_iload (pc := 953) X dL_law_953 hl 6 rfl ?_
      refine AW.lift (fun _ _ _ _ k => lv_iconst (pc := 955) (v := (2 : Int32)) X.2.2.1 X.2.2.2.1 dL_law_955 rfl k) ?_
      refine AW.lift (fun _ _ _ _ k => lv_iadd (pc := 956) X.2.2.1 X.2.2.2.1 dL_law_956 k) ?_
      refine a_iaload (pc := 957) X dL_law_957 hf (fun x957 hf => ?_)
      refine a_aload_n (pc := 958) X dL_law_958 rfl hl 1 rfl ?_
      refine a_iload (pc := 959) X dL_law_959 hl 6 rfl ?_
      refine AW.lift (fun _ _ _ _ k => lv_iconst (pc := 961) (v := (3 : Int32)) X.2.2.1 X.2.2.2.1 dL_law_961 rfl k) ?_
      refine AW.lift (fun _ _ _ _ k => lv_iadd (pc := 962) X.2.2.1 X.2.2.2.1 dL_law_962 k) ?_
      refine a_iaload (pc := 963) X dL_law_963 hf (fun x963 hf => ?_)
      obtain ⟨a964, rfl, ⟨hk, hf⟩ | ⟨-, hf⟩⟩ := dv_some hf
      rotate_left
      · exact fl_none hf
      refine a_callb (pc := 964) (rs := []) (avs := [vR (some a964), vI x951, vI x957, vI x963]) Z.1 (w_X4_stock GA (some a964) x951 x957 x963) (Or.inl rfl) q3249 q86 (by decide) (by decide) dL_law_964 hl.1 (Nat.le_of_ble_eq_true rfl) hf (ct_V hk ⟨by decide, by decide⟩ X (Or.inl rfl) q3249 q3246 q3247 q3248 hy_X4_stock np_X4_stock rfl dL_law_964) (fun q h he hX => absurd he (Z.2.1 q h)) (fun x964 h hf => ?kk964)
      refine AW.eq (g2 := F0 m 967 ls [.int x964]) rfl ?_
      refine a_istore (pc := 967) X dL_law_967 hl (by decide) (lv' := [(7, vI x964), (6, vI x940), (0, vR v0), (1, vR v1), (2, vR (some a964)), (3, vR v3), (4, vR v4), (5, vI v5)]) rfl (fun ls hl => ?_)
      refine a_aload_n (pc := 969) X dL_law_969 rfl hl 4 rfl ?_
      rcases dv_someS hf with ⟨hk, hf⟩ | ⟨-, hf⟩
      rotate_left
      · exact fl_none hf
      refine a_callb (pc := 970) (rs := []) (avs := [vR (some a964)]) Z.1 (w_X4_thrown GA (some a964)) (Or.inl rfl) q3104 q86 (by decide) (by decide) dL_law_970 hl.1 (Nat.le_of_ble_eq_true rfl) hf (ct_V hk ⟨by decide, by decide⟩ X (Or.inl rfl) q3104 q3101 q3102 q3103 hy_X4_thrown np_X4_thrown rfl dL_law_970) (fun q h he hX => absurd he (Z.2.1 q h)) (fun x970 h hf => ?kk970)
      refine AW.eq (g2 := F0 m 973 ls [.int x970]) rfl ?_
      refine a_iload (pc := 973) X dL_law_973 hl 1 rfl ?_
      refine AW.lift2 (fun _ _ _ _ k1 k2 => lv_icmp_eq (pc := 975) (tgt := 980) X.2.2.1 X.2.2.2.1 dL_law_975 rfl k1 k2) (fun c => ?_) (fun c => ?_)
      · have hf := ite_t c hf
        refine a_iload (pc := 980) X dL_law_980 hl 1 rfl ?_
        refine AW.lift2 (fun _ _ _ _ k1 k2 => lv_if_ne (pc := 982) (tgt := 997) X.2.2.1 X.2.2.2.1 dL_law_982 rfl k2 k1) (fun c => ?_) (fun c => ?_)
        · have hf := ite_t c hf
          refine a_aload_n (pc := 985) X dL_law_985 rfl hl 5 rfl ?_
          refine AW.lift (fun _ _ _ _ k => lv_iconst (pc := 986) (v := (0 : Int32)) X.2.2.1 X.2.2.2.1 dL_law_986 rfl k) ?_
          refine a_laload (pc := 987) X dL_law_987 hf (fun x987 hf => ?_)
          refine a_iload (pc := 988) X dL_law_988 hl 0 rfl ?_
          refine AW.lift (fun _ _ _ _ k => lv_i2l (pc := 990) X.2.2.1 X.2.2.2.1 dL_law_990 rfl k) ?_
          refine AW.lift (fun _ _ _ _ k => W.lcmp (pc := 991) X.2.2.1 X.2.2.2.1 dL_law_991 k) ?_
          refine AW.lift2 (fun _ _ _ _ k1 k2 => lv_if_eq (pc := 992) (tgt := 997) X.2.2.1 X.2.2.2.1 dL_law_992 rfl k1 k2) (fun c => ?_) (fun c => ?_)
          · have hf := ite_t c hf
            exact w_L_law_j997 GA Z v0 v1 (some a964) v3 v4 v5  rc28 hrc28 (hl.sub [2, 3, 4, 5, 6, 7] rfl) hf
          · have hf := ite_f c hf
            refine AW.lift (fun _ _ _ _ k => lv_iconst (pc := 995) (v := (0 : Int32)) X.2.2.1 X.2.2.2.1 dL_law_995 rfl k) ?_
            exact a_zreturn X Z.2.2.1 rfl Z.2.2.2.1 dL_law_996 hf
        · have hf := ite_f c hf
          exact w_L_law_j997 GA Z v0 v1 (some a964) v3 v4 v5  rc28 hrc28 (hl.sub [2, 3, 4, 5, 6, 7] rfl) hf
      · have hf := ite_f c hf
        refine AW.lift (fun _ _ _ _ k => lv_iconst (pc := 978) (v := (0 : Int32)) X.2.2.1 X.2.2.2.1 dL_law_978 rfl k) ?_
        exact a_zreturn X Z.2.2.1 rfl Z.2.2.2.1 dL_law_979 hf
    have hf := ite_f c12 hf
    by_cases c13 : (x40 &&& (63 : Int32)) = (13 : Int32)
    · have hf := ite_t c13 hf
      refine AW.lift (fun _ _ _ _ k => lv_tableIn (pc := 44) (tgt := 1000) (off := 956) X.2.2.1 X.2.2.2.1 dL_law_44 (by rw [c13]; decide) (by rw [c13]; decide) (by rw [c13]; rfl) rfl k) ?_
      refine a_aload_n (pc := 1000) X dL_law_1000 rfl hl 1 rfl ?_
      refine a_aload_n (pc := 1001) X dL_law_1001 rfl hl 0 rfl ?_
      refine a_iload (pc := 1002) X dL_law_1002 hl 5 rfl ?_
      refine AW.lift (fun _ _ _ _ k => lv_iconst (pc := 1004) (v := (1 : Int32)) X.2.2.1 X.2.2.2.1 dL_law_1004 rfl k) ?_
      refine AW.lift (fun _ _ _ _ k => lv_iadd (pc := 1005) X.2.2.1 X.2.2.2.1 dL_law_1005 k) ?_
      refine a_iaload (pc := 1006) X dL_law_1006 hf (fun x1006 hf => ?_)
      refine a_aload_n (pc := 1007) X dL_law_1007 rfl hl 0 rfl ?_
      refine a_iload (pc := 1008) X dL_law_1008 hl 5 rfl ?_
      refine AW.lift (fun _ _ _ _ k => lv_iconst (pc := 1010) (v := (2 : Int32)) X.2.2.1 X.2.2.2.1 dL_law_1010 rfl k) ?_
      refine AW.lift (fun _ _ _ _ k => lv_iadd (pc := 1011) X.2.2.1 X.2.2.2.1 dL_law_1011 k) ?_
      refine a_iaload (pc := 1012) X dL_law_1012 hf (fun x1012 hf => ?_)
      refine a_aload_n (pc := 1013) X dL_law_1013 rfl hl 3 rfl ?_
      refine a_callb (pc := 1014) (rs := []) (avs := [vR v1, vI x1006, vI x1012, vR v3]) Z.1 (w_X0_sell GA v1 x1006 x1012 v3) (Or.inr (Or.inl ⟨_, rfl⟩)) q2276 q73 (by decide) (by decide) dL_law_1014 hl.1 (Nat.le_of_ble_eq_true rfl) hf (ct_S X (Or.inr (Or.inl ⟨_, rfl⟩)) q2276 q73 q2274 q2275 hy_X0_sell np_X0_sell rfl dL_law_1014) (fun q h he hX => absurd he (Z.2.1 q h)) (fun x1014 h hf => ?kk1014)
      refine AW.eq (g2 := F0 m 1017 ls [.int x1014]) rfl ?_
      refine a_istore (pc := 1017) X dL_law_1017 hl (by decide) (lv' := [(6, vI x1014), (0, vR v0), (1, vR v1), (2, vR v2), (3, vR v3), (4, vR v4), (5, vI v5)]) rfl (fun ls hl => ?_)
      refine a_aload_n (pc := 1019) X dL_law_1019 rfl hl 3 rfl ?_
      refine a_aload_n (pc := 1020) X dL_law_1020 rfl hl 1 rfl ?_
      refine a_iload (pc := 1021) X dL_law_1021 hl 6 rfl ?_
      refine AW.lift (fun _ _ _ _ k => lv_iconst (pc := 1023) (v := (1 : Int32)) X.2.2.1 X.2.2.2.1 dL_law_1023 rfl k) ?_
      refine AW.lift (fun _ _ _ _ k => lv_iadd (pc := 1024) X.2.2.1 X.2.2.2.1 dL_law_1024 k) ?_
      refine a_iaload (pc := 1025) X dL_law_1025 hf (fun x1025 hf => ?_)
      refine a_aload_n (pc := 1026) X dL_law_1026 rfl hl 1 rfl ?_
      refine a_iload (pc := 1027) X dL_law_1027 hl 6 rfl ?_
      refine AW.lift (fun _ _ _ _ k => lv_iconst (pc := 1029) (v := (2 : Int32)) X.2.2.1 X.2.2.2.1 dL_law_1029 rfl k) ?_
      refine AW.lift (fun _ _ _ _ k => lv_iadd (pc := 1030) X.2.2.1 X.2.2.2.1 dL_law_1030 k) ?_
      refine a_iaload (pc := 1031) X dL_law_1031 hf (fun x1031 hf => ?_)
      obtain ⟨a1032, rfl, ⟨hk, hf⟩ | ⟨-, hf⟩⟩ := dv_some hf
      rotate_left
      · exact fl_none hf
      refine a_callb (pc := 1032) (rs := []) (avs := [vR (some a1032), vI x1025, vI x1031]) Z.1 (w_X4_sell GA (some a1032) x1025 x1031) (Or.inl rfl) q3258 q86 (by decide) (by decide) dL_law_1032 hl.1 (Nat.le_of_ble_eq_true rfl) hf (ct_V hk ⟨by decide, by decide⟩ X (Or.inl rfl) q3258 q3255 q3256 q3257 hy_X4_sell np_X4_sell rfl dL_law_1032) (fun q h he hX => absurd he (Z.2.1 q h)) (fun x1032 h hf => ?kk1032)
      refine AW.eq (g2 := F0 m 1035 ls [.int x1032]) rfl ?_
      refine a_istore (pc := 1035) X dL_law_1035 hl (by decide) (lv' := [(7, vI x1032), (6, vI x1014), (0, vR v0), (1, vR v1), (2, vR (some a1032)), (3, vR v3), (4, vR v4), (5, vI v5)]) rfl (fun ls hl => ?_)
      refine a_aload_n (pc := 1037) X dL_law_1037 rfl hl 4 rfl ?_
      rcases dv_someS hf with ⟨hk, hf⟩ | ⟨-, hf⟩
      rotate_left
      · exact fl_none hf
      refine a_callb (pc := 1038) (rs := []) (avs := [vR (some a1032)]) Z.1 (w_X4_thrown GA (some a1032)) (Or.inl rfl) q3104 q86 (by decide) (by decide) dL_law_1038 hl.1 (Nat.le_of_ble_eq_true rfl) hf (ct_V hk ⟨by decide, by decide⟩ X (Or.inl rfl) q3104 q3101 q3102 q3103 hy_X4_thrown np_X4_thrown rfl dL_law_1038) (fun q h he hX => absurd he (Z.2.1 q h)) (fun x1038 h hf => ?kk1038)
      refine AW.eq (g2 := F0 m 1041 ls [.int x1038]) rfl ?_
      refine a_iload (pc := 1041) X dL_law_1041 hl 1 rfl ?_
      refine AW.lift2 (fun _ _ _ _ k1 k2 => lv_icmp_eq (pc := 1043) (tgt := 1048) X.2.2.1 X.2.2.2.1 dL_law_1043 rfl k1 k2) (fun c => ?_) (fun c => ?_)
      · have hf := ite_t c hf
        refine a_iload (pc := 1048) X dL_law_1048 hl 1 rfl ?_
        refine AW.lift2 (fun _ _ _ _ k1 k2 => lv_if_ne (pc := 1050) (tgt := 1065) X.2.2.1 X.2.2.2.1 dL_law_1050 rfl k2 k1) (fun c => ?_) (fun c => ?_)
        · have hf := ite_t c hf
          refine a_aload_n (pc := 1053) X dL_law_1053 rfl hl 5 rfl ?_
          refine AW.lift (fun _ _ _ _ k => lv_iconst (pc := 1054) (v := (0 : Int32)) X.2.2.1 X.2.2.2.1 dL_law_1054 rfl k) ?_
          refine a_laload (pc := 1055) X dL_law_1055 hf (fun x1055 hf => ?_)
          refine a_iload (pc := 1056) X dL_law_1056 hl 0 rfl ?_
          refine AW.lift (fun _ _ _ _ k => lv_i2l (pc := 1058) X.2.2.1 X.2.2.2.1 dL_law_1058 rfl k) ?_
          refine AW.lift (fun _ _ _ _ k => W.lcmp (pc := 1059) X.2.2.1 X.2.2.2.1 dL_law_1059 k) ?_
          refine AW.lift2 (fun _ _ _ _ k1 k2 => lv_if_eq (pc := 1060) (tgt := 1065) X.2.2.1 X.2.2.2.1 dL_law_1060 rfl k1 k2) (fun c => ?_) (fun c => ?_)
          · have hf := ite_t c hf
            exact w_L_law_j1065 GA Z v0 v1 (some a1032) v3 v4 v5  rc28 hrc28 (hl.sub [2, 3, 4, 5, 6, 7] rfl) hf
          · have hf := ite_f c hf
            refine AW.lift (fun _ _ _ _ k => lv_iconst (pc := 1063) (v := (0 : Int32)) X.2.2.1 X.2.2.2.1 dL_law_1063 rfl k) ?_
            exact a_zreturn X Z.2.2.1 rfl Z.2.2.2.1 dL_law_1064 hf
        · have hf := ite_f c hf
          exact w_L_law_j1065 GA Z v0 v1 (some a1032) v3 v4 v5  rc28 hrc28 (hl.sub [2, 3, 4, 5, 6, 7] rfl) hf
      · have hf := ite_f c hf
        refine AW.lift (fun _ _ _ _ k => lv_iconst (pc := 1046) (v := (0 : Int32)) X.2.2.1 X.2.2.2.1 dL_law_1046 rfl k) ?_
        exact a_zreturn X Z.2.2.1 rfl Z.2.2.2.1 dL_law_1047 hf
    have hf := ite_f c13 hf
    by_cases c14 : (x40 &&& (63 : Int32)) = (14 : Int32)
    · have hf := ite_t c14 hf
      refine AW.lift (fun _ _ _ _ k => lv_tableIn (pc := 44) (tgt := 1068) (off := 1024) X.2.2.1 X.2.2.2.1 dL_law_44 (by rw [c14]; decide) (by rw [c14]; decide) (by rw [c14]; rfl) rfl k) ?_
      refine a_aload_n (pc := 1068) X dL_law_1068 rfl hl 1 rfl ?_
      refine a_aload_n (pc := 1069) X dL_law_1069 rfl hl 0 rfl ?_
      refine a_iload (pc := 1070) X dL_law_1070 hl 5 rfl ?_
      refine AW.lift (fun _ _ _ _ k => lv_iconst (pc := 1072) (v := (1 : Int32)) X.2.2.1 X.2.2.2.1 dL_law_1072 rfl k) ?_
      refine AW.lift (fun _ _ _ _ k => lv_iadd (pc := 1073) X.2.2.1 X.2.2.2.1 dL_law_1073 k) ?_
      refine a_iaload (pc := 1074) X dL_law_1074 hf (fun x1074 hf => ?_)
      refine a_aload_n (pc := 1075) X dL_law_1075 rfl hl 0 rfl ?_
      refine a_iload (pc := 1076) X dL_law_1076 hl 5 rfl ?_
      refine AW.lift (fun _ _ _ _ k => lv_iconst (pc := 1078) (v := (2 : Int32)) X.2.2.1 X.2.2.2.1 dL_law_1078 rfl k) ?_
      refine AW.lift (fun _ _ _ _ k => lv_iadd (pc := 1079) X.2.2.1 X.2.2.2.1 dL_law_1079 k) ?_
      refine a_iaload (pc := 1080) X dL_law_1080 hf (fun x1080 hf => ?_)
      refine a_aload_n (pc := 1081) X dL_law_1081 rfl hl 3 rfl ?_
      refine a_callb (pc := 1082) (rs := []) (avs := [vR v1, vI x1074, vI x1080, vR v3]) Z.1 (w_X0_jumperOf GA v1 x1074 x1080 v3) (Or.inr (Or.inl ⟨_, rfl⟩)) q2310 q73 (by decide) (by decide) dL_law_1082 hl.1 (Nat.le_of_ble_eq_true rfl) hf (ct_S X (Or.inr (Or.inl ⟨_, rfl⟩)) q2310 q73 q2308 q2309 hy_X0_jumperOf np_X0_jumperOf rfl dL_law_1082) (fun q h he hX => absurd he (Z.2.1 q h)) (fun x1082 h hf => ?kk1082)
      refine AW.eq (g2 := F0 m 1085 ls [.int x1082]) rfl ?_
      refine a_istore (pc := 1085) X dL_law_1085 hl (by decide) (lv' := [(6, vI x1082), (0, vR v0), (1, vR v1), (2, vR v2), (3, vR v3), (4, vR v4), (5, vI v5)]) rfl (fun ls hl => ?_)
      refine a_aload_n (pc := 1087) X dL_law_1087 rfl hl 3 rfl ?_
      refine a_aload_n (pc := 1088) X dL_law_1088 rfl hl 1 rfl ?_
      refine a_iload (pc := 1089) X dL_law_1089 hl 6 rfl ?_
      refine AW.lift (fun _ _ _ _ k => lv_iconst (pc := 1091) (v := (1 : Int32)) X.2.2.1 X.2.2.2.1 dL_law_1091 rfl k) ?_
      refine AW.lift (fun _ _ _ _ k => lv_iadd (pc := 1092) X.2.2.1 X.2.2.2.1 dL_law_1092 k) ?_
      refine a_iaload (pc := 1093) X dL_law_1093 hf (fun x1093 hf => ?_)
      refine a_aload_n (pc := 1094) X dL_law_1094 rfl hl 1 rfl ?_
      refine a_iload (pc := 1095) X dL_law_1095 hl 6 rfl ?_
      refine AW.lift (fun _ _ _ _ k => lv_iconst (pc := 1097) (v := (2 : Int32)) X.2.2.1 X.2.2.2.1 dL_law_1097 rfl k) ?_
      refine AW.lift (fun _ _ _ _ k => lv_iadd (pc := 1098) X.2.2.1 X.2.2.2.1 dL_law_1098 k) ?_
      refine a_iaload (pc := 1099) X dL_law_1099 hf (fun x1099 hf => ?_)
      obtain ⟨a1100, rfl, ⟨hk, hf⟩ | ⟨-, hf⟩⟩ := dv_some hf
      rotate_left
      · exact fl_none hf
      refine a_callb (pc := 1100) (rs := []) (avs := [vR (some a1100), vI x1093, vI x1099]) Z.1 (w_X4_jumperOf GA (some a1100) x1093 x1099) (Or.inl rfl) q3270 q86 (by decide) (by decide) dL_law_1100 hl.1 (Nat.le_of_ble_eq_true rfl) hf (ct_V hk ⟨by decide, by decide⟩ X (Or.inl rfl) q3270 q3267 q3268 q3269 hy_X4_jumperOf np_X4_jumperOf rfl dL_law_1100) (fun q h he hX => absurd he (Z.2.1 q h)) (fun x1100 h hf => ?kk1100)
      refine AW.eq (g2 := F0 m 1103 ls [.int x1100]) rfl ?_
      refine a_istore (pc := 1103) X dL_law_1103 hl (by decide) (lv' := [(7, vI x1100), (6, vI x1082), (0, vR v0), (1, vR v1), (2, vR (some a1100)), (3, vR v3), (4, vR v4), (5, vI v5)]) rfl (fun ls hl => ?_)
      refine a_aload_n (pc := 1105) X dL_law_1105 rfl hl 4 rfl ?_
      rcases dv_someS hf with ⟨hk, hf⟩ | ⟨-, hf⟩
      rotate_left
      · exact fl_none hf
      refine a_callb (pc := 1106) (rs := []) (avs := [vR (some a1100)]) Z.1 (w_X4_thrown GA (some a1100)) (Or.inl rfl) q3104 q86 (by decide) (by decide) dL_law_1106 hl.1 (Nat.le_of_ble_eq_true rfl) hf (ct_V hk ⟨by decide, by decide⟩ X (Or.inl rfl) q3104 q3101 q3102 q3103 hy_X4_thrown np_X4_thrown rfl dL_law_1106) (fun q h he hX => absurd he (Z.2.1 q h)) (fun x1106 h hf => ?kk1106)
      refine AW.eq (g2 := F0 m 1109 ls [.int x1106]) rfl ?_
      refine a_iload (pc := 1109) X dL_law_1109 hl 1 rfl ?_
      refine AW.lift2 (fun _ _ _ _ k1 k2 => lv_icmp_eq (pc := 1111) (tgt := 1116) X.2.2.1 X.2.2.2.1 dL_law_1111 rfl k1 k2) (fun c => ?_) (fun c => ?_)
      · have hf := ite_t c hf
        refine a_iload (pc := 1116) X dL_law_1116 hl 1 rfl ?_
        refine AW.lift2 (fun _ _ _ _ k1 k2 => lv_if_ne (pc := 1118) (tgt := 1133) X.2.2.1 X.2.2.2.1 dL_law_1118 rfl k2 k1) (fun c => ?_) (fun c => ?_)
        · have hf := ite_t c hf
          refine a_aload_n (pc := 1121) X dL_law_1121 rfl hl 5 rfl ?_
          refine AW.lift (fun _ _ _ _ k => lv_iconst (pc := 1122) (v := (0 : Int32)) X.2.2.1 X.2.2.2.1 dL_law_1122 rfl k) ?_
          refine a_laload (pc := 1123) X dL_law_1123 hf (fun x1123 hf => ?_)
          refine a_iload (pc := 1124) X dL_law_1124 hl 0 rfl ?_
          refine AW.lift (fun _ _ _ _ k => lv_i2l (pc := 1126) X.2.2.1 X.2.2.2.1 dL_law_1126 rfl k) ?_
          refine AW.lift (fun _ _ _ _ k => W.lcmp (pc := 1127) X.2.2.1 X.2.2.2.1 dL_law_1127 k) ?_
          refine AW.lift2 (fun _ _ _ _ k1 k2 => lv_if_eq (pc := 1128) (tgt := 1133) X.2.2.1 X.2.2.2.1 dL_law_1128 rfl k1 k2) (fun c => ?_) (fun c => ?_)
          · have hf := ite_t c hf
            exact w_L_law_j1133 GA Z v0 v1 (some a1100) v3 v4 v5  rc28 hrc28 (hl.sub [2, 3, 4, 5, 6, 7] rfl) hf
          · have hf := ite_f c hf
            refine AW.lift (fun _ _ _ _ k => lv_iconst (pc := 1131) (v := (0 : Int32)) X.2.2.1 X.2.2.2.1 dL_law_1131 rfl k) ?_
            exact a_zreturn X Z.2.2.1 rfl Z.2.2.2.1 dL_law_1132 hf
        · have hf := ite_f c hf
          exact w_L_law_j1133 GA Z v0 v1 (some a1100) v3 v4 v5  rc28 hrc28 (hl.sub [2, 3, 4, 5, 6, 7] rfl) hf
      · have hf := ite_f c hf
        refine AW.lift (fun _ _ _ _ k => lv_iconst (pc := 1114) (v := (0 : Int32)) X.2.2.1 X.2.2.2.1 dL_law_1114 rfl k) ?_
        exact a_zreturn X Z.2.2.1 rfl Z.2.2.2.1 dL_law_1115 hf
    have hf := ite_f c14 hf
    by_cases c15 : (x40 &&& (63 : Int32)) = (15 : Int32)
    · have hf := ite_t c15 hf
      refine AW.lift (fun _ _ _ _ k => lv_tableIn (pc := 44) (tgt := 1136) (off := 1092) X.2.2.1 X.2.2.2.1 dL_law_44 (by rw [c15]; decide) (by rw [c15]; decide) (by rw [c15]; rfl) rfl k) ?_
      refine a_aload_n (pc := 1136) X dL_law_1136 rfl hl 1 rfl ?_
      refine a_aload_n (pc := 1137) X dL_law_1137 rfl hl 0 rfl ?_
      refine a_iload (pc := 1138) X dL_law_1138 hl 5 rfl ?_
      refine AW.lift (fun _ _ _ _ k => lv_iconst (pc := 1140) (v := (1 : Int32)) X.2.2.1 X.2.2.2.1 dL_law_1140 rfl k) ?_
      refine AW.lift (fun _ _ _ _ k => lv_iadd (pc := 1141) X.2.2.1 X.2.2.2.1 dL_law_1141 k) ?_
      refine a_iaload (pc := 1142) X dL_law_1142 hf (fun x1142 hf => ?_)
      refine a_aload_n (pc := 1143) X dL_law_1143 rfl hl 0 rfl ?_
      refine a_iload (pc := 1144) X dL_law_1144 hl 5 rfl ?_
      refine AW.lift (fun _ _ _ _ k => lv_iconst (pc := 1146) (v := (2 : Int32)) X.2.2.1 X.2.2.2.1 dL_law_1146 rfl k) ?_
      refine AW.lift (fun _ _ _ _ k => lv_iadd (pc := 1147) X.2.2.1 X.2.2.2.1 dL_law_1147 k) ?_
      refine a_iaload (pc := 1148) X dL_law_1148 hf (fun x1148 hf => ?_)
      refine a_aload_n (pc := 1149) X dL_law_1149 rfl hl 0 rfl ?_
      refine a_iload (pc := 1150) X dL_law_1150 hl 5 rfl ?_
      refine AW.lift (fun _ _ _ _ k => lv_iconst (pc := 1152) (v := (3 : Int32)) X.2.2.1 X.2.2.2.1 dL_law_1152 rfl k) ?_
      refine AW.lift (fun _ _ _ _ k => lv_iadd (pc := 1153) X.2.2.1 X.2.2.2.1 dL_law_1153 k) ?_
      refine a_iaload (pc := 1154) X dL_law_1154 hf (fun x1154 hf => ?_)
      refine AW.lift2 (fun _ _ _ _ k1 k2 => lv_if_eq (pc := 1155) (tgt := 1162) X.2.2.1 X.2.2.2.1 dL_law_1155 rfl k1 k2) (fun c => ?_) (fun c => ?_)
      · have hf := ite_t c hf
        refine AW.lift (fun _ _ _ _ k => lv_iconst (pc := 1162) (v := (0 : Int32)) X.2.2.1 X.2.2.2.1 dL_law_1162 rfl k) ?_
        exact w_L_law_j1163 GA Z v0 v1 v2 v3 v4 v5 (0 : Int32) x1148 x1142 v1 rc28 hrc28 (hl.sub [0, 1, 2, 3, 4, 5] rfl) hf
      · have hf := ite_f c hf
        refine AW.lift (fun _ _ _ _ k => lv_iconst (pc := 1158) (v := (1 : Int32)) X.2.2.1 X.2.2.2.1 dL_law_1158 rfl k) ?_
        refine AW.lift (fun _ _ _ _ k => lv_goto (pc := 1159) (tgt := 1163) X.2.2.1 X.2.2.2.1 dL_law_1159 rfl k) ?_
        exact w_L_law_j1163 GA Z v0 v1 v2 v3 v4 v5 (1 : Int32) x1148 x1142 v1 rc28 hrc28 (hl.sub [0, 1, 2, 3, 4, 5] rfl) hf
    have hf := ite_f c15 hf
    by_cases c16 : (x40 &&& (63 : Int32)) = (16 : Int32)
    · have hf := ite_t c16 hf
      refine AW.lift (fun _ _ _ _ k => lv_tableIn (pc := 44) (tgt := 1232) (off := 1188) X.2.2.1 X.2.2.2.1 dL_law_44 (by rw [c16]; decide) (by rw [c16]; decide) (by rw [c16]; rfl) rfl k) ?_
      refine a_aload_n (pc := 1232) X dL_law_1232 rfl hl 1 rfl ?_
      refine a_aload_n (pc := 1233) X dL_law_1233 rfl hl 3 rfl ?_
      refine a_callb (pc := 1234) (rs := []) (avs := [vR v1, vR v3]) Z.1 (w_X0_bestSize GA v1 v3) (Or.inr (Or.inl ⟨_, rfl⟩)) q2325 q73 (by decide) (by decide) dL_law_1234 hl.1 (Nat.le_of_ble_eq_true rfl) hf (ct_S X (Or.inr (Or.inl ⟨_, rfl⟩)) q2325 q73 q2323 q2324 hy_X0_bestSize np_X0_bestSize rfl dL_law_1234) (fun q h he hX => absurd he (Z.2.1 q h)) (fun x1234 h hf => ?kk1234)
      refine AW.eq (g2 := F0 m 1237 ls [.int x1234]) rfl ?_
      refine a_istore (pc := 1237) X dL_law_1237 hl (by decide) (lv' := [(6, vI x1234), (0, vR v0), (1, vR v1), (2, vR v2), (3, vR v3), (4, vR v4), (5, vI v5)]) rfl (fun ls hl => ?_)
      refine a_aload_n (pc := 1239) X dL_law_1239 rfl hl 3 rfl ?_
      obtain ⟨a1240, rfl, ⟨hk, hf⟩ | ⟨-, hf⟩⟩ := dv_some hf
      rotate_left
      · exact fl_none hf
      refine a_callb (pc := 1240) (rs := []) (avs := [vR (some a1240)]) Z.1 (w_X4_bestSize GA (some a1240)) (Or.inl rfl) q3279 q86 (by decide) (by decide) dL_law_1240 hl.1 (Nat.le_of_ble_eq_true rfl) hf (ct_V hk ⟨by decide, by decide⟩ X (Or.inl rfl) q3279 q3276 q3277 q3278 hy_X4_bestSize np_X4_bestSize rfl dL_law_1240) (fun q h he hX => absurd he (Z.2.1 q h)) (fun x1240 h hf => ?kk1240)
      refine AW.eq (g2 := F0 m 1243 ls [.int x1240]) rfl ?_
      refine a_istore (pc := 1243) X dL_law_1243 hl (by decide) (lv' := [(7, vI x1240), (6, vI x1234), (0, vR v0), (1, vR v1), (2, vR (some a1240)), (3, vR v3), (4, vR v4), (5, vI v5)]) rfl (fun ls hl => ?_)
      refine a_aload_n (pc := 1245) X dL_law_1245 rfl hl 4 rfl ?_
      rcases dv_someS hf with ⟨hk, hf⟩ | ⟨-, hf⟩
      rotate_left
      · exact fl_none hf
      refine a_callb (pc := 1246) (rs := []) (avs := [vR (some a1240)]) Z.1 (w_X4_thrown GA (some a1240)) (Or.inl rfl) q3104 q86 (by decide) (by decide) dL_law_1246 hl.1 (Nat.le_of_ble_eq_true rfl) hf (ct_V hk ⟨by decide, by decide⟩ X (Or.inl rfl) q3104 q3101 q3102 q3103 hy_X4_thrown np_X4_thrown rfl dL_law_1246) (fun q h he hX => absurd he (Z.2.1 q h)) (fun x1246 h hf => ?kk1246)
      refine AW.eq (g2 := F0 m 1249 ls [.int x1246]) rfl ?_
      refine a_iload (pc := 1249) X dL_law_1249 hl 1 rfl ?_
      refine AW.lift2 (fun _ _ _ _ k1 k2 => lv_icmp_eq (pc := 1251) (tgt := 1256) X.2.2.1 X.2.2.2.1 dL_law_1251 rfl k1 k2) (fun c => ?_) (fun c => ?_)
      · have hf := ite_t c hf
        refine a_iload (pc := 1256) X dL_law_1256 hl 1 rfl ?_
        refine AW.lift2 (fun _ _ _ _ k1 k2 => lv_if_ne (pc := 1258) (tgt := 1273) X.2.2.1 X.2.2.2.1 dL_law_1258 rfl k2 k1) (fun c => ?_) (fun c => ?_)
        · have hf := ite_t c hf
          refine a_aload_n (pc := 1261) X dL_law_1261 rfl hl 5 rfl ?_
          refine AW.lift (fun _ _ _ _ k => lv_iconst (pc := 1262) (v := (0 : Int32)) X.2.2.1 X.2.2.2.1 dL_law_1262 rfl k) ?_
          refine a_laload (pc := 1263) X dL_law_1263 hf (fun x1263 hf => ?_)
          refine a_iload (pc := 1264) X dL_law_1264 hl 0 rfl ?_
          refine AW.lift (fun _ _ _ _ k => lv_i2l (pc := 1266) X.2.2.1 X.2.2.2.1 dL_law_1266 rfl k) ?_
          refine AW.lift (fun _ _ _ _ k => W.lcmp (pc := 1267) X.2.2.1 X.2.2.2.1 dL_law_1267 k) ?_
          refine AW.lift2 (fun _ _ _ _ k1 k2 => lv_if_eq (pc := 1268) (tgt := 1273) X.2.2.1 X.2.2.2.1 dL_law_1268 rfl k1 k2) (fun c => ?_) (fun c => ?_)
          · have hf := ite_t c hf
            exact w_L_law_j1273 GA Z v0 v1 (some a1240) v3 v4 v5  rc28 hrc28 (hl.sub [2, 3, 4, 5, 6, 7] rfl) hf
          · have hf := ite_f c hf
            refine AW.lift (fun _ _ _ _ k => lv_iconst (pc := 1271) (v := (0 : Int32)) X.2.2.1 X.2.2.2.1 dL_law_1271 rfl k) ?_
            exact a_zreturn X Z.2.2.1 rfl Z.2.2.2.1 dL_law_1272 hf
        · have hf := ite_f c hf
          exact w_L_law_j1273 GA Z v0 v1 (some a1240) v3 v4 v5  rc28 hrc28 (hl.sub [2, 3, 4, 5, 6, 7] rfl) hf
      · have hf := ite_f c hf
        refine AW.lift (fun _ _ _ _ k => lv_iconst (pc := 1254) (v := (0 : Int32)) X.2.2.1 X.2.2.2.1 dL_law_1254 rfl k) ?_
        exact a_zreturn X Z.2.2.1 rfl Z.2.2.2.1 dL_law_1255 hf
    have hf := ite_f c16 hf
    by_cases c17 : (x40 &&& (63 : Int32)) = (17 : Int32)
    · have hf := ite_t c17 hf
      refine AW.lift (fun _ _ _ _ k => lv_tableIn (pc := 44) (tgt := 1276) (off := 1232) X.2.2.1 X.2.2.2.1 dL_law_44 (by rw [c17]; decide) (by rw [c17]; decide) (by rw [c17]; rfl) rfl k) ?_
      refine a_aload_n (pc := 1276) X dL_law_1276 rfl hl 1 rfl ?_
      refine a_aload_n (pc := 1277) X dL_law_1277 rfl hl 0 rfl ?_
      refine a_iload (pc := 1278) X dL_law_1278 hl 5 rfl ?_
      refine AW.lift (fun _ _ _ _ k => lv_iconst (pc := 1280) (v := (1 : Int32)) X.2.2.1 X.2.2.2.1 dL_law_1280 rfl k) ?_
      refine AW.lift (fun _ _ _ _ k => lv_iadd (pc := 1281) X.2.2.1 X.2.2.2.1 dL_law_1281 k) ?_
      refine a_iaload (pc := 1282) X dL_law_1282 hf (fun x1282 hf => ?_)
      refine a_aload_n (pc := 1283) X dL_law_1283 rfl hl 3 rfl ?_
      refine a_callb (pc := 1284) (rs := []) (avs := [vR v1, vI x1282, vR v3]) Z.1 (w_X0_matFor GA v1 x1282 v3) (Or.inr (Or.inl ⟨_, rfl⟩)) q2337 q73 (by decide) (by decide) dL_law_1284 hl.1 (Nat.le_of_ble_eq_true rfl) hf (ct_S X (Or.inr (Or.inl ⟨_, rfl⟩)) q2337 q73 q2335 q2336 hy_X0_matFor np_X0_matFor rfl dL_law_1284) (fun q h he hX => absurd he (Z.2.1 q h)) (fun x1284 h hf => ?kk1284)
      refine AW.eq (g2 := F0 m 1287 ls [.int x1284]) rfl ?_
      refine a_istore (pc := 1287) X dL_law_1287 hl (by decide) (lv' := [(6, vI x1284), (0, vR v0), (1, vR v1), (2, vR v2), (3, vR v3), (4, vR v4), (5, vI v5)]) rfl (fun ls hl => ?_)
      refine a_aload_n (pc := 1289) X dL_law_1289 rfl hl 3 rfl ?_
      refine a_aload_n (pc := 1290) X dL_law_1290 rfl hl 1 rfl ?_
      refine a_iload (pc := 1291) X dL_law_1291 hl 6 rfl ?_
      refine AW.lift (fun _ _ _ _ k => lv_iconst (pc := 1293) (v := (1 : Int32)) X.2.2.1 X.2.2.2.1 dL_law_1293 rfl k) ?_
      refine AW.lift (fun _ _ _ _ k => lv_iadd (pc := 1294) X.2.2.1 X.2.2.2.1 dL_law_1294 k) ?_
      refine a_iaload (pc := 1295) X dL_law_1295 hf (fun x1295 hf => ?_)
      obtain ⟨a1296, rfl, ⟨hk, hf⟩ | ⟨-, hf⟩⟩ := dv_some hf
      rotate_left
      · exact fl_none hf
      refine a_callb (pc := 1296) (rs := []) (avs := [vR (some a1296), vI x1295]) Z.1 (w_X4_matFor GA (some a1296) x1295) (Or.inl rfl) q3283 q86 (by decide) (by decide) dL_law_1296 hl.1 (Nat.le_of_ble_eq_true rfl) hf (ct_V hk ⟨by decide, by decide⟩ X (Or.inl rfl) q3283 q3280 q3281 q3282 hy_X4_matFor np_X4_matFor rfl dL_law_1296) (fun q h he hX => absurd he (Z.2.1 q h)) (fun x1296 h hf => ?kk1296)
      refine AW.eq (g2 := F0 m 1299 ls [.int x1296]) rfl ?_
      refine a_istore (pc := 1299) X dL_law_1299 hl (by decide) (lv' := [(7, vI x1296), (6, vI x1284), (0, vR v0), (1, vR v1), (2, vR (some a1296)), (3, vR v3), (4, vR v4), (5, vI v5)]) rfl (fun ls hl => ?_)
      refine a_aload_n (pc := 1301) X dL_law_1301 rfl hl 4 rfl ?_
      rcases dv_someS hf with ⟨hk, hf⟩ | ⟨-, hf⟩
      rotate_left
      · exact fl_none hf
      refine a_callb (pc := 1302) (rs := []) (avs := [vR (some a1296)]) Z.1 (w_X4_thrown GA (some a1296)) (Or.inl rfl) q3104 q86 (by decide) (by decide) dL_law_1302 hl.1 (Nat.le_of_ble_eq_true rfl) hf (ct_V hk ⟨by decide, by decide⟩ X (Or.inl rfl) q3104 q3101 q3102 q3103 hy_X4_thrown np_X4_thrown rfl dL_law_1302) (fun q h he hX => absurd he (Z.2.1 q h)) (fun x1302 h hf => ?kk1302)
      refine AW.eq (g2 := F0 m 1305 ls [.int x1302]) rfl ?_
      refine a_iload (pc := 1305) X dL_law_1305 hl 1 rfl ?_
      refine AW.lift2 (fun _ _ _ _ k1 k2 => lv_icmp_eq (pc := 1307) (tgt := 1312) X.2.2.1 X.2.2.2.1 dL_law_1307 rfl k1 k2) (fun c => ?_) (fun c => ?_)
      · have hf := ite_t c hf
        refine a_iload (pc := 1312) X dL_law_1312 hl 1 rfl ?_
        refine AW.lift2 (fun _ _ _ _ k1 k2 => lv_if_ne (pc := 1314) (tgt := 1329) X.2.2.1 X.2.2.2.1 dL_law_1314 rfl k2 k1) (fun c => ?_) (fun c => ?_)
        · have hf := ite_t c hf
          refine a_aload_n (pc := 1317) X dL_law_1317 rfl hl 5 rfl ?_
          refine AW.lift (fun _ _ _ _ k => lv_iconst (pc := 1318) (v := (0 : Int32)) X.2.2.1 X.2.2.2.1 dL_law_1318 rfl k) ?_
          refine a_laload (pc := 1319) X dL_law_1319 hf (fun x1319 hf => ?_)
          refine a_iload (pc := 1320) X dL_law_1320 hl 0 rfl ?_
          refine AW.lift (fun _ _ _ _ k => lv_i2l (pc := 1322) X.2.2.1 X.2.2.2.1 dL_law_1322 rfl k) ?_
          refine AW.lift (fun _ _ _ _ k => W.lcmp (pc := 1323) X.2.2.1 X.2.2.2.1 dL_law_1323 k) ?_
          refine AW.lift2 (fun _ _ _ _ k1 k2 => lv_if_eq (pc := 1324) (tgt := 1329) X.2.2.1 X.2.2.2.1 dL_law_1324 rfl k1 k2) (fun c => ?_) (fun c => ?_)
          · have hf := ite_t c hf
            exact w_L_law_j1329 GA Z v0 v1 (some a1296) v3 v4 v5  rc28 hrc28 (hl.sub [2, 3, 4, 5, 6, 7] rfl) hf
          · have hf := ite_f c hf
            refine AW.lift (fun _ _ _ _ k => lv_iconst (pc := 1327) (v := (0 : Int32)) X.2.2.1 X.2.2.2.1 dL_law_1327 rfl k) ?_
            exact a_zreturn X Z.2.2.1 rfl Z.2.2.2.1 dL_law_1328 hf
        · have hf := ite_f c hf
          exact w_L_law_j1329 GA Z v0 v1 (some a1296) v3 v4 v5  rc28 hrc28 (hl.sub [2, 3, 4, 5, 6, 7] rfl) hf
      · have hf := ite_f c hf
        refine AW.lift (fun _ _ _ _ k => lv_iconst (pc := 1310) (v := (0 : Int32)) X.2.2.1 X.2.2.2.1 dL_law_1310 rfl k) ?_
        exact a_zreturn X Z.2.2.1 rfl Z.2.2.2.1 dL_law_1311 hf
    have hf := ite_f c17 hf
    by_cases c18 : (x40 &&& (63 : Int32)) = (18 : Int32)
    · have hf := ite_t c18 hf
      refine AW.lift (fun _ _ _ _ k => lv_tableIn (pc := 44) (tgt := 1332) (off := 1288) X.2.2.1 X.2.2.2.1 dL_law_44 (by rw [c18]; decide) (by rw [c18]; decide) (by rw [c18]; rfl) rfl k) ?_
      refine a_aload_n (pc := 1332) X dL_law_1332 rfl hl 1 rfl ?_
      refine a_aload_n (pc := 1333) X dL_law_1333 rfl hl 3 rfl ?_
      refine a_callb (pc := 1334) (rs := []) (avs := [vR v1, vR v3]) Z.1 (w_X0_guard GA v1 v3) (Or.inr (Or.inl ⟨_, rfl⟩)) q2348 q73 (by decide) (by decide) dL_law_1334 hl.1 (Nat.le_of_ble_eq_true rfl) hf (ct_S X (Or.inr (Or.inl ⟨_, rfl⟩)) q2348 q73 q2346 q2347 hy_X0_guard np_X0_guard rfl dL_law_1334) (fun q h he hX => absurd he (Z.2.1 q h)) (fun x1334 h hf => ?kk1334)
      refine AW.eq (g2 := F0 m 1337 ls [.int x1334]) rfl ?_
      refine a_istore (pc := 1337) X dL_law_1337 hl (by decide) (lv' := [(6, vI x1334), (0, vR v0), (1, vR v1), (2, vR v2), (3, vR v3), (4, vR v4), (5, vI v5)]) rfl (fun ls hl => ?_)
      refine a_aload_n (pc := 1339) X dL_law_1339 rfl hl 3 rfl ?_
      obtain ⟨a1340, rfl, ⟨hk, hf⟩ | ⟨-, hf⟩⟩ := dv_some hf
      rotate_left
      · exact fl_none hf
      refine a_callb (pc := 1340) (rs := []) (avs := [vR (some a1340)]) Z.1 (w_X4_guard GA (some a1340)) (Or.inl rfl) q3287 q86 (by decide) (by decide) dL_law_1340 hl.1 (Nat.le_of_ble_eq_true rfl) hf (ct_V hk ⟨by decide, by decide⟩ X (Or.inl rfl) q3287 q3284 q3285 q3286 hy_X4_guard np_X4_guard rfl dL_law_1340) (fun q h he hX => absurd he (Z.2.1 q h)) (fun x1340 h hf => ?kk1340)
      refine AW.eq (g2 := F0 m 1343 ls [.int x1340]) rfl ?_
      refine a_istore (pc := 1343) X dL_law_1343 hl (by decide) (lv' := [(7, vI x1340), (6, vI x1334), (0, vR v0), (1, vR v1), (2, vR (some a1340)), (3, vR v3), (4, vR v4), (5, vI v5)]) rfl (fun ls hl => ?_)
      refine a_aload_n (pc := 1345) X dL_law_1345 rfl hl 4 rfl ?_
      rcases dv_someS hf with ⟨hk, hf⟩ | ⟨-, hf⟩
      rotate_left
      · exact fl_none hf
      refine a_callb (pc := 1346) (rs := []) (avs := [vR (some a1340)]) Z.1 (w_X4_thrown GA (some a1340)) (Or.inl rfl) q3104 q86 (by decide) (by decide) dL_law_1346 hl.1 (Nat.le_of_ble_eq_true rfl) hf (ct_V hk ⟨by decide, by decide⟩ X (Or.inl rfl) q3104 q3101 q3102 q3103 hy_X4_thrown np_X4_thrown rfl dL_law_1346) (fun q h he hX => absurd he (Z.2.1 q h)) (fun x1346 h hf => ?kk1346)
      refine AW.eq (g2 := F0 m 1349 ls [.int x1346]) rfl ?_
      refine a_iload (pc := 1349) X dL_law_1349 hl 1 rfl ?_
      refine AW.lift2 (fun _ _ _ _ k1 k2 => lv_icmp_eq (pc := 1351) (tgt := 1356) X.2.2.1 X.2.2.2.1 dL_law_1351 rfl k1 k2) (fun c => ?_) (fun c => ?_)
      · have hf := ite_t c hf
        refine a_iload (pc := 1356) X dL_law_1356 hl 1 rfl ?_
        refine AW.lift2 (fun _ _ _ _ k1 k2 => lv_if_ne (pc := 1358) (tgt := 1373) X.2.2.1 X.2.2.2.1 dL_law_1358 rfl k2 k1) (fun c => ?_) (fun c => ?_)
        · have hf := ite_t c hf
          refine a_aload_n (pc := 1361) X dL_law_1361 rfl hl 5 rfl ?_
          refine AW.lift (fun _ _ _ _ k => lv_iconst (pc := 1362) (v := (0 : Int32)) X.2.2.1 X.2.2.2.1 dL_law_1362 rfl k) ?_
          refine a_laload (pc := 1363) X dL_law_1363 hf (fun x1363 hf => ?_)
          refine a_iload (pc := 1364) X dL_law_1364 hl 0 rfl ?_
          refine AW.lift (fun _ _ _ _ k => lv_i2l (pc := 1366) X.2.2.1 X.2.2.2.1 dL_law_1366 rfl k) ?_
          refine AW.lift (fun _ _ _ _ k => W.lcmp (pc := 1367) X.2.2.1 X.2.2.2.1 dL_law_1367 k) ?_
          refine AW.lift2 (fun _ _ _ _ k1 k2 => lv_if_eq (pc := 1368) (tgt := 1373) X.2.2.1 X.2.2.2.1 dL_law_1368 rfl k1 k2) (fun c => ?_) (fun c => ?_)
          · have hf := ite_t c hf
            exact w_L_law_j1373 GA Z v0 v1 (some a1340) v3 v4 v5  rc28 hrc28 (hl.sub [2, 3, 4, 5, 6, 7] rfl) hf
          · have hf := ite_f c hf
            refine AW.lift (fun _ _ _ _ k => lv_iconst (pc := 1371) (v := (0 : Int32)) X.2.2.1 X.2.2.2.1 dL_law_1371 rfl k) ?_
            exact a_zreturn X Z.2.2.1 rfl Z.2.2.2.1 dL_law_1372 hf
        · have hf := ite_f c hf
          exact w_L_law_j1373 GA Z v0 v1 (some a1340) v3 v4 v5  rc28 hrc28 (hl.sub [2, 3, 4, 5, 6, 7] rfl) hf
      · have hf := ite_f c hf
        refine AW.lift (fun _ _ _ _ k => lv_iconst (pc := 1354) (v := (0 : Int32)) X.2.2.1 X.2.2.2.1 dL_law_1354 rfl k) ?_
        exact a_zreturn X Z.2.2.1 rfl Z.2.2.2.1 dL_law_1355 hf
    have hf := ite_f c18 hf
    by_cases c19 : (x40 &&& (63 : Int32)) = (19 : Int32)
    · have hf := ite_t c19 hf
      refine AW.lift (fun _ _ _ _ k => lv_tableIn (pc := 44) (tgt := 1376) (off := 1332) X.2.2.1 X.2.2.2.1 dL_law_44 (by rw [c19]; decide) (by rw [c19]; decide) (by rw [c19]; rfl) rfl k) ?_
      refine a_aload_n (pc := 1376) X dL_law_1376 rfl hl 1 rfl ?_
      refine a_aload_n (pc := 1377) X dL_law_1377 rfl hl 0 rfl ?_
      refine a_iload (pc := 1378) X dL_law_1378 hl 5 rfl ?_
      refine AW.lift (fun _ _ _ _ k => lv_iconst (pc := 1380) (v := (1 : Int32)) X.2.2.1 X.2.2.2.1 dL_law_1380 rfl k) ?_
      refine AW.lift (fun _ _ _ _ k => lv_iadd (pc := 1381) X.2.2.1 X.2.2.2.1 dL_law_1381 k) ?_
      refine a_iaload (pc := 1382) X dL_law_1382 hf (fun x1382 hf => ?_)
      refine a_aload_n (pc := 1383) X dL_law_1383 rfl hl 0 rfl ?_
      refine a_iload (pc := 1384) X dL_law_1384 hl 5 rfl ?_
      refine AW.lift (fun _ _ _ _ k => lv_iconst (pc := 1386) (v := (2 : Int32)) X.2.2.1 X.2.2.2.1 dL_law_1386 rfl k) ?_
      refine AW.lift (fun _ _ _ _ k => lv_iadd (pc := 1387) X.2.2.1 X.2.2.2.1 dL_law_1387 k) ?_
      refine a_iaload (pc := 1388) X dL_law_1388 hf (fun x1388 hf => ?_)
      refine a_aload_n (pc := 1389) X dL_law_1389 rfl hl 3 rfl ?_
      refine a_callb (pc := 1390) (rs := []) (avs := [vR v1, vI x1382, vI x1388, vR v3]) Z.1 (w_X0_place GA v1 x1382 x1388 v3) (Or.inr (Or.inl ⟨_, rfl⟩)) q2361 q73 (by decide) (by decide) dL_law_1390 hl.1 (Nat.le_of_ble_eq_true rfl) hf (ct_S X (Or.inr (Or.inl ⟨_, rfl⟩)) q2361 q73 q2359 q2360 hy_X0_place np_X0_place rfl dL_law_1390) (fun q h he hX => absurd he (Z.2.1 q h)) (fun x1390 h hf => ?kk1390)
      refine AW.eq (g2 := F0 m 1393 ls [.int x1390]) rfl ?_
      refine a_istore (pc := 1393) X dL_law_1393 hl (by decide) (lv' := [(6, vI x1390), (0, vR v0), (1, vR v1), (2, vR v2), (3, vR v3), (4, vR v4), (5, vI v5)]) rfl (fun ls hl => ?_)
      refine a_aload_n (pc := 1395) X dL_law_1395 rfl hl 3 rfl ?_
      refine a_aload_n (pc := 1396) X dL_law_1396 rfl hl 1 rfl ?_
      refine a_iload (pc := 1397) X dL_law_1397 hl 6 rfl ?_
      refine AW.lift (fun _ _ _ _ k => lv_iconst (pc := 1399) (v := (1 : Int32)) X.2.2.1 X.2.2.2.1 dL_law_1399 rfl k) ?_
      refine AW.lift (fun _ _ _ _ k => lv_iadd (pc := 1400) X.2.2.1 X.2.2.2.1 dL_law_1400 k) ?_
      refine a_iaload (pc := 1401) X dL_law_1401 hf (fun x1401 hf => ?_)
      refine a_aload_n (pc := 1402) X dL_law_1402 rfl hl 1 rfl ?_
      refine a_iload (pc := 1403) X dL_law_1403 hl 6 rfl ?_
      refine AW.lift (fun _ _ _ _ k => lv_iconst (pc := 1405) (v := (2 : Int32)) X.2.2.1 X.2.2.2.1 dL_law_1405 rfl k) ?_
      refine AW.lift (fun _ _ _ _ k => lv_iadd (pc := 1406) X.2.2.1 X.2.2.2.1 dL_law_1406 k) ?_
      refine a_iaload (pc := 1407) X dL_law_1407 hf (fun x1407 hf => ?_)
      obtain ⟨a1408, rfl, ⟨hk, hf⟩ | ⟨-, hf⟩⟩ := dv_some hf
      rotate_left
      · exact fl_none hf
      refine a_callb (pc := 1408) (rs := []) (avs := [vR (some a1408), vI x1401, vI x1407]) Z.1 (w_X4_place GA (some a1408) x1401 x1407) (Or.inl rfl) q3291 q86 (by decide) (by decide) dL_law_1408 hl.1 (Nat.le_of_ble_eq_true rfl) hf (ct_V hk ⟨by decide, by decide⟩ X (Or.inl rfl) q3291 q3288 q3289 q3290 hy_X4_place np_X4_place rfl dL_law_1408) (fun q h he hX => absurd he (Z.2.1 q h)) (fun x1408 h hf => ?kk1408)
      refine AW.eq (g2 := F0 m 1411 ls [.int x1408]) rfl ?_
      refine a_istore (pc := 1411) X dL_law_1411 hl (by decide) (lv' := [(7, vI x1408), (6, vI x1390), (0, vR v0), (1, vR v1), (2, vR (some a1408)), (3, vR v3), (4, vR v4), (5, vI v5)]) rfl (fun ls hl => ?_)
      refine a_aload_n (pc := 1413) X dL_law_1413 rfl hl 4 rfl ?_
      rcases dv_someS hf with ⟨hk, hf⟩ | ⟨-, hf⟩
      rotate_left
      · exact fl_none hf
      refine a_callb (pc := 1414) (rs := []) (avs := [vR (some a1408)]) Z.1 (w_X4_thrown GA (some a1408)) (Or.inl rfl) q3104 q86 (by decide) (by decide) dL_law_1414 hl.1 (Nat.le_of_ble_eq_true rfl) hf (ct_V hk ⟨by decide, by decide⟩ X (Or.inl rfl) q3104 q3101 q3102 q3103 hy_X4_thrown np_X4_thrown rfl dL_law_1414) (fun q h he hX => absurd he (Z.2.1 q h)) (fun x1414 h hf => ?kk1414)
      refine AW.eq (g2 := F0 m 1417 ls [.int x1414]) rfl ?_
      refine a_iload (pc := 1417) X dL_law_1417 hl 1 rfl ?_
      refine AW.lift2 (fun _ _ _ _ k1 k2 => lv_icmp_eq (pc := 1419) (tgt := 1424) X.2.2.1 X.2.2.2.1 dL_law_1419 rfl k1 k2) (fun c => ?_) (fun c => ?_)
      · have hf := ite_t c hf
        refine a_iload (pc := 1424) X dL_law_1424 hl 1 rfl ?_
        refine AW.lift2 (fun _ _ _ _ k1 k2 => lv_if_ne (pc := 1426) (tgt := 1441) X.2.2.1 X.2.2.2.1 dL_law_1426 rfl k2 k1) (fun c => ?_) (fun c => ?_)
        · have hf := ite_t c hf
          refine a_aload_n (pc := 1429) X dL_law_1429 rfl hl 5 rfl ?_
          refine AW.lift (fun _ _ _ _ k => lv_iconst (pc := 1430) (v := (0 : Int32)) X.2.2.1 X.2.2.2.1 dL_law_1430 rfl k) ?_
          refine a_laload (pc := 1431) X dL_law_1431 hf (fun x1431 hf => ?_)
          refine a_iload (pc := 1432) X dL_law_1432 hl 0 rfl ?_
          refine AW.lift (fun _ _ _ _ k => lv_i2l (pc := 1434) X.2.2.1 X.2.2.2.1 dL_law_1434 rfl k) ?_
          refine AW.lift (fun _ _ _ _ k => W.lcmp (pc := 1435) X.2.2.1 X.2.2.2.1 dL_law_1435 k) ?_
          refine AW.lift2 (fun _ _ _ _ k1 k2 => lv_if_eq (pc := 1436) (tgt := 1441) X.2.2.1 X.2.2.2.1 dL_law_1436 rfl k1 k2) (fun c => ?_) (fun c => ?_)
          · have hf := ite_t c hf
            exact w_L_law_j1441 GA Z v0 v1 (some a1408) v3 v4 v5  rc28 hrc28 (hl.sub [2, 3, 4, 5, 6, 7] rfl) hf
          · have hf := ite_f c hf
            refine AW.lift (fun _ _ _ _ k => lv_iconst (pc := 1439) (v := (0 : Int32)) X.2.2.1 X.2.2.2.1 dL_law_1439 rfl k) ?_
            exact a_zreturn X Z.2.2.1 rfl Z.2.2.2.1 dL_law_1440 hf
        · have hf := ite_f c hf
          exact w_L_law_j1441 GA Z v0 v1 (some a1408) v3 v4 v5  rc28 hrc28 (hl.sub [2, 3, 4, 5, 6, 7] rfl) hf
      · have hf := ite_f c hf
        refine AW.lift (fun _ _ _ _ k => lv_iconst (pc := 1422) (v := (0 : Int32)) X.2.2.1 X.2.2.2.1 dL_law_1422 rfl k) ?_
        exact a_zreturn X Z.2.2.1 rfl Z.2.2.2.1 dL_law_1423 hf
    have hf := ite_f c19 hf
    by_cases c20 : (x40 &&& (63 : Int32)) = (20 : Int32)
    · have hf := ite_t c20 hf
      refine AW.lift (fun _ _ _ _ k => lv_tableIn (pc := 44) (tgt := 1444) (off := 1400) X.2.2.1 X.2.2.2.1 dL_law_44 (by rw [c20]; decide) (by rw [c20]; decide) (by rw [c20]; rfl) rfl k) ?_
      refine a_aload_n (pc := 1444) X dL_law_1444 rfl hl 1 rfl ?_
      refine a_aload_n (pc := 1445) X dL_law_1445 rfl hl 0 rfl ?_
      refine a_iload (pc := 1446) X dL_law_1446 hl 5 rfl ?_
      refine AW.lift (fun _ _ _ _ k => lv_iconst (pc := 1448) (v := (1 : Int32)) X.2.2.1 X.2.2.2.1 dL_law_1448 rfl k) ?_
      refine AW.lift (fun _ _ _ _ k => lv_iadd (pc := 1449) X.2.2.1 X.2.2.2.1 dL_law_1449 k) ?_
      refine a_iaload (pc := 1450) X dL_law_1450 hf (fun x1450 hf => ?_)
      refine a_aload_n (pc := 1451) X dL_law_1451 rfl hl 3 rfl ?_
      refine a_callb (pc := 1452) (rs := []) (avs := [vR v1, vI x1450, vR v3]) Z.1 (w_X0_at GA v1 x1450 v3) (Or.inr (Or.inl ⟨_, rfl⟩)) q2383 q73 (by decide) (by decide) dL_law_1452 hl.1 (Nat.le_of_ble_eq_true rfl) hf (ct_S X (Or.inr (Or.inl ⟨_, rfl⟩)) q2383 q73 q2381 q2382 hy_X0_at np_X0_at rfl dL_law_1452) (fun q h he hX => absurd he (Z.2.1 q h)) (fun x1452 h hf => ?kk1452)
      refine AW.eq (g2 := F0 m 1455 ls [.int x1452]) rfl ?_
      refine a_istore (pc := 1455) X dL_law_1455 hl (by decide) (lv' := [(6, vI x1452), (0, vR v0), (1, vR v1), (2, vR v2), (3, vR v3), (4, vR v4), (5, vI v5)]) rfl (fun ls hl => ?_)
      refine a_aload_n (pc := 1457) X dL_law_1457 rfl hl 3 rfl ?_
      refine a_aload_n (pc := 1458) X dL_law_1458 rfl hl 1 rfl ?_
      refine a_iload (pc := 1459) X dL_law_1459 hl 6 rfl ?_
      refine AW.lift (fun _ _ _ _ k => lv_iconst (pc := 1461) (v := (1 : Int32)) X.2.2.1 X.2.2.2.1 dL_law_1461 rfl k) ?_
      refine AW.lift (fun _ _ _ _ k => lv_iadd (pc := 1462) X.2.2.1 X.2.2.2.1 dL_law_1462 k) ?_
      refine a_iaload (pc := 1463) X dL_law_1463 hf (fun x1463 hf => ?_)
      obtain ⟨a1464, rfl, ⟨hk, hf⟩ | ⟨-, hf⟩⟩ := dv_some hf
      rotate_left
      · exact fl_none hf
      refine a_callb (pc := 1464) (rs := []) (avs := [vR (some a1464), vI x1463]) Z.1 (w_X4_at GA (some a1464) x1463) (Or.inl rfl) q3303 q86 (by decide) (by decide) dL_law_1464 hl.1 (Nat.le_of_ble_eq_true rfl) hf (ct_V hk ⟨by decide, by decide⟩ X (Or.inl rfl) q3303 q3300 q3301 q3302 hy_X4_at np_X4_at rfl dL_law_1464) (fun q h he hX => absurd he (Z.2.1 q h)) (fun x1464 h hf => ?kk1464)
      refine AW.eq (g2 := F0 m 1467 ls [.int x1464]) rfl ?_
      refine a_istore (pc := 1467) X dL_law_1467 hl (by decide) (lv' := [(7, vI x1464), (6, vI x1452), (0, vR v0), (1, vR v1), (2, vR (some a1464)), (3, vR v3), (4, vR v4), (5, vI v5)]) rfl (fun ls hl => ?_)
      refine a_aload_n (pc := 1469) X dL_law_1469 rfl hl 4 rfl ?_
      rcases dv_someS hf with ⟨hk, hf⟩ | ⟨-, hf⟩
      rotate_left
      · exact fl_none hf
      refine a_callb (pc := 1470) (rs := []) (avs := [vR (some a1464)]) Z.1 (w_X4_thrown GA (some a1464)) (Or.inl rfl) q3104 q86 (by decide) (by decide) dL_law_1470 hl.1 (Nat.le_of_ble_eq_true rfl) hf (ct_V hk ⟨by decide, by decide⟩ X (Or.inl rfl) q3104 q3101 q3102 q3103 hy_X4_thrown np_X4_thrown rfl dL_law_1470) (fun q h he hX => absurd he (Z.2.1 q h)) (fun x1470 h hf => ?kk1470)
      refine AW.eq (g2 := F0 m 1473 ls [.int x1470]) rfl ?_
      refine a_iload (pc := 1473) X dL_law_1473 hl 1 rfl ?_
      refine AW.lift2 (fun _ _ _ _ k1 k2 => lv_icmp_eq (pc := 1475) (tgt := 1480) X.2.2.1 X.2.2.2.1 dL_law_1475 rfl k1 k2) (fun c => ?_) (fun c => ?_)
      · have hf := ite_t c hf
        refine a_iload (pc := 1480) X dL_law_1480 hl 1 rfl ?_
        refine AW.lift2 (fun _ _ _ _ k1 k2 => lv_if_ne (pc := 1482) (tgt := 1497) X.2.2.1 X.2.2.2.1 dL_law_1482 rfl k2 k1) (fun c => ?_) (fun c => ?_)
        · have hf := ite_t c hf
          refine a_aload_n (pc := 1485) X dL_law_1485 rfl hl 5 rfl ?_
          refine AW.lift (fun _ _ _ _ k => lv_iconst (pc := 1486) (v := (0 : Int32)) X.2.2.1 X.2.2.2.1 dL_law_1486 rfl k) ?_
          refine a_laload (pc := 1487) X dL_law_1487 hf (fun x1487 hf => ?_)
          refine a_iload (pc := 1488) X dL_law_1488 hl 0 rfl ?_
          refine AW.lift (fun _ _ _ _ k => lv_i2l (pc := 1490) X.2.2.1 X.2.2.2.1 dL_law_1490 rfl k) ?_
          refine AW.lift (fun _ _ _ _ k => W.lcmp (pc := 1491) X.2.2.1 X.2.2.2.1 dL_law_1491 k) ?_
          refine AW.lift2 (fun _ _ _ _ k1 k2 => lv_if_eq (pc := 1492) (tgt := 1497) X.2.2.1 X.2.2.2.1 dL_law_1492 rfl k1 k2) (fun c => ?_) (fun c => ?_)
          · have hf := ite_t c hf
            exact w_L_law_j1497 GA Z v0 v1 (some a1464) v3 v4 v5  rc28 hrc28 (hl.sub [2, 3, 4, 5, 6, 7] rfl) hf
          · have hf := ite_f c hf
            refine AW.lift (fun _ _ _ _ k => lv_iconst (pc := 1495) (v := (0 : Int32)) X.2.2.1 X.2.2.2.1 dL_law_1495 rfl k) ?_
            exact a_zreturn X Z.2.2.1 rfl Z.2.2.2.1 dL_law_1496 hf
        · have hf := ite_f c hf
          exact w_L_law_j1497 GA Z v0 v1 (some a1464) v3 v4 v5  rc28 hrc28 (hl.sub [2, 3, 4, 5, 6, 7] rfl) hf
      · have hf := ite_f c hf
        refine AW.lift (fun _ _ _ _ k => lv_iconst (pc := 1478) (v := (0 : Int32)) X.2.2.1 X.2.2.2.1 dL_law_1478 rfl k) ?_
        exact a_zreturn X Z.2.2.1 rfl Z.2.2.2.1 dL_law_1479 hf
    have hf := ite_f c20 hf
    by_cases c21 : (x40 &&& (63 : Int32)) = (21 : Int32)
    · have hf := ite_t c21 hf
      refine AW.lift (fun _ _ _ _ k => lv_tableIn (pc := 44) (tgt := 1500) (off := 1456) X.2.2.1 X.2.2.2.1 dL_law_44 (by rw [c21]; decide) (by rw [c21]; decide) (by rw [c21]; rfl) rfl k) ?_
      refine a_aload_n (pc := 1500) X dL_law_1500 rfl hl 1 rfl ?_
      refine a_aload_n (pc := 1501) X dL_law_1501 rfl hl 0 rfl ?_
      refine a_iload (pc := 1502) X dL_law_1502 hl 5 rfl ?_
      refine AW.lift (fun _ _ _ _ k => lv_iconst (pc := 1504) (v := (1 : Int32)) X.2.2.1 X.2.2.2.1 dL_law_1504 rfl k) ?_
      refine AW.lift (fun _ _ _ _ k => lv_iadd (pc := 1505) X.2.2.1 X.2.2.2.1 dL_law_1505 k) ?_
      refine a_iaload (pc := 1506) X dL_law_1506 hf (fun x1506 hf => ?_)
      refine a_aload_n (pc := 1507) X dL_law_1507 rfl hl 0 rfl ?_
      refine a_iload (pc := 1508) X dL_law_1508 hl 5 rfl ?_
      refine AW.lift (fun _ _ _ _ k => lv_iconst (pc := 1510) (v := (2 : Int32)) X.2.2.1 X.2.2.2.1 dL_law_1510 rfl k) ?_
      refine AW.lift (fun _ _ _ _ k => lv_iadd (pc := 1511) X.2.2.1 X.2.2.2.1 dL_law_1511 k) ?_
      refine a_iaload (pc := 1512) X dL_law_1512 hf (fun x1512 hf => ?_)
      refine a_aload_n (pc := 1513) X dL_law_1513 rfl hl 0 rfl ?_
      refine a_iload (pc := 1514) X dL_law_1514 hl 5 rfl ?_
      refine AW.lift (fun _ _ _ _ k => lv_iconst (pc := 1516) (v := (3 : Int32)) X.2.2.1 X.2.2.2.1 dL_law_1516 rfl k) ?_
      refine AW.lift (fun _ _ _ _ k => lv_iadd (pc := 1517) X.2.2.1 X.2.2.2.1 dL_law_1517 k) ?_
      refine a_iaload (pc := 1518) X dL_law_1518 hf (fun x1518 hf => ?_)
      refine a_aload_n (pc := 1519) X dL_law_1519 rfl hl 0 rfl ?_
      refine a_iload (pc := 1520) X dL_law_1520 hl 5 rfl ?_
      refine AW.lift (fun _ _ _ _ k => lv_iconst (pc := 1522) (v := (4 : Int32)) X.2.2.1 X.2.2.2.1 dL_law_1522 rfl k) ?_
      refine AW.lift (fun _ _ _ _ k => lv_iadd (pc := 1523) X.2.2.1 X.2.2.2.1 dL_law_1523 k) ?_
      refine a_iaload (pc := 1524) X dL_law_1524 hf (fun x1524 hf => ?_)
      refine a_aload_n (pc := 1525) X dL_law_1525 rfl hl 3 rfl ?_
      refine a_callb (pc := 1526) (rs := []) (avs := [vR v1, vI x1506, vI x1512, vI x1518, vI x1524, vR v3]) Z.1 (w_X0_book GA v1 x1506 x1512 x1518 x1524 v3) (Or.inr (Or.inl ⟨_, rfl⟩)) q2392 q73 (by decide) (by decide) dL_law_1526 hl.1 (Nat.le_of_ble_eq_true rfl) hf (ct_S X (Or.inr (Or.inl ⟨_, rfl⟩)) q2392 q73 q2390 q2391 hy_X0_book np_X0_book rfl dL_law_1526) (fun q h he hX => absurd he (Z.2.1 q h)) (fun x1526 h hf => ?kk1526)
      refine AW.eq (g2 := F0 m 1529 ls [.int x1526]) rfl ?_
      refine a_istore (pc := 1529) X dL_law_1529 hl (by decide) (lv' := [(6, vI x1526), (0, vR v0), (1, vR v1), (2, vR v2), (3, vR v3), (4, vR v4), (5, vI v5)]) rfl (fun ls hl => ?_)
      refine a_aload_n (pc := 1531) X dL_law_1531 rfl hl 3 rfl ?_
      refine a_aload_n (pc := 1532) X dL_law_1532 rfl hl 1 rfl ?_
      refine a_iload (pc := 1533) X dL_law_1533 hl 6 rfl ?_
      refine AW.lift (fun _ _ _ _ k => lv_iconst (pc := 1535) (v := (1 : Int32)) X.2.2.1 X.2.2.2.1 dL_law_1535 rfl k) ?_
      refine AW.lift (fun _ _ _ _ k => lv_iadd (pc := 1536) X.2.2.1 X.2.2.2.1 dL_law_1536 k) ?_
      refine a_iaload (pc := 1537) X dL_law_1537 hf (fun x1537 hf => ?_)
      refine a_aload_n (pc := 1538) X dL_law_1538 rfl hl 1 rfl ?_
      refine a_iload (pc := 1539) X dL_law_1539 hl 6 rfl ?_
      refine AW.lift (fun _ _ _ _ k => lv_iconst (pc := 1541) (v := (2 : Int32)) X.2.2.1 X.2.2.2.1 dL_law_1541 rfl k) ?_
      refine AW.lift (fun _ _ _ _ k => lv_iadd (pc := 1542) X.2.2.1 X.2.2.2.1 dL_law_1542 k) ?_
      refine a_iaload (pc := 1543) X dL_law_1543 hf (fun x1543 hf => ?_)
      refine a_aload_n (pc := 1544) X dL_law_1544 rfl hl 1 rfl ?_
      refine a_iload (pc := 1545) X dL_law_1545 hl 6 rfl ?_
      refine AW.lift (fun _ _ _ _ k => lv_iconst (pc := 1547) (v := (3 : Int32)) X.2.2.1 X.2.2.2.1 dL_law_1547 rfl k) ?_
      refine AW.lift (fun _ _ _ _ k => lv_iadd (pc := 1548) X.2.2.1 X.2.2.2.1 dL_law_1548 k) ?_
      refine a_iaload (pc := 1549) X dL_law_1549 hf (fun x1549 hf => ?_)
      refine a_aload_n (pc := 1550) X dL_law_1550 rfl hl 1 rfl ?_
      refine a_iload (pc := 1551) X dL_law_1551 hl 6 rfl ?_
      refine AW.lift (fun _ _ _ _ k => lv_iconst (pc := 1553) (v := (4 : Int32)) X.2.2.1 X.2.2.2.1 dL_law_1553 rfl k) ?_
      refine AW.lift (fun _ _ _ _ k => lv_iadd (pc := 1554) X.2.2.1 X.2.2.2.1 dL_law_1554 k) ?_
      refine a_iaload (pc := 1555) X dL_law_1555 hf (fun x1555 hf => ?_)
      obtain ⟨a1556, rfl, ⟨hk, hf⟩ | ⟨-, hf⟩⟩ := dv_some hf
      rotate_left
      · exact fl_none hf
      refine a_callb (pc := 1556) (rs := []) (avs := [vR (some a1556), vI x1537, vI x1543, vI x1549, vI x1555]) Z.1 (w_X4_book GA (some a1556) x1537 x1543 x1549 x1555) (Or.inl rfl) q3307 q86 (by decide) (by decide) dL_law_1556 hl.1 (Nat.le_of_ble_eq_true rfl) hf (ct_V hk ⟨by decide, by decide⟩ X (Or.inl rfl) q3307 q3304 q3305 q3306 hy_X4_book np_X4_book rfl dL_law_1556) (fun q h he hX => absurd he (Z.2.1 q h)) (fun x1556 h hf => ?kk1556)
      refine AW.eq (g2 := F0 m 1559 ls [.int x1556]) rfl ?_
      refine a_istore (pc := 1559) X dL_law_1559 hl (by decide) (lv' := [(7, vI x1556), (6, vI x1526), (0, vR v0), (1, vR v1), (2, vR (some a1556)), (3, vR v3), (4, vR v4), (5, vI v5)]) rfl (fun ls hl => ?_)
      refine a_aload_n (pc := 1561) X dL_law_1561 rfl hl 4 rfl ?_
      rcases dv_someS hf with ⟨hk, hf⟩ | ⟨-, hf⟩
      rotate_left
      · exact fl_none hf
      refine a_callb (pc := 1562) (rs := []) (avs := [vR (some a1556)]) Z.1 (w_X4_thrown GA (some a1556)) (Or.inl rfl) q3104 q86 (by decide) (by decide) dL_law_1562 hl.1 (Nat.le_of_ble_eq_true rfl) hf (ct_V hk ⟨by decide, by decide⟩ X (Or.inl rfl) q3104 q3101 q3102 q3103 hy_X4_thrown np_X4_thrown rfl dL_law_1562) (fun q h he hX => absurd he (Z.2.1 q h)) (fun x1562 h hf => ?kk1562)
      refine AW.eq (g2 := F0 m 1565 ls [.int x1562]) rfl ?_
      refine a_iload (pc := 1565) X dL_law_1565 hl 1 rfl ?_
      refine AW.lift2 (fun _ _ _ _ k1 k2 => lv_icmp_eq (pc := 1567) (tgt := 1572) X.2.2.1 X.2.2.2.1 dL_law_1567 rfl k1 k2) (fun c => ?_) (fun c => ?_)
      · have hf := ite_t c hf
        refine a_iload (pc := 1572) X dL_law_1572 hl 1 rfl ?_
        refine AW.lift2 (fun _ _ _ _ k1 k2 => lv_if_ne (pc := 1574) (tgt := 1589) X.2.2.1 X.2.2.2.1 dL_law_1574 rfl k2 k1) (fun c => ?_) (fun c => ?_)
        · have hf := ite_t c hf
          refine a_aload_n (pc := 1577) X dL_law_1577 rfl hl 5 rfl ?_
          refine AW.lift (fun _ _ _ _ k => lv_iconst (pc := 1578) (v := (0 : Int32)) X.2.2.1 X.2.2.2.1 dL_law_1578 rfl k) ?_
          refine a_laload (pc := 1579) X dL_law_1579 hf (fun x1579 hf => ?_)
          refine a_iload (pc := 1580) X dL_law_1580 hl 0 rfl ?_
          refine AW.lift (fun _ _ _ _ k => lv_i2l (pc := 1582) X.2.2.1 X.2.2.2.1 dL_law_1582 rfl k) ?_
          refine AW.lift (fun _ _ _ _ k => W.lcmp (pc := 1583) X.2.2.1 X.2.2.2.1 dL_law_1583 k) ?_
          refine AW.lift2 (fun _ _ _ _ k1 k2 => lv_if_eq (pc := 1584) (tgt := 1589) X.2.2.1 X.2.2.2.1 dL_law_1584 rfl k1 k2) (fun c => ?_) (fun c => ?_)
          · have hf := ite_t c hf
            exact w_L_law_j1589 GA Z v0 v1 (some a1556) v3 v4 v5  rc28 hrc28 (hl.sub [2, 3, 4, 5, 6, 7] rfl) hf
          · have hf := ite_f c hf
            refine AW.lift (fun _ _ _ _ k => lv_iconst (pc := 1587) (v := (0 : Int32)) X.2.2.1 X.2.2.2.1 dL_law_1587 rfl k) ?_
            exact a_zreturn X Z.2.2.1 rfl Z.2.2.2.1 dL_law_1588 hf
        · have hf := ite_f c hf
          exact w_L_law_j1589 GA Z v0 v1 (some a1556) v3 v4 v5  rc28 hrc28 (hl.sub [2, 3, 4, 5, 6, 7] rfl) hf
      · have hf := ite_f c hf
        refine AW.lift (fun _ _ _ _ k => lv_iconst (pc := 1570) (v := (0 : Int32)) X.2.2.1 X.2.2.2.1 dL_law_1570 rfl k) ?_
        exact a_zreturn X Z.2.2.1 rfl Z.2.2.2.1 dL_law_1571 hf
    have hf := ite_f c21 hf
    by_cases c22 : (x40 &&& (63 : Int32)) = (22 : Int32)
    · have hf := ite_t c22 hf
      refine AW.lift (fun _ _ _ _ k => lv_tableIn (pc := 44) (tgt := 1592) (off := 1548) X.2.2.1 X.2.2.2.1 dL_law_44 (by rw [c22]; decide) (by rw [c22]; decide) (by rw [c22]; rfl) rfl k) ?_
      refine a_aload_n (pc := 1592) X dL_law_1592 rfl hl 1 rfl ?_
      refine a_aload_n (pc := 1593) X dL_law_1593 rfl hl 0 rfl ?_
      refine a_iload (pc := 1594) X dL_law_1594 hl 5 rfl ?_
      refine AW.lift (fun _ _ _ _ k => lv_iconst (pc := 1596) (v := (1 : Int32)) X.2.2.1 X.2.2.2.1 dL_law_1596 rfl k) ?_
      refine AW.lift (fun _ _ _ _ k => lv_iadd (pc := 1597) X.2.2.1 X.2.2.2.1 dL_law_1597 k) ?_
      refine a_iaload (pc := 1598) X dL_law_1598 hf (fun x1598 hf => ?_)
      refine a_aload_n (pc := 1599) X dL_law_1599 rfl hl 3 rfl ?_
      refine a_callb (pc := 1600) (rs := []) (avs := [vR v1, vI x1598, vR v3]) Z.1 (w_X0_cancel GA v1 x1598 v3) (Or.inr (Or.inl ⟨_, rfl⟩)) q2410 q73 (by decide) (by decide) dL_law_1600 hl.1 (Nat.le_of_ble_eq_true rfl) hf (ct_S X (Or.inr (Or.inl ⟨_, rfl⟩)) q2410 q73 q2408 q2409 hy_X0_cancel np_X0_cancel rfl dL_law_1600) (fun q h he hX => absurd he (Z.2.1 q h)) (fun x1600 h hf => ?kk1600)
      refine AW.eq (g2 := F0 m 1603 ls [.int x1600]) rfl ?_
      refine a_istore (pc := 1603) X dL_law_1603 hl (by decide) (lv' := [(6, vI x1600), (0, vR v0), (1, vR v1), (2, vR v2), (3, vR v3), (4, vR v4), (5, vI v5)]) rfl (fun ls hl => ?_)
      refine a_aload_n (pc := 1605) X dL_law_1605 rfl hl 3 rfl ?_
      refine a_aload_n (pc := 1606) X dL_law_1606 rfl hl 1 rfl ?_
      refine a_iload (pc := 1607) X dL_law_1607 hl 6 rfl ?_
      refine AW.lift (fun _ _ _ _ k => lv_iconst (pc := 1609) (v := (1 : Int32)) X.2.2.1 X.2.2.2.1 dL_law_1609 rfl k) ?_
      refine AW.lift (fun _ _ _ _ k => lv_iadd (pc := 1610) X.2.2.1 X.2.2.2.1 dL_law_1610 k) ?_
      refine a_iaload (pc := 1611) X dL_law_1611 hf (fun x1611 hf => ?_)
      obtain ⟨a1612, rfl, ⟨hk, hf⟩ | ⟨-, hf⟩⟩ := dv_some hf
      rotate_left
      · exact fl_none hf
      refine a_callb (pc := 1612) (rs := []) (avs := [vR (some a1612), vI x1611]) Z.1 (w_X4_cancel GA (some a1612) x1611) (Or.inl rfl) q3319 q86 (by decide) (by decide) dL_law_1612 hl.1 (Nat.le_of_ble_eq_true rfl) hf (ct_V hk ⟨by decide, by decide⟩ X (Or.inl rfl) q3319 q3316 q3317 q3318 hy_X4_cancel np_X4_cancel rfl dL_law_1612) (fun q h he hX => absurd he (Z.2.1 q h)) (fun x1612 h hf => ?kk1612)
      refine AW.eq (g2 := F0 m 1615 ls [.int x1612]) rfl ?_
      refine a_istore (pc := 1615) X dL_law_1615 hl (by decide) (lv' := [(7, vI x1612), (6, vI x1600), (0, vR v0), (1, vR v1), (2, vR (some a1612)), (3, vR v3), (4, vR v4), (5, vI v5)]) rfl (fun ls hl => ?_)
      refine a_aload_n (pc := 1617) X dL_law_1617 rfl hl 4 rfl ?_
      rcases dv_someS hf with ⟨hk, hf⟩ | ⟨-, hf⟩
      rotate_left
      · exact fl_none hf
      refine a_callb (pc := 1618) (rs := []) (avs := [vR (some a1612)]) Z.1 (w_X4_thrown GA (some a1612)) (Or.inl rfl) q3104 q86 (by decide) (by decide) dL_law_1618 hl.1 (Nat.le_of_ble_eq_true rfl) hf (ct_V hk ⟨by decide, by decide⟩ X (Or.inl rfl) q3104 q3101 q3102 q3103 hy_X4_thrown np_X4_thrown rfl dL_law_1618) (fun q h he hX => absurd he (Z.2.1 q h)) (fun x1618 h hf => ?kk1618)
      refine AW.eq (g2 := F0 m 1621 ls [.int x1618]) rfl ?_
      refine a_iload (pc := 1621) X dL_law_1621 hl 1 rfl ?_
      refine AW.lift2 (fun _ _ _ _ k1 k2 => lv_icmp_eq (pc := 1623) (tgt := 1628) X.2.2.1 X.2.2.2.1 dL_law_1623 rfl k1 k2) (fun c => ?_) (fun c => ?_)
      · have hf := ite_t c hf
        refine a_iload (pc := 1628) X dL_law_1628 hl 1 rfl ?_
        refine AW.lift2 (fun _ _ _ _ k1 k2 => lv_if_ne (pc := 1630) (tgt := 1645) X.2.2.1 X.2.2.2.1 dL_law_1630 rfl k2 k1) (fun c => ?_) (fun c => ?_)
        · have hf := ite_t c hf
          refine a_aload_n (pc := 1633) X dL_law_1633 rfl hl 5 rfl ?_
          refine AW.lift (fun _ _ _ _ k => lv_iconst (pc := 1634) (v := (0 : Int32)) X.2.2.1 X.2.2.2.1 dL_law_1634 rfl k) ?_
          refine a_laload (pc := 1635) X dL_law_1635 hf (fun x1635 hf => ?_)
          refine a_iload (pc := 1636) X dL_law_1636 hl 0 rfl ?_
          refine AW.lift (fun _ _ _ _ k => lv_i2l (pc := 1638) X.2.2.1 X.2.2.2.1 dL_law_1638 rfl k) ?_
          refine AW.lift (fun _ _ _ _ k => W.lcmp (pc := 1639) X.2.2.1 X.2.2.2.1 dL_law_1639 k) ?_
          refine AW.lift2 (fun _ _ _ _ k1 k2 => lv_if_eq (pc := 1640) (tgt := 1645) X.2.2.1 X.2.2.2.1 dL_law_1640 rfl k1 k2) (fun c => ?_) (fun c => ?_)
          · have hf := ite_t c hf
            exact w_L_law_j1645 GA Z v0 v1 (some a1612) v3 v4 v5  rc28 hrc28 (hl.sub [2, 3, 4, 5, 6, 7] rfl) hf
          · have hf := ite_f c hf
            refine AW.lift (fun _ _ _ _ k => lv_iconst (pc := 1643) (v := (0 : Int32)) X.2.2.1 X.2.2.2.1 dL_law_1643 rfl k) ?_
            exact a_zreturn X Z.2.2.1 rfl Z.2.2.2.1 dL_law_1644 hf
        · have hf := ite_f c hf
          exact w_L_law_j1645 GA Z v0 v1 (some a1612) v3 v4 v5  rc28 hrc28 (hl.sub [2, 3, 4, 5, 6, 7] rfl) hf
      · have hf := ite_f c hf
        refine AW.lift (fun _ _ _ _ k => lv_iconst (pc := 1626) (v := (0 : Int32)) X.2.2.1 X.2.2.2.1 dL_law_1626 rfl k) ?_
        exact a_zreturn X Z.2.2.1 rfl Z.2.2.2.1 dL_law_1627 hf
    have hf := ite_f c22 hf
    by_cases c23 : (x40 &&& (63 : Int32)) = (23 : Int32)
    · have hf := ite_t c23 hf
      refine AW.lift (fun _ _ _ _ k => lv_tableIn (pc := 44) (tgt := 1648) (off := 1604) X.2.2.1 X.2.2.2.1 dL_law_44 (by rw [c23]; decide) (by rw [c23]; decide) (by rw [c23]; rfl) rfl k) ?_
      refine a_aload_n (pc := 1648) X dL_law_1648 rfl hl 1 rfl ?_
      refine a_aload_n (pc := 1649) X dL_law_1649 rfl hl 0 rfl ?_
      refine a_iload (pc := 1650) X dL_law_1650 hl 5 rfl ?_
      refine AW.lift (fun _ _ _ _ k => lv_iconst (pc := 1652) (v := (1 : Int32)) X.2.2.1 X.2.2.2.1 dL_law_1652 rfl k) ?_
      refine AW.lift (fun _ _ _ _ k => lv_iadd (pc := 1653) X.2.2.1 X.2.2.2.1 dL_law_1653 k) ?_
      refine a_iaload (pc := 1654) X dL_law_1654 hf (fun x1654 hf => ?_)
      refine a_aload_n (pc := 1655) X dL_law_1655 rfl hl 0 rfl ?_
      refine a_iload (pc := 1656) X dL_law_1656 hl 5 rfl ?_
      refine AW.lift (fun _ _ _ _ k => lv_iconst (pc := 1658) (v := (2 : Int32)) X.2.2.1 X.2.2.2.1 dL_law_1658 rfl k) ?_
      refine AW.lift (fun _ _ _ _ k => lv_iadd (pc := 1659) X.2.2.1 X.2.2.2.1 dL_law_1659 k) ?_
      refine a_iaload (pc := 1660) X dL_law_1660 hf (fun x1660 hf => ?_)
      refine a_aload_n (pc := 1661) X dL_law_1661 rfl hl 3 rfl ?_
      refine a_callb (pc := 1662) (rs := []) (avs := [vR v1, vI x1654, vI x1660, vR v3]) Z.1 (w_X0_partyOf GA v1 x1654 x1660 v3) (Or.inr (Or.inl ⟨_, rfl⟩)) q2432 q73 (by decide) (by decide) dL_law_1662 hl.1 (Nat.le_of_ble_eq_true rfl) hf (ct_S X (Or.inr (Or.inl ⟨_, rfl⟩)) q2432 q73 q2430 q2431 hy_X0_partyOf np_X0_partyOf rfl dL_law_1662) (fun q h he hX => absurd he (Z.2.1 q h)) (fun x1662 h hf => ?kk1662)
      refine AW.eq (g2 := F0 m 1665 ls [.int x1662]) rfl ?_
      refine a_istore (pc := 1665) X dL_law_1665 hl (by decide) (lv' := [(6, vI x1662), (0, vR v0), (1, vR v1), (2, vR v2), (3, vR v3), (4, vR v4), (5, vI v5)]) rfl (fun ls hl => ?_)
      refine a_aload_n (pc := 1667) X dL_law_1667 rfl hl 3 rfl ?_
      refine a_aload_n (pc := 1668) X dL_law_1668 rfl hl 1 rfl ?_
      refine a_iload (pc := 1669) X dL_law_1669 hl 6 rfl ?_
      refine AW.lift (fun _ _ _ _ k => lv_iconst (pc := 1671) (v := (1 : Int32)) X.2.2.1 X.2.2.2.1 dL_law_1671 rfl k) ?_
      refine AW.lift (fun _ _ _ _ k => lv_iadd (pc := 1672) X.2.2.1 X.2.2.2.1 dL_law_1672 k) ?_
      refine a_iaload (pc := 1673) X dL_law_1673 hf (fun x1673 hf => ?_)
      refine a_aload_n (pc := 1674) X dL_law_1674 rfl hl 1 rfl ?_
      refine a_iload (pc := 1675) X dL_law_1675 hl 6 rfl ?_
      refine AW.lift (fun _ _ _ _ k => lv_iconst (pc := 1677) (v := (2 : Int32)) X.2.2.1 X.2.2.2.1 dL_law_1677 rfl k) ?_
      refine AW.lift (fun _ _ _ _ k => lv_iadd (pc := 1678) X.2.2.1 X.2.2.2.1 dL_law_1678 k) ?_
      refine a_iaload (pc := 1679) X dL_law_1679 hf (fun x1679 hf => ?_)
      obtain ⟨a1680, rfl, ⟨hk, hf⟩ | ⟨-, hf⟩⟩ := dv_some hf
      rotate_left
      · exact fl_none hf
      refine a_callb (pc := 1680) (rs := []) (avs := [vR (some a1680), vI x1673, vI x1679]) Z.1 (w_X4_partyOf GA (some a1680) x1673 x1679) (Or.inl rfl) q3327 q86 (by decide) (by decide) dL_law_1680 hl.1 (Nat.le_of_ble_eq_true rfl) hf (ct_V hk ⟨by decide, by decide⟩ X (Or.inl rfl) q3327 q3324 q3325 q3326 hy_X4_partyOf np_X4_partyOf rfl dL_law_1680) (fun q h he hX => absurd he (Z.2.1 q h)) (fun x1680 h hf => ?kk1680)
      refine AW.eq (g2 := F0 m 1683 ls [.int x1680]) rfl ?_
      refine a_istore (pc := 1683) X dL_law_1683 hl (by decide) (lv' := [(7, vI x1680), (6, vI x1662), (0, vR v0), (1, vR v1), (2, vR (some a1680)), (3, vR v3), (4, vR v4), (5, vI v5)]) rfl (fun ls hl => ?_)
      refine a_aload_n (pc := 1685) X dL_law_1685 rfl hl 4 rfl ?_
      rcases dv_someS hf with ⟨hk, hf⟩ | ⟨-, hf⟩
      rotate_left
      · exact fl_none hf
      refine a_callb (pc := 1686) (rs := []) (avs := [vR (some a1680)]) Z.1 (w_X4_thrown GA (some a1680)) (Or.inl rfl) q3104 q86 (by decide) (by decide) dL_law_1686 hl.1 (Nat.le_of_ble_eq_true rfl) hf (ct_V hk ⟨by decide, by decide⟩ X (Or.inl rfl) q3104 q3101 q3102 q3103 hy_X4_thrown np_X4_thrown rfl dL_law_1686) (fun q h he hX => absurd he (Z.2.1 q h)) (fun x1686 h hf => ?kk1686)
      refine AW.eq (g2 := F0 m 1689 ls [.int x1686]) rfl ?_
      refine a_iload (pc := 1689) X dL_law_1689 hl 1 rfl ?_
      refine AW.lift2 (fun _ _ _ _ k1 k2 => lv_icmp_eq (pc := 1691) (tgt := 1696) X.2.2.1 X.2.2.2.1 dL_law_1691 rfl k1 k2) (fun c => ?_) (fun c => ?_)
      · have hf := ite_t c hf
        refine a_iload (pc := 1696) X dL_law_1696 hl 1 rfl ?_
        refine AW.lift2 (fun _ _ _ _ k1 k2 => lv_if_ne (pc := 1698) (tgt := 1713) X.2.2.1 X.2.2.2.1 dL_law_1698 rfl k2 k1) (fun c => ?_) (fun c => ?_)
        · have hf := ite_t c hf
          refine a_aload_n (pc := 1701) X dL_law_1701 rfl hl 5 rfl ?_
          refine AW.lift (fun _ _ _ _ k => lv_iconst (pc := 1702) (v := (0 : Int32)) X.2.2.1 X.2.2.2.1 dL_law_1702 rfl k) ?_
          refine a_laload (pc := 1703) X dL_law_1703 hf (fun x1703 hf => ?_)
          refine a_iload (pc := 1704) X dL_law_1704 hl 0 rfl ?_
          refine AW.lift (fun _ _ _ _ k => lv_i2l (pc := 1706) X.2.2.1 X.2.2.2.1 dL_law_1706 rfl k) ?_
          refine AW.lift (fun _ _ _ _ k => W.lcmp (pc := 1707) X.2.2.1 X.2.2.2.1 dL_law_1707 k) ?_
          refine AW.lift2 (fun _ _ _ _ k1 k2 => lv_if_eq (pc := 1708) (tgt := 1713) X.2.2.1 X.2.2.2.1 dL_law_1708 rfl k1 k2) (fun c => ?_) (fun c => ?_)
          · have hf := ite_t c hf
            exact w_L_law_j1713 GA Z v0 v1 (some a1680) v3 v4 v5  rc28 hrc28 (hl.sub [2, 3, 4, 5, 6, 7] rfl) hf
          · have hf := ite_f c hf
            refine AW.lift (fun _ _ _ _ k => lv_iconst (pc := 1711) (v := (0 : Int32)) X.2.2.1 X.2.2.2.1 dL_law_1711 rfl k) ?_
            exact a_zreturn X Z.2.2.1 rfl Z.2.2.2.1 dL_law_1712 hf
        · have hf := ite_f c hf
          exact w_L_law_j1713 GA Z v0 v1 (some a1680) v3 v4 v5  rc28 hrc28 (hl.sub [2, 3, 4, 5, 6, 7] rfl) hf
      · have hf := ite_f c hf
        refine AW.lift (fun _ _ _ _ k => lv_iconst (pc := 1694) (v := (0 : Int32)) X.2.2.1 X.2.2.2.1 dL_law_1694 rfl k) ?_
        exact a_zreturn X Z.2.2.1 rfl Z.2.2.2.1 dL_law_1695 hf
    have hf := ite_f c23 hf
    by_cases c24 : (x40 &&& (63 : Int32)) = (24 : Int32)
    · have hf := ite_t c24 hf
      refine AW.lift (fun _ _ _ _ k => lv_tableIn (pc := 44) (tgt := 1716) (off := 1672) X.2.2.1 X.2.2.2.1 dL_law_44 (by rw [c24]; decide) (by rw [c24]; decide) (by rw [c24]; rfl) rfl k) ?_
      refine a_aload_n (pc := 1716) X dL_law_1716 rfl hl 1 rfl ?_
      refine a_aload_n (pc := 1717) X dL_law_1717 rfl hl 3 rfl ?_
      refine a_callb (pc := 1718) (rs := []) (avs := [vR v1, vR v3]) Z.1 (w_X0_nextParty GA v1 v3) (Or.inr (Or.inl ⟨_, rfl⟩)) q2439 q73 (by decide) (by decide) dL_law_1718 hl.1 (Nat.le_of_ble_eq_true rfl) hf (ct_S X (Or.inr (Or.inl ⟨_, rfl⟩)) q2439 q73 q2437 q2438 hy_X0_nextParty np_X0_nextParty rfl dL_law_1718) (fun q h he hX => absurd he (Z.2.1 q h)) (fun x1718 h hf => ?kk1718)
      refine AW.eq (g2 := F0 m 1721 ls [.int x1718]) rfl ?_
      refine a_istore (pc := 1721) X dL_law_1721 hl (by decide) (lv' := [(6, vI x1718), (0, vR v0), (1, vR v1), (2, vR v2), (3, vR v3), (4, vR v4), (5, vI v5)]) rfl (fun ls hl => ?_)
      refine a_aload_n (pc := 1723) X dL_law_1723 rfl hl 3 rfl ?_
      obtain ⟨a1724, rfl, ⟨hk, hf⟩ | ⟨-, hf⟩⟩ := dv_some hf
      rotate_left
      · exact fl_none hf
      refine a_callb (pc := 1724) (rs := []) (avs := [vR (some a1724)]) Z.1 (w_X4_nextParty GA (some a1724)) (Or.inl rfl) q3332 q86 (by decide) (by decide) dL_law_1724 hl.1 (Nat.le_of_ble_eq_true rfl) hf (ct_V hk ⟨by decide, by decide⟩ X (Or.inl rfl) q3332 q3329 q3330 q3331 hy_X4_nextParty np_X4_nextParty rfl dL_law_1724) (fun q h he hX => absurd he (Z.2.1 q h)) (fun x1724 h hf => ?kk1724)
      refine AW.eq (g2 := F0 m 1727 ls [.int x1724]) rfl ?_
      refine a_istore (pc := 1727) X dL_law_1727 hl (by decide) (lv' := [(7, vI x1724), (6, vI x1718), (0, vR v0), (1, vR v1), (2, vR (some a1724)), (3, vR v3), (4, vR v4), (5, vI v5)]) rfl (fun ls hl => ?_)
      refine a_aload_n (pc := 1729) X dL_law_1729 rfl hl 4 rfl ?_
      rcases dv_someS hf with ⟨hk, hf⟩ | ⟨-, hf⟩
      rotate_left
      · exact fl_none hf
      refine a_callb (pc := 1730) (rs := []) (avs := [vR (some a1724)]) Z.1 (w_X4_thrown GA (some a1724)) (Or.inl rfl) q3104 q86 (by decide) (by decide) dL_law_1730 hl.1 (Nat.le_of_ble_eq_true rfl) hf (ct_V hk ⟨by decide, by decide⟩ X (Or.inl rfl) q3104 q3101 q3102 q3103 hy_X4_thrown np_X4_thrown rfl dL_law_1730) (fun q h he hX => absurd he (Z.2.1 q h)) (fun x1730 h hf => ?kk1730)
      refine AW.eq (g2 := F0 m 1733 ls [.int x1730]) rfl ?_
      refine a_iload (pc := 1733) X dL_law_1733 hl 1 rfl ?_
      refine AW.lift2 (fun _ _ _ _ k1 k2 => lv_icmp_eq (pc := 1735) (tgt := 1740) X.2.2.1 X.2.2.2.1 dL_law_1735 rfl k1 k2) (fun c => ?_) (fun c => ?_)
      · have hf := ite_t c hf
        refine a_iload (pc := 1740) X dL_law_1740 hl 1 rfl ?_
        refine AW.lift2 (fun _ _ _ _ k1 k2 => lv_if_ne (pc := 1742) (tgt := 1757) X.2.2.1 X.2.2.2.1 dL_law_1742 rfl k2 k1) (fun c => ?_) (fun c => ?_)
        · have hf := ite_t c hf
          refine a_aload_n (pc := 1745) X dL_law_1745 rfl hl 5 rfl ?_
          refine AW.lift (fun _ _ _ _ k => lv_iconst (pc := 1746) (v := (0 : Int32)) X.2.2.1 X.2.2.2.1 dL_law_1746 rfl k) ?_
          refine a_laload (pc := 1747) X dL_law_1747 hf (fun x1747 hf => ?_)
          refine a_iload (pc := 1748) X dL_law_1748 hl 0 rfl ?_
          refine AW.lift (fun _ _ _ _ k => lv_i2l (pc := 1750) X.2.2.1 X.2.2.2.1 dL_law_1750 rfl k) ?_
          refine AW.lift (fun _ _ _ _ k => W.lcmp (pc := 1751) X.2.2.1 X.2.2.2.1 dL_law_1751 k) ?_
          refine AW.lift2 (fun _ _ _ _ k1 k2 => lv_if_eq (pc := 1752) (tgt := 1757) X.2.2.1 X.2.2.2.1 dL_law_1752 rfl k1 k2) (fun c => ?_) (fun c => ?_)
          · have hf := ite_t c hf
            exact w_L_law_j1757 GA Z v0 v1 (some a1724) v3 v4 v5  rc28 hrc28 (hl.sub [2, 3, 4, 5, 6, 7] rfl) hf
          · have hf := ite_f c hf
            refine AW.lift (fun _ _ _ _ k => lv_iconst (pc := 1755) (v := (0 : Int32)) X.2.2.1 X.2.2.2.1 dL_law_1755 rfl k) ?_
            exact a_zreturn X Z.2.2.1 rfl Z.2.2.2.1 dL_law_1756 hf
        · have hf := ite_f c hf
          exact w_L_law_j1757 GA Z v0 v1 (some a1724) v3 v4 v5  rc28 hrc28 (hl.sub [2, 3, 4, 5, 6, 7] rfl) hf
      · have hf := ite_f c hf
        refine AW.lift (fun _ _ _ _ k => lv_iconst (pc := 1738) (v := (0 : Int32)) X.2.2.1 X.2.2.2.1 dL_law_1738 rfl k) ?_
        exact a_zreturn X Z.2.2.1 rfl Z.2.2.2.1 dL_law_1739 hf
    have hf := ite_f c24 hf
    by_cases c25 : (x40 &&& (63 : Int32)) = (25 : Int32)
    · have hf := ite_t c25 hf
      refine AW.lift (fun _ _ _ _ k => lv_tableIn (pc := 44) (tgt := 1760) (off := 1716) X.2.2.1 X.2.2.2.1 dL_law_44 (by rw [c25]; decide) (by rw [c25]; decide) (by rw [c25]; rfl) rfl k) ?_
      refine a_aload_n (pc := 1760) X dL_law_1760 rfl hl 1 rfl ?_
      refine a_aload_n (pc := 1761) X dL_law_1761 rfl hl 0 rfl ?_
      refine a_iload (pc := 1762) X dL_law_1762 hl 5 rfl ?_
      refine AW.lift (fun _ _ _ _ k => lv_iconst (pc := 1764) (v := (1 : Int32)) X.2.2.1 X.2.2.2.1 dL_law_1764 rfl k) ?_
      refine AW.lift (fun _ _ _ _ k => lv_iadd (pc := 1765) X.2.2.1 X.2.2.2.1 dL_law_1765 k) ?_
      refine a_iaload (pc := 1766) X dL_law_1766 hf (fun x1766 hf => ?_)
      refine a_aload_n (pc := 1767) X dL_law_1767 rfl hl 3 rfl ?_
      refine a_callb (pc := 1768) (rs := []) (avs := [vR v1, vI x1766, vR v3]) Z.1 (w_X0_pass GA v1 x1766 v3) (Or.inr (Or.inl ⟨_, rfl⟩)) q2450 q73 (by decide) (by decide) dL_law_1768 hl.1 (Nat.le_of_ble_eq_true rfl) hf (ct_S X (Or.inr (Or.inl ⟨_, rfl⟩)) q2450 q73 q2448 q2449 hy_X0_pass np_X0_pass rfl dL_law_1768) (fun q h he hX => absurd he (Z.2.1 q h)) (fun x1768 h hf => ?kk1768)
      refine AW.eq (g2 := F0 m 1771 ls [.int x1768]) rfl ?_
      refine a_istore (pc := 1771) X dL_law_1771 hl (by decide) (lv' := [(6, vI x1768), (0, vR v0), (1, vR v1), (2, vR v2), (3, vR v3), (4, vR v4), (5, vI v5)]) rfl (fun ls hl => ?_)
      refine a_aload_n (pc := 1773) X dL_law_1773 rfl hl 3 rfl ?_
      refine a_aload_n (pc := 1774) X dL_law_1774 rfl hl 1 rfl ?_
      refine a_iload (pc := 1775) X dL_law_1775 hl 6 rfl ?_
      refine AW.lift (fun _ _ _ _ k => lv_iconst (pc := 1777) (v := (1 : Int32)) X.2.2.1 X.2.2.2.1 dL_law_1777 rfl k) ?_
      refine AW.lift (fun _ _ _ _ k => lv_iadd (pc := 1778) X.2.2.1 X.2.2.2.1 dL_law_1778 k) ?_
      refine a_iaload (pc := 1779) X dL_law_1779 hf (fun x1779 hf => ?_)
      obtain ⟨a1780, rfl, ⟨hk, hf⟩ | ⟨-, hf⟩⟩ := dv_some hf
      rotate_left
      · exact fl_none hf
      refine a_callb (pc := 1780) (rs := []) (avs := [vR (some a1780), vI x1779]) Z.1 (w_X4_pass GA (some a1780) x1779) (Or.inl rfl) q3336 q86 (by decide) (by decide) dL_law_1780 hl.1 (Nat.le_of_ble_eq_true rfl) hf (ct_V hk ⟨by decide, by decide⟩ X (Or.inl rfl) q3336 q3333 q3334 q3335 hy_X4_pass np_X4_pass rfl dL_law_1780) (fun q h he hX => absurd he (Z.2.1 q h)) (fun x1780 h hf => ?kk1780)
      refine AW.eq (g2 := F0 m 1783 ls [.int x1780]) rfl ?_
      refine a_istore (pc := 1783) X dL_law_1783 hl (by decide) (lv' := [(7, vI x1780), (6, vI x1768), (0, vR v0), (1, vR v1), (2, vR (some a1780)), (3, vR v3), (4, vR v4), (5, vI v5)]) rfl (fun ls hl => ?_)
      refine a_aload_n (pc := 1785) X dL_law_1785 rfl hl 4 rfl ?_
      rcases dv_someS hf with ⟨hk, hf⟩ | ⟨-, hf⟩
      rotate_left
      · exact fl_none hf
      refine a_callb (pc := 1786) (rs := []) (avs := [vR (some a1780)]) Z.1 (w_X4_thrown GA (some a1780)) (Or.inl rfl) q3104 q86 (by decide) (by decide) dL_law_1786 hl.1 (Nat.le_of_ble_eq_true rfl) hf (ct_V hk ⟨by decide, by decide⟩ X (Or.inl rfl) q3104 q3101 q3102 q3103 hy_X4_thrown np_X4_thrown rfl dL_law_1786) (fun q h he hX => absurd he (Z.2.1 q h)) (fun x1786 h hf => ?kk1786)
      refine AW.eq (g2 := F0 m 1789 ls [.int x1786]) rfl ?_
      refine a_iload (pc := 1789) X dL_law_1789 hl 1 rfl ?_
      refine AW.lift2 (fun _ _ _ _ k1 k2 => lv_icmp_eq (pc := 1791) (tgt := 1796) X.2.2.1 X.2.2.2.1 dL_law_1791 rfl k1 k2) (fun c => ?_) (fun c => ?_)
      · have hf := ite_t c hf
        refine a_iload (pc := 1796) X dL_law_1796 hl 1 rfl ?_
        refine AW.lift2 (fun _ _ _ _ k1 k2 => lv_if_ne (pc := 1798) (tgt := 1813) X.2.2.1 X.2.2.2.1 dL_law_1798 rfl k2 k1) (fun c => ?_) (fun c => ?_)
        · have hf := ite_t c hf
          refine a_aload_n (pc := 1801) X dL_law_1801 rfl hl 5 rfl ?_
          refine AW.lift (fun _ _ _ _ k => lv_iconst (pc := 1802) (v := (0 : Int32)) X.2.2.1 X.2.2.2.1 dL_law_1802 rfl k) ?_
          refine a_laload (pc := 1803) X dL_law_1803 hf (fun x1803 hf => ?_)
          refine a_iload (pc := 1804) X dL_law_1804 hl 0 rfl ?_
          refine AW.lift (fun _ _ _ _ k => lv_i2l (pc := 1806) X.2.2.1 X.2.2.2.1 dL_law_1806 rfl k) ?_
          refine AW.lift (fun _ _ _ _ k => W.lcmp (pc := 1807) X.2.2.1 X.2.2.2.1 dL_law_1807 k) ?_
          refine AW.lift2 (fun _ _ _ _ k1 k2 => lv_if_eq (pc := 1808) (tgt := 1813) X.2.2.1 X.2.2.2.1 dL_law_1808 rfl k1 k2) (fun c => ?_) (fun c => ?_)
          · have hf := ite_t c hf
            exact w_L_law_j1813 GA Z v0 v1 (some a1780) v3 v4 v5  rc28 hrc28 (hl.sub [2, 3, 4, 5, 6, 7] rfl) hf
          · have hf := ite_f c hf
            refine AW.lift (fun _ _ _ _ k => lv_iconst (pc := 1811) (v := (0 : Int32)) X.2.2.1 X.2.2.2.1 dL_law_1811 rfl k) ?_
            exact a_zreturn X Z.2.2.1 rfl Z.2.2.2.1 dL_law_1812 hf
        · have hf := ite_f c hf
          exact w_L_law_j1813 GA Z v0 v1 (some a1780) v3 v4 v5  rc28 hrc28 (hl.sub [2, 3, 4, 5, 6, 7] rfl) hf
      · have hf := ite_f c hf
        refine AW.lift (fun _ _ _ _ k => lv_iconst (pc := 1794) (v := (0 : Int32)) X.2.2.1 X.2.2.2.1 dL_law_1794 rfl k) ?_
        exact a_zreturn X Z.2.2.1 rfl Z.2.2.2.1 dL_law_1795 hf
    have hf := ite_f c25 hf
    by_cases c26 : (x40 &&& (63 : Int32)) = (26 : Int32)
    · have hf := ite_t c26 hf
      refine AW.lift (fun _ _ _ _ k => lv_tableIn (pc := 44) (tgt := 1816) (off := 1772) X.2.2.1 X.2.2.2.1 dL_law_44 (by rw [c26]; decide) (by rw [c26]; decide) (by rw [c26]; rfl) rfl k) ?_
      refine a_aload_n (pc := 1816) X dL_law_1816 rfl hl 1 rfl ?_
      refine a_aload_n (pc := 1817) X dL_law_1817 rfl hl 0 rfl ?_
      refine a_iload (pc := 1818) X dL_law_1818 hl 5 rfl ?_
      refine AW.lift (fun _ _ _ _ k => lv_iconst (pc := 1820) (v := (1 : Int32)) X.2.2.1 X.2.2.2.1 dL_law_1820 rfl k) ?_
      refine AW.lift (fun _ _ _ _ k => lv_iadd (pc := 1821) X.2.2.1 X.2.2.2.1 dL_law_1821 k) ?_
      refine a_iaload (pc := 1822) X dL_law_1822 hf (fun x1822 hf => ?_)
      refine a_aload_n (pc := 1823) X dL_law_1823 rfl hl 3 rfl ?_
      refine a_callb (pc := 1824) (rs := []) (avs := [vR v1, vI x1822, vR v3]) Z.1 (w_X0_tell GA v1 x1822 v3) (Or.inr (Or.inl ⟨_, rfl⟩)) q2480 q73 (by decide) (by decide) dL_law_1824 hl.1 (Nat.le_of_ble_eq_true rfl) hf (ct_S X (Or.inr (Or.inl ⟨_, rfl⟩)) q2480 q73 q2478 q2479 hy_X0_tell np_X0_tell rfl dL_law_1824) (fun q h he hX => absurd he (Z.2.1 q h)) (fun x1824 h hf => ?kk1824)
      refine AW.eq (g2 := F0 m 1827 ls [.int x1824]) rfl ?_
      refine a_istore (pc := 1827) X dL_law_1827 hl (by decide) (lv' := [(6, vI x1824), (0, vR v0), (1, vR v1), (2, vR v2), (3, vR v3), (4, vR v4), (5, vI v5)]) rfl (fun ls hl => ?_)
      refine a_aload_n (pc := 1829) X dL_law_1829 rfl hl 3 rfl ?_
      refine a_aload_n (pc := 1830) X dL_law_1830 rfl hl 1 rfl ?_
      refine a_iload (pc := 1831) X dL_law_1831 hl 6 rfl ?_
      refine AW.lift (fun _ _ _ _ k => lv_iconst (pc := 1833) (v := (1 : Int32)) X.2.2.1 X.2.2.2.1 dL_law_1833 rfl k) ?_
      refine AW.lift (fun _ _ _ _ k => lv_iadd (pc := 1834) X.2.2.1 X.2.2.2.1 dL_law_1834 k) ?_
      refine a_iaload (pc := 1835) X dL_law_1835 hf (fun x1835 hf => ?_)
      obtain ⟨a1836, rfl, ⟨hk, hf⟩ | ⟨-, hf⟩⟩ := dv_some hf
      rotate_left
      · exact fl_none hf
      refine a_callb (pc := 1836) (rs := []) (avs := [vR (some a1836), vI x1835]) Z.1 (w_X4_tell GA (some a1836) x1835) (Or.inl rfl) q3365 q86 (by decide) (by decide) dL_law_1836 hl.1 (Nat.le_of_ble_eq_true rfl) hf (ct_V hk ⟨by decide, by decide⟩ X (Or.inl rfl) q3365 q3362 q3363 q3364 hy_X4_tell np_X4_tell rfl dL_law_1836) (fun q h he hX => absurd he (Z.2.1 q h)) (fun x1836 h hf => ?kk1836)
      refine AW.eq (g2 := F0 m 1839 ls [.int x1836]) rfl ?_
      refine a_istore (pc := 1839) X dL_law_1839 hl (by decide) (lv' := [(7, vI x1836), (6, vI x1824), (0, vR v0), (1, vR v1), (2, vR (some a1836)), (3, vR v3), (4, vR v4), (5, vI v5)]) rfl (fun ls hl => ?_)
      refine a_aload_n (pc := 1841) X dL_law_1841 rfl hl 4 rfl ?_
      rcases dv_someS hf with ⟨hk, hf⟩ | ⟨-, hf⟩
      rotate_left
      · exact fl_none hf
      refine a_callb (pc := 1842) (rs := []) (avs := [vR (some a1836)]) Z.1 (w_X4_thrown GA (some a1836)) (Or.inl rfl) q3104 q86 (by decide) (by decide) dL_law_1842 hl.1 (Nat.le_of_ble_eq_true rfl) hf (ct_V hk ⟨by decide, by decide⟩ X (Or.inl rfl) q3104 q3101 q3102 q3103 hy_X4_thrown np_X4_thrown rfl dL_law_1842) (fun q h he hX => absurd he (Z.2.1 q h)) (fun x1842 h hf => ?kk1842)
      refine AW.eq (g2 := F0 m 1845 ls [.int x1842]) rfl ?_
      refine a_iload (pc := 1845) X dL_law_1845 hl 1 rfl ?_
      refine AW.lift2 (fun _ _ _ _ k1 k2 => lv_icmp_eq (pc := 1847) (tgt := 1852) X.2.2.1 X.2.2.2.1 dL_law_1847 rfl k1 k2) (fun c => ?_) (fun c => ?_)
      · have hf := ite_t c hf
        refine a_iload (pc := 1852) X dL_law_1852 hl 1 rfl ?_
        refine AW.lift2 (fun _ _ _ _ k1 k2 => lv_if_ne (pc := 1854) (tgt := 1869) X.2.2.1 X.2.2.2.1 dL_law_1854 rfl k2 k1) (fun c => ?_) (fun c => ?_)
        · have hf := ite_t c hf
          refine a_aload_n (pc := 1857) X dL_law_1857 rfl hl 5 rfl ?_
          refine AW.lift (fun _ _ _ _ k => lv_iconst (pc := 1858) (v := (0 : Int32)) X.2.2.1 X.2.2.2.1 dL_law_1858 rfl k) ?_
          refine a_laload (pc := 1859) X dL_law_1859 hf (fun x1859 hf => ?_)
          refine a_iload (pc := 1860) X dL_law_1860 hl 0 rfl ?_
          refine AW.lift (fun _ _ _ _ k => lv_i2l (pc := 1862) X.2.2.1 X.2.2.2.1 dL_law_1862 rfl k) ?_
          refine AW.lift (fun _ _ _ _ k => W.lcmp (pc := 1863) X.2.2.1 X.2.2.2.1 dL_law_1863 k) ?_
          refine AW.lift2 (fun _ _ _ _ k1 k2 => lv_if_eq (pc := 1864) (tgt := 1869) X.2.2.1 X.2.2.2.1 dL_law_1864 rfl k1 k2) (fun c => ?_) (fun c => ?_)
          · have hf := ite_t c hf
            exact w_L_law_j1869 GA Z v0 v1 (some a1836) v3 v4 v5  rc28 hrc28 (hl.sub [2, 3, 4, 5, 6, 7] rfl) hf
          · have hf := ite_f c hf
            refine AW.lift (fun _ _ _ _ k => lv_iconst (pc := 1867) (v := (0 : Int32)) X.2.2.1 X.2.2.2.1 dL_law_1867 rfl k) ?_
            exact a_zreturn X Z.2.2.1 rfl Z.2.2.2.1 dL_law_1868 hf
        · have hf := ite_f c hf
          exact w_L_law_j1869 GA Z v0 v1 (some a1836) v3 v4 v5  rc28 hrc28 (hl.sub [2, 3, 4, 5, 6, 7] rfl) hf
      · have hf := ite_f c hf
        refine AW.lift (fun _ _ _ _ k => lv_iconst (pc := 1850) (v := (0 : Int32)) X.2.2.1 X.2.2.2.1 dL_law_1850 rfl k) ?_
        exact a_zreturn X Z.2.2.1 rfl Z.2.2.2.1 dL_law_1851 hf
    have hf := ite_f c26 hf
    by_cases c27 : (x40 &&& (63 : Int32)) = (27 : Int32)
    · have hf := ite_t c27 hf
      refine AW.lift (fun _ _ _ _ k => lv_tableIn (pc := 44) (tgt := 1872) (off := 1828) X.2.2.1 X.2.2.2.1 dL_law_44 (by rw [c27]; decide) (by rw [c27]; decide) (by rw [c27]; rfl) rfl k) ?_
      refine a_aload_n (pc := 1872) X dL_law_1872 rfl hl 1 rfl ?_
      refine a_aload_n (pc := 1873) X dL_law_1873 rfl hl 0 rfl ?_
      refine a_iload (pc := 1874) X dL_law_1874 hl 5 rfl ?_
      refine AW.lift (fun _ _ _ _ k => lv_iconst (pc := 1876) (v := (1 : Int32)) X.2.2.1 X.2.2.2.1 dL_law_1876 rfl k) ?_
      refine AW.lift (fun _ _ _ _ k => lv_iadd (pc := 1877) X.2.2.1 X.2.2.2.1 dL_law_1877 k) ?_
      refine a_iaload (pc := 1878) X dL_law_1878 hf (fun x1878 hf => ?_)
      refine a_aload_n (pc := 1879) X dL_law_1879 rfl hl 3 rfl ?_
      refine a_callb (pc := 1880) (rs := []) (avs := [vR v1, vI x1878, vR v3]) Z.1 (w_X0_character GA v1 x1878 v3) (Or.inr (Or.inl ⟨_, rfl⟩)) q2570 q73 (by decide) (by decide) dL_law_1880 hl.1 (Nat.le_of_ble_eq_true rfl) hf (ct_S X (Or.inr (Or.inl ⟨_, rfl⟩)) q2570 q73 q2568 q2569 hy_X0_character np_X0_character rfl dL_law_1880) (fun q h he hX => absurd he (Z.2.1 q h)) (fun x1880 h hf => ?kk1880)
      refine AW.eq (g2 := F0 m 1883 ls [.int x1880]) rfl ?_
      refine a_istore (pc := 1883) X dL_law_1883 hl (by decide) (lv' := [(6, vI x1880), (0, vR v0), (1, vR v1), (2, vR v2), (3, vR v3), (4, vR v4), (5, vI v5)]) rfl (fun ls hl => ?_)
      refine a_aload_n (pc := 1885) X dL_law_1885 rfl hl 3 rfl ?_
      refine a_aload_n (pc := 1886) X dL_law_1886 rfl hl 1 rfl ?_
      refine a_iload (pc := 1887) X dL_law_1887 hl 6 rfl ?_
      refine AW.lift (fun _ _ _ _ k => lv_iconst (pc := 1889) (v := (1 : Int32)) X.2.2.1 X.2.2.2.1 dL_law_1889 rfl k) ?_
      refine AW.lift (fun _ _ _ _ k => lv_iadd (pc := 1890) X.2.2.1 X.2.2.2.1 dL_law_1890 k) ?_
      refine a_iaload (pc := 1891) X dL_law_1891 hf (fun x1891 hf => ?_)
      obtain ⟨a1892, rfl, ⟨hk, hf⟩ | ⟨-, hf⟩⟩ := dv_some hf
      rotate_left
      · exact fl_none hf
      refine a_callb (pc := 1892) (rs := []) (avs := [vR (some a1892), vI x1891]) Z.1 (w_X4_character GA (some a1892) x1891) (Or.inl rfl) q3373 q86 (by decide) (by decide) dL_law_1892 hl.1 (Nat.le_of_ble_eq_true rfl) hf (ct_V hk ⟨by decide, by decide⟩ X (Or.inl rfl) q3373 q3370 q3371 q3372 hy_X4_character np_X4_character rfl dL_law_1892) (fun q h he hX => absurd he (Z.2.1 q h)) (fun x1892 h hf => ?kk1892)
      refine AW.eq (g2 := F0 m 1895 ls [.int x1892]) rfl ?_
      refine a_istore (pc := 1895) X dL_law_1895 hl (by decide) (lv' := [(7, vI x1892), (6, vI x1880), (0, vR v0), (1, vR v1), (2, vR (some a1892)), (3, vR v3), (4, vR v4), (5, vI v5)]) rfl (fun ls hl => ?_)
      refine a_aload_n (pc := 1897) X dL_law_1897 rfl hl 4 rfl ?_
      rcases dv_someS hf with ⟨hk, hf⟩ | ⟨-, hf⟩
      rotate_left
      · exact fl_none hf
      refine a_callb (pc := 1898) (rs := []) (avs := [vR (some a1892)]) Z.1 (w_X4_thrown GA (some a1892)) (Or.inl rfl) q3104 q86 (by decide) (by decide) dL_law_1898 hl.1 (Nat.le_of_ble_eq_true rfl) hf (ct_V hk ⟨by decide, by decide⟩ X (Or.inl rfl) q3104 q3101 q3102 q3103 hy_X4_thrown np_X4_thrown rfl dL_law_1898) (fun q h he hX => absurd he (Z.2.1 q h)) (fun x1898 h hf => ?kk1898)
      refine AW.eq (g2 := F0 m 1901 ls [.int x1898]) rfl ?_
      refine a_iload (pc := 1901) X dL_law_1901 hl 1 rfl ?_
      refine AW.lift2 (fun _ _ _ _ k1 k2 => lv_icmp_eq (pc := 1903) (tgt := 1908) X.2.2.1 X.2.2.2.1 dL_law_1903 rfl k1 k2) (fun c => ?_) (fun c => ?_)
      · have hf := ite_t c hf
        refine a_iload (pc := 1908) X dL_law_1908 hl 1 rfl ?_
        refine AW.lift2 (fun _ _ _ _ k1 k2 => lv_if_ne (pc := 1910) (tgt := 1925) X.2.2.1 X.2.2.2.1 dL_law_1910 rfl k2 k1) (fun c => ?_) (fun c => ?_)
        · have hf := ite_t c hf
          refine a_aload_n (pc := 1913) X dL_law_1913 rfl hl 5 rfl ?_
          refine AW.lift (fun _ _ _ _ k => lv_iconst (pc := 1914) (v := (0 : Int32)) X.2.2.1 X.2.2.2.1 dL_law_1914 rfl k) ?_
          refine a_laload (pc := 1915) X dL_law_1915 hf (fun x1915 hf => ?_)
          refine a_iload (pc := 1916) X dL_law_1916 hl 0 rfl ?_
          refine AW.lift (fun _ _ _ _ k => lv_i2l (pc := 1918) X.2.2.1 X.2.2.2.1 dL_law_1918 rfl k) ?_
          refine AW.lift (fun _ _ _ _ k => W.lcmp (pc := 1919) X.2.2.1 X.2.2.2.1 dL_law_1919 k) ?_
          refine AW.lift2 (fun _ _ _ _ k1 k2 => lv_if_eq (pc := 1920) (tgt := 1925) X.2.2.1 X.2.2.2.1 dL_law_1920 rfl k1 k2) (fun c => ?_) (fun c => ?_)
          · have hf := ite_t c hf
            exact w_L_law_j1925 GA Z v0 v1 (some a1892) v3 v4 v5  rc28 hrc28 (hl.sub [2, 3, 4, 5, 6, 7] rfl) hf
          · have hf := ite_f c hf
            refine AW.lift (fun _ _ _ _ k => lv_iconst (pc := 1923) (v := (0 : Int32)) X.2.2.1 X.2.2.2.1 dL_law_1923 rfl k) ?_
            exact a_zreturn X Z.2.2.1 rfl Z.2.2.2.1 dL_law_1924 hf
        · have hf := ite_f c hf
          exact w_L_law_j1925 GA Z v0 v1 (some a1892) v3 v4 v5  rc28 hrc28 (hl.sub [2, 3, 4, 5, 6, 7] rfl) hf
      · have hf := ite_f c hf
        refine AW.lift (fun _ _ _ _ k => lv_iconst (pc := 1906) (v := (0 : Int32)) X.2.2.1 X.2.2.2.1 dL_law_1906 rfl k) ?_
        exact a_zreturn X Z.2.2.1 rfl Z.2.2.2.1 dL_law_1907 hf
    have hf := ite_f c27 hf
    by_cases c28 : (x40 &&& (63 : Int32)) = (28 : Int32)
    · have hf := ite_t c28 hf
      refine AW.lift (fun _ _ _ _ k => lv_tableIn (pc := 44) (tgt := 1928) (off := 1884) X.2.2.1 X.2.2.2.1 dL_law_44 (by rw [c28]; decide) (by rw [c28]; decide) (by rw [c28]; rfl) rfl k) ?_
      refine a_aload_n (pc := 1928) X dL_law_1928 rfl hl 1 rfl ?_
      refine a_aload (pc := 1929) X dL_law_1929 hl 4 rfl ?_
      refine a_callb (pc := 1931) (rs := []) (avs := [vR v1, vR v4]) Z.1 (w_X0_meanWeight GA v1 v4) (Or.inr (Or.inl ⟨_, rfl⟩)) q2587 q73 (by decide) (by decide) dL_law_1931 hl.1 (Nat.le_of_ble_eq_true rfl) hf (ct_S X (Or.inr (Or.inl ⟨_, rfl⟩)) q2587 q73 q2585 q2586 hy_X0_meanWeight np_X0_meanWeight rfl dL_law_1931) (fun q h he hX => absurd he (Z.2.1 q h)) (fun x1931 h hf => ?kk1931)
      refine AW.eq (g2 := F0 m 1934 ls [.int x1931]) rfl ?_
      refine a_istore (pc := 1934) X dL_law_1934 hl (by decide) (lv' := [(6, vI x1931), (0, vR v0), (1, vR v1), (2, vR v2), (3, vR v3), (4, vR v4), (5, vI v5)]) rfl (fun ls hl => ?_)
      refine a_aload_n (pc := 1936) X dL_law_1936 rfl hl 3 rfl ?_
      obtain ⟨a1937, rfl, ⟨hk, hf⟩ | ⟨-, hf⟩⟩ := dv_some hf
      rotate_left
      · exact fl_none hf
      refine a_callb (pc := 1937) (rs := []) (avs := [vR (some a1937)]) Z.1 (w_X4_meanWeight GA (some a1937)) (Or.inl rfl) q3377 q86 (by decide) (by decide) dL_law_1937 hl.1 (Nat.le_of_ble_eq_true rfl) hf (ct_V hk ⟨by decide, by decide⟩ X (Or.inl rfl) q3377 q3374 q3375 q3376 hy_X4_meanWeight np_X4_meanWeight rfl dL_law_1937) (fun q h he hX => absurd he (Z.2.1 q h)) (fun x1937 h hf => ?kk1937)
      refine AW.eq (g2 := F0 m 1940 ls [.float x1937]) rfl ?_
      refine a_fstore (pc := 1940) X dL_law_1940 hl (by decide) (lv' := [(7, vF x1937), (6, vI x1931), (0, vR v0), (1, vR v1), (2, vR (some a1937)), (3, vR v3), (4, vR v4), (5, vI v5)]) rfl (fun ls hl => ?_)
      refine a_aload_n (pc := 1942) X dL_law_1942 rfl hl 4 rfl ?_
      rcases dv_someS hf with ⟨hk, hf⟩ | ⟨-, hf⟩
      rotate_left
      · exact fl_none hf
      refine a_callb (pc := 1943) (rs := []) (avs := [vR (some a1937)]) Z.1 (w_X4_thrown GA (some a1937)) (Or.inl rfl) q3104 q86 (by decide) (by decide) dL_law_1943 hl.1 (Nat.le_of_ble_eq_true rfl) hf (ct_V hk ⟨by decide, by decide⟩ X (Or.inl rfl) q3104 q3101 q3102 q3103 hy_X4_thrown np_X4_thrown rfl dL_law_1943) (fun q h he hX => absurd he (Z.2.1 q h)) (fun x1943 h hf => ?kk1943)
      refine AW.eq (g2 := F0 m 1946 ls [.int x1943]) rfl ?_
      refine a_iload (pc := 1946) X dL_law_1946 hl 1 rfl ?_
      refine AW.lift2 (fun _ _ _ _ k1 k2 => lv_icmp_eq (pc := 1948) (tgt := 1953) X.2.2.1 X.2.2.2.1 dL_law_1948 rfl k1 k2) (fun c => ?_) (fun c => ?_)
      · have hf := ite_t c hf
        refine a_iload (pc := 1953) X dL_law_1953 hl 1 rfl ?_
        refine AW.lift2 (fun _ _ _ _ k1 k2 => lv_if_ne (pc := 1955) (tgt := 1991) X.2.2.1 X.2.2.2.1 dL_law_1955 rfl k2 k1) (fun c => ?_) (fun c => ?_)
        · have hf := ite_t c hf
          refine a_aload (pc := 1958) X dL_law_1958 hl 6 rfl ?_
          refine AW.lift (fun _ _ _ _ k => lv_iconst (pc := 1960) (v := (0 : Int32)) X.2.2.1 X.2.2.2.1 dL_law_1960 rfl k) ?_
          refine a_daload (pc := 1961) X dL_law_1961 hf (fun x1961 hf => ?_)
          refine a_fload (pc := 1962) X dL_law_1962 hl 0 rfl ?_
          obtain ⟨hg, hf⟩ := chk_some hf
          refine AW.lift (fun _ _ _ _ k => lv_f2d (pc := 1964) X.2.2.1 X.2.2.2.1 dL_law_1964 (n64 hg) k) ?_
          refine AW.lift (fun _ _ _ _ k => lv_dcmp (pc := 1965) X.2.2.1 X.2.2.2.1 dL_law_1965 k) ?_
          refine AW.lift2 (fun _ _ _ _ k1 k2 => lv_if_eq (pc := 1966) (tgt := 1991) X.2.2.1 X.2.2.2.1 dL_law_1966 rfl k1 k2) (fun c => ?_) (fun c => ?_)
          · have hf := ite_t c hf
            exact w_L_law_j1991 GA Z v0 v1 (some a1937) v3 v4 v5  rc28 hrc28 (hl.sub [2, 3, 4, 5, 6, 7] rfl) hf
          · have hf := ite_f c hf
            refine a_aload (pc := 1969) X dL_law_1969 hl 6 rfl ?_
            refine AW.lift (fun _ _ _ _ k => lv_iconst (pc := 1971) (v := (0 : Int32)) X.2.2.1 X.2.2.2.1 dL_law_1971 rfl k) ?_
            refine a_daload (pc := 1972) X dL_law_1972 hf (fun x1972 hf => ?_)
            refine a_aload (pc := 1973) X dL_law_1973 hl 6 rfl ?_
            refine AW.lift (fun _ _ _ _ k => lv_iconst (pc := 1975) (v := (0 : Int32)) X.2.2.1 X.2.2.2.1 dL_law_1975 rfl k) ?_
            refine a_daload (pc := 1976) X dL_law_1976 hf (fun x1976 hf => ?_)
            refine AW.lift (fun _ _ _ _ k => lv_dcmp (pc := 1977) X.2.2.1 X.2.2.2.1 dL_law_1977 k) ?_
            refine AW.lift2 (fun _ _ _ _ k1 k2 => lv_if_eq (pc := 1978) (tgt := 1989) X.2.2.1 X.2.2.2.1 dL_law_1978 rfl k1 k2) (fun c => ?_) (fun c => ?_)
            · have hf := ite_t c hf
              refine AW.lift (fun _ _ _ _ k => lv_iconst (pc := 1989) (v := (0 : Int32)) X.2.2.1 X.2.2.2.1 dL_law_1989 rfl k) ?_
              exact a_zreturn X Z.2.2.1 rfl Z.2.2.2.1 dL_law_1990 hf
            · have hf := ite_f c hf
              refine a_fload (pc := 1981) X dL_law_1981 hl 0 rfl ?_
              refine a_fload (pc := 1983) X dL_law_1983 hl 0 rfl ?_
              refine AW.lift (fun _ _ _ _ k => lv_fcmp (pc := 1985) X.2.2.1 X.2.2.2.1 dL_law_1985 k) ?_
              refine AW.lift2 (fun _ _ _ _ k1 k2 => lv_if_ne (pc := 1986) (tgt := 1991) X.2.2.1 X.2.2.2.1 dL_law_1986 rfl k2 k1) (fun c => ?_) (fun c => ?_)
              · have hf := ite_t c hf
                refine AW.lift (fun _ _ _ _ k => lv_iconst (pc := 1989) (v := (0 : Int32)) X.2.2.1 X.2.2.2.1 dL_law_1989 rfl k) ?_
                exact a_zreturn X Z.2.2.1 rfl Z.2.2.2.1 dL_law_1990 hf
              · have hf := ite_f c hf
                exact w_L_law_j1991 GA Z v0 v1 (some a1937) v3 v4 v5  rc28 hrc28 (hl.sub [2, 3, 4, 5, 6, 7] rfl) hf
        · have hf := ite_f c hf
          exact w_L_law_j1991 GA Z v0 v1 (some a1937) v3 v4 v5  rc28 hrc28 (hl.sub [2, 3, 4, 5, 6, 7] rfl) hf
      · have hf := ite_f c hf
        refine AW.lift (fun _ _ _ _ k => lv_iconst (pc := 1951) (v := (0 : Int32)) X.2.2.1 X.2.2.2.1 dL_law_1951 rfl k) ?_
        exact a_zreturn X Z.2.2.1 rfl Z.2.2.2.1 dL_law_1952 hf
    have hf := ite_f c28 hf
    by_cases c29 : (x40 &&& (63 : Int32)) = (29 : Int32)
    · have hf := ite_t c29 hf
      refine AW.lift (fun _ _ _ _ k => lv_tableIn (pc := 44) (tgt := 1994) (off := 1950) X.2.2.1 X.2.2.2.1 dL_law_44 (by rw [c29]; decide) (by rw [c29]; decide) (by rw [c29]; rfl) rfl k) ?_
      refine a_aload_n (pc := 1994) X dL_law_1994 rfl hl 1 rfl ?_
      refine a_aload (pc := 1995) X dL_law_1995 hl 4 rfl ?_
      refine a_callb (pc := 1997) (rs := []) (avs := [vR v1, vR v4]) Z.1 (w_X0_brokenShare GA v1 v4) (Or.inr (Or.inl ⟨_, rfl⟩)) q2622 q73 (by decide) (by decide) dL_law_1997 hl.1 (Nat.le_of_ble_eq_true rfl) hf (ct_S X (Or.inr (Or.inl ⟨_, rfl⟩)) q2622 q73 q2620 q2621 hy_X0_brokenShare np_X0_brokenShare rfl dL_law_1997) (fun q h he hX => absurd he (Z.2.1 q h)) (fun x1997 h hf => ?kk1997)
      refine AW.eq (g2 := F0 m 2000 ls [.int x1997]) rfl ?_
      refine a_istore (pc := 2000) X dL_law_2000 hl (by decide) (lv' := [(6, vI x1997), (0, vR v0), (1, vR v1), (2, vR v2), (3, vR v3), (4, vR v4), (5, vI v5)]) rfl (fun ls hl => ?_)
      refine a_aload_n (pc := 2002) X dL_law_2002 rfl hl 3 rfl ?_
      obtain ⟨a2003, rfl, ⟨hk, hf⟩ | ⟨-, hf⟩⟩ := dv_some hf
      rotate_left
      · exact fl_none hf
      refine a_callb (pc := 2003) (rs := []) (avs := [vR (some a2003)]) Z.1 (w_X4_brokenShare GA (some a2003)) (Or.inl rfl) q3381 q86 (by decide) (by decide) dL_law_2003 hl.1 (Nat.le_of_ble_eq_true rfl) hf (ct_V hk ⟨by decide, by decide⟩ X (Or.inl rfl) q3381 q3378 q3379 q3380 hy_X4_brokenShare np_X4_brokenShare rfl dL_law_2003) (fun q h he hX => absurd he (Z.2.1 q h)) (fun x2003 h hf => ?kk2003)
      refine AW.eq (g2 := F0 m 2006 ls [.double x2003]) rfl ?_
      refine a_dstore (pc := 2006) X dL_law_2006 hl (by decide) (lv' := [(7, vD x2003), (6, vI x1997), (0, vR v0), (1, vR v1), (2, vR (some a2003)), (3, vR v3), (4, vR v4), (5, vI v5)]) rfl (fun ls hl => ?_)
      refine a_aload_n (pc := 2008) X dL_law_2008 rfl hl 4 rfl ?_
      rcases dv_someS hf with ⟨hk, hf⟩ | ⟨-, hf⟩
      rotate_left
      · exact fl_none hf
      refine a_callb (pc := 2009) (rs := []) (avs := [vR (some a2003)]) Z.1 (w_X4_thrown GA (some a2003)) (Or.inl rfl) q3104 q86 (by decide) (by decide) dL_law_2009 hl.1 (Nat.le_of_ble_eq_true rfl) hf (ct_V hk ⟨by decide, by decide⟩ X (Or.inl rfl) q3104 q3101 q3102 q3103 hy_X4_thrown np_X4_thrown rfl dL_law_2009) (fun q h he hX => absurd he (Z.2.1 q h)) (fun x2009 h hf => ?kk2009)
      refine AW.eq (g2 := F0 m 2012 ls [.int x2009]) rfl ?_
      refine a_iload (pc := 2012) X dL_law_2012 hl 1 rfl ?_
      refine AW.lift2 (fun _ _ _ _ k1 k2 => lv_icmp_eq (pc := 2014) (tgt := 2019) X.2.2.1 X.2.2.2.1 dL_law_2014 rfl k1 k2) (fun c => ?_) (fun c => ?_)
      · have hf := ite_t c hf
        refine a_iload (pc := 2019) X dL_law_2019 hl 1 rfl ?_
        refine AW.lift2 (fun _ _ _ _ k1 k2 => lv_if_ne (pc := 2021) (tgt := 2056) X.2.2.1 X.2.2.2.1 dL_law_2021 rfl k2 k1) (fun c => ?_) (fun c => ?_)
        · have hf := ite_t c hf
          refine a_aload (pc := 2024) X dL_law_2024 hl 6 rfl ?_
          refine AW.lift (fun _ _ _ _ k => lv_iconst (pc := 2026) (v := (0 : Int32)) X.2.2.1 X.2.2.2.1 dL_law_2026 rfl k) ?_
          refine a_daload (pc := 2027) X dL_law_2027 hf (fun x2027 hf => ?_)
          refine a_dload (pc := 2028) X dL_law_2028 hl 0 rfl ?_
          refine AW.lift (fun _ _ _ _ k => lv_dcmp (pc := 2030) X.2.2.1 X.2.2.2.1 dL_law_2030 k) ?_
          refine AW.lift2 (fun _ _ _ _ k1 k2 => lv_if_eq (pc := 2031) (tgt := 2056) X.2.2.1 X.2.2.2.1 dL_law_2031 rfl k1 k2) (fun c => ?_) (fun c => ?_)
          · have hf := ite_t c hf
            exact w_L_law_j2056 GA Z v0 v1 (some a2003) v3 v4 v5  rc28 hrc28 (hl.sub [2, 3, 4, 5, 6, 7] rfl) hf
          · have hf := ite_f c hf
            refine a_aload (pc := 2034) X dL_law_2034 hl 6 rfl ?_
            refine AW.lift (fun _ _ _ _ k => lv_iconst (pc := 2036) (v := (0 : Int32)) X.2.2.1 X.2.2.2.1 dL_law_2036 rfl k) ?_
            refine a_daload (pc := 2037) X dL_law_2037 hf (fun x2037 hf => ?_)
            refine a_aload (pc := 2038) X dL_law_2038 hl 6 rfl ?_
            refine AW.lift (fun _ _ _ _ k => lv_iconst (pc := 2040) (v := (0 : Int32)) X.2.2.1 X.2.2.2.1 dL_law_2040 rfl k) ?_
            refine a_daload (pc := 2041) X dL_law_2041 hf (fun x2041 hf => ?_)
            refine AW.lift (fun _ _ _ _ k => lv_dcmp (pc := 2042) X.2.2.1 X.2.2.2.1 dL_law_2042 k) ?_
            refine AW.lift2 (fun _ _ _ _ k1 k2 => lv_if_eq (pc := 2043) (tgt := 2054) X.2.2.1 X.2.2.2.1 dL_law_2043 rfl k1 k2) (fun c => ?_) (fun c => ?_)
            · have hf := ite_t c hf
              refine AW.lift (fun _ _ _ _ k => lv_iconst (pc := 2054) (v := (0 : Int32)) X.2.2.1 X.2.2.2.1 dL_law_2054 rfl k) ?_
              exact a_zreturn X Z.2.2.1 rfl Z.2.2.2.1 dL_law_2055 hf
            · have hf := ite_f c hf
              refine a_dload (pc := 2046) X dL_law_2046 hl 0 rfl ?_
              refine a_dload (pc := 2048) X dL_law_2048 hl 0 rfl ?_
              refine AW.lift (fun _ _ _ _ k => lv_dcmp (pc := 2050) X.2.2.1 X.2.2.2.1 dL_law_2050 k) ?_
              refine AW.lift2 (fun _ _ _ _ k1 k2 => lv_if_ne (pc := 2051) (tgt := 2056) X.2.2.1 X.2.2.2.1 dL_law_2051 rfl k2 k1) (fun c => ?_) (fun c => ?_)
              · have hf := ite_t c hf
                refine AW.lift (fun _ _ _ _ k => lv_iconst (pc := 2054) (v := (0 : Int32)) X.2.2.1 X.2.2.2.1 dL_law_2054 rfl k) ?_
                exact a_zreturn X Z.2.2.1 rfl Z.2.2.2.1 dL_law_2055 hf
              · have hf := ite_f c hf
                exact w_L_law_j2056 GA Z v0 v1 (some a2003) v3 v4 v5  rc28 hrc28 (hl.sub [2, 3, 4, 5, 6, 7] rfl) hf
        · have hf := ite_f c hf
          exact w_L_law_j2056 GA Z v0 v1 (some a2003) v3 v4 v5  rc28 hrc28 (hl.sub [2, 3, 4, 5, 6, 7] rfl) hf
      · have hf := ite_f c hf
        refine AW.lift (fun _ _ _ _ k => lv_iconst (pc := 2017) (v := (0 : Int32)) X.2.2.1 X.2.2.2.1 dL_law_2017 rfl k) ?_
        exact a_zreturn X Z.2.2.1 rfl Z.2.2.2.1 dL_law_2018 hf
    have hf := ite_f c29 hf
    by_cases c30 : (x40 &&& (63 : Int32)) = (30 : Int32)
    · have hf := ite_t c30 hf
      refine AW.lift (fun _ _ _ _ k => lv_tableIn (pc := 44) (tgt := 2059) (off := 2015) X.2.2.1 X.2.2.2.1 dL_law_44 (by rw [c30]; decide) (by rw [c30]; decide) (by rw [c30]; rfl) rfl k) ?_
      refine a_aload_n (pc := 2059) X dL_law_2059 rfl hl 1 rfl ?_
      refine a_aload_n (pc := 2060) X dL_law_2060 rfl hl 0 rfl ?_
      refine a_iload (pc := 2061) X dL_law_2061 hl 5 rfl ?_
      refine AW.lift (fun _ _ _ _ k => lv_iconst (pc := 2063) (v := (1 : Int32)) X.2.2.1 X.2.2.2.1 dL_law_2063 rfl k) ?_
      refine AW.lift (fun _ _ _ _ k => lv_iadd (pc := 2064) X.2.2.1 X.2.2.2.1 dL_law_2064 k) ?_
      refine a_iaload (pc := 2065) X dL_law_2065 hf (fun x2065 hf => ?_)
      refine a_aload_n (pc := 2066) X dL_law_2066 rfl hl 3 rfl ?_
      refine a_callb (pc := 2067) (rs := []) (avs := [vR v1, vI x2065, vR v3]) Z.1 (w_X0_account GA v1 x2065 v3) (Or.inr (Or.inl ⟨_, rfl⟩)) q2633 q73 (by decide) (by decide) dL_law_2067 hl.1 (Nat.le_of_ble_eq_true rfl) hf (ct_S X (Or.inr (Or.inl ⟨_, rfl⟩)) q2633 q73 q2631 q2632 hy_X0_account np_X0_account rfl dL_law_2067) (fun q h he hX => absurd he (Z.2.1 q h)) (fun x2067 h hf => ?kk2067)
      refine AW.eq (g2 := F0 m 2070 ls [.int x2067]) rfl ?_
      refine a_istore (pc := 2070) X dL_law_2070 hl (by decide) (lv' := [(6, vI x2067), (0, vR v0), (1, vR v1), (2, vR v2), (3, vR v3), (4, vR v4), (5, vI v5)]) rfl (fun ls hl => ?_)
      refine a_aload_n (pc := 2072) X dL_law_2072 rfl hl 3 rfl ?_
      refine a_aload_n (pc := 2073) X dL_law_2073 rfl hl 1 rfl ?_
      refine a_iload (pc := 2074) X dL_law_2074 hl 6 rfl ?_
      refine AW.lift (fun _ _ _ _ k => lv_iconst (pc := 2076) (v := (1 : Int32)) X.2.2.1 X.2.2.2.1 dL_law_2076 rfl k) ?_
      refine AW.lift (fun _ _ _ _ k => lv_iadd (pc := 2077) X.2.2.1 X.2.2.2.1 dL_law_2077 k) ?_
      refine a_iaload (pc := 2078) X dL_law_2078 hf (fun x2078 hf => ?_)
      obtain ⟨a2079, rfl, ⟨hk, hf⟩ | ⟨-, hf⟩⟩ := dv_some hf
      rotate_left
      · exact fl_none hf
      refine a_callb (pc := 2079) (rs := []) (avs := [vR (some a2079), vI x2078]) Z.1 (w_X4_account GA (some a2079) x2078) (Or.inl rfl) q3389 q86 (by decide) (by decide) dL_law_2079 hl.1 (Nat.le_of_ble_eq_true rfl) hf (ct_V hk ⟨by decide, by decide⟩ X (Or.inl rfl) q3389 q3386 q3387 q3388 hy_X4_account np_X4_account rfl dL_law_2079) (fun q h he hX => absurd he (Z.2.1 q h)) (fun x2079 h hf => ?kk2079)
      refine AW.eq (g2 := F0 m 2082 ls [.int x2079]) rfl ?_
      refine a_istore (pc := 2082) X dL_law_2082 hl (by decide) (lv' := [(7, vI x2079), (6, vI x2067), (0, vR v0), (1, vR v1), (2, vR (some a2079)), (3, vR v3), (4, vR v4), (5, vI v5)]) rfl (fun ls hl => ?_)
      refine a_aload_n (pc := 2084) X dL_law_2084 rfl hl 4 rfl ?_
      rcases dv_someS hf with ⟨hk, hf⟩ | ⟨-, hf⟩
      rotate_left
      · exact fl_none hf
      refine a_callb (pc := 2085) (rs := []) (avs := [vR (some a2079)]) Z.1 (w_X4_thrown GA (some a2079)) (Or.inl rfl) q3104 q86 (by decide) (by decide) dL_law_2085 hl.1 (Nat.le_of_ble_eq_true rfl) hf (ct_V hk ⟨by decide, by decide⟩ X (Or.inl rfl) q3104 q3101 q3102 q3103 hy_X4_thrown np_X4_thrown rfl dL_law_2085) (fun q h he hX => absurd he (Z.2.1 q h)) (fun x2085 h hf => ?kk2085)
      refine AW.eq (g2 := F0 m 2088 ls [.int x2085]) rfl ?_
      refine a_iload (pc := 2088) X dL_law_2088 hl 1 rfl ?_
      refine AW.lift2 (fun _ _ _ _ k1 k2 => lv_icmp_eq (pc := 2090) (tgt := 2095) X.2.2.1 X.2.2.2.1 dL_law_2090 rfl k1 k2) (fun c => ?_) (fun c => ?_)
      · have hf := ite_t c hf
        refine a_iload (pc := 2095) X dL_law_2095 hl 1 rfl ?_
        refine AW.lift2 (fun _ _ _ _ k1 k2 => lv_if_ne (pc := 2097) (tgt := 2112) X.2.2.1 X.2.2.2.1 dL_law_2097 rfl k2 k1) (fun c => ?_) (fun c => ?_)
        · have hf := ite_t c hf
          refine a_aload_n (pc := 2100) X dL_law_2100 rfl hl 5 rfl ?_
          refine AW.lift (fun _ _ _ _ k => lv_iconst (pc := 2101) (v := (0 : Int32)) X.2.2.1 X.2.2.2.1 dL_law_2101 rfl k) ?_
          refine a_laload (pc := 2102) X dL_law_2102 hf (fun x2102 hf => ?_)
          refine a_iload (pc := 2103) X dL_law_2103 hl 0 rfl ?_
          refine AW.lift (fun _ _ _ _ k => lv_i2l (pc := 2105) X.2.2.1 X.2.2.2.1 dL_law_2105 rfl k) ?_
          refine AW.lift (fun _ _ _ _ k => W.lcmp (pc := 2106) X.2.2.1 X.2.2.2.1 dL_law_2106 k) ?_
          refine AW.lift2 (fun _ _ _ _ k1 k2 => lv_if_eq (pc := 2107) (tgt := 2112) X.2.2.1 X.2.2.2.1 dL_law_2107 rfl k1 k2) (fun c => ?_) (fun c => ?_)
          · have hf := ite_t c hf
            exact w_L_law_j2112 GA Z v0 v1 (some a2079) v3 v4 v5  rc28 hrc28 (hl.sub [2, 3, 4, 5, 6, 7] rfl) hf
          · have hf := ite_f c hf
            refine AW.lift (fun _ _ _ _ k => lv_iconst (pc := 2110) (v := (0 : Int32)) X.2.2.1 X.2.2.2.1 dL_law_2110 rfl k) ?_
            exact a_zreturn X Z.2.2.1 rfl Z.2.2.2.1 dL_law_2111 hf
        · have hf := ite_f c hf
          exact w_L_law_j2112 GA Z v0 v1 (some a2079) v3 v4 v5  rc28 hrc28 (hl.sub [2, 3, 4, 5, 6, 7] rfl) hf
      · have hf := ite_f c hf
        refine AW.lift (fun _ _ _ _ k => lv_iconst (pc := 2093) (v := (0 : Int32)) X.2.2.1 X.2.2.2.1 dL_law_2093 rfl k) ?_
        exact a_zreturn X Z.2.2.1 rfl Z.2.2.2.1 dL_law_2094 hf
    have hf := ite_f c30 hf
    by_cases c31 : (x40 &&& (63 : Int32)) = (31 : Int32)
    · have hf := ite_t c31 hf
      refine AW.lift (fun _ _ _ _ k => lv_tableIn (pc := 44) (tgt := 2115) (off := 2071) X.2.2.1 X.2.2.2.1 dL_law_44 (by rw [c31]; decide) (by rw [c31]; decide) (by rw [c31]; rfl) rfl k) ?_
      refine a_aload_n (pc := 2115) X dL_law_2115 rfl hl 1 rfl ?_
      refine a_aload_n (pc := 2116) X dL_law_2116 rfl hl 0 rfl ?_
      refine a_iload (pc := 2117) X dL_law_2117 hl 5 rfl ?_
      refine AW.lift (fun _ _ _ _ k => lv_iconst (pc := 2119) (v := (1 : Int32)) X.2.2.1 X.2.2.2.1 dL_law_2119 rfl k) ?_
      refine AW.lift (fun _ _ _ _ k => lv_iadd (pc := 2120) X.2.2.1 X.2.2.2.1 dL_law_2120 k) ?_
      refine a_iaload (pc := 2121) X dL_law_2121 hf (fun x2121 hf => ?_)
      refine AW.lift (fun _ _ _ _ k => lv_i2c (pc := 2122) X.2.2.1 X.2.2.2.1 dL_law_2122 rfl k) ?_
      refine a_aload_n (pc := 2123) X dL_law_2123 rfl hl 3 rfl ?_
      refine a_callb (pc := 2124) (rs := []) (avs := [vR v1, vI ((x2121.toUInt32 % 65536).toInt32), vR v3]) Z.1 (w_X0_append GA v1 ((x2121.toUInt32 % 65536).toInt32) v3) (Or.inr (Or.inl ⟨_, rfl⟩)) q2651 q73 (by decide) (by decide) dL_law_2124 hl.1 (Nat.le_of_ble_eq_true rfl) hf (ct_S X (Or.inr (Or.inl ⟨_, rfl⟩)) q2651 q73 q2649 q2650 hy_X0_append np_X0_append rfl dL_law_2124) (fun q h he hX => absurd he (Z.2.1 q h)) (fun x2124 h hf => ?kk2124)
      refine AW.eq (g2 := F0 m 2127 ls [.int x2124]) rfl ?_
      refine a_istore (pc := 2127) X dL_law_2127 hl (by decide) (lv' := [(6, vI x2124), (0, vR v0), (1, vR v1), (2, vR v2), (3, vR v3), (4, vR v4), (5, vI v5)]) rfl (fun ls hl => ?_)
      refine a_aload_n (pc := 2129) X dL_law_2129 rfl hl 3 rfl ?_
      refine a_aload_n (pc := 2130) X dL_law_2130 rfl hl 1 rfl ?_
      refine a_iload (pc := 2131) X dL_law_2131 hl 6 rfl ?_
      refine AW.lift (fun _ _ _ _ k => lv_iconst (pc := 2133) (v := (1 : Int32)) X.2.2.1 X.2.2.2.1 dL_law_2133 rfl k) ?_
      refine AW.lift (fun _ _ _ _ k => lv_iadd (pc := 2134) X.2.2.1 X.2.2.2.1 dL_law_2134 k) ?_
      refine a_iaload (pc := 2135) X dL_law_2135 hf (fun x2135 hf => ?_)
      refine AW.lift (fun _ _ _ _ k => lv_i2c (pc := 2136) X.2.2.1 X.2.2.2.1 dL_law_2136 rfl k) ?_
      obtain ⟨a2137, rfl, ⟨hk, hf⟩ | ⟨-, hf⟩⟩ := dv_some hf
      rotate_left
      · exact fl_none hf
      refine a_callb (pc := 2137) (rs := []) (avs := [vR (some a2137), vI ((x2135.toUInt32 % 65536).toInt32)]) Z.1 (w_X4_append GA (some a2137) ((x2135.toUInt32 % 65536).toInt32)) (Or.inl rfl) q3405 q86 (by decide) (by decide) dL_law_2137 hl.1 (Nat.le_of_ble_eq_true rfl) hf (ct_V hk ⟨by decide, by decide⟩ X (Or.inl rfl) q3405 q3402 q3403 q3404 hy_X4_append np_X4_append rfl dL_law_2137) (fun q h he hX => absurd he (Z.2.1 q h)) (fun x2137 h hf => ?kk2137)
      refine AW.eq (g2 := F0 m 2140 ls [.int x2137]) rfl ?_
      refine a_istore (pc := 2140) X dL_law_2140 hl (by decide) (lv' := [(7, vI x2137), (6, vI x2124), (0, vR v0), (1, vR v1), (2, vR (some a2137)), (3, vR v3), (4, vR v4), (5, vI v5)]) rfl (fun ls hl => ?_)
      refine a_aload_n (pc := 2142) X dL_law_2142 rfl hl 4 rfl ?_
      rcases dv_someS hf with ⟨hk, hf⟩ | ⟨-, hf⟩
      rotate_left
      · exact fl_none hf
      refine a_callb (pc := 2143) (rs := []) (avs := [vR (some a2137)]) Z.1 (w_X4_thrown GA (some a2137)) (Or.inl rfl) q3104 q86 (by decide) (by decide) dL_law_2143 hl.1 (Nat.le_of_ble_eq_true rfl) hf (ct_V hk ⟨by decide, by decide⟩ X (Or.inl rfl) q3104 q3101 q3102 q3103 hy_X4_thrown np_X4_thrown rfl dL_law_2143) (fun q h he hX => absurd he (Z.2.1 q h)) (fun x2143 h hf => ?kk2143)
      refine AW.eq (g2 := F0 m 2146 ls [.int x2143]) rfl ?_
      refine a_iload (pc := 2146) X dL_law_2146 hl 1 rfl ?_
      refine AW.lift2 (fun _ _ _ _ k1 k2 => lv_icmp_eq (pc := 2148) (tgt := 2153) X.2.2.1 X.2.2.2.1 dL_law_2148 rfl k1 k2) (fun c => ?_) (fun c => ?_)
      · have hf := ite_t c hf
        refine a_iload (pc := 2153) X dL_law_2153 hl 1 rfl ?_
        refine AW.lift2 (fun _ _ _ _ k1 k2 => lv_if_ne (pc := 2155) (tgt := 2170) X.2.2.1 X.2.2.2.1 dL_law_2155 rfl k2 k1) (fun c => ?_) (fun c => ?_)
        · have hf := ite_t c hf
          refine a_aload_n (pc := 2158) X dL_law_2158 rfl hl 5 rfl ?_
          refine AW.lift (fun _ _ _ _ k => lv_iconst (pc := 2159) (v := (0 : Int32)) X.2.2.1 X.2.2.2.1 dL_law_2159 rfl k) ?_
          refine a_laload (pc := 2160) X dL_law_2160 hf (fun x2160 hf => ?_)
          refine a_iload (pc := 2161) X dL_law_2161 hl 0 rfl ?_
          refine AW.lift (fun _ _ _ _ k => lv_i2l (pc := 2163) X.2.2.1 X.2.2.2.1 dL_law_2163 rfl k) ?_
          refine AW.lift (fun _ _ _ _ k => W.lcmp (pc := 2164) X.2.2.1 X.2.2.2.1 dL_law_2164 k) ?_
          refine AW.lift2 (fun _ _ _ _ k1 k2 => lv_if_eq (pc := 2165) (tgt := 2170) X.2.2.1 X.2.2.2.1 dL_law_2165 rfl k1 k2) (fun c => ?_) (fun c => ?_)
          · have hf := ite_t c hf
            exact w_L_law_j2170 GA Z v0 v1 (some a2137) v3 v4 v5  rc28 hrc28 (hl.sub [2, 3, 4, 5, 6, 7] rfl) hf
          · have hf := ite_f c hf
            refine AW.lift (fun _ _ _ _ k => lv_iconst (pc := 2168) (v := (0 : Int32)) X.2.2.1 X.2.2.2.1 dL_law_2168 rfl k) ?_
            exact a_zreturn X Z.2.2.1 rfl Z.2.2.2.1 dL_law_2169 hf
        · have hf := ite_f c hf
          exact w_L_law_j2170 GA Z v0 v1 (some a2137) v3 v4 v5  rc28 hrc28 (hl.sub [2, 3, 4, 5, 6, 7] rfl) hf
      · have hf := ite_f c hf
        refine AW.lift (fun _ _ _ _ k => lv_iconst (pc := 2151) (v := (0 : Int32)) X.2.2.1 X.2.2.2.1 dL_law_2151 rfl k) ?_
        exact a_zreturn X Z.2.2.1 rfl Z.2.2.2.1 dL_law_2152 hf
    have hf := ite_f c31 hf
    by_cases c32 : (x40 &&& (63 : Int32)) = (32 : Int32)
    · have hf := ite_t c32 hf
      refine AW.lift (fun _ _ _ _ k => lv_tableIn (pc := 44) (tgt := 2173) (off := 2129) X.2.2.1 X.2.2.2.1 dL_law_44 (by rw [c32]; decide) (by rw [c32]; decide) (by rw [c32]; rfl) rfl k) ?_
      refine a_aload_n (pc := 2173) X dL_law_2173 rfl hl 1 rfl ?_
      refine a_aload_n (pc := 2174) X dL_law_2174 rfl hl 3 rfl ?_
      refine a_callb (pc := 2175) (rs := []) (avs := [vR v1, vR v3]) Z.1 (w_X0_read GA v1 v3) (Or.inr (Or.inl ⟨_, rfl⟩)) q2667 q73 (by decide) (by decide) dL_law_2175 hl.1 (Nat.le_of_ble_eq_true rfl) hf (ct_S X (Or.inr (Or.inl ⟨_, rfl⟩)) q2667 q73 q2665 q2666 hy_X0_read np_X0_read rfl dL_law_2175) (fun q h he hX => absurd he (Z.2.1 q h)) (fun x2175 h hf => ?kk2175)
      refine AW.eq (g2 := F0 m 2178 ls [.int x2175]) rfl ?_
      refine a_istore (pc := 2178) X dL_law_2178 hl (by decide) (lv' := [(6, vI x2175), (0, vR v0), (1, vR v1), (2, vR v2), (3, vR v3), (4, vR v4), (5, vI v5)]) rfl (fun ls hl => ?_)
      refine a_aload_n (pc := 2180) X dL_law_2180 rfl hl 3 rfl ?_
      obtain ⟨a2181, rfl, ⟨hk, hf⟩ | ⟨-, hf⟩⟩ := dv_some hf
      rotate_left
      · exact fl_none hf
      refine a_callb (pc := 2181) (rs := []) (avs := [vR (some a2181)]) Z.1 (w_X4_read GA (some a2181)) (Or.inl rfl) q3411 q86 (by decide) (by decide) dL_law_2181 hl.1 (Nat.le_of_ble_eq_true rfl) hf (ct_V hk ⟨by decide, by decide⟩ X (Or.inl rfl) q3411 q3408 q3409 q3410 hy_X4_read np_X4_read rfl dL_law_2181) (fun q h he hX => absurd he (Z.2.1 q h)) (fun x2181 h hf => ?kk2181)
      refine AW.eq (g2 := F0 m 2184 ls [.int x2181]) rfl ?_
      refine a_istore (pc := 2184) X dL_law_2184 hl (by decide) (lv' := [(7, vI x2181), (6, vI x2175), (0, vR v0), (1, vR v1), (2, vR (some a2181)), (3, vR v3), (4, vR v4), (5, vI v5)]) rfl (fun ls hl => ?_)
      refine a_aload_n (pc := 2186) X dL_law_2186 rfl hl 4 rfl ?_
      rcases dv_someS hf with ⟨hk, hf⟩ | ⟨-, hf⟩
      rotate_left
      · exact fl_none hf
      refine a_callb (pc := 2187) (rs := []) (avs := [vR (some a2181)]) Z.1 (w_X4_thrown GA (some a2181)) (Or.inl rfl) q3104 q86 (by decide) (by decide) dL_law_2187 hl.1 (Nat.le_of_ble_eq_true rfl) hf (ct_V hk ⟨by decide, by decide⟩ X (Or.inl rfl) q3104 q3101 q3102 q3103 hy_X4_thrown np_X4_thrown rfl dL_law_2187) (fun q h he hX => absurd he (Z.2.1 q h)) (fun x2187 h hf => ?kk2187)
      refine AW.eq (g2 := F0 m 2190 ls [.int x2187]) rfl ?_
      refine a_iload (pc := 2190) X dL_law_2190 hl 1 rfl ?_
      refine AW.lift2 (fun _ _ _ _ k1 k2 => lv_icmp_eq (pc := 2192) (tgt := 2197) X.2.2.1 X.2.2.2.1 dL_law_2192 rfl k1 k2) (fun c => ?_) (fun c => ?_)
      · have hf := ite_t c hf
        refine a_iload (pc := 2197) X dL_law_2197 hl 1 rfl ?_
        refine AW.lift2 (fun _ _ _ _ k1 k2 => lv_if_ne (pc := 2199) (tgt := 2214) X.2.2.1 X.2.2.2.1 dL_law_2199 rfl k2 k1) (fun c => ?_) (fun c => ?_)
        · have hf := ite_t c hf
          refine a_aload_n (pc := 2202) X dL_law_2202 rfl hl 5 rfl ?_
          refine AW.lift (fun _ _ _ _ k => lv_iconst (pc := 2203) (v := (0 : Int32)) X.2.2.1 X.2.2.2.1 dL_law_2203 rfl k) ?_
          refine a_laload (pc := 2204) X dL_law_2204 hf (fun x2204 hf => ?_)
          refine a_iload (pc := 2205) X dL_law_2205 hl 0 rfl ?_
          refine AW.lift (fun _ _ _ _ k => lv_i2l (pc := 2207) X.2.2.1 X.2.2.2.1 dL_law_2207 rfl k) ?_
          refine AW.lift (fun _ _ _ _ k => W.lcmp (pc := 2208) X.2.2.1 X.2.2.2.1 dL_law_2208 k) ?_
          refine AW.lift2 (fun _ _ _ _ k1 k2 => lv_if_eq (pc := 2209) (tgt := 2214) X.2.2.1 X.2.2.2.1 dL_law_2209 rfl k1 k2) (fun c => ?_) (fun c => ?_)
          · have hf := ite_t c hf
            exact w_L_law_j2214 GA Z v0 v1 (some a2181) v3 v4 v5  rc28 hrc28 (hl.sub [2, 3, 4, 5, 6, 7] rfl) hf
          · have hf := ite_f c hf
            refine AW.lift (fun _ _ _ _ k => lv_iconst (pc := 2212) (v := (0 : Int32)) X.2.2.1 X.2.2.2.1 dL_law_2212 rfl k) ?_
            exact a_zreturn X Z.2.2.1 rfl Z.2.2.2.1 dL_law_2213 hf
        · have hf := ite_f c hf
          exact w_L_law_j2214 GA Z v0 v1 (some a2181) v3 v4 v5  rc28 hrc28 (hl.sub [2, 3, 4, 5, 6, 7] rfl) hf
      · have hf := ite_f c hf
        refine AW.lift (fun _ _ _ _ k => lv_iconst (pc := 2195) (v := (0 : Int32)) X.2.2.1 X.2.2.2.1 dL_law_2195 rfl k) ?_
        exact a_zreturn X Z.2.2.1 rfl Z.2.2.2.1 dL_law_2196 hf
    have hf := ite_f c32 hf
    by_cases c33 : (x40 &&& (63 : Int32)) = (33 : Int32)
    · have hf := ite_t c33 hf
      refine AW.lift (fun _ _ _ _ k => lv_tableIn (pc := 44) (tgt := 2217) (off := 2173) X.2.2.1 X.2.2.2.1 dL_law_44 (by rw [c33]; decide) (by rw [c33]; decide) (by rw [c33]; rfl) rfl k) ?_
      refine a_aload_n (pc := 2217) X dL_law_2217 rfl hl 1 rfl ?_
      refine a_aload_n (pc := 2218) X dL_law_2218 rfl hl 3 rfl ?_
      refine a_callb (pc := 2219) (rs := []) (avs := [vR v1, vR v3]) Z.1 (w_X0_errorPosition GA v1 v3) (Or.inr (Or.inl ⟨_, rfl⟩)) q2967 q73 (by decide) (by decide) dL_law_2219 hl.1 (Nat.le_of_ble_eq_true rfl) hf (ct_S X (Or.inr (Or.inl ⟨_, rfl⟩)) q2967 q73 q2965 q2966 hy_X0_errorPosition np_X0_errorPosition rfl dL_law_2219) (fun q h he hX => absurd he (Z.2.1 q h)) (fun x2219 h hf => ?kk2219)
      refine AW.eq (g2 := F0 m 2222 ls [.int x2219]) rfl ?_
      refine a_istore (pc := 2222) X dL_law_2222 hl (by decide) (lv' := [(6, vI x2219), (0, vR v0), (1, vR v1), (2, vR v2), (3, vR v3), (4, vR v4), (5, vI v5)]) rfl (fun ls hl => ?_)
      refine a_aload_n (pc := 2224) X dL_law_2224 rfl hl 3 rfl ?_
      obtain ⟨a2225, rfl, ⟨hk, hf⟩ | ⟨-, hf⟩⟩ := dv_some hf
      rotate_left
      · exact fl_none hf
      refine a_callb (pc := 2225) (rs := []) (avs := [vR (some a2225)]) Z.1 (w_X4_errorPosition GA (some a2225)) (Or.inl rfl) q3452 q86 (by decide) (by decide) dL_law_2225 hl.1 (Nat.le_of_ble_eq_true rfl) hf (ct_V hk ⟨by decide, by decide⟩ X (Or.inl rfl) q3452 q3449 q3450 q3451 hy_X4_errorPosition np_X4_errorPosition rfl dL_law_2225) (fun q h he hX => absurd he (Z.2.1 q h)) (fun x2225 h hf => ?kk2225)
      refine AW.eq (g2 := F0 m 2228 ls [.int x2225]) rfl ?_
      refine a_istore (pc := 2228) X dL_law_2228 hl (by decide) (lv' := [(7, vI x2225), (6, vI x2219), (0, vR v0), (1, vR v1), (2, vR (some a2225)), (3, vR v3), (4, vR v4), (5, vI v5)]) rfl (fun ls hl => ?_)
      refine a_aload_n (pc := 2230) X dL_law_2230 rfl hl 4 rfl ?_
      rcases dv_someS hf with ⟨hk, hf⟩ | ⟨-, hf⟩
      rotate_left
      · exact fl_none hf
      refine a_callb (pc := 2231) (rs := []) (avs := [vR (some a2225)]) Z.1 (w_X4_thrown GA (some a2225)) (Or.inl rfl) q3104 q86 (by decide) (by decide) dL_law_2231 hl.1 (Nat.le_of_ble_eq_true rfl) hf (ct_V hk ⟨by decide, by decide⟩ X (Or.inl rfl) q3104 q3101 q3102 q3103 hy_X4_thrown np_X4_thrown rfl dL_law_2231) (fun q h he hX => absurd he (Z.2.1 q h)) (fun x2231 h hf => ?kk2231)
      refine AW.eq (g2 := F0 m 2234 ls [.int x2231]) rfl ?_
      refine a_iload (pc := 2234) X dL_law_2234 hl 1 rfl ?_
      refine AW.lift2 (fun _ _ _ _ k1 k2 => lv_icmp_eq (pc := 2236) (tgt := 2241) X.2.2.1 X.2.2.2.1 dL_law_2236 rfl k1 k2) (fun c => ?_) (fun c => ?_)
      · have hf := ite_t c hf
        refine a_iload (pc := 2241) X dL_law_2241 hl 1 rfl ?_
        refine AW.lift2 (fun _ _ _ _ k1 k2 => lv_if_ne (pc := 2243) (tgt := 2258) X.2.2.1 X.2.2.2.1 dL_law_2243 rfl k2 k1) (fun c => ?_) (fun c => ?_)
        · have hf := ite_t c hf
          refine a_aload_n (pc := 2246) X dL_law_2246 rfl hl 5 rfl ?_
          refine AW.lift (fun _ _ _ _ k => lv_iconst (pc := 2247) (v := (0 : Int32)) X.2.2.1 X.2.2.2.1 dL_law_2247 rfl k) ?_
          refine a_laload (pc := 2248) X dL_law_2248 hf (fun x2248 hf => ?_)
          refine a_iload (pc := 2249) X dL_law_2249 hl 0 rfl ?_
          refine AW.lift (fun _ _ _ _ k => lv_i2l (pc := 2251) X.2.2.1 X.2.2.2.1 dL_law_2251 rfl k) ?_
          refine AW.lift (fun _ _ _ _ k => W.lcmp (pc := 2252) X.2.2.1 X.2.2.2.1 dL_law_2252 k) ?_
          refine AW.lift2 (fun _ _ _ _ k1 k2 => lv_if_eq (pc := 2253) (tgt := 2258) X.2.2.1 X.2.2.2.1 dL_law_2253 rfl k1 k2) (fun c => ?_) (fun c => ?_)
          · have hf := ite_t c hf
            exact w_L_law_j2258 GA Z v0 v1 (some a2225) v3 v4 v5  rc28 hrc28 (hl.sub [2, 3, 4, 5, 6, 7] rfl) hf
          · have hf := ite_f c hf
            refine AW.lift (fun _ _ _ _ k => lv_iconst (pc := 2256) (v := (0 : Int32)) X.2.2.1 X.2.2.2.1 dL_law_2256 rfl k) ?_
            exact a_zreturn X Z.2.2.1 rfl Z.2.2.2.1 dL_law_2257 hf
        · have hf := ite_f c hf
          exact w_L_law_j2258 GA Z v0 v1 (some a2225) v3 v4 v5  rc28 hrc28 (hl.sub [2, 3, 4, 5, 6, 7] rfl) hf
      · have hf := ite_f c hf
        refine AW.lift (fun _ _ _ _ k => lv_iconst (pc := 2239) (v := (0 : Int32)) X.2.2.1 X.2.2.2.1 dL_law_2239 rfl k) ?_
        exact a_zreturn X Z.2.2.1 rfl Z.2.2.2.1 dL_law_2240 hf
    have hf := ite_f c33 hf
    by_cases c34 : (x40 &&& (63 : Int32)) = (34 : Int32)
    · have hf := ite_t c34 hf
      refine AW.lift (fun _ _ _ _ k => lv_tableIn (pc := 44) (tgt := 2261) (off := 2217) X.2.2.1 X.2.2.2.1 dL_law_44 (by rw [c34]; decide) (by rw [c34]; decide) (by rw [c34]; rfl) rfl k) ?_
      refine a_aload_n (pc := 2261) X dL_law_2261 rfl hl 1 rfl ?_
      refine a_aload_n (pc := 2262) X dL_law_2262 rfl hl 0 rfl ?_
      refine a_iload (pc := 2263) X dL_law_2263 hl 5 rfl ?_
      refine AW.lift (fun _ _ _ _ k => lv_iconst (pc := 2265) (v := (1 : Int32)) X.2.2.1 X.2.2.2.1 dL_law_2265 rfl k) ?_
      refine AW.lift (fun _ _ _ _ k => lv_iadd (pc := 2266) X.2.2.1 X.2.2.2.1 dL_law_2266 k) ?_
      refine a_iaload (pc := 2267) X dL_law_2267 hf (fun x2267 hf => ?_)
      refine a_aload_n (pc := 2268) X dL_law_2268 rfl hl 0 rfl ?_
      refine a_iload (pc := 2269) X dL_law_2269 hl 5 rfl ?_
      refine AW.lift (fun _ _ _ _ k => lv_iconst (pc := 2271) (v := (2 : Int32)) X.2.2.1 X.2.2.2.1 dL_law_2271 rfl k) ?_
      refine AW.lift (fun _ _ _ _ k => lv_iadd (pc := 2272) X.2.2.1 X.2.2.2.1 dL_law_2272 k) ?_
      refine a_iaload (pc := 2273) X dL_law_2273 hf (fun x2273 hf => ?_)
      refine AW.lift2 (fun _ _ _ _ k1 k2 => lv_if_eq (pc := 2274) (tgt := 2281) X.2.2.1 X.2.2.2.1 dL_law_2274 rfl k1 k2) (fun c => ?_) (fun c => ?_)
      · have hf := ite_t c hf
        refine AW.lift (fun _ _ _ _ k => lv_iconst (pc := 2281) (v := (0 : Int32)) X.2.2.1 X.2.2.2.1 dL_law_2281 rfl k) ?_
        exact w_L_law_j2282 GA Z v0 v1 v2 v3 v4 v5 (0 : Int32) x2267 v1 rc28 hrc28 (hl.sub [0, 1, 2, 3, 4, 5] rfl) hf
      · have hf := ite_f c hf
        refine AW.lift (fun _ _ _ _ k => lv_iconst (pc := 2277) (v := (1 : Int32)) X.2.2.1 X.2.2.2.1 dL_law_2277 rfl k) ?_
        refine AW.lift (fun _ _ _ _ k => lv_goto (pc := 2278) (tgt := 2282) X.2.2.1 X.2.2.2.1 dL_law_2278 rfl k) ?_
        exact w_L_law_j2282 GA Z v0 v1 v2 v3 v4 v5 (1 : Int32) x2267 v1 rc28 hrc28 (hl.sub [0, 1, 2, 3, 4, 5] rfl) hf
    have hf := ite_f c34 hf
    by_cases c35 : (x40 &&& (63 : Int32)) = (35 : Int32)
    · have hf := ite_t c35 hf
      refine AW.lift (fun _ _ _ _ k => lv_tableIn (pc := 44) (tgt := 2345) (off := 2301) X.2.2.1 X.2.2.2.1 dL_law_44 (by rw [c35]; decide) (by rw [c35]; decide) (by rw [c35]; rfl) rfl k) ?_
      refine a_aload_n (pc := 2345) X dL_law_2345 rfl hl 1 rfl ?_
      refine a_aload_n (pc := 2346) X dL_law_2346 rfl hl 3 rfl ?_
      refine a_callb (pc := 2347) (rs := []) (avs := [vR v1, vR v3]) Z.1 (w_X0_undo GA v1 v3) (Or.inr (Or.inl ⟨_, rfl⟩)) q3003 q73 (by decide) (by decide) dL_law_2347 hl.1 (Nat.le_of_ble_eq_true rfl) hf (ct_S X (Or.inr (Or.inl ⟨_, rfl⟩)) q3003 q73 q3001 q3002 hy_X0_undo np_X0_undo rfl dL_law_2347) (fun q h he hX => absurd he (Z.2.1 q h)) (fun x2347 h hf => ?kk2347)
      refine AW.eq (g2 := F0 m 2350 ls [.int x2347]) rfl ?_
      refine a_istore (pc := 2350) X dL_law_2350 hl (by decide) (lv' := [(6, vI x2347), (0, vR v0), (1, vR v1), (2, vR v2), (3, vR v3), (4, vR v4), (5, vI v5)]) rfl (fun ls hl => ?_)
      refine a_aload_n (pc := 2352) X dL_law_2352 rfl hl 3 rfl ?_
      obtain ⟨a2353, rfl, ⟨hk, hf⟩ | ⟨-, hf⟩⟩ := dv_some hf
      rotate_left
      · exact fl_none hf
      refine a_callb (pc := 2353) (rs := []) (avs := [vR (some a2353)]) Z.1 (w_X4_undo GA (some a2353)) (Or.inl rfl) q3460 q86 (by decide) (by decide) dL_law_2353 hl.1 (Nat.le_of_ble_eq_true rfl) hf (ct_V hk ⟨by decide, by decide⟩ X (Or.inl rfl) q3460 q3457 q3458 q3459 hy_X4_undo np_X4_undo rfl dL_law_2353) (fun q h he hX => absurd he (Z.2.1 q h)) (fun x2353 h hf => ?kk2353)
      refine AW.eq (g2 := F0 m 2356 ls [.int x2353]) rfl ?_
      refine a_istore (pc := 2356) X dL_law_2356 hl (by decide) (lv' := [(7, vI x2353), (6, vI x2347), (0, vR v0), (1, vR v1), (2, vR (some a2353)), (3, vR v3), (4, vR v4), (5, vI v5)]) rfl (fun ls hl => ?_)
      refine a_aload_n (pc := 2358) X dL_law_2358 rfl hl 4 rfl ?_
      rcases dv_someS hf with ⟨hk, hf⟩ | ⟨-, hf⟩
      rotate_left
      · exact fl_none hf
      refine a_callb (pc := 2359) (rs := []) (avs := [vR (some a2353)]) Z.1 (w_X4_thrown GA (some a2353)) (Or.inl rfl) q3104 q86 (by decide) (by decide) dL_law_2359 hl.1 (Nat.le_of_ble_eq_true rfl) hf (ct_V hk ⟨by decide, by decide⟩ X (Or.inl rfl) q3104 q3101 q3102 q3103 hy_X4_thrown np_X4_thrown rfl dL_law_2359) (fun q h he hX => absurd he (Z.2.1 q h)) (fun x2359 h hf => ?kk2359)
      refine AW.eq (g2 := F0 m 2362 ls [.int x2359]) rfl ?_
      refine a_iload (pc := 2362) X dL_law_2362 hl 1 rfl ?_
      refine AW.lift2 (fun _ _ _ _ k1 k2 => lv_icmp_eq (pc := 2364) (tgt := 2369) X.2.2.1 X.2.2.2.1 dL_law_2364 rfl k1 k2) (fun c => ?_) (fun c => ?_)
      · have hf := ite_t c hf
        refine a_iload (pc := 2369) X dL_law_2369 hl 1 rfl ?_
        refine AW.lift2 (fun _ _ _ _ k1 k2 => lv_if_ne (pc := 2371) (tgt := 2386) X.2.2.1 X.2.2.2.1 dL_law_2371 rfl k2 k1) (fun c => ?_) (fun c => ?_)
        · have hf := ite_t c hf
          refine a_aload_n (pc := 2374) X dL_law_2374 rfl hl 5 rfl ?_
          refine AW.lift (fun _ _ _ _ k => lv_iconst (pc := 2375) (v := (0 : Int32)) X.2.2.1 X.2.2.2.1 dL_law_2375 rfl k) ?_
          refine a_laload (pc := 2376) X dL_law_2376 hf (fun x2376 hf => ?_)
          refine a_iload (pc := 2377) X dL_law_2377 hl 0 rfl ?_
          refine AW.lift (fun _ _ _ _ k => lv_i2l (pc := 2379) X.2.2.1 X.2.2.2.1 dL_law_2379 rfl k) ?_
          refine AW.lift (fun _ _ _ _ k => W.lcmp (pc := 2380) X.2.2.1 X.2.2.2.1 dL_law_2380 k) ?_
          refine AW.lift2 (fun _ _ _ _ k1 k2 => lv_if_eq (pc := 2381) (tgt := 2386) X.2.2.1 X.2.2.2.1 dL_law_2381 rfl k1 k2) (fun c => ?_) (fun c => ?_)
          · have hf := ite_t c hf
            exact w_L_law_j2386 GA Z v0 v1 (some a2353) v3 v4 v5  rc28 hrc28 (hl.sub [2, 3, 4, 5, 6, 7] rfl) hf
          · have hf := ite_f c hf
            refine AW.lift (fun _ _ _ _ k => lv_iconst (pc := 2384) (v := (0 : Int32)) X.2.2.1 X.2.2.2.1 dL_law_2384 rfl k) ?_
            exact a_zreturn X Z.2.2.1 rfl Z.2.2.2.1 dL_law_2385 hf
        · have hf := ite_f c hf
          exact w_L_law_j2386 GA Z v0 v1 (some a2353) v3 v4 v5  rc28 hrc28 (hl.sub [2, 3, 4, 5, 6, 7] rfl) hf
      · have hf := ite_f c hf
        refine AW.lift (fun _ _ _ _ k => lv_iconst (pc := 2367) (v := (0 : Int32)) X.2.2.1 X.2.2.2.1 dL_law_2367 rfl k) ?_
        exact a_zreturn X Z.2.2.1 rfl Z.2.2.2.1 dL_law_2368 hf
    have hf := ite_f c35 hf
    by_cases c36 : (x40 &&& (63 : Int32)) = (36 : Int32)
    · have hf := ite_t c36 hf
      refine AW.lift (fun _ _ _ _ k => lv_tableIn (pc := 44) (tgt := 2389) (off := 2345) X.2.2.1 X.2.2.2.1 dL_law_44 (by rw [c36]; decide) (by rw [c36]; decide) (by rw [c36]; rfl) rfl k) ?_
      refine a_aload_n (pc := 2389) X dL_law_2389 rfl hl 1 rfl ?_
      obtain ⟨a2390, rfl, ⟨hk, hf⟩ | ⟨-, hf⟩⟩ := dv_some hf
      rotate_left
      · exact fl_none hf
      refine a_callb (pc := 2390) (rs := []) (avs := [vR (some a2390)]) Z.1 (w_X1_save GA (some a2390)) (Or.inl rfl) q337 q74 (by decide) (by decide) dL_law_2390 hl.1 (Nat.le_of_ble_eq_true rfl) hf (ct_V hk ⟨by decide, by decide⟩ X (Or.inl rfl) q337 q334 q335 q336 hy_X1_save np_X1_save rfl dL_law_2390) (fun q h he hX => absurd he (Z.2.1 q h)) (fun x2390 h hf => ?kk2390)
      refine AW.eq (g2 := F0 m 2393 ls [.int x2390]) rfl ?_
      refine a_aload_n (pc := 2393) X dL_law_2393 rfl hl 2 rfl ?_
      obtain ⟨a2394, rfl, ⟨hk, hf⟩ | ⟨-, hf⟩⟩ := dv_some hf
      rotate_left
      · exact fl_none hf
      refine a_callb (pc := 2394) (rs := [vI x2390]) (avs := [vR (some a2394)]) Z.1 (w_X4_save GA (some a2394)) (Or.inl rfl) q3464 q86 (by decide) (by decide) dL_law_2394 hl.1 (Nat.le_of_ble_eq_true rfl) hf (ct_V hk ⟨by decide, by decide⟩ X (Or.inl rfl) q3464 q3461 q3462 q3463 hy_X4_save np_X4_save rfl dL_law_2394) (fun q h he hX => absurd he (Z.2.1 q h)) (fun x2394 h hf => ?kk2394)
      refine AW.eq (g2 := F0 m 2397 ls [.int x2394, .int x2390]) rfl ?_
      refine AW.lift2 (fun _ _ _ _ k1 k2 => lv_icmp_eq (pc := 2397) (tgt := 2446) X.2.2.1 X.2.2.2.1 dL_law_2397 rfl k1 k2) (fun c => ?_) (fun c => ?_)
      · have hf := ite_t c hf
        exact w_L_law_j2446 GA Z v0 (some a2390) (some a2394) v3 v4 v5  rc28 hrc28 (hl.sub [0, 1, 2, 3, 4, 5] rfl) hf
      · have hf := ite_f c hf
        refine AW.lift (fun _ _ _ _ k => lv_iconst (pc := 2400) (v := (0 : Int32)) X.2.2.1 X.2.2.2.1 dL_law_2400 rfl k) ?_
        exact a_zreturn X Z.2.2.1 rfl Z.2.2.2.1 dL_law_2401 hf
    have hf := ite_f c36 hf
    by_cases c37 : (x40 &&& (63 : Int32)) = (37 : Int32)
    · have hf := ite_t c37 hf
      refine AW.lift (fun _ _ _ _ k => lv_tableIn (pc := 44) (tgt := 2402) (off := 2358) X.2.2.1 X.2.2.2.1 dL_law_44 (by rw [c37]; decide) (by rw [c37]; decide) (by rw [c37]; rfl) rfl k) ?_
      refine a_aload_n (pc := 2402) X dL_law_2402 rfl hl 1 rfl ?_
      refine a_aload_n (pc := 2403) X dL_law_2403 rfl hl 3 rfl ?_
      refine a_callb (pc := 2404) (rs := []) (avs := [vR v1, vR v3]) Z.1 (w_X0_restore GA v1 v3) (Or.inr (Or.inl ⟨_, rfl⟩)) q3010 q73 (by decide) (by decide) dL_law_2404 hl.1 (Nat.le_of_ble_eq_true rfl) hf (ct_S X (Or.inr (Or.inl ⟨_, rfl⟩)) q3010 q73 q3008 q3009 hy_X0_restore np_X0_restore rfl dL_law_2404) (fun q h he hX => absurd he (Z.2.1 q h)) (fun x2404 h hf => ?kk2404)
      refine AW.eq (g2 := F0 m 2407 ls [.int x2404]) rfl ?_
      refine a_istore (pc := 2407) X dL_law_2407 hl (by decide) (lv' := [(6, vI x2404), (0, vR v0), (1, vR v1), (2, vR v2), (3, vR v3), (4, vR v4), (5, vI v5)]) rfl (fun ls hl => ?_)
      refine a_aload_n (pc := 2409) X dL_law_2409 rfl hl 3 rfl ?_
      obtain ⟨a2410, rfl, ⟨hk, hf⟩ | ⟨-, hf⟩⟩ := dv_some hf
      rotate_left
      · exact fl_none hf
      refine a_callb (pc := 2410) (rs := []) (avs := [vR (some a2410)]) Z.1 (w_X4_restore GA (some a2410)) (Or.inl rfl) q3468 q86 (by decide) (by decide) dL_law_2410 hl.1 (Nat.le_of_ble_eq_true rfl) hf (ct_V hk ⟨by decide, by decide⟩ X (Or.inl rfl) q3468 q3465 q3466 q3467 hy_X4_restore np_X4_restore rfl dL_law_2410) (fun q h he hX => absurd he (Z.2.1 q h)) (fun x2410 h hf => ?kk2410)
      refine AW.eq (g2 := F0 m 2413 ls [.int x2410]) rfl ?_
      refine a_istore (pc := 2413) X dL_law_2413 hl (by decide) (lv' := [(7, vI x2410), (6, vI x2404), (0, vR v0), (1, vR v1), (2, vR (some a2410)), (3, vR v3), (4, vR v4), (5, vI v5)]) rfl (fun ls hl => ?_)
      refine a_aload_n (pc := 2415) X dL_law_2415 rfl hl 4 rfl ?_
      rcases dv_someS hf with ⟨hk, hf⟩ | ⟨-, hf⟩
      rotate_left
      · exact fl_none hf
      refine a_callb (pc := 2416) (rs := []) (avs := [vR (some a2410)]) Z.1 (w_X4_thrown GA (some a2410)) (Or.inl rfl) q3104 q86 (by decide) (by decide) dL_law_2416 hl.1 (Nat.le_of_ble_eq_true rfl) hf (ct_V hk ⟨by decide, by decide⟩ X (Or.inl rfl) q3104 q3101 q3102 q3103 hy_X4_thrown np_X4_thrown rfl dL_law_2416) (fun q h he hX => absurd he (Z.2.1 q h)) (fun x2416 h hf => ?kk2416)
      refine AW.eq (g2 := F0 m 2419 ls [.int x2416]) rfl ?_
      refine a_iload (pc := 2419) X dL_law_2419 hl 1 rfl ?_
      refine AW.lift2 (fun _ _ _ _ k1 k2 => lv_icmp_eq (pc := 2421) (tgt := 2426) X.2.2.1 X.2.2.2.1 dL_law_2421 rfl k1 k2) (fun c => ?_) (fun c => ?_)
      · have hf := ite_t c hf
        refine a_iload (pc := 2426) X dL_law_2426 hl 1 rfl ?_
        refine AW.lift2 (fun _ _ _ _ k1 k2 => lv_if_ne (pc := 2428) (tgt := 2443) X.2.2.1 X.2.2.2.1 dL_law_2428 rfl k2 k1) (fun c => ?_) (fun c => ?_)
        · have hf := ite_t c hf
          refine a_aload_n (pc := 2431) X dL_law_2431 rfl hl 5 rfl ?_
          refine AW.lift (fun _ _ _ _ k => lv_iconst (pc := 2432) (v := (0 : Int32)) X.2.2.1 X.2.2.2.1 dL_law_2432 rfl k) ?_
          refine a_laload (pc := 2433) X dL_law_2433 hf (fun x2433 hf => ?_)
          refine a_iload (pc := 2434) X dL_law_2434 hl 0 rfl ?_
          refine AW.lift (fun _ _ _ _ k => lv_i2l (pc := 2436) X.2.2.1 X.2.2.2.1 dL_law_2436 rfl k) ?_
          refine AW.lift (fun _ _ _ _ k => W.lcmp (pc := 2437) X.2.2.1 X.2.2.2.1 dL_law_2437 k) ?_
          refine AW.lift2 (fun _ _ _ _ k1 k2 => lv_if_eq (pc := 2438) (tgt := 2443) X.2.2.1 X.2.2.2.1 dL_law_2438 rfl k1 k2) (fun c => ?_) (fun c => ?_)
          · have hf := ite_t c hf
            exact w_L_law_j2443 GA Z v0 v1 (some a2410) v3 v4 v5  rc28 hrc28 (hl.sub [2, 3, 4, 5, 6, 7] rfl) hf
          · have hf := ite_f c hf
            refine AW.lift (fun _ _ _ _ k => lv_iconst (pc := 2441) (v := (0 : Int32)) X.2.2.1 X.2.2.2.1 dL_law_2441 rfl k) ?_
            exact a_zreturn X Z.2.2.1 rfl Z.2.2.2.1 dL_law_2442 hf
        · have hf := ite_f c hf
          exact w_L_law_j2443 GA Z v0 v1 (some a2410) v3 v4 v5  rc28 hrc28 (hl.sub [2, 3, 4, 5, 6, 7] rfl) hf
      · have hf := ite_f c hf
        refine AW.lift (fun _ _ _ _ k => lv_iconst (pc := 2424) (v := (0 : Int32)) X.2.2.1 X.2.2.2.1 dL_law_2424 rfl k) ?_
        exact a_zreturn X Z.2.2.1 rfl Z.2.2.2.1 dL_law_2425 hf
    have hf := ite_f c37 hf
    have n0 := lv_neT (a := 0) c0 rfl
    have n1 := lv_neT (a := 1) c1 rfl
    have n2 := lv_neT (a := 2) c2 rfl
    have n3 := lv_neT (a := 3) c3 rfl
    have n4 := lv_neT (a := 4) c4 rfl
    have n5 := lv_neT (a := 5) c5 rfl
    have n6 := lv_neT (a := 6) c6 rfl
    have n7 := lv_neT (a := 7) c7 rfl
    have n8 := lv_neT (a := 8) c8 rfl
    have n9 := lv_neT (a := 9) c9 rfl
    have n10 := lv_neT (a := 10) c10 rfl
    have n11 := lv_neT (a := 11) c11 rfl
    have n12 := lv_neT (a := 12) c12 rfl
    have n13 := lv_neT (a := 13) c13 rfl
    have n14 := lv_neT (a := 14) c14 rfl
    have n15 := lv_neT (a := 15) c15 rfl
    have n16 := lv_neT (a := 16) c16 rfl
    have n17 := lv_neT (a := 17) c17 rfl
    have n18 := lv_neT (a := 18) c18 rfl
    have n19 := lv_neT (a := 19) c19 rfl
    have n20 := lv_neT (a := 20) c20 rfl
    have n21 := lv_neT (a := 21) c21 rfl
    have n22 := lv_neT (a := 22) c22 rfl
    have n23 := lv_neT (a := 23) c23 rfl
    have n24 := lv_neT (a := 24) c24 rfl
    have n25 := lv_neT (a := 25) c25 rfl
    have n26 := lv_neT (a := 26) c26 rfl
    have n27 := lv_neT (a := 27) c27 rfl
    have n28 := lv_neT (a := 28) c28 rfl
    have n29 := lv_neT (a := 29) c29 rfl
    have n30 := lv_neT (a := 30) c30 rfl
    have n31 := lv_neT (a := 31) c31 rfl
    have n32 := lv_neT (a := 32) c32 rfl
    have n33 := lv_neT (a := 33) c33 rfl
    have n34 := lv_neT (a := 34) c34 rfl
    have n35 := lv_neT (a := 35) c35 rfl
    have n36 := lv_neT (a := 36) c36 rfl
    have n37 := lv_neT (a := 37) c37 rfl
    refine AW.lift (fun _ _ _ _ k => lv_tableOut (pc := 44) (tgt := 2446) X.2.2.1 X.2.2.2.1 dL_law_44 (by omega) rfl k) ?_
    exact w_L_law_j2446 GA Z v0 v1 v2 v3 v4 v5  rc28 hrc28 (hl.sub [0, 1, 2, 3, 4, 5] rfl) hf
theorem w_L_law_l28 {r : Except Nat (Int32) × AH} (GA : GA l s0 a0 K lam) (Z : WZL r l s0 a0 K p s m c cL_law yL_law.cls 9 b R 23 3398 meth [] (some (.boolean)) yL_law) (v0 : Option Nat) (v1 : Option Nat) (v2 : Option Nat) (v3 : Option Nat) (v4 : Option Nat)  : ∀ (n : Nat) (v5 : Int32) (h : AH) (ls : Array Slot), LV ls 9 [(0, vR v0), (1, vR v1), (2, vR v2), (3, vR v3), (4, vR v4), (5, vI v5)] → f_L_law_l28 K v0 v1 v2 v3 v4 n v5 h = some r → AW s0 K lam p l e R s m args below meth c (AQ s0 K lam below oI b r s) b h (F0 m 28 ls []) := by
  intro n
  induction n with
  | zero => intro v5 h ls hl hf; exact fl_no (h := h) hf
  | succ n ih => intro v5 h ls hl hf; exact w_L_law_b28 GA Z v0 v1 v2 v3 v4 v5 (f_L_law_l28 K v0 v1 v2 v3 v4 n) ih hl hf
theorem w_L_law {r : Except Nat Int32 × AH} (GA : GA l s0 a0 K lam) (v0 : Option Nat) (Z : WZL r l s0 a0 K p s m c cL_law yL_law.cls 9 b { frames := 23, cells := K 0 - aX b, slots := K 1 - aW b, locals := 3398 } 23 3398 meth [] (some (.boolean)) yL_law) {ls : Array Slot} (hl : LV ls 9 [(0, vR v0)]) (hf : f_L_law K v0 b = some r) : AW s0 K lam p l e { frames := 23, cells := K 0 - aX b, slots := K 1 - aW b, locals := 3398 } s m args below meth c (AQ s0 K lam below oI b r s) b b (F0 m 0 ls []) := by
  unfold f_L_law at hf
  have X := Z.1.1
  refine a_new (pc := 0) (cK := 2) (n := 8) X Z.1.2.1 Z.1.2.2.1 Z.1.2.2.2.1 Z.1.2.2.2.2.1 ⟨by decide, by decide, by decide⟩ (gw X.1 X.2.1 q138) (gw X.1 X.2.1 q139) (gw X.1 X.2.1 q74) dL_law_0 hf (fun x0 h hf => ?_)
  refine AW.lift (fun _ _ _ _ k => lv_dup (pc := 3) X.2.2.1 X.2.2.2.1 dL_law_3 (cat_rf _) k) ?_
  refine a_callb (pc := 4) (rs := [vR (some x0)]) (avs := [vR (some x0)]) Z.1 (w_X1_init GA (some x0)) (Or.inl rfl) q142 q74 (by decide) (by decide) dL_law_4 hl.1 (Nat.le_of_ble_eq_true rfl) hf (ct_I X q142 q140 q141 rfl hy_X1_init np_X1_init rfl dL_law_4) (fun q h he hX => absurd he (Z.2.1 q h)) (fun _ h hf => ?kk4)
  refine AW.eq (g2 := F0 m 7 ls [va_rf (some x0)]) rfl ?_
  refine a_astore_n (pc := 7) X dL_law_7 rfl hl (by decide) (lv' := [(1, vR (some x0)), (0, vR v0)]) rfl (fun ls hl => ?_)
  refine a_new (pc := 8) (cK := 1) (n := 25) X Z.1.2.1 Z.1.2.2.1 Z.1.2.2.2.1 Z.1.2.2.2.2.1 ⟨by decide, by decide, by decide⟩ (gw X.1 X.2.1 q3019) (gw X.1 X.2.1 q3020) (gw X.1 X.2.1 q86) dL_law_8 hf (fun x8 h hf => ?_)
  refine AW.lift (fun _ _ _ _ k => lv_dup (pc := 11) X.2.2.1 X.2.2.2.1 dL_law_11 (cat_rf _) k) ?_
  refine a_callb (pc := 12) (rs := [vR (some x8)]) (avs := [vR (some x8)]) Z.1 (w_X4_init GA (some x8)) (Or.inl rfl) q3023 q86 (by decide) (by decide) dL_law_12 hl.1 (Nat.le_of_ble_eq_true rfl) hf (ct_I X q3023 q3021 q3022 rfl hy_X4_init np_X4_init rfl dL_law_12) (fun q h he hX => absurd he (Z.2.1 q h)) (fun _ h hf => ?kk12)
  refine AW.eq (g2 := F0 m 15 ls [va_rf (some x8)]) rfl ?_
  refine a_astore_n (pc := 15) X dL_law_15 rfl hl (by decide) (lv' := [(2, vR (some x8)), (1, vR (some x0)), (0, vR v0)]) rfl (fun ls hl => ?_)
  refine AW.lift (fun _ _ _ _ k => lv_iconst (pc := 16) (v := (1 : Int32)) X.2.2.1 X.2.2.2.1 dL_law_16 rfl k) ?_
  refine a_newarray (pc := 17) (t := 1004) (atype := .long) (by decide) rfl rfl rfl (by decide) (ra_long GA) X Z.1.2.2.2.1 Z.1.2.2.2.2.1 (gw X.1 X.2.1 q3469) dL_law_17 hf (fun x17 h hf => ?_)
  refine a_astore_n (pc := 19) X dL_law_19 rfl hl (by decide) (lv' := [(3, vR (some x17)), (2, vR (some x8)), (1, vR (some x0)), (0, vR v0)]) rfl (fun ls hl => ?_)
  refine AW.lift (fun _ _ _ _ k => lv_iconst (pc := 20) (v := (1 : Int32)) X.2.2.1 X.2.2.2.1 dL_law_20 rfl k) ?_
  refine a_newarray (pc := 21) (t := 1005) (atype := .double) (by decide) rfl rfl rfl (by decide) (ra_double GA) X Z.1.2.2.2.1 Z.1.2.2.2.2.1 (gw X.1 X.2.1 q3470) dL_law_21 hf (fun x21 h hf => ?_)
  refine a_astore (pc := 23) X dL_law_23 hl (by decide) (lv' := [(4, vR (some x21)), (3, vR (some x17)), (2, vR (some x8)), (1, vR (some x0)), (0, vR v0)]) rfl (fun ls hl => ?_)
  refine AW.lift (fun _ _ _ _ k => lv_iconst (pc := 25) (v := (0 : Int32)) X.2.2.1 X.2.2.2.1 dL_law_25 rfl k) ?_
  refine a_istore (pc := 26) X dL_law_26 hl (by decide) (lv' := [(5, vI (0 : Int32)), (4, vR (some x21)), (3, vR (some x17)), (2, vR (some x8)), (1, vR (some x0)), (0, vR v0)]) rfl (fun ls hl => ?_)
  exact w_L_law_l28 GA Z v0 (some x0) (some x8) (some x17) (some x21)  FU (0 : Int32) _ _ (hl.sub [5, 4, 3, 2, 1, 0] rfl) hf
end WK
