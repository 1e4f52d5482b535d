/-! THE METHODS AS FUNCTIONS (printed by gen.py) -/
def f_J0_init (K : Nat → Nat) (v0 : Option Nat) : AM (Unit) :=
  nz v0 <| rt ()
def f_J1_init (K : Nat → Nat) (v0 : Option Nat) : AM (Unit) :=
  nz v0 <| bd (f_J0_init K v0) fun _ => bd (pu K 2400 v0 (.int (0 : Int32))) fun _ => rt ()
def f_J2_init (K : Nat → Nat) (v0 : Option Nat) : AM (Unit) :=
  nz v0 <| bd (f_J1_init K v0) fun _ => bd (pu K 2500 v0 (va_rf (some (K 3)))) fun _ => rt ()
def f_J3_init (K : Nat → Nat) (v0 : Option Nat) : AM (Unit) :=
  nz v0 <| rt ()
def f_J4_init (K : Nat → Nat) (v0 : Option Nat) : AM (Unit) :=
  nz v0 <| bd (f_J3_init K v0) fun _ => bd (pu K 2805 v0 (.float (1061158912 : UInt32))) fun _ => rt ()
def f_X3_init (K : Nat → Nat) (v0 : Option Nat) : AM (Unit) :=
  nz v0 <| bd (nwO K 28 8) fun x5 => bd (f_J4_init K x5) fun _ => bd (pu K 700 v0 (va_rf x5)) fun _ => rt ()
def f_X2_init (K : Nat → Nat) (v0 : Option Nat) : AM (Unit) :=
  nz v0 <| bd (nwO K 25 3) fun x5 => bd (f_J2_init K x5) fun _ => bd (pu K 300 v0 (va_rf x5)) fun _ => bd (nwO K 25 3) fun x16 => bd (f_J2_init K x16) fun _ => bd (pu K 301 v0 (va_rf x16)) fun _ => bd (nwO K 25 3) fun x27 => bd (f_J2_init K x27) fun _ => bd (pu K 302 v0 (va_rf x27)) fun _ => bd (nwO K 25 3) fun x38 => bd (f_J2_init K x38) fun _ => bd (pu K 303 v0 (va_rf x38)) fun _ => bd (nwO K 7 1) fun x49 => bd (f_X3_init K x49) fun _ => bd (pu K 304 v0 (va_rf x49)) fun _ => bd (nwO K 7 1) fun x60 => bd (f_X3_init K x60) fun _ => bd (pu K 305 v0 (va_rf x60)) fun _ => rt ()
def f_J5_init (K : Nat → Nat) (v0 : Option Nat) (v1 : Int32) : AM (Unit) :=
  nz v0 <| if (1 : Int32) = 0 then fl else (bd (nwA K 1003 (.int 0) v1) fun x12 => bd (pu K 3500 v0 (va_rf x12)) fun _ => bd (pu K 3501 v0 (.int (0 : Int32))) fun _ => rt ())
def f_J6_init (K : Nat → Nat) (v0 : Option Nat) : AM (Unit) :=
  nz v0 <| bd (f_J5_init K v0 (16 : Int32)) fun _ => rt ()
def f_X1_init (K : Nat → Nat) (v0 : Option Nat) : AM (Unit) :=
  nz v0 <| bd (nwO K 3 11) fun x5 => bd (f_X2_init K x5) fun _ => bd (pu K 200 v0 (va_rf x5)) fun _ => bd (nwO K 25 3) fun x16 => bd (f_J2_init K x16) fun _ => bd (pu K 202 v0 (va_rf x16)) fun _ => bd (nwA K 1002 (.int 0) (60 : Int32)) fun x29 => bd (pu K 203 v0 (va_rf x29)) fun _ => bd (nwO K 36 4) fun x35 => bd (f_J6_init K x35) fun _ => bd (pu K 204 v0 (va_rf x35)) fun _ => rt ()
def f_X4_init (K : Nat → Nat) (v0 : Option Nat) : AM (Unit) :=
  nz v0 <| bd (nwA K 1001 (.int 0) (306 : Int32)) fun x8 => bd (pu K 100 v0 (va_rf x8)) fun _ => bd (nwA K 1001 (.int 0) (306 : Int32)) fun x17 => bd (pu K 101 v0 (va_rf x17)) fun _ => bd (nwA K 1001 (.int 0) (306 : Int32)) fun x26 => bd (pu K 102 v0 (va_rf x26)) fun _ => bd (nwA K 1001 (.int 0) (306 : Int32)) fun x35 => bd (pu K 103 v0 (va_rf x35)) fun _ => bd (nwA K 1001 (.int 0) (1836 : Int32)) fun x44 => bd (pu K 105 v0 (va_rf x44)) fun _ => bd (nwA K 1001 (.int 0) (4 : Int32)) fun x51 => bd (pu K 108 v0 (va_rf x51)) fun _ => bd (nwA K 1001 (.int 0) (4 : Int32)) fun x58 => bd (pu K 109 v0 (va_rf x58)) fun _ => bd (pu K 111 v0 (.int (-1 : Int32))) fun _ => bd (nwA K 1001 (.int 0) (60 : Int32)) fun x71 => bd (pu K 112 v0 (va_rf x71)) fun _ => bd (nwA K 1001 (.int 0) (16 : Int32)) fun x79 => bd (pu K 115 v0 (va_rf x79)) fun _ => bd (nwA K 1002 (.int 0) (26 : Int32)) fun x87 => bd (ast K 1002 x87 (0 : Int32) (.int (117 : Int32))) fun _ => bd (ast K 1002 x87 (1 : Int32) (.int (112 : Int32))) fun _ => bd (ast K 1002 x87 (2 : Int32) (.int (100 : Int32))) fun _ => bd (ast K 1002 x87 (3 : Int32) (.int (111 : Int32))) fun _ => bd (ast K 1002 x87 (4 : Int32) (.int (119 : Int32))) fun _ => bd (ast K 1002 x87 (5 : Int32) (.int (110 : Int32))) fun _ => bd (ast K 1002 x87 (6 : Int32) (.int (115 : Int32))) fun _ => bd (ast K 1002 x87 (7 : Int32) (.int (101 : Int32))) fun _ => bd (ast K 1002 x87 (8 : Int32) (.int (108 : Int32))) fun _ => bd (ast K 1002 x87 (9 : Int32) (.int (108 : Int32))) fun _ => bd (ast K 1002 x87 (10 : Int32) (.int (103 : Int32))) fun _ => bd (ast K 1002 x87 (11 : Int32) (.int (117 : Int32))) fun _ => bd (ast K 1002 x87 (12 : Int32) (.int (97 : Int32))) fun _ => bd (ast K 1002 x87 (13 : Int32) (.int (114 : Int32))) fun _ => bd (ast K 1002 x87 (14 : Int32) (.int (100 : Int32))) fun _ => bd (ast K 1002 x87 (15 : Int32) (.int (102 : Int32))) fun _ => bd (ast K 1002 x87 (16 : Int32) (.int (105 : Int32))) fun _ => bd (ast K 1002 x87 (17 : Int32) (.int (120 : Int32))) fun _ => bd (ast K 1002 x87 (18 : Int32) (.int (111 : Int32))) fun _ => bd (ast K 1002 x87 (19 : Int32) (.int (112 : Int32))) fun _ => bd (ast K 1002 x87 (20 : Int32) (.int (101 : Int32))) fun _ => bd (ast K 1002 x87 (21 : Int32) (.int (110 : Int32))) fun _ => bd (ast K 1002 x87 (22 : Int32) (.int (112 : Int32))) fun _ => bd (ast K 1002 x87 (23 : Int32) (.int (97 : Int32))) fun _ => bd (ast K 1002 x87 (24 : Int32) (.int (115 : Int32))) fun _ => bd (ast K 1002 x87 (25 : Int32) (.int (115 : Int32))) fun _ => bd (pu K 117 v0 (va_rf x87)) fun _ => bd (nwA K 1001 (.int 0) (8 : Int32)) fun x245 => bd (ast K 1001 x245 (0 : Int32) (.int (0 : Int32))) fun _ => bd (ast K 1001 x245 (1 : Int32) (.int (2 : Int32))) fun _ => bd (ast K 1001 x245 (2 : Int32) (.int (6 : Int32))) fun _ => bd (ast K 1001 x245 (3 : Int32) (.int (10 : Int32))) fun _ => bd (ast K 1001 x245 (4 : Int32) (.int (15 : Int32))) fun _ => bd (ast K 1001 x245 (5 : Int32) (.int (18 : Int32))) fun _ => bd (ast K 1001 x245 (6 : Int32) (.int (22 : Int32))) fun _ => bd (ast K 1001 x245 (7 : Int32) (.int (26 : Int32))) fun _ => bd (pu K 118 v0 (va_rf x245)) fun _ => bd (nwA K 1001 (.int 0) (7 : Int32)) fun x293 => bd (ast K 1001 x293 (0 : Int32) (.int (2 : Int32))) fun _ => bd (ast K 1001 x293 (1 : Int32) (.int (1 : Int32))) fun _ => bd (ast K 1001 x293 (2 : Int32) (.int (2 : Int32))) fun _ => bd (ast K 1001 x293 (3 : Int32) (.int (2 : Int32))) fun _ => bd (ast K 1001 x293 (4 : Int32) (.int (2 : Int32))) fun _ => bd (ast K 1001 x293 (5 : Int32) (.int (1 : Int32))) fun _ => bd (ast K 1001 x293 (6 : Int32) (.int (1 : Int32))) fun _ => bd (pu K 119 v0 (va_rf x293)) fun _ => bd (nwA K 1001 (.int 0) (183 : Int32)) fun x331 => bd (pu K 120 v0 (va_rf x331)) fun _ => rt ()
def f_J14_init (K : Nat → Nat) (v0 : Option Nat) (v1 : Option Nat) : AM (Unit) :=
  bd (pu K 2603 v0 (va_rf v1)) fun _ => nz v0 <| bd (pu K 2601 v0 (.int (-1 : Int32))) fun _ => bd (gt pR 2603 v0) fun x16 => bd (gt pI 2400 x16) fun x19 => bd (pu K 2602 v0 (.int x19)) fun _ => rt ()
def f_J2_iterator (K : Nat → Nat) (v0 : Option Nat) : AM (Option Nat) :=
  bd (nwO K 26 4) fun x0 => bd (f_J14_init K x0 v0) fun _ => rt x0
def f_J14_hasNext (K : Nat → Nat) (v0 : Option Nat) : AM (Int32) :=
  bd (gt pI 2600 v0) fun x1 => bd (gt pR 2603 v0) fun x5 => bd (gt pI 2501 x5) fun x8 => if x1 = x8 then (rt (0 : Int32)) else (rt (1 : Int32))
def f_J14_checkForComodification (K : Nat → Nat) (v0 : Option Nat) : AM (Unit) :=
  bd (gt pR 2603 v0) fun x1 => bd (gt pI 2400 x1) fun x4 => bd (gt pI 2602 v0) fun x8 => if x4 = x8 then (rt ()) else fl
def f_J9_init (K : Nat → Nat) (v0 : Option Nat) : AM (Unit) :=
  nz v0 <| bd (pu K 1500 v0 (va_rf v0)) fun _ => bd (pu K 1501 v0 (va_rf (kO (K 4)))) fun _ => bd (pu K 1502 v0 (va_rf (kO (K 5)))) fun _ => bd (dv v0 12 (f_T_fill K v0) (dv v0 13 (f_T_fill K v0) (fl))) fun x24 => rt ()
def f_J10_init (K : Nat → Nat) (v0 : Option Nat) : AM (Unit) :=
  nz v0 <| bd (f_J9_init K v0) fun _ => rt ()
def f_J15_init (K : Nat → Nat) (v0 : Option Nat) : AM (Unit) :=
  nz v0 <| bd (f_J10_init K v0) fun _ => rt ()
def f_J16_init (K : Nat → Nat) (v0 : Option Nat) : AM (Unit) :=
  nz v0 <| bd (f_J15_init K v0) fun _ => rt ()
def f_J14_next (K : Nat → Nat) (v0 : Option Nat) : AM (Option Nat) :=
  bd (dv v0 26 (f_J14_checkForComodification K v0) (fl)) fun _ => bd (gt pI 2600 v0) fun x5 => bd (gt pR 2603 v0) fun x11 => bd (gt pI 2501 x11) fun x14 => if x5 < x14 then (bd (gt pR 2603 v0) fun x29 => bd (gt pR 2500 x29) fun x32 => bd (alen x32) fun x38 => if x5 < x38 then (bd (pu K 2600 v0 (.int (x5 + (1 : Int32)))) fun _ => bd (pu K 2601 v0 (.int x5)) fun _ => bd (ald pR 1006 x32 x5) fun x64 => rt x64) else fl) else (bd (nwO K 20 6) fun x20 => bd (f_J16_init K x20) fun _ => thr x20)
def f_X7_init (K : Nat → Nat) (v0 : Option Nat) : AM (Unit) :=
  nz v0 <| bd (nwA K 1001 (.int 0) (8 : Int32)) fun x7 => bd (pu K 400 v0 (va_rf x7)) fun _ => rt ()
def f_X7_copy (K : Nat → Nat) (v0 : Option Nat) : AM (Option Nat) :=
  bd (nwO K 4 3) fun x0 => bd (f_X7_init K x0) fun _ => bd (gt pR 400 v0) fun x9 => bd (gt pR 400 x0) fun x14 => bd (acp K [1001] x9 (0 : Int32) x14 (0 : Int32) (8 : Int32)) fun _ => bd (gt pI 401 v0) fun x25 => chk (fits .boolean (.int x25)) <| bd (pu K 401 x0 (.int x25)) fun _ => bd (gt pI 402 v0) fun x33 => bd (pu K 402 x0 (.int x33)) fun _ => rt x0
def f_J11_newLength_j21 (K : Nat → Nat)  (v0 : Int32) (v1 : Int32)  : AM (Int32) :=
  fl
def f_J11_newLength (K : Nat → Nat) (v0 : Int32) (v1 : Int32) (v2 : Int32) : AM (Int32) :=
  if (v0 + (if v1 < v2 then v2 else v1)) ≤ (0 : Int32) then (f_J11_newLength_j21 K  v0 v1 ) else (if (2147483639 : Int32) < (v0 + (if v1 < v2 then v2 else v1)) then (f_J11_newLength_j21 K  v0 v1 ) else (rt (v0 + (if v1 < v2 then v2 else v1))))
def f_J13_copyOf_3_j24 (K : Nat → Nat)  (v0 : Option Nat) (v1 : Int32) (t0 : Option Nat) : AM (Option Nat) :=
  bd (alen v0) fun x30 => bd (acpR K [1, 2, 3, 4, 5, 6, 7, 8, 9, 10, 12, 13, 14, 15, 16, 17, 18, 19, 20, 21, 22, 23, 25, 26, 28, 29, 30, 32, 33, 34, 36, 37, 38] v0 (0 : Int32) t0 (0 : Int32) (if v1 < x30 then v1 else x30)) fun _ => rt t0
def f_J13_copyOf_3 (K : Nat → Nat) (v0 : Option Nat) (v1 : Int32) (v2 : Option Nat) : AM (Option Nat) :=
  if v2 = (some (K 11)) then (bd (nwA K 1006 .null v1) fun x7 => f_J13_copyOf_3_j24 K  v0 v1 x7) else fl
def f_J13_copyOf_2 (K : Nat → Nat) (v0 : Option Nat) (v1 : Int32) : AM (Option Nat) :=
  bd (gcl K 1006 v0) fun _ => bd (f_J13_copyOf_3 K v0 v1 (some (K 11))) fun x6 => rt x6
def f_J2_grow_2_j20 (K : Nat → Nat)  (v0 : Option Nat) (v1 : Int32) (v2 : Int32)  : AM (Option Nat) :=
  bd (f_J11_newLength K v2 (v1 - v2) (v2 >>> ((1 : Int32) &&& 31))) fun x27 => bd (gt pR 2500 v0) fun x33 => bd (f_J13_copyOf_2 K x33 x27) fun x37 => bd (pu K 2500 v0 (va_rf x37)) fun _ => rt x37
def f_J2_grow_2 (K : Nat → Nat) (v0 : Option Nat) (v1 : Int32) : AM (Option Nat) :=
  bd (gt pR 2500 v0) fun x1 => bd (alen x1) fun x4 => if 0 < x4 then (f_J2_grow_2_j20 K  v0 v1 x4 ) else (bd (gt pR 2500 v0) fun x11 => if x11 = (some (K 3)) then (bd (nwA K 1006 .null (if (10 : Int32) < v1 then v1 else (10 : Int32))) fun x52 => bd (pu K 2500 v0 (va_rf x52)) fun _ => rt x52) else (f_J2_grow_2_j20 K  v0 v1 x4 ))
def f_J2_grow (K : Nat → Nat) (v0 : Option Nat) : AM (Option Nat) :=
  bd (gt pI 2501 v0) fun x2 => bd (dv v0 25 (f_J2_grow_2 K v0 (x2 + (1 : Int32))) (fl)) fun x7 => rt x7
def f_J2_add_2_j11 (K : Nat → Nat)  (v0 : Option Nat) (v1 : Option Nat) (v2 : Option Nat) (v3 : Int32)  : AM (Unit) :=
  bd (asr K 1006 [1, 2, 3, 4, 5, 6, 7, 8, 9, 10, 12, 13, 14, 15, 16, 17, 18, 19, 20, 21, 22, 23, 25, 26, 28, 29, 30, 32, 33, 34, 36, 37, 38] v2 v3 v1) fun _ => bd (pu K 2501 v0 (.int (v3 + (1 : Int32)))) fun _ => rt ()
def f_J2_add_2 (K : Nat → Nat) (v0 : Option Nat) (v1 : Option Nat) (v2 : Option Nat) (v3 : Int32) : AM (Unit) :=
  bd (alen v2) fun x2 => if v3 = x2 then (bd (dv v0 25 (f_J2_grow K v0) (fl)) fun x7 => f_J2_add_2_j11 K  v0 v1 x7 v3 ) else (f_J2_add_2_j11 K  v0 v1 v2 v3 )
def f_J2_add (K : Nat → Nat) (v0 : Option Nat) (v1 : Option Nat) : AM (Int32) :=
  bd (gt pI 2400 v0) fun x2 => bd (pu K 2400 v0 (.int (x2 + (1 : Int32)))) fun _ => bd (gt pR 2500 v0) fun x13 => bd (gt pI 2501 v0) fun x17 => bd (dv v0 25 (f_J2_add_2 K v0 v1 x13 x17) (fl)) fun _ => rt (1 : Int32)
def f_X8_init (K : Nat → Nat) (v0 : Option Nat) (v1 : Int32) (v2 : Int32) (v3 : Int32) (v4 : Int32) : AM (Unit) :=
  nz v0 <| bd (pu K 505 v0 (.int (-1 : Int32))) fun _ => bd (pu K 506 v0 (.int (-1 : Int32))) fun _ => bd (pu K 500 v0 (.int v1)) fun _ => bd (pu K 501 v0 (.int v2)) fun _ => bd (pu K 502 v0 (.int v3)) fun _ => bd (pu K 503 v0 (.int v4)) fun _ => rt ()
def f_X8_copy (K : Nat → Nat) (v0 : Option Nat) : AM (Option Nat) :=
  bd (nwO K 5 8) fun x0 => bd (gt pI 500 v0) fun x5 => bd (gt pI 501 v0) fun x9 => bd (gt pI 502 v0) fun x13 => bd (gt pI 503 v0) fun x17 => bd (f_X8_init K x0 x5 x9 x13 x17) fun _ => bd (gt pI 504 v0) fun x26 => bd (pu K 504 x0 (.int x26)) fun _ => bd (gt pI 505 v0) fun x34 => bd (pu K 505 x0 (.int x34)) fun _ => bd (gt pI 506 v0) fun x42 => bd (pu K 506 x0 (.int x42)) fun _ => bd (gt pI 507 v0) fun x50 => bd (pu K 507 x0 (.int x50)) fun _ => rt x0
def f_X9_init (K : Nat → Nat) (v0 : Option Nat) (v1 : Int32) (v2 : Int32) (v3 : Int32) (v4 : Int32) : AM (Unit) :=
  nz v0 <| bd (pu K 600 v0 (.int v1)) fun _ => bd (pu K 601 v0 (.int v2)) fun _ => bd (pu K 602 v0 (.int v3)) fun _ => bd (pu K 603 v0 (.int v4)) fun _ => rt ()
def f_X9_copy (K : Nat → Nat) (v0 : Option Nat) : AM (Option Nat) :=
  bd (nwO K 6 6) fun x0 => bd (gt pI 600 v0) fun x5 => bd (gt pI 601 v0) fun x9 => bd (gt pI 602 v0) fun x13 => bd (gt pI 603 v0) fun x17 => bd (f_X9_init K x0 x5 x9 x13 x17) fun _ => bd (gt pI 604 v0) fun x26 => bd (pu K 604 x0 (.int x26)) fun _ => bd (gt pI 605 v0) fun x34 => bd (pu K 605 x0 (.int x34)) fun _ => rt x0
def f_J2_toArray (K : Nat → Nat) (v0 : Option Nat) : AM (Option Nat) :=
  bd (gt pR 2500 v0) fun x1 => bd (gt pI 2501 v0) fun x5 => bd (f_J13_copyOf_2 K x1 x5) fun x8 => rt x8
def f_J2_addAll_j56 (K : Nat → Nat)  (v0 : Option Nat) (v2 : Option Nat) (v3 : Int32) (v4 : Option Nat) (v5 : Int32)  : AM (Int32) :=
  bd (acpR K [1, 2, 3, 4, 5, 6, 7, 8, 9, 10, 12, 13, 14, 15, 16, 17, 18, 19, 20, 21, 22, 23, 25, 26, 28, 29, 30, 32, 33, 34, 36, 37, 38] v2 (0 : Int32) v4 v5 v3) fun _ => bd (pu K 2501 v0 (.int (v5 + v3))) fun _ => rt (1 : Int32)
def f_J2_addAll (K : Nat → Nat) (v0 : Option Nat) (v1 : Option Nat) : AM (Int32) :=
  bd (dv v1 25 (f_J2_toArray K v1) (fl)) fun x1 => bd (gt pI 2400 v0) fun x9 => bd (pu K 2400 v0 (.int (x9 + (1 : Int32)))) fun _ => bd (alen x1) fun x18 => if x18 = 0 then (rt (0 : Int32)) else (bd (gt pR 2500 v0) fun x28 => bd (alen x28) fun x34 => bd (gt pI 2501 v0) fun x36 => if x18 ≤ (x34 - x36) then (f_J2_addAll_j56 K  v0 x1 x18 x28 x36 ) else (bd (dv v0 25 (f_J2_grow_2 K v0 (x36 + x18)) (fl)) fun x51 => f_J2_addAll_j56 K  v0 x1 x18 x51 x36 ))
def f_J4_size (K : Nat → Nat) (v0 : Option Nat) : AM (Int32) :=
  bd (gt pI 2802 v0) fun x1 => rt x1
def f_J12_getExponent (K : Nat → Nat) (v0 : UInt64) : AM (Int32) :=
  rt (((((v0.toInt64) &&& (9218868437227405312 : Int64)) >>> ((52 : Int32).toInt64 &&& 63)) - (1023 : Int64)).toInt32)
def f_J28_floorOrCeil_j61 (K : Nat → Nat)    : AM (UInt64) :=
  fl
def f_J28_floorOrCeil_j125 (K : Nat → Nat)  (v13 : UInt64)  : AM (UInt64) :=
  rt v13
def f_J28_floorOrCeil_j69 (K : Nat → Nat)  (v0 : UInt64) (v6 : UInt64) (v8 : Int32)  : AM (UInt64) :=
  if (lg_cmp (((4503599627370495 : Int64) >>> (v8.toInt64 &&& 63)) &&& (v0.toInt64)) (0 : Int64)) = 0 then (rt v0) else (chk (!vn_snl2d ((v0.toInt64) &&& (((4503599627370495 : Int64) >>> (v8.toInt64 &&& 63)) ^^^ (-1 : Int64)))) <| chk (decide ((FP.dmul v6 v0) &&& 0x7fffffffffffffff ≤ 0x7ff0000000000000)) <| if (Op.cmpValue (FP.dcmp (FP.dmul v6 v0) FP.dconst0) .l) ≤ 0 then (f_J28_floorOrCeil_j125 K  (((v0.toInt64) &&& (((4503599627370495 : Int64) >>> (v8.toInt64 &&& 63)) ^^^ (-1 : Int64))).toUInt64) ) else (chk (decide ((FP.dadd (((v0.toInt64) &&& (((4503599627370495 : Int64) >>> (v8.toInt64 &&& 63)) ^^^ (-1 : Int64))).toUInt64) v6) &&& 0x7fffffffffffffff ≤ 0x7ff0000000000000)) <| f_J28_floorOrCeil_j125 K  (FP.dadd (((v0.toInt64) &&& (((4503599627370495 : Int64) >>> (v8.toInt64 &&& 63)) ^^^ (-1 : Int64))).toUInt64) v6) ))
def f_J28_floorOrCeil_j33 (K : Nat → Nat)   (t0 : UInt64) : AM (UInt64) :=
  rt t0
def f_J28_floorOrCeil (K : Nat → Nat) (v0 : UInt64) (v2 : UInt64) (v4 : UInt64) (v6 : UInt64) : AM (UInt64) :=
  bd (f_J12_getExponent K v0) fun x1 => if 0 ≤ x1 then (if x1 < (52 : Int32) then (if (1 : Int32) = 0 then (if x1 < 0 then (f_J28_floorOrCeil_j61 K   ) else (if x1 ≤ (51 : Int32) then (f_J28_floorOrCeil_j69 K  v0 v6 x1 ) else (f_J28_floorOrCeil_j61 K   ))) else (f_J28_floorOrCeil_j69 K  v0 v6 x1 )) else (rt v0)) else (if (Op.cmpValue (FP.dcmp v0 FP.dconst0) .l) = 0 then (f_J28_floorOrCeil_j33 K   v0) else (if 0 ≤ (Op.cmpValue (FP.dcmp v0 FP.dconst0) .g) then (f_J28_floorOrCeil_j33 K   v4) else (f_J28_floorOrCeil_j33 K   v2)))
def f_J28_ceil (K : Nat → Nat) (v0 : UInt64) : AM (UInt64) :=
  bd (f_J28_floorOrCeil K v0 (9223372036854775808 : UInt64) FP.dconst1 FP.dconst1) fun x6 => rt x6
def f_J23_numberOfLeadingZeros_j73 (K : Nat → Nat)  (v0 : Int32) (v1 : Int32)  : AM (Int32) :=
  rt (v1 - (v0.toUInt32 >>> ((1 : Int32).toUInt32 &&& Int32.toUInt32 31)).toInt32)
def f_J23_numberOfLeadingZeros_j61 (K : Nat → Nat)  (v0 : Int32) (v1 : Int32)  : AM (Int32) :=
  if v0 < (4 : Int32) then (f_J23_numberOfLeadingZeros_j73 K  v0 v1 ) else (f_J23_numberOfLeadingZeros_j73 K  (v0.toUInt32 >>> ((2 : Int32).toUInt32 &&& Int32.toUInt32 31)).toInt32 (v1 + (-2 : Int32)) )
def f_J23_numberOfLeadingZeros_j48 (K : Nat → Nat)  (v0 : Int32) (v1 : Int32)  : AM (Int32) :=
  if v0 < (16 : Int32) then (f_J23_numberOfLeadingZeros_j61 K  v0 v1 ) else (f_J23_numberOfLeadingZeros_j61 K  (v0.toUInt32 >>> ((4 : Int32).toUInt32 &&& Int32.toUInt32 31)).toInt32 (v1 + (-4 : Int32)) )
def f_J23_numberOfLeadingZeros_j33 (K : Nat → Nat)  (v0 : Int32) (v1 : Int32)  : AM (Int32) :=
  if v0 < (256 : Int32) then (f_J23_numberOfLeadingZeros_j48 K  v0 v1 ) else (f_J23_numberOfLeadingZeros_j48 K  (v0.toUInt32 >>> ((8 : Int32).toUInt32 &&& Int32.toUInt32 31)).toInt32 (v1 + (-8 : Int32)) )
def f_J23_numberOfLeadingZeros (K : Nat → Nat) (v0 : Int32) : AM (Int32) :=
  if 0 < v0 then (if v0 < (65536 : Int32) then (f_J23_numberOfLeadingZeros_j33 K  v0 (31 : Int32) ) else (f_J23_numberOfLeadingZeros_j33 K  (v0.toUInt32 >>> ((16 : Int32).toUInt32 &&& Int32.toUInt32 31)).toInt32 ((31 : Int32) + (-16 : Int32)) )) else (if v0 = 0 then (rt (32 : Int32)) else (rt (0 : Int32)))
def f_J4_tableSizeFor (K : Nat → Nat) (v0 : Int32) : AM (Int32) :=
  bd (f_J23_numberOfLeadingZeros K (v0 - (1 : Int32))) fun x4 => if 0 ≤ ((-1 : Int32).toUInt32 >>> (x4.toUInt32 &&& Int32.toUInt32 31)).toInt32 then (if ((-1 : Int32).toUInt32 >>> (x4.toUInt32 &&& Int32.toUInt32 31)).toInt32 < (1073741824 : Int32) then (rt (((-1 : Int32).toUInt32 >>> (x4.toUInt32 &&& Int32.toUInt32 31)).toInt32 + (1 : Int32))) else (rt (1073741824 : Int32))) else (rt (1 : Int32))
def f_J4_resize_j347 (K : Nat → Nat) (rc151 : Int32 → AM (Option Nat)) (v0 : Option Nat) (v1 : Option Nat) (v2 : Int32) (v4 : Int32) (v6 : Option Nat) (v7 : Int32)  : AM (Option Nat) :=
  rc151 (v7 + (1 : Int32))
def f_J4_resize_j327 (K : Nat → Nat) (rc151 : Int32 → AM (Option Nat)) (v0 : Option Nat) (v1 : Option Nat) (v2 : Int32) (v4 : Int32) (v6 : Option Nat) (v7 : Int32) (v11 : Option Nat) (v12 : Option Nat)  : AM (Option Nat) :=
  if v12 = none then (f_J4_resize_j347 K rc151 v0 v1 v2 v4 v6 v7 ) else (bd (pu K 2903 v12 (va_rf none)) fun _ => bd (asr K 1007 [29] v6 (v7 + v2) v11) fun _ => f_J4_resize_j347 K rc151 v0 v1 v2 v4 v6 v7 )
def f_J4_resize_j309 (K : Nat → Nat) (rc151 : Int32 → AM (Option Nat)) (v0 : Option Nat) (v1 : Option Nat) (v2 : Int32) (v4 : Int32) (v6 : Option Nat) (v7 : Int32) (v9 : Option Nat) (v10 : Option Nat) (v11 : Option Nat) (v12 : Option Nat)  : AM (Option Nat) :=
  if v10 = none then (f_J4_resize_j327 K rc151 v0 v1 v2 v4 v6 v7 v11 v12 ) else (bd (pu K 2903 v10 (va_rf none)) fun _ => bd (asr K 1007 [29] v6 v7 v9) fun _ => f_J4_resize_j327 K rc151 v0 v1 v2 v4 v6 v7 v11 v12 )
def f_J4_resize_j301 (K : Nat → Nat) (rc151 : Int32 → AM (Option Nat)) (rc235 : Option Nat → Option Nat → Option Nat → Option Nat → Option Nat → AM (Option Nat)) (v0 : Option Nat) (v1 : Option Nat) (v2 : Int32) (v4 : Int32) (v6 : Option Nat) (v7 : Int32) (v9 : Option Nat) (v10 : Option Nat) (v11 : Option Nat) (v12 : Option Nat) (v13 : Option Nat)  : AM (Option Nat) :=
  if v13 = none then (f_J4_resize_j309 K rc151 v0 v1 v2 v4 v6 v7 v9 v10 v11 v12 ) else (rc235 v13 v9 v10 v11 v12)
def f_J4_resize_j271 (K : Nat → Nat) (rc151 : Int32 → AM (Option Nat)) (rc235 : Option Nat → Option Nat → Option Nat → Option Nat → Option Nat → AM (Option Nat)) (v0 : Option Nat) (v1 : Option Nat) (v2 : Int32) (v4 : Int32) (v6 : Option Nat) (v7 : Int32) (v8 : Option Nat) (v9 : Option Nat) (v11 : Option Nat) (v12 : Option Nat) (v13 : Option Nat)  : AM (Option Nat) :=
  f_J4_resize_j301 K rc151 rc235 v0 v1 v2 v4 v6 v7 v9 v8 v11 v12 v13 
def f_J4_resize_j297 (K : Nat → Nat) (rc151 : Int32 → AM (Option Nat)) (rc235 : Option Nat → Option Nat → Option Nat → Option Nat → Option Nat → AM (Option Nat)) (v0 : Option Nat) (v1 : Option Nat) (v2 : Int32) (v4 : Int32) (v6 : Option Nat) (v7 : Int32) (v8 : Option Nat) (v9 : Option Nat) (v10 : Option Nat) (v11 : Option Nat) (v13 : Option Nat)  : AM (Option Nat) :=
  f_J4_resize_j301 K rc151 rc235 v0 v1 v2 v4 v6 v7 v9 v10 v11 v8 v13 
def f_J4_resize_b235 (K : Nat → Nat) (rc151 : Int32 → AM (Option Nat)) (rc235 : Option Nat → Option Nat → Option Nat → Option Nat → Option Nat → AM (Option Nat)) (v0 : Option Nat) (v1 : Option Nat) (v2 : Int32) (v4 : Int32) (v6 : Option Nat) (v7 : Int32) (v8 : Option Nat) (v9 : Option Nat) (v10 : Option Nat) (v11 : Option Nat) (v12 : Option Nat)  : AM (Option Nat) :=
  bd (gt pR 2903 v8) fun x237 => bd (gt pI 2900 v8) fun x244 => if (x244 &&& v2) = 0 then (if v10 = none then (f_J4_resize_j271 K rc151 rc235 v0 v1 v2 v4 v6 v7 v8 v8 v11 v12 x237 ) else (bd (pu K 2903 v10 (va_rf v8)) fun _ => f_J4_resize_j271 K rc151 rc235 v0 v1 v2 v4 v6 v7 v8 v9 v11 v12 x237 )) else (if v12 = none then (f_J4_resize_j297 K rc151 rc235 v0 v1 v2 v4 v6 v7 v8 v9 v10 v8 x237 ) else (bd (pu K 2903 v12 (va_rf v8)) fun _ => f_J4_resize_j297 K rc151 rc235 v0 v1 v2 v4 v6 v7 v8 v9 v10 v11 x237 ))
def f_J4_resize_l235 (K : Nat → Nat) (rc151 : Int32 → AM (Option Nat)) (v0 : Option Nat) (v1 : Option Nat) (v2 : Int32) (v4 : Int32) (v6 : Option Nat) (v7 : Int32) : Nat → Option Nat → Option Nat → Option Nat → Option Nat → Option Nat → AM (Option Nat) := fun n => match n with
  | 0 => fun _ _ _ _ _ => fl
  | n + 1 => fun v8 v9 v10 v11 v12 => f_J4_resize_b235 K rc151 (f_J4_resize_l235 K rc151 v0 v1 v2 v4 v6 v7 n) v0 v1 v2 v4 v6 v7 v8 v9 v10 v11 v12
def f_J4_resize_b151 (K : Nat → Nat) (rc151 : Int32 → AM (Option Nat)) (v0 : Option Nat) (v1 : Option Nat) (v2 : Int32) (v4 : Int32) (v6 : Option Nat) (v7 : Int32)  : AM (Option Nat) :=
  if v2 ≤ v7 then (rt v6) else (bd (ald pR 1007 v1 v7) fun x160 => if x160 = none then (f_J4_resize_j347 K rc151 v0 v1 v2 v4 v6 v7 ) else (bd (asr K 1007 [29] v1 v7 none) fun _ => bd (gt pR 2903 x160) fun x174 => if x174 = none then (bd (gt pI 2900 x160) fun x184 => bd (asr K 1007 [29] v6 (x184 &&& (v4 - (1 : Int32))) x160) fun _ => f_J4_resize_j347 K rc151 v0 v1 v2 v4 v6 v7 ) else (bd (ins [] [29] x160) fun x200 => if x200 = 0 then (f_J4_resize_l235 K rc151 v0 v1 v2 v4 v6 v7 FU x160 none none none none) else (bd (ckc [] x160) fun _ => fl))))
def f_J4_resize_l151 (K : Nat → Nat)  (v0 : Option Nat) (v1 : Option Nat) (v2 : Int32) (v4 : Int32) (v6 : Option Nat) : Nat → Int32 → AM (Option Nat) := fun n => match n with
  | 0 => fun _ => fl
  | n + 1 => fun v7 => f_J4_resize_b151 K (f_J4_resize_l151 K v0 v1 v2 v4 v6 n) v0 v1 v2 v4 v6 v7
def f_J4_resize_j125 (K : Nat → Nat)  (v0 : Option Nat) (v1 : Option Nat) (v2 : Int32) (v4 : Int32) (v5 : Int32)  : AM (Option Nat) :=
  bd (pu K 2804 v0 (.int v5)) fun _ => bd (nwA K 1007 .null v4) fun x133 => bd (pu K 2800 v0 (va_rf x133)) fun _ => if v1 = none then (rt x133) else (f_J4_resize_l151 K  v0 v1 v2 v4 x133 FU (0 : Int32))
def f_J4_resize_j123 (K : Nat → Nat)  (v0 : Option Nat) (v1 : Option Nat) (v2 : Int32) (v4 : Int32) (t0 : Int32) : AM (Option Nat) :=
  f_J4_resize_j125 K  v0 v1 v2 v4 t0 
def f_J4_resize_j121 (K : Nat → Nat)  (v0 : Option Nat) (v1 : Option Nat) (v2 : Int32) (v4 : Int32)  : AM (Option Nat) :=
  f_J4_resize_j123 K  v0 v1 v2 v4 (2147483647 : Int32)
def f_J4_resize_j85 (K : Nat → Nat)  (v0 : Option Nat) (v1 : Option Nat) (v2 : Int32) (v4 : Int32) (v5 : Int32)  : AM (Option Nat) :=
  if v5 = 0 then (bd (gt pF 2805 v0) fun x94 => chk (decide ((FP.fmul (FP.i2f v4) x94) &&& 0x7fffffff ≤ 0x7f800000)) <| if (1073741824 : Int32) ≤ v4 then (f_J4_resize_j121 K  v0 v1 v2 v4 ) else (if 0 ≤ (Op.cmpValue (FP.fcmp (FP.fmul (FP.i2f v4) x94) (1317011456 : UInt32)) .g) then (f_J4_resize_j121 K  v0 v1 v2 v4 ) else (f_J4_resize_j123 K  v0 v1 v2 v4 (FP.f2i (FP.fmul (FP.i2f v4) x94))))) else (f_J4_resize_j125 K  v0 v1 v2 v4 v5 )
def f_J4_resize_j15 (K : Nat → Nat)  (v0 : Option Nat) (v1 : Option Nat) (t0 : Int32) : AM (Option Nat) :=
  bd (gt pI 2804 v0) fun x17 => if t0 ≤ 0 then (if x17 ≤ 0 then (f_J4_resize_j85 K  v0 v1 t0 (16 : Int32) (12 : Int32) ) else (f_J4_resize_j85 K  v0 v1 t0 x17 (0 : Int32) )) else (if t0 < (1073741824 : Int32) then (if (1073741824 : Int32) ≤ (t0 <<< ((1 : Int32) &&& 31)) then (f_J4_resize_j85 K  v0 v1 t0 (t0 <<< ((1 : Int32) &&& 31)) (0 : Int32) ) else (if t0 < (16 : Int32) then (f_J4_resize_j85 K  v0 v1 t0 (t0 <<< ((1 : Int32) &&& 31)) (0 : Int32) ) else (f_J4_resize_j85 K  v0 v1 t0 (t0 <<< ((1 : Int32) &&& 31)) (x17 <<< ((1 : Int32) &&& 31)) ))) else (bd (pu K 2804 v0 (.int (2147483647 : Int32))) fun _ => rt v1))
def f_J4_resize (K : Nat → Nat) (v0 : Option Nat) : AM (Option Nat) :=
  bd (gt pR 2800 v0) fun x1 => if x1 = none then (f_J4_resize_j15 K  v0 x1 (0 : Int32)) else (bd (alen x1) fun x14 => f_J4_resize_j15 K  v0 x1 x14)
def f_J34_init (K : Nat → Nat) (v0 : Option Nat) : AM (Unit) :=
  nz v0 <| bd (f_J0_init K v0) fun _ => rt ()
def f_J35_init (K : Nat → Nat) (v0 : Option Nat) (v1 : Option Nat) : AM (Unit) :=
  bd (pu K 3000 v0 (va_rf v1)) fun _ => nz v0 <| bd (f_J34_init K v0) fun _ => rt ()
def f_J4_entrySet (K : Nat → Nat) (v0 : Option Nat) : AM (Option Nat) :=
  bd (gt pR 2801 v0) fun x1 => if x1 = none then (bd (nwO K 30 1) fun x10 => bd (f_J35_init K x10 v0) fun _ => bd (pu K 2801 v0 (va_rf x10)) fun _ => rt x10) else (rt x1)
def f_J25_init_b48 (K : Nat → Nat) (rc48 : AM (Unit)) (v0 : Option Nat) (v2 : Option Nat)  : AM (Unit) :=
  bd (gt pI 3103 v0) fun x49 => bd (alen v2) fun x53 => if x53 ≤ x49 then (rt ()) else (bd (gt pI 3103 v0) fun x61 => bd (pu K 3103 v0 (.int (x61 + (1 : Int32)))) fun _ => bd (ald pR 1007 v2 x61) fun x70 => bd (pu K 3100 v0 (va_rf x70)) fun _ => if x70 = none then rc48 else (rt ()))
def f_J25_init_l48 (K : Nat → Nat)  (v0 : Option Nat) (v2 : Option Nat) : Nat → AM (Unit) := fun n => match n with
  | 0 => fl
  | n + 1 => f_J25_init_b48 K (f_J25_init_l48 K v0 v2 n) v0 v2
def f_J25_init (K : Nat → Nat) (v0 : Option Nat) (v1 : Option Nat) : AM (Unit) :=
  bd (pu K 3104 v0 (va_rf v1)) fun _ => nz v0 <| bd (gt pI 2803 v1) fun x11 => bd (pu K 3102 v0 (.int x11)) fun _ => bd (gt pR 2800 v1) fun x18 => bd (pu K 3100 v0 (va_rf none)) fun _ => bd (pu K 3101 v0 (va_rf none)) fun _ => bd (pu K 3103 v0 (.int (0 : Int32))) fun _ => if x18 = none then (rt ()) else (bd (gt pI 2802 v1) fun x42 => if x42 ≤ 0 then (rt ()) else (f_J25_init_l48 K  v0 x18 FU ))
def f_J26_init (K : Nat → Nat) (v0 : Option Nat) (v1 : Option Nat) : AM (Unit) :=
  nz v0 <| bd (f_J25_init K v0 v1) fun _ => rt ()
def f_J35_iterator (K : Nat → Nat) (v0 : Option Nat) : AM (Option Nat) :=
  bd (nwO K 32 5) fun x0 => bd (gt pR 3000 v0) fun x5 => bd (f_J26_init K x0 x5) fun _ => rt x0
def f_J25_hasNext (K : Nat → Nat) (v0 : Option Nat) : AM (Int32) :=
  bd (gt pR 3100 v0) fun x1 => if x1 = none then (rt (0 : Int32)) else (rt (1 : Int32))
def f_J25_nextNode_b68 (K : Nat → Nat) (rc68 : AM (Option Nat)) (v0 : Option Nat) (v1 : Option Nat) (v2 : Option Nat)  : AM (Option Nat) :=
  bd (gt pI 3103 v0) fun x69 => bd (alen v1) fun x73 => if x73 ≤ x69 then (rt v2) else (bd (gt pI 3103 v0) fun x81 => bd (pu K 3103 v0 (.int (x81 + (1 : Int32)))) fun _ => bd (ald pR 1007 v1 x81) fun x90 => bd (pu K 3100 v0 (va_rf x90)) fun _ => if x90 = none then rc68 else (rt v2))
def f_J25_nextNode_l68 (K : Nat → Nat)  (v0 : Option Nat) (v1 : Option Nat) (v2 : Option Nat) : Nat → AM (Option Nat) := fun n => match n with
  | 0 => fl
  | n + 1 => f_J25_nextNode_b68 K (f_J25_nextNode_l68 K v0 v1 v2 n) v0 v1 v2
def f_J25_nextNode (K : Nat → Nat) (v0 : Option Nat) : AM (Option Nat) :=
  bd (gt pR 3100 v0) fun x1 => bd (gt pR 3104 v0) fun x6 => bd (gt pI 2803 x6) fun x9 => bd (gt pI 3102 v0) fun x13 => if x9 = x13 then (if x1 = none then (bd (nwO K 20 6) fun x31 => bd (f_J16_init K x31) fun _ => thr x31) else (bd (pu K 3101 v0 (va_rf x1)) fun _ => bd (gt pR 2903 x1) fun x46 => bd (pu K 3100 v0 (va_rf x46)) fun _ => if x46 = none then (bd (gt pR 3104 v0) fun x57 => bd (gt pR 2800 x57) fun x60 => if x60 = none then (rt x1) else (f_J25_nextNode_l68 K  v0 x60 x1 FU )) else (rt x1))) else fl
def f_J26_next_2 (K : Nat → Nat) (v0 : Option Nat) : AM (Option Nat) :=
  bd (dv v0 32 (f_J25_nextNode K v0) (fl)) fun x1 => rt x1
def f_J26_next (K : Nat → Nat) (v0 : Option Nat) : AM (Option Nat) :=
  bd (dv v0 32 (f_J26_next_2 K v0) (fl)) fun x1 => rt x1
def f_J29_getKey (K : Nat → Nat) (v0 : Option Nat) : AM (Option Nat) :=
  bd (gt pR 2901 v0) fun x1 => rt x1
def f_J29_getValue (K : Nat → Nat) (v0 : Option Nat) : AM (Option Nat) :=
  bd (gt pR 2902 v0) fun x1 => rt x1
def f_X10_hashCode (K : Nat → Nat) (v0 : Option Nat) : AM (Int32) :=
  bd (gt pI 800 v0) fun x3 => bd (gt pI 801 v0) fun x8 => rt (((7 : Int32) * x3) + x8)
def f_J4_hash (K : Nat → Nat) (v0 : Option Nat) : AM (Int32) :=
  if v0 = none then (rt (0 : Int32)) else (bd (dv v0 8 (f_X10_hashCode K v0) (fl)) fun x9 => rt (x9 ^^^ (x9.toUInt32 >>> ((16 : Int32).toUInt32 &&& Int32.toUInt32 31)).toInt32))
def f_J29_init (K : Nat → Nat) (v0 : Option Nat) (v1 : Int32) (v2 : Option Nat) (v3 : Option Nat) (v4 : Option Nat) : AM (Unit) :=
  nz v0 <| bd (pu K 2900 v0 (.int v1)) fun _ => bd (pu K 2901 v0 (va_rf v2)) fun _ => bd (pu K 2902 v0 (va_rf v3)) fun _ => bd (pu K 2903 v0 (va_rf v4)) fun _ => rt ()
def f_J4_newNode (K : Nat → Nat) (v0 : Option Nat) (v1 : Int32) (v2 : Option Nat) (v3 : Option Nat) (v4 : Option Nat) : AM (Option Nat) :=
  bd (nwO K 29 4) fun x0 => bd (f_J29_init K x0 v1 v2 v3 v4) fun _ => rt x0
def f_X10_equals (K : Nat → Nat) (v0 : Option Nat) (v1 : Option Nat) : AM (Int32) :=
  bd (ins [8] [] v1) fun x1 => if x1 = 0 then (rt (0 : Int32)) else (bd (ckc [8] v1) fun _ => bd (gt pI 800 v1) fun x13 => bd (gt pI 800 v0) fun x17 => if x13 = x17 then (bd (gt pI 801 v1) fun x24 => bd (gt pI 801 v0) fun x28 => if x24 = x28 then (rt (1 : Int32)) else (rt (0 : Int32))) else (rt (0 : Int32)))
def f_J23_intValue (K : Nat → Nat) (v0 : Option Nat) : AM (Int32) :=
  bd (gt pI 3300 v0) fun x1 => rt x1
def f_J23_equals (K : Nat → Nat) (v0 : Option Nat) (v1 : Option Nat) : AM (Int32) :=
  bd (ins [33] [] v1) fun x1 => if x1 = 0 then (rt (0 : Int32)) else (bd (gt pI 3300 v0) fun x8 => bd (ckc [33] v1) fun _ => bd (dv v1 33 (f_J23_intValue K v1) (fl)) fun x15 => if x8 = x15 then (rt (1 : Int32)) else (rt (0 : Int32)))
def f_J21_equals_b9 (K : Nat → Nat) (rc9 : Int32 → AM (Int32)) (v0 : Option Nat) (v1 : Option Nat) (v2 : Int32)  : AM (Int32) :=
  bd (alen v0) fun x11 => if x11 ≤ v2 then (rt (1 : Int32)) else (bd (ald pI 1003 v0 v2) fun x17 => bd (ald pI 1003 v1 v2) fun x20 => if x17 = x20 then (rc9 (v2 + (1 : Int32))) else (rt (0 : Int32)))
def f_J21_equals_l9 (K : Nat → Nat)  (v0 : Option Nat) (v1 : Option Nat) : Nat → Int32 → AM (Int32) := fun n => match n with
  | 0 => fun _ => fl
  | n + 1 => fun v2 => f_J21_equals_b9 K (f_J21_equals_l9 K v0 v1 n) v0 v1 v2
def f_J21_equals (K : Nat → Nat) (v0 : Option Nat) (v1 : Option Nat) : AM (Int32) :=
  bd (alen v0) fun x1 => bd (alen v1) fun x3 => if x1 = x3 then (f_J21_equals_l9 K  v0 v1 FU (0 : Int32)) else (rt (0 : Int32))
def f_J7_equals_j36 (K : Nat → Nat)  (v0 : Option Nat) (v2 : Option Nat)  : AM (Int32) :=
  bd (gt pR 3400 v0) fun x37 => bd (gt pR 3400 v2) fun x41 => bd (f_J21_equals K x37 x41) fun x44 => if x44 = 0 then (rt (0 : Int32)) else (rt (1 : Int32))
def f_J7_equals (K : Nat → Nat) (v0 : Option Nat) (v1 : Option Nat) : AM (Int32) :=
  if v0 = v1 then (rt (1 : Int32)) else (bd (ins [34] [] v1) fun x8 => if x8 = 0 then (rt (0 : Int32)) else (bd (ckc [34] v1) fun _ => if (1 : Int32) = 0 then (f_J7_equals_j36 K  v0 v1 ) else (bd (gt pI 3401 v0) fun x26 => bd (gt pI 3401 v1) fun x30 => if x26 = x30 then (f_J7_equals_j36 K  v0 v1 ) else (rt (0 : Int32)))))
def f_J4_afterNodeInsertion (K : Nat → Nat) (v0 : Option Nat) (v1 : Int32) : AM (Unit) :=
  rt ()
def f_J4_afterNodeAccess (K : Nat → Nat) (v0 : Option Nat) (v1 : Option Nat) : AM (Unit) :=
  rt ()
def f_J4_putVal_j292 (K : Nat → Nat)  (v0 : Option Nat) (v5 : Int32)  : AM (Option Nat) :=
  bd (dv v0 28 (f_J4_afterNodeInsertion K v0 v5) (fl)) fun _ => rt none
def f_J4_putVal_j259 (K : Nat → Nat)  (v0 : Option Nat) (v5 : Int32)  : AM (Option Nat) :=
  bd (gt pI 2803 v0) fun x261 => bd (pu K 2803 v0 (.int (x261 + (1 : Int32)))) fun _ => bd (gt pI 2802 v0) fun x271 => bd (pu K 2802 v0 (.int (x271 + (1 : Int32)))) fun _ => bd (gt pI 2804 v0) fun x281 => if (x271 + (1 : Int32)) ≤ x281 then (f_J4_putVal_j292 K  v0 v5 ) else (bd (dv v0 28 (f_J4_resize K v0) (fl)) fun x288 => f_J4_putVal_j292 K  v0 v5 )
def f_J4_putVal_j250 (K : Nat → Nat)  (v0 : Option Nat) (v10 : Option Nat) (v12 : Option Nat)  : AM (Option Nat) :=
  bd (dv v0 28 (f_J4_afterNodeAccess K v0 v10) (fl)) fun _ => rt v12
def f_J4_putVal_j244 (K : Nat → Nat)  (v0 : Option Nat) (v3 : Option Nat) (v10 : Option Nat) (v12 : Option Nat)  : AM (Option Nat) :=
  bd (pu K 2902 v10 (va_rf v3)) fun _ => f_J4_putVal_j250 K  v0 v10 v12 
def f_J4_putVal_j222 (K : Nat → Nat)  (v0 : Option Nat) (v3 : Option Nat) (v4 : Int32) (v5 : Int32) (v10 : Option Nat)  : AM (Option Nat) :=
  if v10 = none then (f_J4_putVal_j259 K  v0 v5 ) else (bd (gt pR 2902 v10) fun x229 => if v4 = 0 then (f_J4_putVal_j244 K  v0 v3 v10 x229 ) else (if x229 = none then (f_J4_putVal_j244 K  v0 v3 v10 x229 ) else (f_J4_putVal_j250 K  v0 v10 x229 )))
def f_J4_putVal_j97 (K : Nat → Nat)  (v0 : Option Nat) (v3 : Option Nat) (v4 : Int32) (v5 : Int32) (v7 : Option Nat)  : AM (Option Nat) :=
  f_J4_putVal_j222 K  v0 v3 v4 v5 v7 
def f_J4_putVal_j145 (K : Nat → Nat)  (v0 : Option Nat) (v1 : Int32) (v2 : Option Nat) (v3 : Option Nat) (v4 : Int32) (v5 : Int32) (v6 : Option Nat) (v7 : Option Nat) (v10 : Option Nat) (v12 : Int32)  : AM (Option Nat) :=
  bd (dv v0 28 (f_J4_newNode K v0 v1 v2 v3 none) (fl)) fun x152 => bd (pu K 2903 v7 (va_rf x152)) fun _ => if v12 < (7 : Int32) then (f_J4_putVal_j222 K  v0 v3 v4 v5 v10 ) else fl
def f_J4_putVal_j212 (K : Nat → Nat) (rc134 : Option Nat → Int32 → AM (Option Nat)) (v0 : Option Nat) (v1 : Int32) (v2 : Option Nat) (v3 : Option Nat) (v4 : Int32) (v5 : Int32) (v6 : Option Nat) (v10 : Option Nat) (v12 : Int32)  : AM (Option Nat) :=
  rc134 v10 (v12 + (1 : Int32))
def f_J4_putVal_j209 (K : Nat → Nat)  (v0 : Option Nat) (v3 : Option Nat) (v4 : Int32) (v5 : Int32) (v10 : Option Nat)  : AM (Option Nat) :=
  f_J4_putVal_j222 K  v0 v3 v4 v5 v10 
def f_J4_putVal_b134 (K : Nat → Nat) (rc134 : Option Nat → Int32 → AM (Option Nat)) (v0 : Option Nat) (v1 : Int32) (v2 : Option Nat) (v3 : Option Nat) (v4 : Int32) (v5 : Int32) (v6 : Option Nat) (v7 : Option Nat) (v12 : Int32)  : AM (Option Nat) :=
  bd (gt pR 2903 v7) fun x136 => if x136 = none then (f_J4_putVal_j145 K  v0 v1 v2 v3 v4 v5 v6 v7 x136 v12 ) else (bd (gt pI 2900 x136) fun x177 => if x177 = v1 then (bd (gt pR 2901 x136) fun x186 => if x186 = v2 then (f_J4_putVal_j222 K  v0 v3 v4 v5 x136 ) else (if v2 = none then (f_J4_putVal_j212 K rc134 v0 v1 v2 v3 v4 v5 v6 x136 v12 ) else (bd (dv v2 8 (f_X10_equals K v2 x186) (dv v2 33 (f_J23_equals K v2 x186) (dv v2 34 (f_J7_equals K v2 x186) (fl)))) fun x203 => if x203 = 0 then (f_J4_putVal_j212 K rc134 v0 v1 v2 v3 v4 v5 v6 x136 v12 ) else (f_J4_putVal_j209 K  v0 v3 v4 v5 x136 )))) else (f_J4_putVal_j212 K rc134 v0 v1 v2 v3 v4 v5 v6 x136 v12 ))
def f_J4_putVal_l134 (K : Nat → Nat)  (v0 : Option Nat) (v1 : Int32) (v2 : Option Nat) (v3 : Option Nat) (v4 : Int32) (v5 : Int32) (v6 : Option Nat) : Nat → Option Nat → Int32 → AM (Option Nat) := fun n => match n with
  | 0 => fun _ _ => fl
  | n + 1 => fun v7 v12 => f_J4_putVal_b134 K (f_J4_putVal_l134 K v0 v1 v2 v3 v4 v5 v6 n) v0 v1 v2 v3 v4 v5 v6 v7 v12
def f_J4_putVal_j104 (K : Nat → Nat)  (v0 : Option Nat) (v1 : Int32) (v2 : Option Nat) (v3 : Option Nat) (v4 : Int32) (v5 : Int32) (v6 : Option Nat) (v7 : Option Nat)  : AM (Option Nat) :=
  bd (ins [] [29] v7) fun x106 => if x106 = 0 then (f_J4_putVal_l134 K  v0 v1 v2 v3 v4 v5 v6 FU v7 (0 : Int32)) else (bd (ckc [] v7) fun _ => fl)
def f_J4_putVal_j29 (K : Nat → Nat)  (v0 : Option Nat) (v1 : Int32) (v2 : Option Nat) (v3 : Option Nat) (v4 : Int32) (v5 : Int32) (v6 : Option Nat) (v8 : Int32)  : AM (Option Nat) :=
  bd (ald pR 1007 v6 ((v8 - (1 : Int32)) &&& v1)) fun x40 => if x40 = none then (bd (dv v0 28 (f_J4_newNode K v0 v1 v2 v3 none) (fl)) fun x56 => bd (asr K 1007 [29] v6 ((v8 - (1 : Int32)) &&& v1) x56) fun _ => f_J4_putVal_j259 K  v0 v5 ) else (bd (gt pI 2900 x40) fun x65 => if x65 = v1 then (bd (gt pR 2901 x40) fun x74 => if x74 = v2 then (f_J4_putVal_j97 K  v0 v3 v4 v5 x40 ) else (if v2 = none then (f_J4_putVal_j104 K  v0 v1 v2 v3 v4 v5 v6 x40 ) else (bd (dv v2 8 (f_X10_equals K v2 x74) (dv v2 33 (f_J23_equals K v2 x74) (dv v2 34 (f_J7_equals K v2 x74) (fl)))) fun x91 => if x91 = 0 then (f_J4_putVal_j104 K  v0 v1 v2 v3 v4 v5 v6 x40 ) else (f_J4_putVal_j97 K  v0 v3 v4 v5 x40 )))) else (f_J4_putVal_j104 K  v0 v1 v2 v3 v4 v5 v6 x40 ))
def f_J4_putVal_j19 (K : Nat → Nat)  (v0 : Option Nat) (v1 : Int32) (v2 : Option Nat) (v3 : Option Nat) (v4 : Int32) (v5 : Int32)  : AM (Option Nat) :=
  bd (dv v0 28 (f_J4_resize K v0) (fl)) fun x20 => bd (alen x20) fun x26 => f_J4_putVal_j29 K  v0 v1 v2 v3 v4 v5 x20 x26 
def f_J4_putVal (K : Nat → Nat) (v0 : Option Nat) (v1 : Int32) (v2 : Option Nat) (v3 : Option Nat) (v4 : Int32) (v5 : Int32) : AM (Option Nat) :=
  bd (gt pR 2800 v0) fun x1 => if x1 = none then (f_J4_putVal_j19 K  v0 v1 v2 v3 v4 v5 ) else (bd (alen x1) fun x12 => if x12 = 0 then (f_J4_putVal_j19 K  v0 v1 v2 v3 v4 v5 ) else (f_J4_putVal_j29 K  v0 v1 v2 v3 v4 v5 x1 x12 ))
def f_J4_putMapEntries_b110 (K : Nat → Nat) (rc110 : AM (Unit)) (v0 : Option Nat) (v2 : Int32) (v4 : Option Nat)  : AM (Unit) :=
  bd (dv v4 32 (f_J25_hasNext K v4) (fl)) fun x112 => if x112 = 0 then (rt ()) else (bd (dv v4 32 (f_J26_next K v4) (fl)) fun x122 => bd (ckc [29] x122) fun _ => bd (dv x122 29 (f_J29_getKey K x122) (fl)) fun x134 => bd (dv x122 29 (f_J29_getValue K x122) (fl)) fun x143 => bd (f_J4_hash K x134) fun x153 => bd (dv v0 28 (f_J4_putVal K v0 x153 x134 x143 (0 : Int32) v2) (fl)) fun x162 => rc110)
def f_J4_putMapEntries_l110 (K : Nat → Nat)  (v0 : Option Nat) (v2 : Int32) (v4 : Option Nat) : Nat → AM (Unit) := fun n => match n with
  | 0 => fl
  | n + 1 => f_J4_putMapEntries_b110 K (f_J4_putMapEntries_l110 K v0 v2 v4 n) v0 v2 v4
def f_J4_putMapEntries_j97 (K : Nat → Nat)  (v0 : Option Nat) (v1 : Option Nat) (v2 : Int32)  : AM (Unit) :=
  bd (dv v1 28 (f_J4_entrySet K v1) (fl)) fun x98 => bd (dv x98 30 (f_J35_iterator K x98) (fl)) fun x103 => f_J4_putMapEntries_l110 K  v0 v2 x103 FU 
def f_J4_putMapEntries_j68 (K : Nat → Nat)  (v0 : Option Nat) (v1 : Option Nat) (v2 : Int32)  : AM (Unit) :=
  f_J4_putMapEntries_j97 K  v0 v1 v2 
def f_J4_putMapEntries_j48 (K : Nat → Nat)  (v0 : Option Nat) (v1 : Option Nat) (v2 : Int32) (t0 : Int32) : AM (Unit) :=
  bd (gt pI 2804 v0) fun x53 => if t0 ≤ x53 then (f_J4_putMapEntries_j68 K  v0 v1 v2 ) else (bd (f_J4_tableSizeFor K t0) fun x62 => bd (pu K 2804 v0 (.int x62)) fun _ => f_J4_putMapEntries_j68 K  v0 v1 v2 )
def f_J4_putMapEntries_b71 (K : Nat → Nat) (rc71 : AM (Unit)) (v0 : Option Nat) (v1 : Option Nat) (v2 : Int32) (v3 : Int32)  : AM (Unit) :=
  bd (gt pI 2804 v0) fun x73 => if v3 ≤ x73 then (f_J4_putMapEntries_j97 K  v0 v1 v2 ) else (bd (gt pR 2800 v0) fun x80 => bd (alen x80) fun x83 => if (1073741824 : Int32) ≤ x83 then (f_J4_putMapEntries_j97 K  v0 v1 v2 ) else (bd (dv v0 28 (f_J4_resize K v0) (fl)) fun x90 => rc71))
def f_J4_putMapEntries_l71 (K : Nat → Nat)  (v0 : Option Nat) (v1 : Option Nat) (v2 : Int32) (v3 : Int32) : Nat → AM (Unit) := fun n => match n with
  | 0 => fl
  | n + 1 => f_J4_putMapEntries_b71 K (f_J4_putMapEntries_l71 K v0 v1 v2 v3 n) v0 v1 v2 v3
def f_J4_putMapEntries (K : Nat → Nat) (v0 : Option Nat) (v1 : Option Nat) (v2 : Int32) : AM (Unit) :=
  bd (dv v1 28 (f_J4_size K v1) (fl)) fun x1 => if x1 ≤ 0 then (rt ()) else (bd (gt pR 2800 v0) fun x12 => if x12 = none then (bd (gt pF 2805 v0) fun x21 => chk (decide ((FP.f2d x21) &&& 0x7fffffffffffffff ≤ 0x7ff0000000000000)) <| chk (decide ((FP.ddiv (FP.i2d x1) (FP.f2d x21)) &&& 0x7fffffffffffffff ≤ 0x7ff0000000000000)) <| bd (ceilN (f_J28_ceil K (FP.ddiv (FP.i2d x1) (FP.f2d x21)))) fun x26 => if 0 ≤ (Op.cmpValue (FP.dcmp x26 (4742290407621132288 : UInt64)) .g) then (f_J4_putMapEntries_j48 K  v0 v1 v2 (1073741824 : Int32)) else (f_J4_putMapEntries_j48 K  v0 v1 v2 (FP.d2i x26))) else (f_J4_putMapEntries_l71 K  v0 v1 v2 x1 FU ))
def f_J4_putAll (K : Nat → Nat) (v0 : Option Nat) (v1 : Option Nat) : AM (Unit) :=
  bd (dv v0 28 (f_J4_putMapEntries K v0 v1 (1 : Int32)) (fl)) fun _ => rt ()
def f_X3_copy (K : Nat → Nat) (v0 : Option Nat) : AM (Option Nat) :=
  bd (nwO K 7 1) fun x0 => bd (f_X3_init K x0) fun _ => bd (gt pR 700 x0) fun x9 => bd (gt pR 700 v0) fun x13 => bd (dv x9 28 (f_J4_putAll K x9 x13) (fl)) fun _ => rt x0
def f_X2_copy_j134 (K : Nat → Nat)  (v0 : Option Nat) (v1 : Option Nat)  : AM (Option Nat) :=
  bd (gt pR 303 v1) fun x135 => bd (gt pR 303 v0) fun x139 => bd (dv x135 25 (f_J2_addAll K x135 x139) (fl)) fun x142 => bd (gt pR 304 v0) fun x148 => bd (dv x148 7 (f_X3_copy K x148) (fl)) fun x151 => bd (pu K 304 v1 (va_rf x151)) fun _ => bd (gt pR 305 v0) fun x159 => bd (dv x159 7 (f_X3_copy K x159) (fl)) fun x162 => bd (pu K 305 v1 (va_rf x162)) fun _ => bd (gt pI 306 v0) fun x170 => bd (pu K 306 v1 (.int x170)) fun _ => bd (gt pI 307 v0) fun x178 => bd (pu K 307 v1 (.int x178)) fun _ => bd (gt pI 308 v0) fun x186 => bd (pu K 308 v1 (.int x186)) fun _ => bd (gt pI 309 v0) fun x194 => bd (pu K 309 v1 (.int x194)) fun _ => bd (gt pI 310 v0) fun x202 => bd (pu K 310 v1 (.int x202)) fun _ => rt v1
def f_X2_copy_b100 (K : Nat → Nat) (rc100 : AM (Option Nat)) (v0 : Option Nat) (v1 : Option Nat) (v2 : Option Nat)  : AM (Option Nat) :=
  bd (dv v2 26 (f_J14_hasNext K v2) (fl)) fun x101 => if x101 = 0 then (f_X2_copy_j134 K  v0 v1 ) else (bd (dv v2 26 (f_J14_next K v2) (fl)) fun x110 => bd (ckc [6] x110) fun _ => bd (gt pR 302 v1) fun x120 => bd (dv x110 6 (f_X9_copy K x110) (fl)) fun x124 => bd (dv x120 25 (f_J2_add K x120 x124) (fl)) fun x127 => rc100)
def f_X2_copy_l100 (K : Nat → Nat)  (v0 : Option Nat) (v1 : Option Nat) (v2 : Option Nat) : Nat → AM (Option Nat) := fun n => match n with
  | 0 => fl
  | n + 1 => f_X2_copy_b100 K (f_X2_copy_l100 K v0 v1 v2 n) v0 v1 v2
def f_X2_copy_j92 (K : Nat → Nat)  (v0 : Option Nat) (v1 : Option Nat)  : AM (Option Nat) :=
  bd (gt pR 302 v0) fun x93 => bd (dv x93 25 (f_J2_iterator K x93) (fl)) fun x96 => f_X2_copy_l100 K  v0 v1 x96 FU 
def f_X2_copy_b58 (K : Nat → Nat) (rc58 : AM (Option Nat)) (v0 : Option Nat) (v1 : Option Nat) (v2 : Option Nat)  : AM (Option Nat) :=
  bd (dv v2 26 (f_J14_hasNext K v2) (fl)) fun x59 => if x59 = 0 then (f_X2_copy_j92 K  v0 v1 ) else (bd (dv v2 26 (f_J14_next K v2) (fl)) fun x68 => bd (ckc [5] x68) fun _ => bd (gt pR 301 v1) fun x78 => bd (dv x68 5 (f_X8_copy K x68) (fl)) fun x82 => bd (dv x78 25 (f_J2_add K x78 x82) (fl)) fun x85 => rc58)
def f_X2_copy_l58 (K : Nat → Nat)  (v0 : Option Nat) (v1 : Option Nat) (v2 : Option Nat) : Nat → AM (Option Nat) := fun n => match n with
  | 0 => fl
  | n + 1 => f_X2_copy_b58 K (f_X2_copy_l58 K v0 v1 v2 n) v0 v1 v2
def f_X2_copy_j50 (K : Nat → Nat)  (v0 : Option Nat) (v1 : Option Nat)  : AM (Option Nat) :=
  bd (gt pR 301 v0) fun x51 => bd (dv x51 25 (f_J2_iterator K x51) (fl)) fun x54 => f_X2_copy_l58 K  v0 v1 x54 FU 
def f_X2_copy_b16 (K : Nat → Nat) (rc16 : AM (Option Nat)) (v0 : Option Nat) (v1 : Option Nat) (v2 : Option Nat)  : AM (Option Nat) :=
  bd (dv v2 26 (f_J14_hasNext K v2) (fl)) fun x17 => if x17 = 0 then (f_X2_copy_j50 K  v0 v1 ) else (bd (dv v2 26 (f_J14_next K v2) (fl)) fun x26 => bd (ckc [4] x26) fun _ => bd (gt pR 300 v1) fun x36 => bd (dv x26 4 (f_X7_copy K x26) (fl)) fun x40 => bd (dv x36 25 (f_J2_add K x36 x40) (fl)) fun x43 => rc16)
def f_X2_copy_l16 (K : Nat → Nat)  (v0 : Option Nat) (v1 : Option Nat) (v2 : Option Nat) : Nat → AM (Option Nat) := fun n => match n with
  | 0 => fl
  | n + 1 => f_X2_copy_b16 K (f_X2_copy_l16 K v0 v1 v2 n) v0 v1 v2
def f_X2_copy (K : Nat → Nat) (v0 : Option Nat) : AM (Option Nat) :=
  bd (nwO K 3 11) fun x0 => bd (f_X2_init K x0) fun _ => bd (gt pR 300 v0) fun x9 => bd (dv x9 25 (f_J2_iterator K x9) (fl)) fun x12 => f_X2_copy_l16 K  v0 x0 x12 FU 
def f_J2_size (K : Nat → Nat) (v0 : Option Nat) : AM (Int32) :=
  bd (gt pI 2501 v0) fun x1 => rt x1
def f_X5_init (K : Nat → Nat) (v0 : Option Nat) (v1 : Int32) (v2 : Int32) : AM (Unit) :=
  nz v0 <| bd (f_J10_init K v0) fun _ => bd (pu K 1100 v0 (.int v1)) fun _ => bd (pu K 1101 v0 (.int v2)) fun _ => rt ()
def f_X6_init (K : Nat → Nat) (v0 : Option Nat) (v1 : Int32) (v2 : Int32) : AM (Unit) :=
  nz v0 <| bd (f_X5_init K v0 v1 v2) fun _ => rt ()
def f_X1_refuse (K : Nat → Nat) (v0 : Int32) (v1 : Int32) (v2 : Int32) : AM (Unit) :=
  if v0 = 0 then (rt ()) else (bd (nwO K 12 8) fun x4 => bd (f_X6_init K x4 v1 v2) fun _ => thr x4)
def f_X2_addMat_j17 (K : Nat → Nat)  (v0 : Option Nat) (t0 : Int32) : AM (Int32) :=
  bd (f_X1_refuse K t0 (1 : Int32) (6 : Int32)) fun _ => bd (gt pR 300 v0) fun x24 => bd (nwO K 4 3) fun x27 => bd (f_X7_init K x27) fun _ => bd (dv x24 25 (f_J2_add K x24 x27) (fl)) fun x34 => bd (gt pR 300 v0) fun x39 => bd (dv x39 25 (f_J2_size K x39) (fl)) fun x42 => rt (x42 - (1 : Int32))
def f_X2_addMat (K : Nat → Nat) (v0 : Option Nat) : AM (Int32) :=
  bd (gt pR 300 v0) fun x1 => bd (dv x1 25 (f_J2_size K x1) (fl)) fun x4 => if x4 = (6 : Int32) then (f_X2_addMat_j17 K  v0 (1 : Int32)) else (f_X2_addMat_j17 K  v0 (0 : Int32))
def f_X1_lambda_mat_0 (K : Nat → Nat) (v0 : Option Nat) : AM (Int32) :=
  bd (dv v0 3 (f_X2_addMat K v0) (fl)) fun x1 => rt x1
def c_lam201 (K : Nat → Nat) (r v : Option Nat) : AM Int32 :=
  f_X1_lambda_mat_0 K  v
def f_J18_checkIndex_j9 (K : Nat → Nat)  (v0 : Int32) (v1 : Int32) (v2 : Option Nat)  : AM (Int32) :=
  fl
def f_J18_checkIndex (K : Nat → Nat) (v0 : Int32) (v1 : Int32) (v2 : Option Nat) : AM (Int32) :=
  if v0 < 0 then (f_J18_checkIndex_j9 K  v0 v1 v2 ) else (if v0 < v1 then (rt v0) else (f_J18_checkIndex_j9 K  v0 v1 v2 ))
def f_J17_checkIndex (K : Nat → Nat) (v0 : Int32) (v1 : Int32) : AM (Int32) :=
  bd (f_J18_checkIndex K v0 v1 none) fun x3 => rt x3
def f_J2_elementData (K : Nat → Nat) (v0 : Option Nat) (v1 : Int32) : AM (Option Nat) :=
  bd (gt pR 2500 v0) fun x1 => bd (ald pR 1006 x1 v1) fun x5 => rt x5
def f_J2_get (K : Nat → Nat) (v0 : Option Nat) (v1 : Int32) : AM (Option Nat) :=
  bd (gt pI 2501 v0) fun x2 => bd (f_J17_checkIndex K v1 x2) fun x5 => bd (dv v0 25 (f_J2_elementData K v0 v1) (fl)) fun x11 => rt x11
def f_X8_isOn (K : Nat → Nat) (v0 : Option Nat) (v1 : Int32) : AM (Int32) :=
  bd (gt pI 505 v0) fun x1 => if x1 = v1 then (rt (1 : Int32)) else (rt (0 : Int32))
def f_X2_lambda_fix_1 (K : Nat → Nat) (v0 : Int32) (v1 : Option Nat) : AM (Int32) :=
  bd (dv v1 5 (f_X8_isOn K v1 v0) (fl)) fun x2 => chk (fits .boolean (.int x2)) <| rt x2
def c_lam203 (K : Nat → Nat) (r v : Option Nat) : AM Int32 :=
  bd (gL pI 203 0 r) fun c0 => bd (f_X2_lambda_fix_1 K c0 v) fun z => chk (fits .boolean (.int z)) (rt z)
def f_X1_lambda_matOf_3 (K : Nat → Nat) (v0 : Int32) (v1 : Option Nat) : AM (Int32) :=
  bd (dv v1 5 (f_X8_isOn K v1 v0) (fl)) fun x2 => chk (fits .boolean (.int x2)) <| rt x2
def c_lam205 (K : Nat → Nat) (r v : Option Nat) : AM Int32 :=
  bd (gL pI 205 0 r) fun c0 => bd (f_X1_lambda_matOf_3 K c0 v) fun z => chk (fits .boolean (.int z)) (rt z)
def f_X2_lambda_weightOn_0 (K : Nat → Nat) (v0 : Int32) (v1 : Option Nat) : AM (Int32) :=
  bd (dv v1 5 (f_X8_isOn K v1 v0) (fl)) fun x2 => chk (fits .boolean (.int x2)) <| rt x2
def c_lam206 (K : Nat → Nat) (r v : Option Nat) : AM Int32 :=
  bd (gL pI 206 0 r) fun c0 => bd (f_X2_lambda_weightOn_0 K c0 v) fun z => chk (fits .boolean (.int z)) (rt z)
def f_X2_lambda_checkUp_2 (K : Nat → Nat) (v0 : Int32) (v1 : Option Nat) : AM (Int32) :=
  bd (dv v1 5 (f_X8_isOn K v1 v0) (fl)) fun x2 => chk (fits .boolean (.int x2)) <| rt x2
def c_lam209 (K : Nat → Nat) (r v : Option Nat) : AM Int32 :=
  bd (gL pI 209 0 r) fun c0 => bd (f_X2_lambda_checkUp_2 K c0 v) fun z => chk (fits .boolean (.int z)) (rt z)
def f_X2_lambda_checkUp_3 (K : Nat → Nat) (v0 : Int32) (v1 : Option Nat) : AM (Int32) :=
  bd (dv v1 5 (f_X8_isOn K v1 v0) (fl)) fun x2 => chk (fits .boolean (.int x2)) <| rt x2
def c_lam210 (K : Nat → Nat) (r v : Option Nat) : AM Int32 :=
  bd (gL pI 210 0 r) fun c0 => bd (f_X2_lambda_checkUp_3 K c0 v) fun z => chk (fits .boolean (.int z)) (rt z)
def f_X8_isGone (K : Nat → Nat) (v0 : Option Nat) : AM (Int32) :=
  bd (gt pI 504 v0) fun x1 => if x1 = (2 : Int32) then (rt (1 : Int32)) else (rt (0 : Int32))
def f_X2_lambda_leave_4 (K : Nat → Nat) (v0 : Option Nat) : AM (Int32) :=
  bd (dv v0 5 (f_X8_isGone K v0) (fl)) fun x1 => if x1 = 0 then (rt (1 : Int32)) else (rt (0 : Int32))
def c_lam213 (K : Nat → Nat) (r v : Option Nat) : AM Int32 :=
  bd (f_X2_lambda_leave_4 K  v) fun z => chk (fits .boolean (.int z)) (rt z)
def f_X1_lambda_meanWeight_15 (K : Nat → Nat) (v0 : Option Nat) : AM (Int32) :=
  bd (dv v0 5 (f_X8_isGone K v0) (fl)) fun x1 => if x1 = 0 then (rt (1 : Int32)) else (rt (0 : Int32))
def c_lam221 (K : Nat → Nat) (r v : Option Nat) : AM Int32 :=
  bd (f_X1_lambda_meanWeight_15 K  v) fun z => chk (fits .boolean (.int z)) (rt z)
def f_X1_lambda_meanWeight_16 (K : Nat → Nat) (v0 : Option Nat) : AM (Int32) :=
  bd (dv v0 5 (f_X8_isGone K v0) (fl)) fun x1 => if x1 = 0 then (rt (1 : Int32)) else (rt (0 : Int32))
def c_lam222 (K : Nat → Nat) (r v : Option Nat) : AM Int32 :=
  bd (f_X1_lambda_meanWeight_16 K  v) fun z => chk (fits .boolean (.int z)) (rt z)
def f_X1_lambda_account_17 (K : Nat → Nat) (v0 : Int32) (v1 : Option Nat) : AM (Int32) :=
  bd (gt pI 504 v1) fun x1 => if x1 = (v0 - (4 : Int32)) then (rt (1 : Int32)) else (rt (0 : Int32))
def c_lam223 (K : Nat → Nat) (r v : Option Nat) : AM Int32 :=
  bd (gL pI 223 0 r) fun c0 => bd (f_X1_lambda_account_17 K c0 v) fun z => chk (fits .boolean (.int z)) (rt z)
def f_X8_hasSocks (K : Nat → Nat) (v0 : Option Nat) : AM (Int32) :=
  bd (gt pI 506 v0) fun x1 => if x1 = (-1 : Int32) then (rt (0 : Int32)) else (rt (1 : Int32))
def f_X1_lambda_account_18 (K : Nat → Nat) (v0 : Option Nat) : AM (Int32) :=
  bd (dv v0 5 (f_X8_hasSocks K v0) (fl)) fun x1 => chk (fits .boolean (.int x1)) <| rt x1
def c_lam224 (K : Nat → Nat) (r v : Option Nat) : AM Int32 :=
  bd (f_X1_lambda_account_18 K  v) fun z => chk (fits .boolean (.int z)) (rt z)
def f_X2_lowest_b8 (K : Nat → Nat) (rc8 : AM (Option Nat)) (v1 : Option Nat) (v2 : Option Nat)  : AM (Option Nat) :=
  bd (dv v2 26 (f_J14_hasNext K v2) (fl)) fun x9 => if x9 = 0 then (rt none) else (bd (dv v2 26 (f_J14_next K v2) (fl)) fun x18 => bd (ckc [5] x18) fun _ => bd (dv v1 203 (c_lam203 K v1 x18) (dv v1 205 (c_lam205 K v1 x18) (dv v1 206 (c_lam206 K v1 x18) (dv v1 209 (c_lam209 K v1 x18) (dv v1 210 (c_lam210 K v1 x18) (dv v1 213 (c_lam213 K v1 x18) (dv v1 221 (c_lam221 K v1 x18) (dv v1 222 (c_lam222 K v1 x18) (dv v1 223 (c_lam223 K v1 x18) (dv v1 224 (c_lam224 K v1 x18) (fl))))))))))) fun x29 => if x29 = 0 then rc8 else (rt x18))
def f_X2_lowest_l8 (K : Nat → Nat)  (v1 : Option Nat) (v2 : Option Nat) : Nat → AM (Option Nat) := fun n => match n with
  | 0 => fl
  | n + 1 => f_X2_lowest_b8 K (f_X2_lowest_l8 K v1 v2 n) v1 v2
def f_X2_lowest (K : Nat → Nat) (v0 : Option Nat) (v1 : Option Nat) : AM (Option Nat) :=
  bd (gt pR 301 v0) fun x1 => bd (dv x1 25 (f_J2_iterator K x1) (fl)) fun x4 => f_X2_lowest_l8 K  v1 x4 FU 
def f_X7_isBroken (K : Nat → Nat) (v0 : Option Nat) (v1 : Int32) : AM (Int32) :=
  bd (gt pR 400 v0) fun x1 => bd (ald pI 1001 x1 v1) fun x5 => if x5 = (9 : Int32) then (rt (1 : Int32)) else (rt (0 : Int32))
def f_X7_bears_j25 (K : Nat → Nat) (rc4 : Int32 → Int32 → AM (Int32)) (v0 : Option Nat) (v2 : Int32) (t0 : Int32) (t1 : Int32) : AM (Int32) :=
  rc4 (t1 + t0) (v2 + (1 : Int32))
def f_X7_bears_b4 (K : Nat → Nat) (rc4 : Int32 → Int32 → AM (Int32)) (v0 : Option Nat) (v1 : Int32) (v2 : Int32)  : AM (Int32) :=
  if (8 : Int32) ≤ v2 then (rt v1) else (bd (dv v0 4 (f_X7_isBroken K v0 v2) (fl)) fun x13 => if x13 = 0 then (f_X7_bears_j25 K rc4 v0 v2 (12 : Int32) v1) else (f_X7_bears_j25 K rc4 v0 v2 (0 : Int32) v1))
def f_X7_bears_l4 (K : Nat → Nat)  (v0 : Option Nat) : Nat → Int32 → Int32 → AM (Int32) := fun n => match n with
  | 0 => fun _ _ => fl
  | n + 1 => fun v1 v2 => f_X7_bears_b4 K (f_X7_bears_l4 K v0 n) v0 v1 v2
def f_X7_bears (K : Nat → Nat) (v0 : Option Nat) : AM (Int32) :=
  f_X7_bears_l4 K  v0 FU (0 : Int32) (0 : Int32)
def f_X2_fix_j67 (K : Nat → Nat)  (v0 : Option Nat) (v2 : Int32) (v3 : Option Nat) (t0 : Int32) : AM (Int32) :=
  bd (f_X1_refuse K t0 (13 : Int32) v2) fun _ => bd (gt pR 400 v3) fun x74 => bd (ast K 1001 x74 v2 (.int (0 : Int32))) fun _ => bd (gt pI 309 v0) fun x82 => bd (pu K 309 v0 (.int (x82 + (1 : Int32)))) fun _ => bd (dv v3 4 (f_X7_bears K v3) (fl)) fun x91 => rt x91
def f_X2_fix_j50 (K : Nat → Nat)  (v0 : Option Nat) (v2 : Int32) (v3 : Option Nat) (t0 : Int32) (t1 : Int32) (t2 : Int32) : AM (Int32) :=
  bd (f_X1_refuse K t2 t1 t0) fun _ => bd (gt pR 400 v3) fun x54 => bd (ald pI 1001 x54 v2) fun x58 => if x58 = 0 then (f_X2_fix_j67 K  v0 v2 v3 (1 : Int32)) else (f_X2_fix_j67 K  v0 v2 v3 (0 : Int32))
def f_X2_fix_j34 (K : Nat → Nat)  (v0 : Option Nat) (v2 : Int32) (v3 : Option Nat) (v4 : Option Nat) (t0 : Int32) : AM (Int32) :=
  if v4 = none then (f_X2_fix_j50 K  v0 v2 v3 (-1 : Int32) (10 : Int32) t0) else (bd (gt pI 500 v4) fun x47 => f_X2_fix_j50 K  v0 v2 v3 x47 (10 : Int32) t0)
def f_X2_fix (K : Nat → Nat) (v0 : Option Nat) (v1 : Int32) (v2 : Int32) : AM (Int32) :=
  bd (gt pR 300 v0) fun x1 => bd (dv x1 25 (f_J2_get K x1 v1) (fl)) fun x5 => bd (ckc [4] x5) fun _ => bd (nwL K 203 [.int v1]) fun x14 => bd (dv v0 3 (f_X2_lowest K v0 x14) (fl)) fun x19 => if x19 = none then (f_X2_fix_j34 K  v0 v2 x5 x19 (0 : Int32)) else (f_X2_fix_j34 K  v0 v2 x5 x19 (1 : Int32))
def f_X1_lambda_fix_1 (K : Nat → Nat) (v0 : Int32) (v1 : Int32) (v2 : Option Nat) : AM (Int32) :=
  bd (dv v2 3 (f_X2_fix K v2 v0 v1) (fl)) fun x3 => rt x3
def c_lam202 (K : Nat → Nat) (r v : Option Nat) : AM Int32 :=
  bd (gL pI 202 0 r) fun c0 => bd (gL pI 202 1 r) fun c1 => f_X1_lambda_fix_1 K c0 c1 v
def f_X2_open_j24 (K : Nat → Nat)  (v1 : Int32) (v2 : Option Nat) (t0 : Int32) : AM (Int32) :=
  bd (f_X1_refuse K t0 (14 : Int32) v1) fun _ => bd (pu K 401 v2 (.int (0 : Int32))) fun _ => bd (dv v2 4 (f_X7_bears K v2) (fl)) fun x36 => rt x36
def f_X2_open (K : Nat → Nat) (v0 : Option Nat) (v1 : Int32) : AM (Int32) :=
  bd (gt pR 300 v0) fun x1 => bd (dv x1 25 (f_J2_get K x1 v1) (fl)) fun x5 => bd (ckc [4] x5) fun _ => bd (gt pI 401 x5) fun x13 => if x13 = 0 then (f_X2_open_j24 K  v1 x5 (1 : Int32)) else (f_X2_open_j24 K  v1 x5 (0 : Int32))
def f_X1_lambda_open_2 (K : Nat → Nat) (v0 : Int32) (v1 : Option Nat) : AM (Int32) :=
  bd (dv v1 3 (f_X2_open K v1 v0) (fl)) fun x2 => rt x2
def c_lam204 (K : Nat → Nat) (r v : Option Nat) : AM Int32 :=
  bd (gL pI 204 0 r) fun c0 => f_X1_lambda_open_2 K c0 v
def f_X2_addJumper_j17 (K : Nat → Nat)  (v0 : Option Nat) (v1 : Int32) (v2 : Int32) (v3 : Int32) (t0 : Int32) : AM (Int32) :=
  bd (f_X1_refuse K t0 (1 : Int32) (12 : Int32)) fun _ => bd (gt pR 301 v0) fun x24 => bd (nwO K 5 8) fun x27 => bd (gt pR 301 v0) fun x32 => bd (dv x32 25 (f_J2_size K x32) (fl)) fun x35 => bd (f_X8_init K x27 x35 v1 v2 v3) fun _ => bd (dv x24 25 (f_J2_add K x24 x27) (fl)) fun x44 => bd (gt pR 301 v0) fun x49 => bd (dv x49 25 (f_J2_size K x49) (fl)) fun x52 => rt (x52 - (1 : Int32))
def f_X2_addJumper (K : Nat → Nat) (v0 : Option Nat) (v1 : Int32) (v2 : Int32) (v3 : Int32) : AM (Int32) :=
  bd (gt pR 301 v0) fun x1 => bd (dv x1 25 (f_J2_size K x1) (fl)) fun x4 => if x4 = (12 : Int32) then (f_X2_addJumper_j17 K  v0 v1 v2 v3 (1 : Int32)) else (f_X2_addJumper_j17 K  v0 v1 v2 v3 (0 : Int32))
def f_X1_lambda_jumper_4 (K : Nat → Nat) (v0 : Int32) (v1 : Int32) (v2 : Option Nat) : AM (Int32) :=
  bd (dv v2 3 (f_X2_addJumper K v2 v0 v1 (-1 : Int32)) (fl)) fun x4 => rt x4
def c_lam207 (K : Nat → Nat) (r v : Option Nat) : AM Int32 :=
  bd (gL pI 207 0 r) fun c0 => bd (gL pI 207 1 r) fun c1 => f_X1_lambda_jumper_4 K c0 c1 v
def f_X2_many_j47 (K : Nat → Nat) (rc10 : Int32 → AM (Int32)) (v1 : Option Nat) (v3 : Option Nat) (t0 : Int32) (t1 : Int32) : AM (Int32) :=
  rc10 (t1 + t0)
def f_X2_many_b10 (K : Nat → Nat) (rc10 : Int32 → AM (Int32)) (v1 : Option Nat) (v2 : Int32) (v3 : Option Nat)  : AM (Int32) :=
  bd (dv v3 26 (f_J14_hasNext K v3) (fl)) fun x11 => if x11 = 0 then (rt v2) else (bd (dv v3 26 (f_J14_next K v3) (fl)) fun x20 => bd (ckc [5] x20) fun _ => bd (dv v1 203 (c_lam203 K v1 x20) (dv v1 205 (c_lam205 K v1 x20) (dv v1 206 (c_lam206 K v1 x20) (dv v1 209 (c_lam209 K v1 x20) (dv v1 210 (c_lam210 K v1 x20) (dv v1 213 (c_lam213 K v1 x20) (dv v1 221 (c_lam221 K v1 x20) (dv v1 222 (c_lam222 K v1 x20) (dv v1 223 (c_lam223 K v1 x20) (dv v1 224 (c_lam224 K v1 x20) (fl))))))))))) fun x34 => if x34 = 0 then (f_X2_many_j47 K rc10 v1 v3 (0 : Int32) v2) else (f_X2_many_j47 K rc10 v1 v3 (1 : Int32) v2))
def f_X2_many_l10 (K : Nat → Nat)  (v1 : Option Nat) (v3 : Option Nat) : Nat → Int32 → AM (Int32) := fun n => match n with
  | 0 => fun _ => fl
  | n + 1 => fun v2 => f_X2_many_b10 K (f_X2_many_l10 K v1 v3 n) v1 v2 v3
def f_X2_many (K : Nat → Nat) (v0 : Option Nat) (v1 : Option Nat) : AM (Int32) :=
  bd (gt pR 301 v0) fun x3 => bd (dv x3 25 (f_J2_iterator K x3) (fl)) fun x6 => f_X2_many_l10 K  v1 x6 FU (0 : Int32)
def f_X2_weightOf_j51 (K : Nat → Nat) (rc10 : Int32 → AM (Int32)) (v1 : Option Nat) (v3 : Option Nat) (t0 : Int32) (t1 : Int32) : AM (Int32) :=
  rc10 (t1 + t0)
def f_X2_weightOf_b10 (K : Nat → Nat) (rc10 : Int32 → AM (Int32)) (v1 : Option Nat) (v2 : Int32) (v3 : Option Nat)  : AM (Int32) :=
  bd (dv v3 26 (f_J14_hasNext K v3) (fl)) fun x11 => if x11 = 0 then (rt v2) else (bd (dv v3 26 (f_J14_next K v3) (fl)) fun x20 => bd (ckc [5] x20) fun _ => bd (dv v1 203 (c_lam203 K v1 x20) (dv v1 205 (c_lam205 K v1 x20) (dv v1 206 (c_lam206 K v1 x20) (dv v1 209 (c_lam209 K v1 x20) (dv v1 210 (c_lam210 K v1 x20) (dv v1 213 (c_lam213 K v1 x20) (dv v1 221 (c_lam221 K v1 x20) (dv v1 222 (c_lam222 K v1 x20) (dv v1 223 (c_lam223 K v1 x20) (dv v1 224 (c_lam224 K v1 x20) (fl))))))))))) fun x34 => if x34 = 0 then (f_X2_weightOf_j51 K rc10 v1 v3 (0 : Int32) v2) else (bd (gt pI 501 x20) fun x44 => f_X2_weightOf_j51 K rc10 v1 v3 x44 v2))
def f_X2_weightOf_l10 (K : Nat → Nat)  (v1 : Option Nat) (v3 : Option Nat) : Nat → Int32 → AM (Int32) := fun n => match n with
  | 0 => fun _ => fl
  | n + 1 => fun v2 => f_X2_weightOf_b10 K (f_X2_weightOf_l10 K v1 v3 n) v1 v2 v3
def f_X2_weightOf (K : Nat → Nat) (v0 : Option Nat) (v1 : Option Nat) : AM (Int32) :=
  bd (gt pR 301 v0) fun x3 => bd (dv x3 25 (f_J2_iterator K x3) (fl)) fun x6 => f_X2_weightOf_l10 K  v1 x6 FU (0 : Int32)
def f_X2_weightOn (K : Nat → Nat) (v0 : Option Nat) (v1 : Int32) : AM (Int32) :=
  bd (nwL K 206 [.int v1]) fun x2 => bd (dv v0 3 (f_X2_weightOf K v0 x2) (fl)) fun x7 => rt x7
def f_X7_broken_j24 (K : Nat → Nat) (rc4 : Int32 → Int32 → AM (Int32)) (v0 : Option Nat) (v2 : Int32) (t0 : Int32) (t1 : Int32) : AM (Int32) :=
  rc4 (t1 + t0) (v2 + (1 : Int32))
def f_X7_broken_b4 (K : Nat → Nat) (rc4 : Int32 → Int32 → AM (Int32)) (v0 : Option Nat) (v1 : Int32) (v2 : Int32)  : AM (Int32) :=
  if (8 : Int32) ≤ v2 then (rt v1) else (bd (dv v0 4 (f_X7_isBroken K v0 v2) (fl)) fun x13 => if x13 = 0 then (f_X7_broken_j24 K rc4 v0 v2 (0 : Int32) v1) else (f_X7_broken_j24 K rc4 v0 v2 (1 : Int32) v1))
def f_X7_broken_l4 (K : Nat → Nat)  (v0 : Option Nat) : Nat → Int32 → Int32 → AM (Int32) := fun n => match n with
  | 0 => fun _ _ => fl
  | n + 1 => fun v1 v2 => f_X7_broken_b4 K (f_X7_broken_l4 K v0 n) v0 v1 v2
def f_X7_broken (K : Nat → Nat) (v0 : Option Nat) : AM (Int32) :=
  f_X7_broken_l4 K  v0 FU (0 : Int32) (0 : Int32)
def f_X6_behind (K : Nat → Nat) (v0 : Option Nat) (v1 : Option Nat) : AM (Option Nat) :=
  if v1 = none then (rt v0) else (bd (dv v0 12 (f_T_initCause K v0 v1) (fl)) fun x6 => rt v0)
def f_X2_checkBearing_j58 (K : Nat → Nat)  (v4 : Int32) (t0 : Option Nat) : AM (Unit) :=
  bd (nwO K 12 8) fun x60 => bd (f_X6_init K x60 (6 : Int32) v4) fun _ => bd (dv x60 12 (f_X6_behind K x60 t0) (fl)) fun x73 => thr x73
def f_X2_checkBearing (K : Nat → Nat) (v0 : Option Nat) (v1 : Option Nat) (v2 : Int32) : AM (Unit) :=
  bd (gt pR 300 v0) fun x1 => bd (dv x1 25 (f_J2_get K x1 v2) (fl)) fun x5 => bd (ckc [4] x5) fun _ => bd (dv v0 3 (f_X2_weightOn K v0 v2) (fl)) fun x14 => bd (gt pI 501 v1) fun x18 => bd (dv x5 4 (f_X7_bears K x5) (fl)) fun x23 => if ((x14 + x18) - x23) ≤ 0 then (rt ()) else (bd (dv x5 4 (f_X7_broken K x5) (fl)) fun x35 => if x35 ≤ 0 then (f_X2_checkBearing_j58 K  ((x14 + x18) - x23) none) else (bd (nwO K 12 8) fun x41 => bd (dv x5 4 (f_X7_broken K x5) (fl)) fun x48 => bd (f_X6_init K x41 (16 : Int32) x48) fun _ => f_X2_checkBearing_j58 K  ((x14 + x18) - x23) x41))
def f_J23_valueOf_j23 (K : Nat → Nat)  (v0 : Int32)  : AM (Option Nat) :=
  bd (nwO K 33 1) fun x23 => fl
def f_J23_valueOf (K : Nat → Nat) (v0 : Int32) : AM (Option Nat) :=
  if v0 < (-128 : Int32) then (f_J23_valueOf_j23 K  v0 ) else (if (127 : Int32) < v0 then (f_J23_valueOf_j23 K  v0 ) else (bd (ald pR 1008 (some (K 10)) (v0 + (128 : Int32))) fun x21 => rt x21))
def f_J2_indexOfRange_j36 (K : Nat → Nat)    : AM (Int32) :=
  rt (-1 : Int32)
def f_J2_indexOfRange_b13 (K : Nat → Nat) (rc13 : Int32 → AM (Int32)) (v3 : Int32) (v4 : Option Nat) (v5 : Int32)  : AM (Int32) :=
  if v3 ≤ v5 then (f_J2_indexOfRange_j36 K   ) else (bd (ald pR 1006 v4 v5) fun x23 => if x23 = none then (rt v5) else (rc13 (v5 + (1 : Int32))))
def f_J2_indexOfRange_l13 (K : Nat → Nat)  (v3 : Int32) (v4 : Option Nat) : Nat → Int32 → AM (Int32) := fun n => match n with
  | 0 => fun _ => fl
  | n + 1 => fun v5 => f_J2_indexOfRange_b13 K (f_J2_indexOfRange_l13 K v3 v4 n) v3 v4 v5
def f_J2_indexOfRange_b42 (K : Nat → Nat) (rc42 : Int32 → AM (Int32)) (v1 : Option Nat) (v3 : Int32) (v4 : Option Nat) (v5 : Int32)  : AM (Int32) :=
  if v3 ≤ v5 then (rt (-1 : Int32)) else (bd (ald pR 1006 v4 v5) fun x53 => bd (dv v1 8 (f_X10_equals K v1 x53) (dv v1 33 (f_J23_equals K v1 x53) (dv v1 34 (f_J7_equals K v1 x53) (fl)))) fun x54 => if x54 = 0 then (rc42 (v5 + (1 : Int32))) else (rt v5))
def f_J2_indexOfRange_l42 (K : Nat → Nat)  (v1 : Option Nat) (v3 : Int32) (v4 : Option Nat) : Nat → Int32 → AM (Int32) := fun n => match n with
  | 0 => fun _ => fl
  | n + 1 => fun v5 => f_J2_indexOfRange_b42 K (f_J2_indexOfRange_l42 K v1 v3 v4 n) v1 v3 v4 v5
def f_J2_indexOfRange (K : Nat → Nat) (v0 : Option Nat) (v1 : Option Nat) (v2 : Int32) (v3 : Int32) : AM (Int32) :=
  bd (gt pR 2500 v0) fun x1 => if v1 = none then (f_J2_indexOfRange_l13 K  v3 x1 FU v2) else (f_J2_indexOfRange_l42 K  v1 v3 x1 FU v2)
def f_J2_indexOf (K : Nat → Nat) (v0 : Option Nat) (v1 : Option Nat) : AM (Int32) :=
  bd (gt pI 2501 v0) fun x4 => bd (dv v0 25 (f_J2_indexOfRange K v0 v1 (0 : Int32) x4) (fl)) fun x7 => rt x7
def f_X2_guardAt (K : Nat → Nat) (v0 : Option Nat) (v1 : Int32) : AM (Int32) :=
  bd (gt pR 303 v0) fun x1 => bd (f_J23_valueOf K v1) fun x5 => bd (dv x1 25 (f_J2_indexOf K x1 x5) (fl)) fun x8 => rt x8
def f_X8_isLight (K : Nat → Nat) (v0 : Option Nat) : AM (Int32) :=
  bd (gt pI 501 v0) fun x1 => if (25 : Int32) ≤ x1 then (rt (0 : Int32)) else (rt (1 : Int32))
def f_X2_checkUp_j102 (K : Nat → Nat)  (v0 : Option Nat) (v1 : Option Nat) (v2 : Int32) (v3 : Option Nat) (t0 : Int32) (t1 : Int32) (t2 : Int32) : AM (Unit) :=
  bd (f_X1_refuse K t2 t1 t0) fun _ => bd (dv v0 3 (f_X2_checkBearing K v0 v1 v2) (fl)) fun _ => if v3 = none then (rt ()) else (bd (dv v0 3 (f_X2_guardAt K v0 v2) (fl)) fun x117 => if x117 = (-1 : Int32) then (bd (dv v1 5 (f_X8_isLight K v1) (fl)) fun x125 => bd (gt pI 500 v1) fun x131 => bd (f_X1_refuse K x125 (7 : Int32) x131) fun _ => bd (dv v3 5 (f_X8_isLight K v3) (fl)) fun x138 => bd (gt pI 500 v3) fun x144 => bd (f_X1_refuse K x138 (7 : Int32) x144) fun _ => rt ()) else (rt ()))
def f_X2_checkUp_j89 (K : Nat → Nat)  (v0 : Option Nat) (v1 : Option Nat) (v2 : Int32) (v3 : Option Nat) (t0 : Int32) : AM (Unit) :=
  if v3 = none then (f_X2_checkUp_j102 K  v0 v1 v2 v3 (-1 : Int32) (5 : Int32) t0) else (bd (gt pI 500 v3) fun x99 => f_X2_checkUp_j102 K  v0 v1 v2 v3 x99 (5 : Int32) t0)
def f_X2_checkUp_j32 (K : Nat → Nat)  (v0 : Option Nat) (v1 : Option Nat) (v2 : Int32) (t0 : Int32) : AM (Unit) :=
  bd (gt pI 502 v1) fun x34 => bd (f_X1_refuse K t0 (3 : Int32) x34) fun _ => bd (gt pR 300 v0) fun x41 => bd (dv x41 25 (f_J2_get K x41 v2) (fl)) fun x45 => bd (ckc [4] x45) fun _ => bd (gt pI 401 x45) fun x51 => bd (f_X1_refuse K x51 (4 : Int32) v2) fun _ => bd (nwL K 209 [.int v2]) fun x61 => bd (dv v0 3 (f_X2_lowest K v0 x61) (fl)) fun x66 => bd (nwL K 210 [.int v2]) fun x72 => bd (dv v0 3 (f_X2_many K v0 x72) (fl)) fun x77 => if x77 = (2 : Int32) then (f_X2_checkUp_j89 K  v0 v1 v2 x66 (1 : Int32)) else (f_X2_checkUp_j89 K  v0 v1 v2 x66 (0 : Int32))
def f_X2_checkUp_j12 (K : Nat → Nat)  (v0 : Option Nat) (v1 : Option Nat) (v2 : Int32) (t0 : Int32) : AM (Unit) :=
  bd (gt pI 504 v1) fun x14 => bd (f_X1_refuse K t0 (2 : Int32) x14) fun _ => bd (dv v1 5 (f_X8_hasSocks K v1) (fl)) fun x21 => if x21 = 0 then (f_X2_checkUp_j32 K  v0 v1 v2 (1 : Int32)) else (f_X2_checkUp_j32 K  v0 v1 v2 (0 : Int32))
def f_X2_checkUp (K : Nat → Nat) (v0 : Option Nat) (v1 : Option Nat) (v2 : Int32) : AM (Unit) :=
  bd (gt pI 504 v1) fun x1 => if x1 = 0 then (f_X2_checkUp_j12 K  v0 v1 v2 (0 : Int32)) else (f_X2_checkUp_j12 K  v0 v1 v2 (1 : Int32))
def f_X2_up (K : Nat → Nat) (v0 : Option Nat) (v1 : Int32) (v2 : Int32) : AM (Int32) :=
  bd (gt pR 301 v0) fun x1 => bd (dv x1 25 (f_J2_get K x1 v1) (fl)) fun x5 => bd (ckc [5] x5) fun _ => bd (dv v0 3 (f_X2_checkUp K v0 x5 v2) (fl)) fun _ => bd (pu K 504 x5 (.int (1 : Int32))) fun _ => bd (pu K 505 x5 (.int v2)) fun _ => bd (gt pR 300 v0) fun x29 => bd (dv x29 25 (f_J2_get K x29 v2) (fl)) fun x33 => bd (ckc [4] x33) fun _ => bd (gt pI 402 x33) fun x40 => bd (pu K 402 x33 (.int (x40 + (1 : Int32)))) fun _ => bd (gt pR 300 v0) fun x49 => bd (dv x49 25 (f_J2_get K x49 v2) (fl)) fun x53 => bd (ckc [4] x53) fun _ => bd (dv x53 4 (f_X7_bears K x53) (fl)) fun x59 => bd (dv v0 3 (f_X2_weightOn K v0 v2) (fl)) fun x64 => rt (x59 - x64)
def f_X1_lambda_up_5 (K : Nat → Nat) (v0 : Int32) (v1 : Int32) (v2 : Option Nat) : AM (Int32) :=
  bd (dv v2 3 (f_X2_up K v2 v0 v1) (fl)) fun x3 => rt x3
def c_lam208 (K : Nat → Nat) (r v : Option Nat) : AM Int32 :=
  bd (gL pI 208 0 r) fun c0 => bd (gL pI 208 1 r) fun c1 => f_X1_lambda_up_5 K c0 c1 v
def f_X8_waits (K : Nat → Nat) (v0 : Option Nat) : AM (Unit) :=
  bd (pu K 504 v0 (.int (0 : Int32))) fun _ => bd (pu K 505 v0 (.int (-1 : Int32))) fun _ => rt ()
def f_X2_down_j25 (K : Nat → Nat)  (v2 : Option Nat) (t0 : Int32) : AM (Int32) :=
  bd (gt pI 504 v2) fun x27 => bd (f_X1_refuse K t0 (2 : Int32) x27) fun _ => bd (gt pI 505 v2) fun x34 => bd (dv v2 5 (f_X8_waits K v2) (fl)) fun _ => rt x34
def f_X2_down (K : Nat → Nat) (v0 : Option Nat) (v1 : Int32) : AM (Int32) :=
  bd (gt pR 301 v0) fun x1 => bd (dv x1 25 (f_J2_get K x1 v1) (fl)) fun x5 => bd (ckc [5] x5) fun _ => bd (gt pI 504 x5) fun x13 => if x13 = (1 : Int32) then (f_X2_down_j25 K  x5 (0 : Int32)) else (f_X2_down_j25 K  x5 (1 : Int32))
def f_X1_lambda_down_6 (K : Nat → Nat) (v0 : Int32) (v1 : Option Nat) : AM (Int32) :=
  bd (dv v1 3 (f_X2_down K v1 v0) (fl)) fun x2 => rt x2
def c_lam211 (K : Nat → Nat) (r v : Option Nat) : AM Int32 :=
  bd (gL pI 211 0 r) fun c0 => f_X1_lambda_down_6 K c0 v
def f_X2_leave_j24 (K : Nat → Nat)  (v0 : Option Nat) (v2 : Option Nat) (t0 : Int32) : AM (Int32) :=
  bd (gt pI 504 v2) fun x26 => bd (f_X1_refuse K t0 (2 : Int32) x26) fun _ => bd (pu K 504 v2 (.int (2 : Int32))) fun _ => bd (dv v0 3 (f_X2_many K v0 (some (K 113))) (fl)) fun x43 => rt x43
def f_X2_leave (K : Nat → Nat) (v0 : Option Nat) (v1 : Int32) : AM (Int32) :=
  bd (gt pR 301 v0) fun x1 => bd (dv x1 25 (f_J2_get K x1 v1) (fl)) fun x5 => bd (ckc [5] x5) fun _ => bd (gt pI 504 x5) fun x13 => if x13 = 0 then (f_X2_leave_j24 K  v0 x5 (0 : Int32)) else (f_X2_leave_j24 K  v0 x5 (1 : Int32))
def f_X1_lambda_leave_7 (K : Nat → Nat) (v0 : Int32) (v1 : Option Nat) : AM (Int32) :=
  bd (dv v1 3 (f_X2_leave K v1 v0) (fl)) fun x2 => rt x2
def c_lam212 (K : Nat → Nat) (r v : Option Nat) : AM Int32 :=
  bd (gL pI 212 0 r) fun c0 => f_X1_lambda_leave_7 K c0 v
def f_X10_init (K : Nat → Nat) (v0 : Option Nat) (v1 : Int32) (v2 : Int32) : AM (Unit) :=
  nz v0 <| bd (pu K 800 v0 (.int v1)) fun _ => bd (pu K 801 v0 (.int v2)) fun _ => rt ()
def f_J4_getNode_j137 (K : Nat → Nat) (rc99 : Option Nat → AM (Option Nat)) (v1 : Option Nat) (v4 : Option Nat) (v6 : Int32)  : AM (Option Nat) :=
  bd (gt pR 2903 v4) fun x139 => if x139 = none then (rt none) else (rc99 x139)
def f_J4_getNode_b99 (K : Nat → Nat) (rc99 : Option Nat → AM (Option Nat)) (v1 : Option Nat) (v4 : Option Nat) (v6 : Int32)  : AM (Option Nat) :=
  bd (gt pI 2900 v4) fun x101 => if x101 = v6 then (bd (gt pR 2901 v4) fun x111 => if x111 = v1 then (rt v4) else (if v1 = none then (f_J4_getNode_j137 K rc99 v1 v4 v6 ) else (bd (dv v1 8 (f_X10_equals K v1 x111) (dv v1 33 (f_J23_equals K v1 x111) (dv v1 34 (f_J7_equals K v1 x111) (fl)))) fun x128 => if x128 = 0 then (f_J4_getNode_j137 K rc99 v1 v4 v6 ) else (rt v4)))) else (f_J4_getNode_j137 K rc99 v1 v4 v6 )
def f_J4_getNode_l99 (K : Nat → Nat)  (v1 : Option Nat) (v6 : Int32) : Nat → Option Nat → AM (Option Nat) := fun n => match n with
  | 0 => fun _ => fl
  | n + 1 => fun v4 => f_J4_getNode_b99 K (f_J4_getNode_l99 K v1 v6 n) v1 v4 v6
def f_J4_getNode_j71 (K : Nat → Nat)  (v1 : Option Nat) (v3 : Option Nat) (v6 : Int32)  : AM (Option Nat) :=
  bd (gt pR 2903 v3) fun x72 => if x72 = none then (rt none) else (bd (ins [] [29] v3) fun x82 => if x82 = 0 then (f_J4_getNode_l99 K  v1 v6 FU x72) else (bd (ckc [] v3) fun _ => fl))
def f_J4_getNode (K : Nat → Nat) (v0 : Option Nat) (v1 : Option Nat) : AM (Option Nat) :=
  bd (gt pR 2800 v0) fun x1 => if x1 = none then (rt none) else (bd (alen x1) fun x10 => if x10 ≤ 0 then (rt none) else (bd (f_J4_hash K v1) fun x23 => bd (ald pR 1007 x1 ((x10 - (1 : Int32)) &&& x23)) fun x30 => if x30 = none then (rt none) else (bd (gt pI 2900 x30) fun x37 => if x37 = x23 then (bd (gt pR 2901 x30) fun x46 => if x46 = v1 then (rt x30) else (if v1 = none then (f_J4_getNode_j71 K  v1 x30 x23 ) else (bd (dv v1 8 (f_X10_equals K v1 x46) (dv v1 33 (f_J23_equals K v1 x46) (dv v1 34 (f_J7_equals K v1 x46) (fl)))) fun x63 => if x63 = 0 then (f_J4_getNode_j71 K  v1 x30 x23 ) else (rt x30)))) else (f_J4_getNode_j71 K  v1 x30 x23 ))))
def f_J4_containsKey (K : Nat → Nat) (v0 : Option Nat) (v1 : Option Nat) : AM (Int32) :=
  bd (dv v0 28 (f_J4_getNode K v0 v1) (fl)) fun x2 => if x2 = none then (rt (0 : Int32)) else (rt (1 : Int32))
def f_J4_get (K : Nat → Nat) (v0 : Option Nat) (v1 : Option Nat) : AM (Option Nat) :=
  bd (dv v0 28 (f_J4_getNode K v0 v1) (fl)) fun x2 => if x2 = none then (rt none) else (bd (gt pR 2902 x2) fun x15 => rt x15)
def f_X3_of (K : Nat → Nat) (v0 : Option Nat) (v1 : Option Nat) : AM (Int32) :=
  bd (gt pR 700 v0) fun x1 => bd (dv x1 28 (f_J4_containsKey K x1 v1) (fl)) fun x5 => if x5 = 0 then (rt (0 : Int32)) else (bd (gt pR 700 v0) fun x12 => bd (dv x12 28 (f_J4_get K x12 v1) (fl)) fun x16 => bd (ckc [33] x16) fun _ => bd (dv x16 33 (f_J23_intValue K x16) (fl)) fun x22 => rt x22)
def f_J4_put (K : Nat → Nat) (v0 : Option Nat) (v1 : Option Nat) (v2 : Option Nat) : AM (Option Nat) :=
  bd (f_J4_hash K v1) fun x2 => bd (dv v0 28 (f_J4_putVal K v0 x2 v1 v2 (0 : Int32) (1 : Int32)) (fl)) fun x9 => rt x9
def f_X3_puts (K : Nat → Nat) (v0 : Option Nat) (v1 : Option Nat) (v2 : Int32) : AM (Int32) :=
  bd (dv v0 7 (f_X3_of K v0 v1) (fl)) fun x4 => bd (gt pR 700 v0) fun x14 => bd (f_J23_valueOf K (if (x4 + v2) < (99 : Int32) then (x4 + v2) else (99 : Int32))) fun x19 => bd (dv x14 28 (f_J4_put K x14 v1 x19) (fl)) fun x22 => bd (ckc [33] x22) fun _ => rt (if (x4 + v2) < (99 : Int32) then (x4 + v2) else (99 : Int32))
def f_X1_lambda_stock_8 (K : Nat → Nat) (v0 : Int32) (v1 : Int32) (v2 : Int32) (v3 : Option Nat) : AM (Int32) :=
  bd (gt pR 304 v3) fun x1 => bd (nwO K 8 2) fun x4 => bd (f_X10_init K x4 v0 v1) fun _ => bd (dv x1 7 (f_X3_puts K x1 x4 v2) (fl)) fun x14 => rt x14
def c_lam214 (K : Nat → Nat) (r v : Option Nat) : AM Int32 :=
  bd (gL pI 214 0 r) fun c0 => bd (gL pI 214 1 r) fun c1 => bd (gL pI 214 2 r) fun c2 => f_X1_lambda_stock_8 K c0 c1 c2 v
def f_X3_ofSize_j75 (K : Nat → Nat) (rc15 : Int32 → AM (Int32)) (v1 : Int32) (v3 : Option Nat) (t0 : Int32) (t1 : Int32) : AM (Int32) :=
  rc15 (t1 + t0)
def f_X3_ofSize_j58 (K : Nat → Nat) (rc15 : Int32 → AM (Int32)) (v1 : Int32) (v3 : Option Nat) (v4 : Option Nat) (t0 : Int32) : AM (Int32) :=
  bd (dv v4 29 (f_J29_getValue K v4) (fl)) fun x60 => bd (ckc [33] x60) fun _ => bd (dv x60 33 (f_J23_intValue K x60) (fl)) fun x68 => f_X3_ofSize_j75 K rc15 v1 v3 x68 t0
def f_X3_ofSize_b15 (K : Nat → Nat) (rc15 : Int32 → AM (Int32)) (v1 : Int32) (v2 : Int32) (v3 : Option Nat)  : AM (Int32) :=
  bd (dv v3 32 (f_J25_hasNext K v3) (fl)) fun x16 => if x16 = 0 then (rt v2) else (bd (dv v3 32 (f_J26_next K v3) (fl)) fun x25 => bd (ckc [29] x25) fun _ => if v1 = (-1 : Int32) then (f_X3_ofSize_j58 K rc15 v1 v3 x25 v2) else (bd (dv x25 29 (f_J29_getKey K x25) (fl)) fun x43 => bd (ckc [8] x43) fun _ => bd (gt pI 800 x43) fun x51 => if x51 = v1 then (f_X3_ofSize_j58 K rc15 v1 v3 x25 v2) else (f_X3_ofSize_j75 K rc15 v1 v3 (0 : Int32) v2)))
def f_X3_ofSize_l15 (K : Nat → Nat)  (v1 : Int32) (v3 : Option Nat) : Nat → Int32 → AM (Int32) := fun n => match n with
  | 0 => fun _ => fl
  | n + 1 => fun v2 => f_X3_ofSize_b15 K (f_X3_ofSize_l15 K v1 v3 n) v1 v2 v3
def f_X3_ofSize (K : Nat → Nat) (v0 : Option Nat) (v1 : Int32) : AM (Int32) :=
  bd (gt pR 700 v0) fun x3 => bd (dv x3 28 (f_J4_entrySet K x3) (fl)) fun x6 => bd (dv x6 30 (f_J35_iterator K x6) (fl)) fun x9 => f_X3_ofSize_l15 K  v1 x9 FU (0 : Int32)
def f_X2_sell_j68 (K : Nat → Nat)  (v0 : Option Nat) (v2 : Int32) (v3 : Option Nat) (v4 : Option Nat) (t0 : Int32) : AM (Int32) :=
  bd (gt pR 304 v0) fun x71 => bd (gt pI 502 v3) fun x75 => bd (dv x71 7 (f_X3_ofSize K x71 x75) (fl)) fun x78 => bd (f_X1_refuse K t0 (8 : Int32) x78) fun _ => bd (gt pR 304 v0) fun x85 => bd (dv x85 7 (f_X3_puts K x85 v4 (-1 : Int32)) (fl)) fun x91 => bd (gt pR 305 v0) fun x97 => bd (dv x97 7 (f_X3_puts K x97 v4 (1 : Int32)) (fl)) fun x103 => bd (pu K 506 v3 (.int v2)) fun _ => bd (gt pI 306 v0) fun x115 => bd (pu K 306 v0 (.int (x115 + (1 : Int32)))) fun _ => bd (gt pI 307 v0) fun x125 => bd (pu K 307 v0 (.int (x125 + (2 : Int32)))) fun _ => bd (gt pI 307 v0) fun x134 => rt x134
def f_X2_sell (K : Nat → Nat) (v0 : Option Nat) (v1 : Int32) (v2 : Int32) : AM (Int32) :=
  bd (gt pR 301 v0) fun x1 => bd (dv x1 25 (f_J2_get K x1 v1) (fl)) fun x5 => bd (ckc [5] x5) fun _ => bd (nwO K 8 2) fun x12 => bd (gt pI 502 x5) fun x17 => bd (f_X10_init K x12 x17 v2) fun _ => bd (dv x5 5 (f_X8_isGone K x5) (fl)) fun x27 => bd (gt pI 504 x5) fun x32 => bd (f_X1_refuse K x27 (2 : Int32) x32) fun _ => bd (dv x5 5 (f_X8_hasSocks K x5) (fl)) fun x39 => bd (gt pI 506 x5) fun x45 => bd (f_X1_refuse K x39 (9 : Int32) x45) fun _ => bd (gt pR 304 v0) fun x52 => bd (dv x52 7 (f_X3_of K x52 x12) (fl)) fun x57 => if x57 = 0 then (f_X2_sell_j68 K  v0 v2 x5 x12 (1 : Int32)) else (f_X2_sell_j68 K  v0 v2 x5 x12 (0 : Int32))
def f_X1_lambda_sell_9 (K : Nat → Nat) (v0 : Int32) (v1 : Int32) (v2 : Option Nat) : AM (Int32) :=
  bd (dv v2 3 (f_X2_sell K v2 v0 v1) (fl)) fun x3 => rt x3
def c_lam215 (K : Nat → Nat) (r v : Option Nat) : AM Int32 :=
  bd (gL pI 215 0 r) fun c0 => bd (gL pI 215 1 r) fun c1 => f_X1_lambda_sell_9 K c0 c1 v
def f_X2_addGuard_j16 (K : Nat → Nat)  (v0 : Option Nat) (t0 : Int32) : AM (Int32) :=
  bd (f_X1_refuse K t0 (1 : Int32) (4 : Int32)) fun _ => bd (gt pR 303 v0) fun x22 => bd (f_J23_valueOf K (-1 : Int32)) fun x26 => bd (dv x22 25 (f_J2_add K x22 x26) (fl)) fun x29 => bd (gt pR 303 v0) fun x34 => bd (dv x34 25 (f_J2_size K x34) (fl)) fun x37 => rt (x37 - (1 : Int32))
def f_X2_addGuard (K : Nat → Nat) (v0 : Option Nat) : AM (Int32) :=
  bd (gt pR 303 v0) fun x1 => bd (dv x1 25 (f_J2_size K x1) (fl)) fun x4 => if x4 = (4 : Int32) then (f_X2_addGuard_j16 K  v0 (1 : Int32)) else (f_X2_addGuard_j16 K  v0 (0 : Int32))
def f_X1_lambda_guard_10 (K : Nat → Nat) (v0 : Option Nat) : AM (Int32) :=
  bd (dv v0 3 (f_X2_addGuard K v0) (fl)) fun x1 => rt x1
def c_lam216 (K : Nat → Nat) (r v : Option Nat) : AM Int32 :=
  f_X1_lambda_guard_10 K  v
def f_J2_set (K : Nat → Nat) (v0 : Option Nat) (v1 : Int32) (v2 : Option Nat) : AM (Option Nat) :=
  bd (gt pI 2501 v0) fun x2 => bd (f_J17_checkIndex K v1 x2) fun x5 => bd (dv v0 25 (f_J2_elementData K v0 v1) (fl)) fun x11 => bd (gt pR 2500 v0) fun x16 => bd (asr K 1006 [1, 2, 3, 4, 5, 6, 7, 8, 9, 10, 12, 13, 14, 15, 16, 17, 18, 19, 20, 21, 22, 23, 25, 26, 28, 29, 30, 32, 33, 34, 36, 37, 38] x16 v1 v2) fun _ => rt x11
def f_X2_place_j28 (K : Nat → Nat)  (v0 : Option Nat) (v1 : Int32) (v2 : Int32) (v3 : Int32)  : AM (Int32) :=
  bd (gt pR 303 v0) fun x29 => bd (f_J23_valueOf K v2) fun x34 => bd (dv x29 25 (f_J2_set K x29 v1 x34) (fl)) fun x37 => bd (ckc [33] x37) fun _ => rt v3
def f_X2_place (K : Nat → Nat) (v0 : Option Nat) (v1 : Int32) (v2 : Int32) : AM (Int32) :=
  bd (dv v0 3 (f_X2_guardAt K v0 v2) (fl)) fun x2 => if x2 = (-1 : Int32) then (f_X2_place_j28 K  v0 v1 v2 x2 ) else (bd (gt pR 303 v0) fun x12 => bd (f_J23_valueOf K (-1 : Int32)) fun x17 => bd (dv x12 25 (f_J2_set K x12 x2 x17) (fl)) fun x20 => bd (ckc [33] x20) fun _ => f_X2_place_j28 K  v0 v1 v2 x2 )
def f_X1_lambda_place_11 (K : Nat → Nat) (v0 : Int32) (v1 : Int32) (v2 : Option Nat) : AM (Int32) :=
  bd (dv v2 3 (f_X2_place K v2 v0 v1) (fl)) fun x3 => rt x3
def c_lam217 (K : Nat → Nat) (r v : Option Nat) : AM Int32 :=
  bd (gL pI 217 0 r) fun c0 => bd (gL pI 217 1 r) fun c1 => f_X1_lambda_place_11 K c0 c1 v
def f_X2_partiesIn_j45 (K : Nat → Nat) (rc10 : Int32 → AM (Int32)) (v1 : Int32) (v3 : Option Nat) (t0 : Int32) (t1 : Int32) : AM (Int32) :=
  rc10 (t1 + t0)
def f_X2_partiesIn_b10 (K : Nat → Nat) (rc10 : Int32 → AM (Int32)) (v1 : Int32) (v2 : Int32) (v3 : Option Nat)  : AM (Int32) :=
  bd (dv v3 26 (f_J14_hasNext K v3) (fl)) fun x11 => if x11 = 0 then (rt v2) else (bd (dv v3 26 (f_J14_next K v3) (fl)) fun x20 => bd (ckc [6] x20) fun _ => bd (gt pI 604 x20) fun x33 => if x33 = v1 then (f_X2_partiesIn_j45 K rc10 v1 v3 (1 : Int32) v2) else (f_X2_partiesIn_j45 K rc10 v1 v3 (0 : Int32) v2))
def f_X2_partiesIn_l10 (K : Nat → Nat)  (v1 : Int32) (v3 : Option Nat) : Nat → Int32 → AM (Int32) := fun n => match n with
  | 0 => fun _ => fl
  | n + 1 => fun v2 => f_X2_partiesIn_b10 K (f_X2_partiesIn_l10 K v1 v3 n) v1 v2 v3
def f_X2_partiesIn (K : Nat → Nat) (v0 : Option Nat) (v1 : Int32) : AM (Int32) :=
  bd (gt pR 302 v0) fun x3 => bd (dv x3 25 (f_J2_iterator K x3) (fl)) fun x6 => f_X2_partiesIn_l10 K  v1 x6 FU (0 : Int32)
def f_X2_book_j57 (K : Nat → Nat)  (v0 : Option Nat) (v1 : Int32) (v2 : Int32) (v3 : Int32) (v4 : Int32) (t0 : Int32) : AM (Int32) :=
  bd (gt pI 310 v0) fun x60 => bd (f_X1_refuse K t0 (12 : Int32) x60) fun _ => bd (gt pR 302 v0) fun x67 => bd (nwO K 6 6) fun x70 => bd (f_X9_init K x70 v1 v2 v3 v4) fun _ => bd (dv x67 25 (f_J2_add K x67 x70) (fl)) fun x82 => bd (gt pR 302 v0) fun x87 => bd (dv x87 25 (f_J2_size K x87) (fl)) fun x90 => rt (x90 - (1 : Int32))
def f_X2_book_j38 (K : Nat → Nat)  (v0 : Option Nat) (v1 : Int32) (v2 : Int32) (v3 : Int32) (v4 : Int32) (t0 : Int32) : AM (Int32) :=
  bd (f_X1_refuse K t0 (1 : Int32) (20 : Int32)) fun _ => bd (gt pI 310 v0) fun x46 => if x46 < v1 then (f_X2_book_j57 K  v0 v1 v2 v3 v4 (0 : Int32)) else (f_X2_book_j57 K  v0 v1 v2 v3 v4 (1 : Int32))
def f_X2_book_j15 (K : Nat → Nat)  (v0 : Option Nat) (v1 : Int32) (v2 : Int32) (v3 : Int32) (v4 : Int32) (t0 : Int32) : AM (Int32) :=
  bd (f_X1_refuse K t0 (1 : Int32) (6 : Int32)) fun _ => bd (gt pR 302 v0) fun x22 => bd (dv x22 25 (f_J2_size K x22) (fl)) fun x25 => if x25 = (20 : Int32) then (f_X2_book_j38 K  v0 v1 v2 v3 v4 (1 : Int32)) else (f_X2_book_j38 K  v0 v1 v2 v3 v4 (0 : Int32))
def f_X2_book (K : Nat → Nat) (v0 : Option Nat) (v1 : Int32) (v2 : Int32) (v3 : Int32) (v4 : Int32) : AM (Int32) :=
  bd (dv v0 3 (f_X2_partiesIn K v0 (0 : Int32)) (fl)) fun x2 => if x2 = (6 : Int32) then (f_X2_book_j15 K  v0 v1 v2 v3 v4 (1 : Int32)) else (f_X2_book_j15 K  v0 v1 v2 v3 v4 (0 : Int32))
def f_X1_lambda_book_12 (K : Nat → Nat) (v0 : Int32) (v1 : Int32) (v2 : Int32) (v3 : Int32) (v4 : Option Nat) : AM (Int32) :=
  bd (dv v4 3 (f_X2_book K v4 v0 v1 v2 v3) (fl)) fun x6 => rt x6
def c_lam218 (K : Nat → Nat) (r v : Option Nat) : AM Int32 :=
  bd (gL pI 218 0 r) fun c0 => bd (gL pI 218 1 r) fun c1 => bd (gL pI 218 2 r) fun c2 => bd (gL pI 218 3 r) fun c3 => f_X1_lambda_book_12 K c0 c1 c2 c3 v
def f_X9_isBooked (K : Nat → Nat) (v0 : Option Nat) : AM (Int32) :=
  bd (gt pI 604 v0) fun x1 => if x1 = 0 then (rt (1 : Int32)) else (rt (0 : Int32))
def f_X2_cancel_j24 (K : Nat → Nat)  (v0 : Option Nat) (v2 : Option Nat) (t0 : Int32) : AM (Int32) :=
  bd (gt pI 604 v2) fun x27 => bd (f_X1_refuse K t0 (11 : Int32) x27) fun _ => bd (pu K 604 v2 (.int (2 : Int32))) fun _ => bd (dv v0 3 (f_X2_partiesIn K v0 (0 : Int32)) (fl)) fun x40 => rt x40
def f_X2_cancel (K : Nat → Nat) (v0 : Option Nat) (v1 : Int32) : AM (Int32) :=
  bd (gt pR 302 v0) fun x1 => bd (dv x1 25 (f_J2_get K x1 v1) (fl)) fun x5 => bd (ckc [6] x5) fun _ => bd (dv x5 6 (f_X9_isBooked K x5) (fl)) fun x13 => if x13 = 0 then (f_X2_cancel_j24 K  v0 x5 (1 : Int32)) else (f_X2_cancel_j24 K  v0 x5 (0 : Int32))
def f_X1_lambda_cancel_13 (K : Nat → Nat) (v0 : Int32) (v1 : Option Nat) : AM (Int32) :=
  bd (dv v1 3 (f_X2_cancel K v1 v0) (fl)) fun x2 => rt x2
def c_lam219 (K : Nat → Nat) (r v : Option Nat) : AM Int32 :=
  bd (gL pI 219 0 r) fun c0 => f_X1_lambda_cancel_13 K c0 v
def f_X7_wears_j50 (K : Nat → Nat)  (v0 : Option Nat) (v1 : Int32) (v2 : Int32)  : AM (Unit) :=
  if v2 = (-1 : Int32) then (rt ()) else (bd (gt pR 400 v0) fun x56 => bd (gt pR 400 v0) fun x63 => bd (ald pI 1001 x63 v2) fun x67 => bd (ast K 1001 x56 v2 (.int (if ((x67 + (1 : Int32)) + (v1 / (40 : Int32))) < (9 : Int32) then ((x67 + (1 : Int32)) + (v1 / (40 : Int32))) else (9 : Int32)))) fun _ => rt ())
def f_X7_wears_j43 (K : Nat → Nat) (rc4 : Int32 → Int32 → AM (Unit)) (v0 : Option Nat) (v1 : Int32) (v3 : Int32) (t0 : Int32) : AM (Unit) :=
  rc4 t0 (v3 + (1 : Int32))
def f_X7_wears_j38 (K : Nat → Nat) (rc4 : Int32 → Int32 → AM (Unit)) (v0 : Option Nat) (v1 : Int32) (v3 : Int32)  : AM (Unit) :=
  f_X7_wears_j43 K rc4 v0 v1 v3 v3
def f_X7_wears_j42 (K : Nat → Nat) (rc4 : Int32 → Int32 → AM (Unit)) (v0 : Option Nat) (v1 : Int32) (v2 : Int32) (v3 : Int32)  : AM (Unit) :=
  f_X7_wears_j43 K rc4 v0 v1 v3 v2
def f_X7_wears_b4 (K : Nat → Nat) (rc4 : Int32 → Int32 → AM (Unit)) (v0 : Option Nat) (v1 : Int32) (v2 : Int32) (v3 : Int32)  : AM (Unit) :=
  if (8 : Int32) ≤ v3 then (f_X7_wears_j50 K  v0 v1 v2 ) else (bd (dv v0 4 (f_X7_isBroken K v0 v3) (fl)) fun x12 => if x12 = 0 then (if v2 = (-1 : Int32) then (f_X7_wears_j38 K rc4 v0 v1 v3 ) else (bd (gt pR 400 v0) fun x24 => bd (ald pI 1001 x24 v3) fun x28 => bd (gt pR 400 v0) fun x30 => bd (ald pI 1001 x30 v2) fun x34 => if x34 ≤ x28 then (f_X7_wears_j42 K rc4 v0 v1 v2 v3 ) else (f_X7_wears_j38 K rc4 v0 v1 v3 ))) else (f_X7_wears_j42 K rc4 v0 v1 v2 v3 ))
def f_X7_wears_l4 (K : Nat → Nat)  (v0 : Option Nat) (v1 : Int32) : Nat → Int32 → Int32 → AM (Unit) := fun n => match n with
  | 0 => fun _ _ => fl
  | n + 1 => fun v2 v3 => f_X7_wears_b4 K (f_X7_wears_l4 K v0 v1 n) v0 v1 v2 v3
def f_X7_wears (K : Nat → Nat) (v0 : Option Nat) (v1 : Int32) : AM (Unit) :=
  f_X7_wears_l4 K  v0 v1 FU (-1 : Int32) (0 : Int32)
def f_X2_wearMats_j79 (K : Nat → Nat) (rc2 : Int32 → AM (Unit)) (v0 : Option Nat) (v1 : Int32)  : AM (Unit) :=
  rc2 (v1 + (1 : Int32))
def f_X2_wearMats_j76 (K : Nat → Nat) (rc2 : Int32 → AM (Unit)) (rc21 : AM (Unit)) (v0 : Option Nat) (v1 : Int32) (v2 : Option Nat)  : AM (Unit) :=
  rc21
def f_X2_wearMats_b21 (K : Nat → Nat) (rc2 : Int32 → AM (Unit)) (rc21 : AM (Unit)) (v0 : Option Nat) (v1 : Int32) (v2 : Option Nat)  : AM (Unit) :=
  bd (dv v2 26 (f_J14_hasNext K v2) (fl)) fun x22 => if x22 = 0 then (f_X2_wearMats_j79 K rc2 v0 v1 ) else (bd (dv v2 26 (f_J14_next K v2) (fl)) fun x31 => bd (ckc [5] x31) fun _ => bd (dv x31 5 (f_X8_isOn K x31 v1) (fl)) fun x42 => if x42 = 0 then (f_X2_wearMats_j76 K rc2 rc21 v0 v1 v2 ) else (bd (gt pR 300 v0) fun x49 => bd (dv x49 25 (f_J2_get K x49 v1) (fl)) fun x53 => bd (ckc [4] x53) fun _ => bd (gt pI 501 x31) fun x60 => bd (dv x53 4 (f_X7_wears K x53 x60) (fl)) fun _ => bd (gt pI 507 x31) fun x68 => bd (pu K 507 x31 (.int (x68 + (1 : Int32)))) fun _ => f_X2_wearMats_j76 K rc2 rc21 v0 v1 v2 ))
def f_X2_wearMats_l21 (K : Nat → Nat) (rc2 : Int32 → AM (Unit)) (v0 : Option Nat) (v1 : Int32) (v2 : Option Nat) : Nat → AM (Unit) := fun n => match n with
  | 0 => fl
  | n + 1 => f_X2_wearMats_b21 K rc2 (f_X2_wearMats_l21 K rc2 v0 v1 v2 n) v0 v1 v2
def f_X2_wearMats_b2 (K : Nat → Nat) (rc2 : Int32 → AM (Unit)) (v0 : Option Nat) (v1 : Int32)  : AM (Unit) :=
  bd (gt pR 300 v0) fun x4 => bd (dv x4 25 (f_J2_size K x4) (fl)) fun x7 => if x7 ≤ v1 then (rt ()) else (bd (gt pR 301 v0) fun x14 => bd (dv x14 25 (f_J2_iterator K x14) (fl)) fun x17 => f_X2_wearMats_l21 K rc2 v0 v1 x17 FU )
def f_X2_wearMats_l2 (K : Nat → Nat)  (v0 : Option Nat) : Nat → Int32 → AM (Unit) := fun n => match n with
  | 0 => fun _ => fl
  | n + 1 => fun v1 => f_X2_wearMats_b2 K (f_X2_wearMats_l2 K v0 n) v0 v1
def f_X2_wearMats (K : Nat → Nat) (v0 : Option Nat) : AM (Unit) :=
  f_X2_wearMats_l2 K  v0 FU (0 : Int32)
def f_X2_clears_j50 (K : Nat → Nat)  (v0 : Option Nat) (v1 : Int32) (v2 : Int32)  : AM (Int32) :=
  bd (gt pR 300 v0) fun x51 => bd (dv x51 25 (f_J2_get K x51 v1) (fl)) fun x55 => bd (ckc [4] x55) fun _ => bd (pu K 401 x55 (.int (1 : Int32))) fun _ => bd (gt pI 308 v0) fun x67 => bd (pu K 308 v0 (.int (x67 + v2))) fun _ => rt v2
def f_X2_clears_j47 (K : Nat → Nat) (rc10 : Int32 → AM (Int32)) (v0 : Option Nat) (v1 : Int32) (v2 : Int32) (v3 : Option Nat)  : AM (Int32) :=
  rc10 v2
def f_X2_clears_b10 (K : Nat → Nat) (rc10 : Int32 → AM (Int32)) (v0 : Option Nat) (v1 : Int32) (v2 : Int32) (v3 : Option Nat)  : AM (Int32) :=
  bd (dv v3 26 (f_J14_hasNext K v3) (fl)) fun x11 => if x11 = 0 then (f_X2_clears_j50 K  v0 v1 v2 ) else (bd (dv v3 26 (f_J14_next K v3) (fl)) fun x20 => bd (ckc [5] x20) fun _ => bd (dv x20 5 (f_X8_isOn K x20 v1) (fl)) fun x33 => if x33 = 0 then (f_X2_clears_j47 K rc10 v0 v1 v2 v3 ) else (bd (dv x20 5 (f_X8_waits K x20) (fl)) fun _ => f_X2_clears_j47 K rc10 v0 v1 (v2 + (1 : Int32)) v3 ))
def f_X2_clears_l10 (K : Nat → Nat)  (v0 : Option Nat) (v1 : Int32) (v3 : Option Nat) : Nat → Int32 → AM (Int32) := fun n => match n with
  | 0 => fun _ => fl
  | n + 1 => fun v2 => f_X2_clears_b10 K (f_X2_clears_l10 K v0 v1 v3 n) v0 v1 v2 v3
def f_X2_clears (K : Nat → Nat) (v0 : Option Nat) (v1 : Int32) : AM (Int32) :=
  bd (gt pR 301 v0) fun x3 => bd (dv x3 25 (f_J2_iterator K x3) (fl)) fun x6 => f_X2_clears_l10 K  v0 v1 x6 FU (0 : Int32)
def f_X2_comes_b19 (K : Nat → Nat) (rc19 : Int32 → AM (Unit)) (v0 : Option Nat) (v1 : Int32) (v2 : Option Nat) (v3 : Int32)  : AM (Unit) :=
  bd (gt pI 601 v2) fun x21 => if x21 ≤ v3 then (rt ()) else (bd (gt pI 602 v2) fun x29 => bd (gt pI 603 v2) fun x33 => tc (dv v0 3 (f_X2_addJumper K v0 x29 x33 v1) (fl)) (fun q => ctc [12] [13, 14, 16, 17, 18, 19, 20, 21] q (rt ()) (th q)) fun x37 => bd (gt pI 605 v2) fun x44 => bd (pu K 605 v2 (.int (x44 + (1 : Int32)))) fun _ => rc19 (v3 + (1 : Int32)))
def f_X2_comes_l19 (K : Nat → Nat)  (v0 : Option Nat) (v1 : Int32) (v2 : Option Nat) : Nat → Int32 → AM (Unit) := fun n => match n with
  | 0 => fun _ => fl
  | n + 1 => fun v3 => f_X2_comes_b19 K (f_X2_comes_l19 K v0 v1 v2 n) v0 v1 v2 v3
def f_X2_comes (K : Nat → Nat) (v0 : Option Nat) (v1 : Int32) : AM (Unit) :=
  bd (gt pR 302 v0) fun x1 => bd (dv x1 25 (f_J2_get K x1 v1) (fl)) fun x5 => bd (ckc [6] x5) fun _ => bd (pu K 604 x5 (.int (1 : Int32))) fun _ => f_X2_comes_l19 K  v0 v1 x5 FU (0 : Int32)
def f_X2_minuteGoesBy_j125 (K : Nat → Nat) (rc71 : Int32 → AM (Int32)) (v0 : Option Nat) (v1 : Int32) (v2 : Int32)  : AM (Int32) :=
  rc71 (v2 + (1 : Int32))
def f_X2_minuteGoesBy_b71 (K : Nat → Nat) (rc71 : Int32 → AM (Int32)) (v0 : Option Nat) (v1 : Int32) (v2 : Int32)  : AM (Int32) :=
  bd (gt pR 302 v0) fun x73 => bd (dv x73 25 (f_J2_size K x73) (fl)) fun x76 => if x76 ≤ v2 then (rt v1) else (bd (gt pR 302 v0) fun x83 => bd (dv x83 25 (f_J2_get K x83 v2) (fl)) fun x87 => bd (ckc [6] x87) fun _ => bd (dv x87 6 (f_X9_isBooked K x87) (fl)) fun x93 => if x93 = 0 then (f_X2_minuteGoesBy_j125 K rc71 v0 v1 v2 ) else (bd (gt pR 302 v0) fun x100 => bd (dv x100 25 (f_J2_get K x100 v2) (fl)) fun x104 => bd (ckc [6] x104) fun _ => bd (gt pI 600 x104) fun x110 => bd (gt pI 310 v0) fun x114 => if x110 = x114 then (bd (dv v0 3 (f_X2_comes K v0 v2) (fl)) fun _ => f_X2_minuteGoesBy_j125 K rc71 v0 v1 v2 ) else (f_X2_minuteGoesBy_j125 K rc71 v0 v1 v2 )))
def f_X2_minuteGoesBy_l71 (K : Nat → Nat)  (v0 : Option Nat) (v1 : Int32) : Nat → Int32 → AM (Int32) := fun n => match n with
  | 0 => fun _ => fl
  | n + 1 => fun v2 => f_X2_minuteGoesBy_b71 K (f_X2_minuteGoesBy_l71 K v0 v1 n) v0 v1 v2
def f_X2_minuteGoesBy_j59 (K : Nat → Nat)  (v0 : Option Nat) (v1 : Int32)  : AM (Int32) :=
  bd (gt pI 310 v0) fun x61 => bd (pu K 310 v0 (.int (x61 + (1 : Int32)))) fun _ => f_X2_minuteGoesBy_l71 K  v0 v1 FU (0 : Int32)
def f_X2_minuteGoesBy_j51 (K : Nat → Nat) (rc8 : Int32 → Int32 → AM (Int32)) (v0 : Option Nat) (v2 : Int32) (t0 : Int32) (t1 : Int32) : AM (Int32) :=
  rc8 (t1 + t0) (v2 + (1 : Int32))
def f_X2_minuteGoesBy_b8 (K : Nat → Nat) (rc8 : Int32 → Int32 → AM (Int32)) (v0 : Option Nat) (v1 : Int32) (v2 : Int32)  : AM (Int32) :=
  bd (gt pR 300 v0) fun x10 => bd (dv x10 25 (f_J2_size K x10) (fl)) fun x13 => if x13 ≤ v2 then (f_X2_minuteGoesBy_j59 K  v0 v1 ) else (bd (dv v0 3 (f_X2_weightOn K v0 v2) (fl)) fun x22 => bd (gt pR 300 v0) fun x26 => bd (dv x26 25 (f_J2_get K x26 v2) (fl)) fun x30 => bd (ckc [4] x30) fun _ => bd (dv x30 4 (f_X7_bears K x30) (fl)) fun x36 => if x22 ≤ x36 then (f_X2_minuteGoesBy_j51 K rc8 v0 v2 (0 : Int32) v1) else (bd (dv v0 3 (f_X2_clears K v0 v2) (fl)) fun x44 => f_X2_minuteGoesBy_j51 K rc8 v0 v2 x44 v1))
def f_X2_minuteGoesBy_l8 (K : Nat → Nat)  (v0 : Option Nat) : Nat → Int32 → Int32 → AM (Int32) := fun n => match n with
  | 0 => fun _ _ => fl
  | n + 1 => fun v1 v2 => f_X2_minuteGoesBy_b8 K (f_X2_minuteGoesBy_l8 K v0 n) v0 v1 v2
def f_X2_minuteGoesBy (K : Nat → Nat) (v0 : Option Nat) : AM (Int32) :=
  bd (dv v0 3 (f_X2_wearMats K v0) (fl)) fun _ => f_X2_minuteGoesBy_l8 K  v0 FU (0 : Int32) (0 : Int32)
def f_X2_pass_b4 (K : Nat → Nat) (rc4 : Int32 → Int32 → AM (Int32)) (v0 : Option Nat) (v1 : Int32) (v2 : Int32) (v3 : Int32)  : AM (Int32) :=
  if v1 ≤ v3 then (rt v2) else (bd (dv v0 3 (f_X2_minuteGoesBy K v0) (fl)) fun x11 => rc4 (v2 + x11) (v3 + (1 : Int32)))
def f_X2_pass_l4 (K : Nat → Nat)  (v0 : Option Nat) (v1 : Int32) : Nat → Int32 → Int32 → AM (Int32) := fun n => match n with
  | 0 => fun _ _ => fl
  | n + 1 => fun v2 v3 => f_X2_pass_b4 K (f_X2_pass_l4 K v0 v1 n) v0 v1 v2 v3
def f_X2_pass (K : Nat → Nat) (v0 : Option Nat) (v1 : Int32) : AM (Int32) :=
  f_X2_pass_l4 K  v0 v1 FU (0 : Int32) (0 : Int32)
def f_X1_lambda_pass_14 (K : Nat → Nat) (v0 : Int32) (v1 : Option Nat) : AM (Int32) :=
  bd (dv v1 3 (f_X2_pass K v1 v0) (fl)) fun x2 => rt x2
def c_lam220 (K : Nat → Nat) (r v : Option Nat) : AM Int32 :=
  bd (gL pI 220 0 r) fun c0 => f_X1_lambda_pass_14 K c0 v
def f_J7_isLatin1 (K : Nat → Nat) (v0 : Option Nat) : AM (Int32) :=
  if (1 : Int32) = 0 then (rt (0 : Int32)) else (bd (gt pI 3401 v0) fun x7 => if x7 = 0 then (rt (1 : Int32)) else (rt (0 : Int32)))
def f_J11_signedHashCode_b8 (K : Nat → Nat) (rc8 : Int32 → Int32 → AM (Int32)) (v0 : Int32) (v1 : Option Nat) (v4 : Int32) (v5 : Int32)  : AM (Int32) :=
  if v4 ≤ v5 then (rt v0) else (bd (ald pI 1003 v1 v5) fun x22 => rc8 (((31 : Int32) * v0) + (x22 &&& (255 : Int32))) (v5 + (1 : Int32)))
def f_J11_signedHashCode_l8 (K : Nat → Nat)  (v1 : Option Nat) (v4 : Int32) : Nat → Int32 → Int32 → AM (Int32) := fun n => match n with
  | 0 => fun _ _ => fl
  | n + 1 => fun v0 v5 => f_J11_signedHashCode_b8 K (f_J11_signedHashCode_l8 K v1 v4 n) v0 v1 v4 v5
def f_J11_signedHashCode (K : Nat → Nat) (v0 : Int32) (v1 : Option Nat) (v2 : Int32) (v3 : Int32) : AM (Int32) :=
  f_J11_signedHashCode_l8 K  v1 (v2 + v3) FU v0 v2
def f_J11_hashCode_2_b8 (K : Nat → Nat) (rc8 : Int32 → Int32 → AM (Int32)) (v0 : Int32) (v1 : Option Nat) (v4 : Int32) (v5 : Int32)  : AM (Int32) :=
  if v4 ≤ v5 then (rt v0) else (bd (ald pI 1003 v1 v5) fun x22 => rc8 (((31 : Int32) * v0) + x22) (v5 + (1 : Int32)))
def f_J11_hashCode_2_l8 (K : Nat → Nat)  (v1 : Option Nat) (v4 : Int32) : Nat → Int32 → Int32 → AM (Int32) := fun n => match n with
  | 0 => fun _ _ => fl
  | n + 1 => fun v0 v5 => f_J11_hashCode_2_b8 K (f_J11_hashCode_2_l8 K v1 v4 n) v0 v1 v4 v5
def f_J11_hashCode_2 (K : Nat → Nat) (v0 : Int32) (v1 : Option Nat) (v2 : Int32) (v3 : Int32) : AM (Int32) :=
  f_J11_hashCode_2_l8 K  v1 (v2 + v3) FU v0 v2
def f_J11_vectorizedHashCode (K : Nat → Nat) (v0 : Option Nat) (v1 : Int32) (v2 : Int32) (v3 : Int32) (v4 : Int32) : AM (Int32) :=
  if v4 = (4 : Int32) then (bd (cka K 1003 v0) fun _ => bd (f_J11_signedHashCode K v3 v0 v1 v2) fun x51 => rt x51) else if v4 = (5 : Int32) then (bd (ins [] [] v0) fun x58 => if x58 = 0 then fl else (bd (cka K 1003 v0) fun _ => fl)) else if v4 = (6 : Int32) then (bd (nwO K 17 6) fun x129 => bd (nwO K 36 4) fun x133 => bd (f_J6_init K x133) fun _ => fl) else if v4 = (7 : Int32) then (bd (nwO K 17 6) fun x129 => bd (nwO K 36 4) fun x133 => bd (f_J6_init K x133) fun _ => fl) else if v4 = (8 : Int32) then (bd (cka K 1003 v0) fun _ => bd (f_J11_hashCode_2 K v3 v0 v1 v2) fun x97 => rt x97) else if v4 = (9 : Int32) then fl else if v4 = (10 : Int32) then fl else (bd (nwO K 17 6) fun x129 => bd (nwO K 36 4) fun x133 => bd (f_J6_init K x133) fun _ => fl)
def f_J21_hashCode (K : Nat → Nat) (v0 : Option Nat) : AM (Int32) :=
  bd (alen v0) fun x1 => if x1 = (0 : Int32) then (rt (0 : Int32)) else if x1 = (1 : Int32) then (bd (ald pI 1003 v0 (0 : Int32)) fun x34 => rt (x34 &&& (255 : Int32))) else (bd (alen v0) fun x45 => bd (f_J11_vectorizedHashCode K v0 (0 : Int32) x45 (0 : Int32) (4 : Int32)) fun x48 => rt x48)
def f_J7_hashCode_j40 (K : Nat → Nat)  (v0 : Option Nat) (t0 : Int32) : AM (Int32) :=
  if t0 = 0 then (bd (pu K 3403 v0 (.int (1 : Int32))) fun _ => rt t0) else (bd (pu K 3402 v0 (.int t0)) fun _ => rt t0)
def f_J7_hashCode (K : Nat → Nat) (v0 : Option Nat) : AM (Int32) :=
  bd (gt pI 3402 v0) fun x1 => if x1 = 0 then (bd (gt pI 3403 v0) fun x10 => if x10 = 0 then (bd (dv v0 34 (f_J7_isLatin1 K v0) (fl)) fun x17 => if x17 = 0 then (bd (gt pR 3400 v0) fun x34 => fl) else (bd (gt pR 3400 v0) fun x24 => bd (f_J21_hashCode K x24) fun x27 => f_J7_hashCode_j40 K  v0 x27)) else (rt x1)) else (rt x1)
def f_X1_isIn (K : Nat → Nat) (v0 : Int32) (v1 : Int32) (v2 : Int32) : AM (Int32) :=
  if v0 < v1 then (rt (0 : Int32)) else (if v2 < v0 then (rt (0 : Int32)) else (rt (1 : Int32)))
def f_X2_isJumper (K : Nat → Nat) (v0 : Option Nat) (v1 : Int32) : AM (Int32) :=
  bd (gt pR 301 v0) fun x3 => bd (dv x3 25 (f_J2_size K x3) (fl)) fun x6 => bd (f_X1_isIn K v1 (0 : Int32) (x6 - (1 : Int32))) fun x11 => chk (fits .boolean (.int x11)) <| rt x11
def f_X2_isMat (K : Nat → Nat) (v0 : Option Nat) (v1 : Int32) : AM (Int32) :=
  bd (gt pR 300 v0) fun x3 => bd (dv x3 25 (f_J2_size K x3) (fl)) fun x6 => bd (f_X1_isIn K v1 (0 : Int32) (x6 - (1 : Int32))) fun x11 => chk (fits .boolean (.int x11)) <| rt x11
def f_X14_init (K : Nat → Nat) (v0 : Option Nat) : AM (Unit) :=
  nz v0 <| bd (f_X5_init K v0 (17 : Int32) (0 : Int32)) fun _ => rt ()
def f_X1_need (K : Nat → Nat) (v0 : Int32) : AM (Unit) :=
  if v0 = 0 then (bd (nwO K 13 8) fun x4 => bd (f_X14_init K x4) fun _ => thr x4) else (rt ())
def f_X2_isGuard (K : Nat → Nat) (v0 : Option Nat) (v1 : Int32) : AM (Int32) :=
  bd (gt pR 303 v0) fun x3 => bd (dv x3 25 (f_J2_size K x3) (fl)) fun x6 => bd (f_X1_isIn K v1 (0 : Int32) (x6 - (1 : Int32))) fun x11 => chk (fits .boolean (.int x11)) <| rt x11
def f_X13_deed_j215 (K : Nat → Nat)  (v0 : Option Nat) (t0 : Int32) : AM (Option Nat) :=
  bd (f_X1_need K t0) fun _ => bd (nwL K 226 [va_rf v0]) fun x219 => rt x219
def f_X13_deed_j214 (K : Nat → Nat)  (v0 : Option Nat)  : AM (Option Nat) :=
  f_X13_deed_j215 K  v0 (0 : Int32)
def f_X13_deed_j267 (K : Nat → Nat)  (v0 : Option Nat) (t0 : Int32) : AM (Option Nat) :=
  bd (f_X1_need K t0) fun _ => bd (nwL K 228 [va_rf v0]) fun x271 => rt x271
def f_X13_deed_j266 (K : Nat → Nat)  (v0 : Option Nat)  : AM (Option Nat) :=
  f_X13_deed_j267 K  v0 (0 : Int32)
def f_X13_deed_j304 (K : Nat → Nat)  (v0 : Option Nat) (t0 : Int32) : AM (Option Nat) :=
  bd (f_X1_need K t0) fun _ => bd (nwL K 229 [va_rf v0]) fun x308 => rt x308
def f_X13_deed_j303 (K : Nat → Nat)  (v0 : Option Nat)  : AM (Option Nat) :=
  f_X13_deed_j304 K  v0 (0 : Int32)
def f_X13_deed_j339 (K : Nat → Nat)  (v0 : Option Nat) (t0 : Int32) : AM (Option Nat) :=
  bd (f_X1_need K t0) fun _ => bd (nwL K 230 [va_rf v0]) fun x343 => rt x343
def f_X13_deed_j338 (K : Nat → Nat)  (v0 : Option Nat)  : AM (Option Nat) :=
  f_X13_deed_j339 K  v0 (0 : Int32)
def f_X13_deed_j149 (K : Nat → Nat)  (v0 : Option Nat) (v1 : Option Nat) (v3 : Int32)  : AM (Option Nat) :=
  if v3 = (0 : Int32) then (bd (gt pI 1001 v0) fun x190 => bd (dv v1 3 (f_X2_isJumper K v1 x190) (fl)) fun x193 => if x193 = 0 then (f_X13_deed_j214 K  v0 ) else (bd (gt pI 1002 v0) fun x201 => bd (dv v1 3 (f_X2_isMat K v1 x201) (fl)) fun x204 => if x204 = 0 then (f_X13_deed_j214 K  v0 ) else (f_X13_deed_j215 K  v0 (1 : Int32)))) else if v3 = (1 : Int32) then (bd (gt pI 1001 v0) fun x227 => bd (dv v1 3 (f_X2_isJumper K v1 x227) (fl)) fun x230 => bd (f_X1_need K x230) fun _ => bd (nwL K 227 [va_rf v0]) fun x237 => rt x237) else if v3 = (2 : Int32) then (bd (gt pI 1001 v0) fun x245 => bd (dv v1 3 (f_X2_isJumper K v1 x245) (fl)) fun x248 => if x248 = 0 then (f_X13_deed_j266 K  v0 ) else (bd (gt pI 1002 v0) fun x255 => if (3 : Int32) ≤ x255 then (f_X13_deed_j266 K  v0 ) else (f_X13_deed_j267 K  v0 (1 : Int32)))) else if v3 = (3 : Int32) then (bd (gt pI 1001 v0) fun x279 => bd (dv v1 3 (f_X2_isGuard K v1 x279) (fl)) fun x282 => if x282 = 0 then (f_X13_deed_j303 K  v0 ) else (bd (gt pI 1002 v0) fun x290 => bd (dv v1 3 (f_X2_isMat K v1 x290) (fl)) fun x293 => if x293 = 0 then (f_X13_deed_j303 K  v0 ) else (f_X13_deed_j304 K  v0 (1 : Int32)))) else if v3 = (4 : Int32) then (bd (gt pI 1001 v0) fun x316 => bd (dv v1 3 (f_X2_isMat K v1 x316) (fl)) fun x319 => if x319 = 0 then (f_X13_deed_j338 K  v0 ) else (bd (gt pI 1002 v0) fun x326 => if (8 : Int32) ≤ x326 then (f_X13_deed_j338 K  v0 ) else (f_X13_deed_j339 K  v0 (1 : Int32)))) else if v3 = (5 : Int32) then (bd (gt pI 1001 v0) fun x351 => bd (dv v1 3 (f_X2_isMat K v1 x351) (fl)) fun x354 => bd (f_X1_need K x354) fun _ => bd (nwL K 231 [va_rf v0]) fun x361 => rt x361) else (bd (gt pI 1001 v0) fun x368 => bd (f_X1_isIn K x368 (1 : Int32) (60 : Int32)) fun x374 => bd (f_X1_need K x374) fun _ => bd (nwL K 232 [va_rf v0]) fun x381 => rt x381)
def f_X13_deed (K : Nat → Nat) (v0 : Option Nat) (v1 : Option Nat) : AM (Option Nat) :=
  bd (gt pR 1000 v0) fun x1 => bd (dv x1 34 (f_J7_hashCode K x1) (fl)) fun x8 => if x8 = (3739 : Int32) then (bd (dv x1 34 (f_J7_equals K x1 (some (K 14))) (fl)) fun x71 => if x71 = 0 then (f_X13_deed_j149 K  v0 v1 (-1 : Int32) ) else (f_X13_deed_j149 K  v0 v1 (0 : Int32) )) else if x8 = (101397 : Int32) then (bd (dv x1 34 (f_J7_equals K x1 (some (K 18))) (fl)) fun x127 => if x127 = 0 then (f_X13_deed_j149 K  v0 v1 (-1 : Int32) ) else (f_X13_deed_j149 K  v0 v1 (4 : Int32) )) else if x8 = (3089570 : Int32) then (bd (dv x1 34 (f_J7_equals K x1 (some (K 15))) (fl)) fun x85 => if x85 = 0 then (f_X13_deed_j149 K  v0 v1 (-1 : Int32) ) else (f_X13_deed_j149 K  v0 v1 (1 : Int32) )) else if x8 = (3417674 : Int32) then (bd (dv x1 34 (f_J7_equals K x1 (some (K 19))) (fl)) fun x141 => if x141 = 0 then (f_X13_deed_j149 K  v0 v1 (-1 : Int32) ) else (f_X13_deed_j149 K  v0 v1 (5 : Int32) )) else if x8 = (3526482 : Int32) then (bd (dv x1 34 (f_J7_equals K x1 (some (K 16))) (fl)) fun x99 => if x99 = 0 then (f_X13_deed_j149 K  v0 v1 (-1 : Int32) ) else (f_X13_deed_j149 K  v0 v1 (2 : Int32) )) else if x8 = (98705061 : Int32) then (bd (dv x1 34 (f_J7_equals K x1 (some (K 17))) (fl)) fun x113 => if x113 = 0 then (f_X13_deed_j149 K  v0 v1 (-1 : Int32) ) else (f_X13_deed_j149 K  v0 v1 (3 : Int32) )) else (f_X13_deed_j149 K  v0 v1 (-1 : Int32) )
def f_X13_lambda_deed_0 (K : Nat → Nat) (v0 : Option Nat) (v1 : Option Nat) : AM (Int32) :=
  bd (gt pI 1001 v0) fun x2 => bd (gt pI 1002 v0) fun x6 => bd (dv v1 3 (f_X2_up K v1 x2 x6) (fl)) fun x9 => rt x9
def c_lam226 (K : Nat → Nat) (r v : Option Nat) : AM Int32 :=
  bd (gL pR 226 0 r) fun c0 => dv c0 10 (f_X13_lambda_deed_0 K c0 v) fl
def f_X13_lambda_deed_1 (K : Nat → Nat) (v0 : Option Nat) (v1 : Option Nat) : AM (Int32) :=
  bd (gt pI 1001 v0) fun x2 => bd (dv v1 3 (f_X2_down K v1 x2) (fl)) fun x5 => rt x5
def c_lam227 (K : Nat → Nat) (r v : Option Nat) : AM Int32 :=
  bd (gL pR 227 0 r) fun c0 => dv c0 10 (f_X13_lambda_deed_1 K c0 v) fl
def f_X13_lambda_deed_2 (K : Nat → Nat) (v0 : Option Nat) (v1 : Option Nat) : AM (Int32) :=
  bd (gt pI 1001 v0) fun x2 => bd (gt pI 1002 v0) fun x6 => bd (dv v1 3 (f_X2_sell K v1 x2 x6) (fl)) fun x9 => rt x9
def c_lam228 (K : Nat → Nat) (r v : Option Nat) : AM Int32 :=
  bd (gL pR 228 0 r) fun c0 => dv c0 10 (f_X13_lambda_deed_2 K c0 v) fl
def f_X13_lambda_deed_3 (K : Nat → Nat) (v0 : Option Nat) (v1 : Option Nat) : AM (Int32) :=
  bd (gt pI 1001 v0) fun x2 => bd (gt pI 1002 v0) fun x6 => bd (dv v1 3 (f_X2_place K v1 x2 x6) (fl)) fun x9 => rt x9
def c_lam229 (K : Nat → Nat) (r v : Option Nat) : AM Int32 :=
  bd (gL pR 229 0 r) fun c0 => dv c0 10 (f_X13_lambda_deed_3 K c0 v) fl
def f_X13_lambda_deed_4 (K : Nat → Nat) (v0 : Option Nat) (v1 : Option Nat) : AM (Int32) :=
  bd (gt pI 1001 v0) fun x2 => bd (gt pI 1002 v0) fun x6 => bd (dv v1 3 (f_X2_fix K v1 x2 x6) (fl)) fun x9 => rt x9
def c_lam230 (K : Nat → Nat) (r v : Option Nat) : AM Int32 :=
  bd (gL pR 230 0 r) fun c0 => dv c0 10 (f_X13_lambda_deed_4 K c0 v) fl
def f_X13_lambda_deed_5 (K : Nat → Nat) (v0 : Option Nat) (v1 : Option Nat) : AM (Int32) :=
  bd (gt pI 1001 v0) fun x2 => bd (dv v1 3 (f_X2_open K v1 x2) (fl)) fun x5 => rt x5
def c_lam231 (K : Nat → Nat) (r v : Option Nat) : AM Int32 :=
  bd (gL pR 231 0 r) fun c0 => dv c0 10 (f_X13_lambda_deed_5 K c0 v) fl
def f_X13_lambda_deed_6 (K : Nat → Nat) (v0 : Option Nat) (v1 : Option Nat) : AM (Int32) :=
  bd (gt pI 1001 v0) fun x2 => bd (dv v1 3 (f_X2_pass K v1 x2) (fl)) fun x5 => rt x5
def c_lam232 (K : Nat → Nat) (r v : Option Nat) : AM Int32 :=
  bd (gL pR 232 0 r) fun c0 => dv c0 10 (f_X13_lambda_deed_6 K c0 v) fl
def f_X13_on_j15 (K : Nat → Nat)  (v2 : Int32) (t0 : Option Nat) : AM (Unit) :=
  bd (nwO K 12 8) fun x16 => bd (f_X6_init K x16 (15 : Int32) v2) fun _ => bd (dv x16 12 (f_X6_behind K x16 t0) (fl)) fun x27 => thr x27
def f_X13_on (K : Nat → Nat) (v0 : Option Nat) (v1 : Option Nat) (v2 : Int32) : AM (Unit) :=
  tc (dv v0 10 (f_X13_deed K v0 v1) (fl)) (fun q => ctc [12] [13, 14, 16, 17, 18, 19, 20, 21] q (f_X13_on_j15 K  v2 (some q)) (ctc [13] [12, 14, 16, 17, 18, 19, 20, 21] q (f_X13_on_j15 K  v2 (some q)) (th q))) fun x2 => tc (dv x2 226 (c_lam226 K x2 v1) (dv x2 227 (c_lam227 K x2 v1) (dv x2 228 (c_lam228 K x2 v1) (dv x2 229 (c_lam229 K x2 v1) (dv x2 230 (c_lam230 K x2 v1) (dv x2 231 (c_lam231 K x2 v1) (dv x2 232 (c_lam232 K x2 v1) (fl)))))))) (fun q => ctc [12] [13, 14, 16, 17, 18, 19, 20, 21] q (f_X13_on_j15 K  v2 (some q)) (ctc [13] [12, 14, 16, 17, 18, 19, 20, 21] q (f_X13_on_j15 K  v2 (some q)) (th q))) fun x6 => rt ()
def f_X11_does_j35 (K : Nat → Nat)  (v0 : Option Nat)  : AM (Int32) :=
  bd (gt pR 902 v0) fun x36 => bd (dv x36 25 (f_J2_size K x36) (fl)) fun x39 => rt x39
def f_X11_does_b2 (K : Nat → Nat) (rc2 : Int32 → AM (Int32)) (v0 : Option Nat) (v1 : Option Nat) (v2 : Int32)  : AM (Int32) :=
  bd (gt pR 902 v0) fun x4 => bd (dv x4 25 (f_J2_size K x4) (fl)) fun x7 => if x7 ≤ v2 then (f_X11_does_j35 K  v0 ) else (bd (gt pR 902 v0) fun x14 => bd (dv x14 25 (f_J2_get K x14 v2) (fl)) fun x18 => bd (ckc [10] x18) fun _ => bd (dv x18 10 (f_X13_on K x18 v1 v2) (fl)) fun _ => rc2 (v2 + (1 : Int32)))
def f_X11_does_l2 (K : Nat → Nat)  (v0 : Option Nat) (v1 : Option Nat) : Nat → Int32 → AM (Int32) := fun n => match n with
  | 0 => fun _ => fl
  | n + 1 => fun v2 => f_X11_does_b2 K (f_X11_does_l2 K v0 v1 n) v0 v1 v2
def f_X11_does (K : Nat → Nat) (v0 : Option Nat) (v1 : Option Nat) : AM (Int32) :=
  f_X11_does_l2 K  v0 v1 FU (0 : Int32)
def f_X1_lambda_read_19 (K : Nat → Nat) (v0 : Option Nat) (v1 : Option Nat) : AM (Int32) :=
  bd (dv v0 9 (f_X11_does K v0 v1) (fl)) fun x2 => rt x2
def c_lam225 (K : Nat → Nat) (r v : Option Nat) : AM Int32 :=
  bd (gL pR 225 0 r) fun c0 => f_X1_lambda_read_19 K c0 v
def f_J2_fastRemove_j34 (K : Nat → Nat)  (v0 : Option Nat) (v1 : Option Nat) (v3 : Int32)  : AM (Unit) :=
  bd (pu K 2501 v0 (.int v3)) fun _ => bd (asr K 1006 [1, 2, 3, 4, 5, 6, 7, 8, 9, 10, 12, 13, 14, 15, 16, 17, 18, 19, 20, 21, 22, 23, 25, 26, 28, 29, 30, 32, 33, 34, 36, 37, 38] v1 v3 none) fun _ => rt ()
def f_J2_fastRemove (K : Nat → Nat) (v0 : Option Nat) (v1 : Option Nat) (v2 : Int32) : AM (Unit) :=
  bd (gt pI 2400 v0) fun x2 => bd (pu K 2400 v0 (.int (x2 + (1 : Int32)))) fun _ => bd (gt pI 2501 v0) fun x11 => if (x11 - (1 : Int32)) ≤ v2 then (f_J2_fastRemove_j34 K  v0 v1 (x11 - (1 : Int32)) ) else (bd (acpR K [1, 2, 3, 4, 5, 6, 7, 8, 9, 10, 12, 13, 14, 15, 16, 17, 18, 19, 20, 21, 22, 23, 25, 26, 28, 29, 30, 32, 33, 34, 36, 37, 38] v1 (v2 + (1 : Int32)) v1 v2 ((x11 - (1 : Int32)) - v2)) fun _ => f_J2_fastRemove_j34 K  v0 v1 (x11 - (1 : Int32)) )
def f_J2_remove (K : Nat → Nat) (v0 : Option Nat) (v1 : Int32) : AM (Option Nat) :=
  bd (gt pI 2501 v0) fun x2 => bd (f_J17_checkIndex K v1 x2) fun x5 => bd (gt pR 2500 v0) fun x10 => bd (ald pR 1006 x10 v1) fun x16 => bd (dv v0 25 (f_J2_fastRemove K v0 x10 v1) (fl)) fun _ => rt x16
def f_J36_init (K : Nat → Nat) (v0 : Option Nat) : AM (Unit) :=
  nz v0 <| bd (f_J15_init K v0) fun _ => rt ()
def f_X1_does_j56 (K : Nat → Nat)  (v0 : Option Nat) (t0 : Option Nat) : AM (Int32) :=
  bd (pu K 207 v0 (va_rf t0)) fun _ => bd (nwO K 21 6) fun x62 => bd (f_J36_init K x62) fun _ => thr x62
def f_X1_does_j37 (K : Nat → Nat)  (v0 : Option Nat) (v2 : Option Nat) (v3 : Int32)  : AM (Int32) :=
  bd (gt pR 202 v0) fun x38 => bd (gt pR 200 v0) fun x42 => tc (dv x38 25 (f_J2_add K x38 x42) (fl)) (fun q => ctc [12] [13, 14, 16, 17, 18, 19, 20, 21] q (f_X1_does_j56 K  v0 (some q)) (th q)) fun x45 => bd (pu K 200 v0 (va_rf v2)) fun _ => rt v3
def f_X1_does (K : Nat → Nat) (v0 : Option Nat) (v1 : Option Nat) : AM (Int32) :=
  bd (gt pR 200 v0) fun x1 => bd (dv x1 3 (f_X2_copy K x1) (fl)) fun x4 => tc (dv v1 201 (c_lam201 K v1 x4) (dv v1 202 (c_lam202 K v1 x4) (dv v1 204 (c_lam204 K v1 x4) (dv v1 207 (c_lam207 K v1 x4) (dv v1 208 (c_lam208 K v1 x4) (dv v1 211 (c_lam211 K v1 x4) (dv v1 212 (c_lam212 K v1 x4) (dv v1 214 (c_lam214 K v1 x4) (dv v1 215 (c_lam215 K v1 x4) (dv v1 216 (c_lam216 K v1 x4) (dv v1 217 (c_lam217 K v1 x4) (dv v1 218 (c_lam218 K v1 x4) (dv v1 219 (c_lam219 K v1 x4) (dv v1 220 (c_lam220 K v1 x4) (dv v1 225 (c_lam225 K v1 x4) (fl)))))))))))))))) (fun q => ctc [12] [13, 14, 16, 17, 18, 19, 20, 21] q (f_X1_does_j56 K  v0 (some q)) (th q)) fun x10 => bd (gt pR 202 v0) fun x17 => tc (dv x17 25 (f_J2_size K x17) (fl)) (fun q => ctc [12] [13, 14, 16, 17, 18, 19, 20, 21] q (f_X1_does_j56 K  v0 (some q)) (th q)) fun x20 => if x20 = (6 : Int32) then (bd (gt pR 202 v0) fun x29 => tc (dv x29 25 (f_J2_remove K x29 (0 : Int32)) (fl)) (fun q => ctc [12] [13, 14, 16, 17, 18, 19, 20, 21] q (f_X1_does_j56 K  v0 (some q)) (th q)) fun x33 => f_X1_does_j37 K  v0 x4 x10 ) else (f_X1_does_j37 K  v0 x4 x10 )
def f_X1_mat (K : Nat → Nat) (v0 : Option Nat) : AM (Int32) :=
  bd (dv v0 2 (f_X1_does K v0 (some (K 101))) (fl)) fun x6 => rt x6
def f_X0_mat (K : Nat → Nat) (v0 : Option Nat) (v1 : Option Nat) : AM (Int32) :=
  tc (dv v0 2 (f_X1_mat K v0) (fl)) (fun q => ctc [21] [12, 13, 14, 16, 17, 18, 19, 20] q (rt (1 : Int32)) (th q)) fun x3 => bd (ast K 1004 v1 (0 : Int32) (.long (x3.toInt64))) fun _ => rt (0 : Int32)
def f_X4_layAside_b7 (K : Nat → Nat) (rc7 : Int32 → AM (Unit)) (v0 : Option Nat) (v1 : Int32)  : AM (Unit) :=
  if (306 : Int32) ≤ v1 then (rt ()) else (bd (gt pR 101 v0) fun x15 => bd (gt pR 100 v0) fun x20 => bd (ald pI 1001 x20 v1) fun x24 => bd (ast K 1001 x15 v1 (.int x24)) fun _ => rc7 (v1 + (1 : Int32)))
def f_X4_layAside_l7 (K : Nat → Nat)  (v0 : Option Nat) : Nat → Int32 → AM (Unit) := fun n => match n with
  | 0 => fun _ => fl
  | n + 1 => fun v1 => f_X4_layAside_b7 K (f_X4_layAside_l7 K v0 n) v0 v1
def f_X4_layAside (K : Nat → Nat) (v0 : Option Nat) : AM (Unit) :=
  bd (pu K 107 v0 (.int (0 : Int32))) fun _ => f_X4_layAside_l7 K  v0 FU (0 : Int32)
def f_X4_throwing (K : Nat → Nat) (v0 : Option Nat) (v1 : Int32) : AM (Int32) :=
  bd (pu K 107 v0 (.int v1)) fun _ => rt (0 : Int32)
def f_X4_refuse (K : Nat → Nat) (v0 : Option Nat) (v1 : Int32) (v2 : Int32) (v3 : Int32) : AM (Int32) :=
  bd (gt pR 108 v0) fun x1 => bd (ast K 1001 x1 (0 : Int32) (.int v2)) fun _ => bd (gt pR 109 v0) fun x8 => bd (ast K 1001 x8 (0 : Int32) (.int v3)) fun _ => bd (pu K 110 v0 (.int (1 : Int32))) fun _ => bd (dv v0 1 (f_X4_throwing K v0 v1) (fl)) fun x21 => rt x21
def f_X4_of (K : Nat → Nat) (v0 : Int32) : AM (Int32) :=
  rt ((8 : Int32) + ((10 : Int32) * v0))
def f_X4_changed_j95 (K : Nat → Nat)  (v0 : Option Nat) (v1 : Int32)  : AM (Int32) :=
  bd (gt pI 106 v0) fun x97 => bd (pu K 106 v0 (.int (x97 + (1 : Int32)))) fun _ => rt v1
def f_X4_changed_b61 (K : Nat → Nat) (rc61 : Int32 → AM (Int32)) (v0 : Option Nat) (v1 : Int32) (v2 : Int32)  : AM (Int32) :=
  if (306 : Int32) ≤ v2 then (f_X4_changed_j95 K  v0 v1 ) else (bd (gt pR 105 v0) fun x69 => bd (gt pI 106 v0) fun x76 => bd (gt pR 101 v0) fun x83 => bd (ald pI 1001 x83 v2) fun x87 => bd (ast K 1001 x69 (((306 : Int32) * x76) + v2) (.int x87)) fun _ => rc61 (v2 + (1 : Int32)))
def f_X4_changed_l61 (K : Nat → Nat)  (v0 : Option Nat) (v1 : Int32) : Nat → Int32 → AM (Int32) := fun n => match n with
  | 0 => fun _ => fl
  | n + 1 => fun v2 => f_X4_changed_b61 K (f_X4_changed_l61 K v0 v1 n) v0 v1 v2
def f_X4_changed_j59 (K : Nat → Nat)  (v0 : Option Nat) (v1 : Int32)  : AM (Int32) :=
  f_X4_changed_l61 K  v0 v1 FU (0 : Int32)
def f_X4_changed_j49 (K : Nat → Nat)  (v0 : Option Nat) (v1 : Int32)  : AM (Int32) :=
  bd (gt pI 106 v0) fun x51 => bd (pu K 106 v0 (.int (x51 - (1 : Int32)))) fun _ => f_X4_changed_j59 K  v0 v1 
def f_X4_changed_b20 (K : Nat → Nat) (rc20 : Int32 → AM (Int32)) (v0 : Option Nat) (v1 : Int32) (v2 : Int32)  : AM (Int32) :=
  if (1530 : Int32) ≤ v2 then (f_X4_changed_j49 K  v0 v1 ) else (bd (gt pR 105 v0) fun x28 => bd (gt pR 105 v0) fun x33 => bd (ald pI 1001 x33 (v2 + (306 : Int32))) fun x41 => bd (ast K 1001 x28 v2 (.int x41)) fun _ => rc20 (v2 + (1 : Int32)))
def f_X4_changed_l20 (K : Nat → Nat)  (v0 : Option Nat) (v1 : Int32) : Nat → Int32 → AM (Int32) := fun n => match n with
  | 0 => fun _ => fl
  | n + 1 => fun v2 => f_X4_changed_b20 K (f_X4_changed_l20 K v0 v1 n) v0 v1 v2
def f_X4_changed (K : Nat → Nat) (v0 : Option Nat) (v1 : Int32) : AM (Int32) :=
  bd (gt pI 107 v0) fun x1 => if x1 ≤ 0 then (bd (gt pI 106 v0) fun x10 => if x10 = (6 : Int32) then (f_X4_changed_l20 K  v0 v1 FU (0 : Int32)) else (f_X4_changed_j59 K  v0 v1 )) else (rt v1)
def f_X4_mat_j65 (K : Nat → Nat)  (v0 : Option Nat)  : AM (Int32) :=
  bd (gt pR 100 v0) fun x66 => bd (ald pI 1001 x66 (1 : Int32)) fun x71 => bd (ast K 1001 x66 (1 : Int32) (.int (x71 + (1 : Int32)))) fun _ => bd (gt pR 100 v0) fun x77 => bd (ald pI 1001 x77 (1 : Int32)) fun x81 => bd (dv v0 1 (f_X4_changed K v0 (x81 - (1 : Int32))) (fl)) fun x84 => rt x84
def f_X4_mat_j58 (K : Nat → Nat) (rc26 : Int32 → AM (Int32)) (v0 : Option Nat) (v1 : Int32) (t0 : Int32) (t1 : Int32) (t2 : Option Nat) : AM (Int32) :=
  bd (ast K 1001 t2 t1 (.int t0)) fun _ => rc26 (v1 + (1 : Int32))
def f_X4_mat_b26 (K : Nat → Nat) (rc26 : Int32 → AM (Int32)) (v0 : Option Nat) (v1 : Int32)  : AM (Int32) :=
  if (10 : Int32) ≤ v1 then (f_X4_mat_j65 K  v0 ) else (bd (gt pR 100 v0) fun x33 => bd (gt pR 100 v0) fun x37 => bd (ald pI 1001 x37 (1 : Int32)) fun x41 => bd (f_X4_of K x41) fun x42 => if v1 = (8 : Int32) then (f_X4_mat_j58 K rc26 v0 v1 (1 : Int32) (x42 + v1) x33) else (f_X4_mat_j58 K rc26 v0 v1 (0 : Int32) (x42 + v1) x33))
def f_X4_mat_l26 (K : Nat → Nat)  (v0 : Option Nat) : Nat → Int32 → AM (Int32) := fun n => match n with
  | 0 => fun _ => fl
  | n + 1 => fun v1 => f_X4_mat_b26 K (f_X4_mat_l26 K v0 n) v0 v1
def f_X4_mat (K : Nat → Nat) (v0 : Option Nat) : AM (Int32) :=
  bd (dv v0 1 (f_X4_layAside K v0) (fl)) fun _ => bd (gt pR 100 v0) fun x5 => bd (ald pI 1001 x5 (1 : Int32)) fun x9 => if x9 = (6 : Int32) then (bd (dv v0 1 (f_X4_refuse K v0 (1 : Int32) (1 : Int32) (6 : Int32)) (fl)) fun x20 => rt x20) else (f_X4_mat_l26 K  v0 FU (0 : Int32))
def f_X4_thrown (K : Nat → Nat) (v0 : Option Nat) : AM (Int32) :=
  bd (gt pI 107 v0) fun x1 => rt x1
def f_J20_init_2 (K : Nat → Nat) (v0 : Option Nat) : AM (Unit) :=
  nz v0 <| bd (f_J15_init K v0) fun _ => rt ()
def f_X1_checkIndex (K : Nat → Nat) (v0 : Int32) : AM (Unit) :=
  if v0 = 0 then (bd (nwO K 19 6) fun x4 => bd (f_J20_init_2 K x4) fun _ => thr x4) else (rt ())
def f_X1_fix_j26 (K : Nat → Nat)  (v0 : Option Nat) (v1 : Int32) (v2 : Int32) (t0 : Int32) : AM (Int32) :=
  bd (f_X1_checkIndex K t0) fun _ => bd (nwL K 202 [.int v1, .int v2]) fun x32 => bd (dv v0 2 (f_X1_does K v0 x32) (fl)) fun x37 => rt x37
def f_X1_fix_j25 (K : Nat → Nat)  (v0 : Option Nat) (v1 : Int32) (v2 : Int32)  : AM (Int32) :=
  f_X1_fix_j26 K  v0 v1 v2 (0 : Int32)
def f_X1_fix (K : Nat → Nat) (v0 : Option Nat) (v1 : Int32) (v2 : Int32) : AM (Int32) :=
  bd (gt pR 200 v0) fun x1 => bd (dv x1 3 (f_X2_isMat K x1 v1) (fl)) fun x5 => if x5 = 0 then (f_X1_fix_j25 K  v0 v1 v2 ) else (bd (f_X1_isIn K v2 (0 : Int32) (7 : Int32)) fun x15 => if x15 = 0 then (f_X1_fix_j25 K  v0 v1 v2 ) else (f_X1_fix_j26 K  v0 v1 v2 (1 : Int32)))
def f_X0_fix (K : Nat → Nat) (v0 : Option Nat) (v1 : Int32) (v2 : Int32) (v3 : Option Nat) : AM (Int32) :=
  tc (dv v0 2 (f_X1_fix K v0 v1 v2) (fl)) (fun q => ctc [19] [12, 13, 14, 16, 17, 18, 20, 21] q (rt (1 : Int32)) (ctc [21] [12, 13, 14, 16, 17, 18, 19, 20] q (rt (2 : Int32)) (th q))) fun x5 => bd (ast K 1004 v3 (0 : Int32) (.long (x5.toInt64))) fun _ => rt (0 : Int32)
def f_X4_in (K : Nat → Nat) (v0 : Int64) (v2 : Int64) (v4 : Int64) : AM (Int32) :=
  if (lg_cmp v0 v2) < 0 then (rt (0 : Int32)) else (if 0 < (lg_cmp v0 v4) then (rt (0 : Int32)) else (rt (1 : Int32)))
def f_X4_isMat (K : Nat → Nat) (v0 : Option Nat) (v1 : Int32) : AM (Int32) :=
  bd (gt pR 100 v0) fun x4 => bd (ald pI 1001 x4 (1 : Int32)) fun x8 => bd (f_X4_in K (v1.toInt64) (0 : Int64) ((x8 - (1 : Int32)).toInt64)) fun x12 => chk (fits .boolean (.int x12)) <| rt x12
def f_X4_at0 (K : Nat → Nat) (v0 : Int32) : AM (Int32) :=
  rt ((68 : Int32) + ((7 : Int32) * v0))
def f_X4_isOn (K : Nat → Nat) (v0 : Option Nat) (v1 : Int32) (v2 : Int32) : AM (Int32) :=
  bd (gt pR 100 v0) fun x1 => bd (f_X4_at0 K v1) fun x5 => bd (ald pI 1001 x1 (x5 + (2 : Int32))) fun x10 => if x10 = (1 : Int32) then (bd (gt pR 100 v0) fun x16 => bd (f_X4_at0 K v1) fun x20 => bd (ald pI 1001 x16 (x20 + (3 : Int32))) fun x25 => if x25 = v2 then (rt (1 : Int32)) else (rt (0 : Int32))) else (rt (0 : Int32))
def f_X4_lowestOn_b2 (K : Nat → Nat) (rc2 : Int32 → AM (Int32)) (v0 : Option Nat) (v1 : Int32) (v2 : Int32)  : AM (Int32) :=
  bd (gt pR 100 v0) fun x4 => bd (ald pI 1001 x4 (2 : Int32)) fun x8 => if x8 ≤ v2 then (rt (-1 : Int32)) else (bd (dv v0 1 (f_X4_isOn K v0 v2 v1) (fl)) fun x15 => if x15 = 0 then (rc2 (v2 + (1 : Int32))) else (rt v2))
def f_X4_lowestOn_l2 (K : Nat → Nat)  (v0 : Option Nat) (v1 : Int32) : Nat → Int32 → AM (Int32) := fun n => match n with
  | 0 => fun _ => fl
  | n + 1 => fun v2 => f_X4_lowestOn_b2 K (f_X4_lowestOn_l2 K v0 v1 n) v0 v1 v2
def f_X4_lowestOn (K : Nat → Nat) (v0 : Option Nat) (v1 : Int32) : AM (Int32) :=
  f_X4_lowestOn_l2 K  v0 v1 FU (0 : Int32)
def f_X4_broken_j32 (K : Nat → Nat) (rc4 : Int32 → Int32 → AM (Int32)) (v0 : Option Nat) (v1 : Int32) (v3 : Int32) (t0 : Int32) (t1 : Int32) : AM (Int32) :=
  rc4 (t1 + t0) (v3 + (1 : Int32))
def f_X4_broken_b4 (K : Nat → Nat) (rc4 : Int32 → Int32 → AM (Int32)) (v0 : Option Nat) (v1 : Int32) (v2 : Int32) (v3 : Int32)  : AM (Int32) :=
  if (8 : Int32) ≤ v3 then (rt v2) else (bd (gt pR 100 v0) fun x12 => bd (f_X4_of K v1) fun x16 => bd (ald pI 1001 x12 (x16 + v3)) fun x21 => if x21 = (9 : Int32) then (f_X4_broken_j32 K rc4 v0 v1 v3 (1 : Int32) v2) else (f_X4_broken_j32 K rc4 v0 v1 v3 (0 : Int32) v2))
def f_X4_broken_l4 (K : Nat → Nat)  (v0 : Option Nat) (v1 : Int32) : Nat → Int32 → Int32 → AM (Int32) := fun n => match n with
  | 0 => fun _ _ => fl
  | n + 1 => fun v2 v3 => f_X4_broken_b4 K (f_X4_broken_l4 K v0 v1 n) v0 v1 v2 v3
def f_X4_broken (K : Nat → Nat) (v0 : Option Nat) (v1 : Int32) : AM (Int32) :=
  f_X4_broken_l4 K  v0 v1 FU (0 : Int32) (0 : Int32)
def f_X4_bears (K : Nat → Nat) (v0 : Option Nat) (v1 : Int32) : AM (Int32) :=
  bd (dv v0 1 (f_X4_broken K v0 v1) (fl)) fun x6 => rt ((12 : Int32) * ((8 : Int32) - x6))
def f_X4_fixIt_j20 (K : Nat → Nat)  (v0 : Option Nat)  : AM (Int32) :=
  bd (dv v0 1 (f_X4_throwing K v0 (1 : Int32)) (fl)) fun x22 => rt x22
def f_X4_fixIt (K : Nat → Nat) (v0 : Option Nat) (v1 : Int32) (v2 : Int32) : AM (Int32) :=
  bd (dv v0 1 (f_X4_isMat K v0 v1) (fl)) fun x2 => if x2 = 0 then (f_X4_fixIt_j20 K  v0 ) else (bd (f_X4_in K (v2.toInt64) (0 : Int64) (7 : Int64)) fun x14 => if x14 = 0 then (f_X4_fixIt_j20 K  v0 ) else (bd (dv v0 1 (f_X4_lowestOn K v0 v1) (fl)) fun x28 => if x28 = (-1 : Int32) then (bd (gt pR 100 v0) fun x49 => bd (f_X4_of K v1) fun x53 => bd (ald pI 1001 x49 (x53 + v2)) fun x58 => if x58 = 0 then (bd (dv v0 1 (f_X4_refuse K v0 (2 : Int32) (13 : Int32) v2) (fl)) fun x67 => rt x67) else (bd (gt pR 100 v0) fun x72 => bd (f_X4_of K v1) fun x76 => bd (ast K 1001 x72 (x76 + v2) (.int (0 : Int32))) fun _ => bd (gt pR 100 v0) fun x84 => bd (ald pI 1001 x84 (7 : Int32)) fun x90 => bd (ast K 1001 x84 (7 : Int32) (.int (x90 + (1 : Int32)))) fun _ => bd (dv v0 1 (f_X4_bears K v0 v1) (fl)) fun x96 => rt x96)) else (bd (dv v0 1 (f_X4_lowestOn K v0 v1) (fl)) fun x41 => bd (dv v0 1 (f_X4_refuse K v0 (2 : Int32) (10 : Int32) x41) (fl)) fun x44 => rt x44)))
def f_X4_fix (K : Nat → Nat) (v0 : Option Nat) (v1 : Int32) (v2 : Int32) : AM (Int32) :=
  bd (dv v0 1 (f_X4_layAside K v0) (fl)) fun _ => bd (dv v0 1 (f_X4_fixIt K v0 v1 v2) (fl)) fun x8 => bd (dv v0 1 (f_X4_changed K v0 x8) (fl)) fun x11 => rt x11
def f_X1_matAt (K : Nat → Nat) (v0 : Option Nat) (v1 : Int32) : AM (Option Nat) :=
  bd (gt pR 200 v0) fun x1 => bd (dv x1 3 (f_X2_isMat K x1 v1) (fl)) fun x5 => bd (f_X1_checkIndex K x5) fun _ => bd (gt pR 200 v0) fun x12 => bd (gt pR 300 x12) fun x15 => bd (dv x15 25 (f_J2_get K x15 v1) (fl)) fun x19 => bd (ckc [4] x19) fun _ => rt x19
def f_X1_open (K : Nat → Nat) (v0 : Option Nat) (v1 : Int32) : AM (Int32) :=
  bd (dv v0 2 (f_X1_matAt K v0 v1) (fl)) fun x2 => bd (nwL K 204 [.int v1]) fun x8 => bd (dv v0 2 (f_X1_does K v0 x8) (fl)) fun x13 => rt x13
def f_X0_open (K : Nat → Nat) (v0 : Option Nat) (v1 : Int32) (v2 : Option Nat) : AM (Int32) :=
  tc (dv v0 2 (f_X1_open K v0 v1) (fl)) (fun q => ctc [19] [12, 13, 14, 16, 17, 18, 20, 21] q (rt (1 : Int32)) (ctc [21] [12, 13, 14, 16, 17, 18, 19, 20] q (rt (2 : Int32)) (th q))) fun x4 => bd (ast K 1004 v2 (0 : Int32) (.long (x4.toInt64))) fun _ => rt (0 : Int32)
def f_X4_openIt (K : Nat → Nat) (v0 : Option Nat) (v1 : Int32) : AM (Int32) :=
  bd (dv v0 1 (f_X4_isMat K v0 v1) (fl)) fun x2 => if x2 = 0 then (bd (dv v0 1 (f_X4_throwing K v0 (1 : Int32)) (fl)) fun x10 => rt x10) else (bd (gt pR 100 v0) fun x15 => bd (f_X4_of K v1) fun x19 => bd (ald pI 1001 x15 (x19 + (8 : Int32))) fun x25 => if x25 = (1 : Int32) then (bd (dv v0 1 (f_X4_refuse K v0 (2 : Int32) (14 : Int32) v1) (fl)) fun x35 => rt x35) else (bd (gt pR 100 v0) fun x40 => bd (f_X4_of K v1) fun x44 => bd (ast K 1001 x40 (x44 + (8 : Int32)) (.int (1 : Int32))) fun _ => bd (dv v0 1 (f_X4_bears K v0 v1) (fl)) fun x54 => rt x54))
def f_X4_open (K : Nat → Nat) (v0 : Option Nat) (v1 : Int32) : AM (Int32) :=
  bd (dv v0 1 (f_X4_layAside K v0) (fl)) fun _ => bd (dv v0 1 (f_X4_openIt K v0 v1) (fl)) fun x7 => bd (dv v0 1 (f_X4_changed K v0 x7) (fl)) fun x10 => rt x10
def f_J24_init_2 (K : Nat → Nat) (v0 : Option Nat) : AM (Unit) :=
  nz v0 <| bd (f_J15_init K v0) fun _ => rt ()
def f_X1_checkArgument (K : Nat → Nat) (v0 : Int32) : AM (Unit) :=
  if v0 = 0 then (bd (nwO K 17 6) fun x4 => bd (f_J24_init_2 K x4) fun _ => thr x4) else (rt ())
def f_X7_sum_b13 (K : Nat → Nat) (rc13 : Int32 → Int32 → AM (Int32)) (v1 : Int32) (v2 : Option Nat) (v3 : Int32) (v4 : Int32)  : AM (Int32) :=
  if v3 ≤ v4 then (rt v1) else (bd (ald pI 1001 v2 v4) fun x22 => rc13 (v1 + x22) (v4 + (1 : Int32)))
def f_X7_sum_l13 (K : Nat → Nat)  (v2 : Option Nat) (v3 : Int32) : Nat → Int32 → Int32 → AM (Int32) := fun n => match n with
  | 0 => fun _ _ => fl
  | n + 1 => fun v1 v4 => f_X7_sum_b13 K (f_X7_sum_l13 K v2 v3 n) v1 v2 v3 v4
def f_X7_sum (K : Nat → Nat) (v0 : Option Nat) : AM (Int32) :=
  bd (gt pR 400 v0) fun x3 => bd (alen x3) fun x8 => f_X7_sum_l13 K  x3 x8 FU (0 : Int32) (0 : Int32)
def f_X1_matOf (K : Nat → Nat) (v0 : Option Nat) (v1 : Int32) (v2 : Int32) : AM (Int32) :=
  bd (dv v0 2 (f_X1_matAt K v0 v1) (fl)) fun x2 => bd (f_X1_isIn K v2 (0 : Int32) (7 : Int32)) fun x10 => bd (f_X1_checkArgument K x10) fun _ => if v2 = (0 : Int32) then (bd (dv x2 4 (f_X7_bears K x2) (fl)) fun x61 => rt x61) else if v2 = (1 : Int32) then (bd (dv x2 4 (f_X7_broken K x2) (fl)) fun x68 => rt x68) else if v2 = (2 : Int32) then (bd (dv x2 4 (f_X7_sum K x2) (fl)) fun x75 => rt x75) else if v2 = (3 : Int32) then (bd (gt pI 401 x2) fun x82 => if x82 = 0 then (rt (1 : Int32)) else (rt (0 : Int32))) else if v2 = (4 : Int32) then (bd (gt pR 200 v0) fun x97 => bd (nwL K 205 [.int v1]) fun x101 => bd (dv x97 3 (f_X2_many K x97 x101) (fl)) fun x106 => rt x106) else if v2 = (5 : Int32) then (bd (gt pR 200 v0) fun x113 => bd (dv x113 3 (f_X2_weightOn K x113 v1) (fl)) fun x117 => rt x117) else if v2 = (6 : Int32) then (bd (gt pR 200 v0) fun x124 => bd (dv x124 3 (f_X2_guardAt K x124 v1) (fl)) fun x128 => rt x128) else (bd (gt pI 402 x2) fun x135 => rt x135)
def f_X0_matOf (K : Nat → Nat) (v0 : Option Nat) (v1 : Int32) (v2 : Int32) (v3 : Option Nat) : AM (Int32) :=
  tc (dv v0 2 (f_X1_matOf K v0 v1 v2) (fl)) (fun q => ctc [19] [12, 13, 14, 16, 17, 18, 20, 21] q (rt (1 : Int32)) (ctc [17] [12, 13, 14, 16, 18, 19, 20, 21] q (rt (2 : Int32)) (th q))) fun x5 => bd (ast K 1004 v3 (0 : Int32) (.long (x5.toInt64))) fun _ => rt (0 : Int32)
def f_X4_wears_b4 (K : Nat → Nat) (rc4 : Int32 → Int32 → AM (Int32)) (v0 : Option Nat) (v1 : Int32) (v2 : Int32) (v3 : Int32)  : AM (Int32) :=
  if (8 : Int32) ≤ v3 then (rt v2) else (bd (gt pR 100 v0) fun x12 => bd (f_X4_of K v1) fun x16 => bd (ald pI 1001 x12 (x16 + v3)) fun x21 => rc4 (v2 + x21) (v3 + (1 : Int32)))
def f_X4_wears_l4 (K : Nat → Nat)  (v0 : Option Nat) (v1 : Int32) : Nat → Int32 → Int32 → AM (Int32) := fun n => match n with
  | 0 => fun _ _ => fl
  | n + 1 => fun v2 v3 => f_X4_wears_b4 K (f_X4_wears_l4 K v0 v1 n) v0 v1 v2 v3
def f_X4_wears (K : Nat → Nat) (v0 : Option Nat) (v1 : Int32) : AM (Int32) :=
  f_X4_wears_l4 K  v0 v1 FU (0 : Int32) (0 : Int32)
def f_X4_guardAt_b2 (K : Nat → Nat) (rc2 : Int32 → AM (Int32)) (v0 : Option Nat) (v1 : Int32) (v2 : Int32)  : AM (Int32) :=
  bd (gt pR 100 v0) fun x4 => bd (ald pI 1001 x4 (3 : Int32)) fun x8 => if x8 ≤ v2 then (rt (-1 : Int32)) else (bd (gt pR 100 v0) fun x13 => bd (ald pI 1001 x13 ((182 : Int32) + v2)) fun x21 => if x21 = v1 then (rt v2) else (rc2 (v2 + (1 : Int32))))
def f_X4_guardAt_l2 (K : Nat → Nat)  (v0 : Option Nat) (v1 : Int32) : Nat → Int32 → AM (Int32) := fun n => match n with
  | 0 => fun _ => fl
  | n + 1 => fun v2 => f_X4_guardAt_b2 K (f_X4_guardAt_l2 K v0 v1 n) v0 v1 v2
def f_X4_guardAt (K : Nat → Nat) (v0 : Option Nat) (v1 : Int32) : AM (Int32) :=
  f_X4_guardAt_l2 K  v0 v1 FU (0 : Int32)
def f_X4_on_j51 (K : Nat → Nat) (rc5 : Int32 → Int32 → AM (Int32)) (v0 : Option Nat) (v1 : Int32) (v2 : Int32) (v4 : Int32) (t0 : Int32) (t1 : Int32) : AM (Int32) :=
  rc5 (t1 + t0) (v4 + (1 : Int32))
def f_X4_on_b5 (K : Nat → Nat) (rc5 : Int32 → Int32 → AM (Int32)) (v0 : Option Nat) (v1 : Int32) (v2 : Int32) (v3 : Int32) (v4 : Int32)  : AM (Int32) :=
  bd (gt pR 100 v0) fun x8 => bd (ald pI 1001 x8 (2 : Int32)) fun x12 => if x12 ≤ v4 then (rt v3) else (bd (dv v0 1 (f_X4_isOn K v0 v4 v1) (fl)) fun x21 => if x21 = 0 then (f_X4_on_j51 K rc5 v0 v1 v2 v4 (0 : Int32) v3) else (if v2 = 0 then (f_X4_on_j51 K rc5 v0 v1 v2 v4 (1 : Int32) v3) else (bd (gt pR 100 v0) fun x36 => bd (f_X4_at0 K v4) fun x41 => bd (ald pI 1001 x36 (x41 + (0 : Int32))) fun x46 => f_X4_on_j51 K rc5 v0 v1 v2 v4 x46 v3)))
def f_X4_on_l5 (K : Nat → Nat)  (v0 : Option Nat) (v1 : Int32) (v2 : Int32) : Nat → Int32 → Int32 → AM (Int32) := fun n => match n with
  | 0 => fun _ _ => fl
  | n + 1 => fun v3 v4 => f_X4_on_b5 K (f_X4_on_l5 K v0 v1 v2 n) v0 v1 v2 v3 v4
def f_X4_on (K : Nat → Nat) (v0 : Option Nat) (v1 : Int32) (v2 : Int32) : AM (Int32) :=
  f_X4_on_l5 K  v0 v1 v2 FU (0 : Int32) (0 : Int32)
def f_X4_matOf_j111 (K : Nat → Nat)   (t0 : Int32) (t1 : Int32) (t2 : Option Nat) : AM (Int32) :=
  bd (dv t2 1 (f_X4_on K t2 t1 t0) (fl)) fun x111 => rt x111
def f_X4_matOf (K : Nat → Nat) (v0 : Option Nat) (v1 : Int32) (v2 : Int32) : AM (Int32) :=
  bd (pu K 107 v0 (.int (0 : Int32))) fun _ => bd (dv v0 1 (f_X4_isMat K v0 v1) (fl)) fun x7 => if x7 = 0 then (bd (dv v0 1 (f_X4_throwing K v0 (1 : Int32)) (fl)) fun x15 => rt x15) else (if v2 = (0 : Int32) then (bd (dv v0 1 (f_X4_bears K v0 v1) (fl)) fun x70 => rt x70) else if v2 = (1 : Int32) then (bd (dv v0 1 (f_X4_broken K v0 v1) (fl)) fun x76 => rt x76) else if v2 = (2 : Int32) then (bd (dv v0 1 (f_X4_wears K v0 v1) (fl)) fun x82 => rt x82) else if v2 = (3 : Int32) then (bd (gt pR 100 v0) fun x87 => bd (f_X4_of K v1) fun x91 => bd (ald pI 1001 x87 (x91 + (8 : Int32))) fun x97 => rt x97) else if v2 = (4 : Int32) then (if v2 = (5 : Int32) then (f_X4_matOf_j111 K   (1 : Int32) v1 v0) else (f_X4_matOf_j111 K   (0 : Int32) v1 v0)) else if v2 = (5 : Int32) then (if v2 = (5 : Int32) then (f_X4_matOf_j111 K   (1 : Int32) v1 v0) else (f_X4_matOf_j111 K   (0 : Int32) v1 v0)) else if v2 = (6 : Int32) then (bd (dv v0 1 (f_X4_guardAt K v0 v1) (fl)) fun x117 => rt x117) else if v2 = (7 : Int32) then (bd (gt pR 100 v0) fun x122 => bd (f_X4_of K v1) fun x126 => bd (ald pI 1001 x122 (x126 + (9 : Int32))) fun x132 => rt x132) else (bd (dv v0 1 (f_X4_throwing K v0 (2 : Int32)) (fl)) fun x136 => rt x136))
def f_X1_wear_j26 (K : Nat → Nat)  (v0 : Option Nat) (v1 : Int32) (v2 : Int32) (t0 : Int32) : AM (Int32) :=
  bd (f_X1_checkIndex K t0) fun _ => bd (gt pR 200 v0) fun x30 => bd (gt pR 300 x30) fun x33 => bd (dv x33 25 (f_J2_get K x33 v1) (fl)) fun x37 => bd (ckc [4] x37) fun _ => bd (gt pR 400 x37) fun x43 => bd (ald pI 1001 x43 v2) fun x47 => rt x47
def f_X1_wear_j25 (K : Nat → Nat)  (v0 : Option Nat) (v1 : Int32) (v2 : Int32)  : AM (Int32) :=
  f_X1_wear_j26 K  v0 v1 v2 (0 : Int32)
def f_X1_wear (K : Nat → Nat) (v0 : Option Nat) (v1 : Int32) (v2 : Int32) : AM (Int32) :=
  bd (gt pR 200 v0) fun x1 => bd (dv x1 3 (f_X2_isMat K x1 v1) (fl)) fun x5 => if x5 = 0 then (f_X1_wear_j25 K  v0 v1 v2 ) else (bd (f_X1_isIn K v2 (0 : Int32) (7 : Int32)) fun x15 => if x15 = 0 then (f_X1_wear_j25 K  v0 v1 v2 ) else (f_X1_wear_j26 K  v0 v1 v2 (1 : Int32)))
def f_X0_wear (K : Nat → Nat) (v0 : Option Nat) (v1 : Int32) (v2 : Int32) (v3 : Option Nat) : AM (Int32) :=
  tc (dv v0 2 (f_X1_wear K v0 v1 v2) (fl)) (fun q => ctc [19] [12, 13, 14, 16, 17, 18, 20, 21] q (rt (1 : Int32)) (th q)) fun x5 => bd (ast K 1004 v3 (0 : Int32) (.long (x5.toInt64))) fun _ => rt (0 : Int32)
def f_X4_wear_j39 (K : Nat → Nat)  (v0 : Option Nat)  : AM (Int32) :=
  bd (dv v0 1 (f_X4_throwing K v0 (1 : Int32)) (fl)) fun x41 => rt x41
def f_X4_wear (K : Nat → Nat) (v0 : Option Nat) (v1 : Int32) (v2 : Int32) : AM (Int32) :=
  bd (pu K 107 v0 (.int (0 : Int32))) fun _ => bd (dv v0 1 (f_X4_isMat K v0 v1) (fl)) fun x7 => if x7 = 0 then (f_X4_wear_j39 K  v0 ) else (bd (f_X4_in K (v2.toInt64) (0 : Int64) (7 : Int64)) fun x19 => if x19 = 0 then (f_X4_wear_j39 K  v0 ) else (bd (gt pR 100 v0) fun x26 => bd (f_X4_of K v1) fun x30 => bd (ald pI 1001 x26 (x30 + v2)) fun x35 => rt x35))
def f_X1_bearsAgain (K : Nat → Nat) (v0 : Option Nat) (v1 : Int32) : AM (Int32) :=
  bd (dv v0 2 (f_X1_matAt K v0 v1) (fl)) fun x6 => bd (dv x6 4 (f_X7_broken K x6) (fl)) fun x9 => rt ((96 : Int32) - ((12 : Int32) * x9))
def f_X0_bearsAgain (K : Nat → Nat) (v0 : Option Nat) (v1 : Int32) (v2 : Option Nat) : AM (Int32) :=
  tc (dv v0 2 (f_X1_bearsAgain K v0 v1) (fl)) (fun q => ctc [19] [12, 13, 14, 16, 17, 18, 20, 21] q (rt (1 : Int32)) (th q)) fun x4 => bd (ast K 1004 v2 (0 : Int32) (.long (x4.toInt64))) fun _ => rt (0 : Int32)
def f_X4_bearsAgain (K : Nat → Nat) (v0 : Option Nat) (v1 : Int32) : AM (Int32) :=
  bd (pu K 107 v0 (.int (0 : Int32))) fun _ => bd (dv v0 1 (f_X4_isMat K v0 v1) (fl)) fun x7 => if x7 = 0 then (bd (dv v0 1 (f_X4_throwing K v0 (1 : Int32)) (fl)) fun x23 => rt x23) else (bd (dv v0 1 (f_X4_bears K v0 v1) (fl)) fun x15 => rt x15)
def f_X1_checkElement (K : Nat → Nat) (v0 : Int32) : AM (Unit) :=
  if v0 = 0 then (bd (nwO K 20 6) fun x4 => bd (f_J16_init K x4) fun _ => thr x4) else (rt ())
def f_X2_lasts_j84 (K : Nat → Nat) (rc24 : Int32 → AM (Int32)) (v0 : Option Nat) (v1 : Int32) (v2 : Option Nat) (v3 : Int32) (v4 : Int32)  : AM (Int32) :=
  rc24 (v4 + (1 : Int32))
def f_X2_lasts_j81 (K : Nat → Nat) (rc24 : Int32 → AM (Int32)) (rc41 : AM (Int32)) (v0 : Option Nat) (v1 : Int32) (v2 : Option Nat) (v3 : Int32) (v4 : Int32) (v5 : Option Nat)  : AM (Int32) :=
  rc41
def f_X2_lasts_b41 (K : Nat → Nat) (rc24 : Int32 → AM (Int32)) (rc41 : AM (Int32)) (v0 : Option Nat) (v1 : Int32) (v2 : Option Nat) (v3 : Int32) (v4 : Int32) (v5 : Option Nat)  : AM (Int32) :=
  bd (dv v5 26 (f_J14_hasNext K v5) (fl)) fun x43 => if x43 = 0 then (f_X2_lasts_j84 K rc24 v0 v1 v2 v3 v4 ) else (bd (dv v5 26 (f_J14_next K v5) (fl)) fun x53 => bd (ckc [5] x53) fun _ => bd (dv x53 5 (f_X8_isOn K x53 v1) (fl)) fun x66 => if x66 = 0 then (f_X2_lasts_j81 K rc24 rc41 v0 v1 v2 v3 v4 v5 ) else (bd (gt pI 501 x53) fun x75 => bd (dv v2 4 (f_X7_wears K v2 x75) (fl)) fun _ => f_X2_lasts_j81 K rc24 rc41 v0 v1 v2 v3 v4 v5 ))
def f_X2_lasts_l41 (K : Nat → Nat) (rc24 : Int32 → AM (Int32)) (v0 : Option Nat) (v1 : Int32) (v2 : Option Nat) (v3 : Int32) (v4 : Int32) (v5 : Option Nat) : Nat → AM (Int32) := fun n => match n with
  | 0 => fl
  | n + 1 => f_X2_lasts_b41 K rc24 (f_X2_lasts_l41 K rc24 v0 v1 v2 v3 v4 v5 n) v0 v1 v2 v3 v4 v5
def f_X2_lasts_b24 (K : Nat → Nat) (rc24 : Int32 → AM (Int32)) (v0 : Option Nat) (v1 : Int32) (v2 : Option Nat) (v3 : Int32) (v4 : Int32)  : AM (Int32) :=
  bd (dv v2 4 (f_X7_bears K v2) (fl)) fun x25 => if x25 < v3 then (rt v4) else (bd (gt pR 301 v0) fun x33 => bd (dv x33 25 (f_J2_iterator K x33) (fl)) fun x36 => f_X2_lasts_l41 K rc24 v0 v1 v2 v3 v4 x36 FU )
def f_X2_lasts_l24 (K : Nat → Nat)  (v0 : Option Nat) (v1 : Int32) (v2 : Option Nat) (v3 : Int32) : Nat → Int32 → AM (Int32) := fun n => match n with
  | 0 => fun _ => fl
  | n + 1 => fun v4 => f_X2_lasts_b24 K (f_X2_lasts_l24 K v0 v1 v2 v3 n) v0 v1 v2 v3 v4
def f_X2_lasts (K : Nat → Nat) (v0 : Option Nat) (v1 : Int32) : AM (Int32) :=
  bd (gt pR 300 v0) fun x1 => bd (dv x1 25 (f_J2_get K x1 v1) (fl)) fun x5 => bd (ckc [4] x5) fun _ => bd (dv x5 4 (f_X7_copy K x5) (fl)) fun x11 => bd (dv v0 3 (f_X2_weightOn K v0 v1) (fl)) fun x17 => f_X2_lasts_l24 K  v0 v1 x11 x17 FU (0 : Int32)
def f_X1_lasts_j22 (K : Nat → Nat)  (v0 : Option Nat) (v1 : Int32) (t0 : Int32) : AM (Int32) :=
  bd (f_X1_checkElement K t0) fun _ => bd (gt pR 200 v0) fun x26 => bd (dv x26 3 (f_X2_lasts K x26 v1) (fl)) fun x30 => rt x30
def f_X1_lasts (K : Nat → Nat) (v0 : Option Nat) (v1 : Int32) : AM (Int32) :=
  bd (dv v0 2 (f_X1_matAt K v0 v1) (fl)) fun x2 => bd (gt pR 200 v0) fun x7 => bd (dv x7 3 (f_X2_weightOn K x7 v1) (fl)) fun x11 => if x11 ≤ 0 then (f_X1_lasts_j22 K  v0 v1 (0 : Int32)) else (f_X1_lasts_j22 K  v0 v1 (1 : Int32))
def f_X0_lasts (K : Nat → Nat) (v0 : Option Nat) (v1 : Int32) (v2 : Option Nat) : AM (Int32) :=
  tc (dv v0 2 (f_X1_lasts K v0 v1) (fl)) (fun q => ctc [19] [12, 13, 14, 16, 17, 18, 20, 21] q (rt (1 : Int32)) (ctc [20] [12, 13, 14, 16, 17, 18, 19, 21] q (rt (2 : Int32)) (th q))) fun x4 => bd (ast K 1004 v2 (0 : Int32) (.long (x4.toInt64))) fun _ => rt (0 : Int32)
def f_X4_jumps_j60 (K : Nat → Nat)  (v0 : Option Nat) (v1 : Int32) (v2 : Int32) (v3 : Int32)  : AM (Unit) :=
  bd (gt pR 100 v0) fun x61 => bd (gt pR 100 v0) fun x70 => bd (ald pI 1001 x70 (v2 + v3)) fun x76 => bd (gt pR 100 v0) fun x80 => bd (f_X4_at0 K v1) fun x84 => bd (ald pI 1001 x80 (x84 + (0 : Int32))) fun x89 => bd (ast K 1001 x61 (v2 + v3) (.int (if ((x76 + (1 : Int32)) + (x89 / (40 : Int32))) < (9 : Int32) then ((x76 + (1 : Int32)) + (x89 / (40 : Int32))) else (9 : Int32)))) fun _ => bd (gt pR 100 v0) fun x99 => bd (f_X4_at0 K v1) fun x103 => bd (ald pI 1001 x99 (x103 + (5 : Int32))) fun x109 => bd (ast K 1001 x99 (x103 + (5 : Int32)) (.int (x109 + (1 : Int32)))) fun _ => rt ()
def f_X4_jumps_j53 (K : Nat → Nat) (rc20 : Int32 → Int32 → AM (Unit)) (v0 : Option Nat) (v1 : Int32) (v2 : Int32) (v4 : Int32) (t0 : Int32) : AM (Unit) :=
  rc20 t0 (v4 + (1 : Int32))
def f_X4_jumps_b20 (K : Nat → Nat) (rc20 : Int32 → Int32 → AM (Unit)) (v0 : Option Nat) (v1 : Int32) (v2 : Int32) (v3 : Int32) (v4 : Int32)  : AM (Unit) :=
  if (8 : Int32) ≤ v4 then (f_X4_jumps_j60 K  v0 v1 v2 v3 ) else (bd (gt pR 100 v0) fun x28 => bd (ald pI 1001 x28 (v2 + v4)) fun x35 => bd (gt pR 100 v0) fun x37 => bd (ald pI 1001 x37 (v2 + v3)) fun x43 => if x43 ≤ x35 then (f_X4_jumps_j53 K rc20 v0 v1 v2 v4 v3) else (f_X4_jumps_j53 K rc20 v0 v1 v2 v4 v4))
def f_X4_jumps_l20 (K : Nat → Nat)  (v0 : Option Nat) (v1 : Int32) (v2 : Int32) : Nat → Int32 → Int32 → AM (Unit) := fun n => match n with
  | 0 => fun _ _ => fl
  | n + 1 => fun v3 v4 => f_X4_jumps_b20 K (f_X4_jumps_l20 K v0 v1 v2 n) v0 v1 v2 v3 v4
def f_X4_jumps (K : Nat → Nat) (v0 : Option Nat) (v1 : Int32) : AM (Unit) :=
  bd (gt pR 100 v0) fun x1 => bd (f_X4_at0 K v1) fun x5 => bd (ald pI 1001 x1 (x5 + (3 : Int32))) fun x10 => bd (f_X4_of K x10) fun x11 => f_X4_jumps_l20 K  v0 v1 x11 FU (0 : Int32) (1 : Int32)
def f_X4_sinks_j72 (K : Nat → Nat)  (v0 : Option Nat) (v1 : Int32) (v2 : Int32)  : AM (Int32) :=
  bd (gt pR 100 v0) fun x73 => bd (f_X4_of K v1) fun x77 => bd (ast K 1001 x73 (x77 + (8 : Int32)) (.int (0 : Int32))) fun _ => bd (gt pR 100 v0) fun x86 => bd (ald pI 1001 x86 (6 : Int32)) fun x92 => bd (ast K 1001 x86 (6 : Int32) (.int (x92 + v2))) fun _ => rt v2
def f_X4_sinks_j66 (K : Nat → Nat) (rc20 : Int32 → Int32 → AM (Int32)) (v0 : Option Nat) (v1 : Int32) (v2 : Int32) (v3 : Int32)  : AM (Int32) :=
  rc20 v2 (v3 + (1 : Int32))
def f_X4_sinks_b20 (K : Nat → Nat) (rc20 : Int32 → Int32 → AM (Int32)) (v0 : Option Nat) (v1 : Int32) (v2 : Int32) (v3 : Int32)  : AM (Int32) :=
  bd (gt pR 100 v0) fun x22 => bd (ald pI 1001 x22 (2 : Int32)) fun x26 => if x26 ≤ v3 then (f_X4_sinks_j72 K  v0 v1 v2 ) else (bd (dv v0 1 (f_X4_isOn K v0 v3 v1) (fl)) fun x33 => if x33 = 0 then (f_X4_sinks_j66 K rc20 v0 v1 v2 v3 ) else (bd (gt pR 100 v0) fun x40 => bd (f_X4_at0 K v3) fun x44 => bd (ast K 1001 x40 (x44 + (2 : Int32)) (.int (0 : Int32))) fun _ => bd (gt pR 100 v0) fun x52 => bd (f_X4_at0 K v3) fun x56 => bd (ast K 1001 x52 (x56 + (3 : Int32)) (.int (-1 : Int32))) fun _ => f_X4_sinks_j66 K rc20 v0 v1 (v2 + (1 : Int32)) v3 ))
def f_X4_sinks_l20 (K : Nat → Nat)  (v0 : Option Nat) (v1 : Int32) : Nat → Int32 → Int32 → AM (Int32) := fun n => match n with
  | 0 => fun _ _ => fl
  | n + 1 => fun v2 v3 => f_X4_sinks_b20 K (f_X4_sinks_l20 K v0 v1 n) v0 v1 v2 v3
def f_X4_sinks (K : Nat → Nat) (v0 : Option Nat) (v1 : Int32) : AM (Int32) :=
  bd (dv v0 1 (f_X4_on K v0 v1 (1 : Int32)) (fl)) fun x3 => bd (dv v0 1 (f_X4_bears K v0 v1) (fl)) fun x8 => if x8 < x3 then (f_X4_sinks_l20 K  v0 v1 FU (0 : Int32) (0 : Int32)) else (rt (0 : Int32))
def f_X4_party (K : Nat → Nat) (v0 : Int32) : AM (Int32) :=
  rt ((186 : Int32) + ((6 : Int32) * v0))
def f_X4_jumperComes (K : Nat → Nat) (v0 : Option Nat) (v1 : Int32) (v2 : Int32) (v3 : Int32) : AM (Int32) :=
  bd (gt pR 100 v0) fun x1 => bd (ald pI 1001 x1 (2 : Int32)) fun x5 => bd (f_X4_at0 K x5) fun x6 => bd (gt pR 100 v0) fun x12 => bd (ast K 1001 x12 (x6 + (0 : Int32)) (.int v1)) fun _ => bd (gt pR 100 v0) fun x22 => bd (ast K 1001 x22 (x6 + (1 : Int32)) (.int v2)) fun _ => bd (gt pR 100 v0) fun x32 => bd (ast K 1001 x32 (x6 + (2 : Int32)) (.int (0 : Int32))) fun _ => bd (gt pR 100 v0) fun x42 => bd (ast K 1001 x42 (x6 + (3 : Int32)) (.int (-1 : Int32))) fun _ => bd (gt pR 100 v0) fun x52 => bd (ast K 1001 x52 (x6 + (4 : Int32)) (.int (-1 : Int32))) fun _ => bd (gt pR 100 v0) fun x62 => bd (ast K 1001 x62 (x6 + (5 : Int32)) (.int (0 : Int32))) fun _ => bd (gt pR 100 v0) fun x72 => bd (ast K 1001 x72 (x6 + (6 : Int32)) (.int v3)) fun _ => bd (gt pR 100 v0) fun x83 => bd (ald pI 1001 x83 (2 : Int32)) fun x88 => bd (ast K 1001 x83 (2 : Int32) (.int (x88 + (1 : Int32)))) fun _ => bd (gt pR 100 v0) fun x93 => bd (ald pI 1001 x93 (2 : Int32)) fun x97 => rt (x97 - (1 : Int32))
def f_X4_partyComes_b16 (K : Nat → Nat) (rc16 : Int32 → AM (Unit)) (v0 : Option Nat) (v1 : Int32) (v2 : Int32) (v3 : Int32)  : AM (Unit) :=
  bd (gt pR 100 v0) fun x18 => bd (ald pI 1001 x18 (v2 + (1 : Int32))) fun x24 => if x24 ≤ v3 then (rt ()) else (bd (gt pR 100 v0) fun x29 => bd (ald pI 1001 x29 (2 : Int32)) fun x33 => if (12 : Int32) ≤ x33 then (rt ()) else (bd (gt pR 100 v0) fun x41 => bd (ald pI 1001 x41 (v2 + (4 : Int32))) fun x47 => bd (gt pR 100 v0) fun x49 => bd (ald pI 1001 x49 (v2 + (5 : Int32))) fun x55 => bd (dv v0 1 (f_X4_jumperComes K v0 x47 x55 v1) (fl)) fun x57 => bd (gt pR 100 v0) fun x62 => bd (ald pI 1001 x62 (v2 + (3 : Int32))) fun x69 => bd (ast K 1001 x62 (v2 + (3 : Int32)) (.int (x69 + (1 : Int32)))) fun _ => rc16 (v3 + (1 : Int32))))
def f_X4_partyComes_l16 (K : Nat → Nat)  (v0 : Option Nat) (v1 : Int32) (v2 : Int32) : Nat → Int32 → AM (Unit) := fun n => match n with
  | 0 => fun _ => fl
  | n + 1 => fun v3 => f_X4_partyComes_b16 K (f_X4_partyComes_l16 K v0 v1 v2 n) v0 v1 v2 v3
def f_X4_partyComes (K : Nat → Nat) (v0 : Option Nat) (v1 : Int32) : AM (Unit) :=
  bd (f_X4_party K v1) fun x1 => bd (gt pR 100 v0) fun x6 => bd (ast K 1001 x6 (x1 + (2 : Int32)) (.int (1 : Int32))) fun _ => f_X4_partyComes_l16 K  v0 v1 x1 FU (0 : Int32)
def f_X4_minuteGoes_j137 (K : Nat → Nat) (rc90 : Int32 → AM (Int32)) (v0 : Option Nat) (v1 : Int32) (v2 : Int32)  : AM (Int32) :=
  rc90 (v2 + (1 : Int32))
def f_X4_minuteGoes_b90 (K : Nat → Nat) (rc90 : Int32 → AM (Int32)) (v0 : Option Nat) (v1 : Int32) (v2 : Int32)  : AM (Int32) :=
  bd (gt pR 100 v0) fun x92 => bd (ald pI 1001 x92 (4 : Int32)) fun x96 => if x96 ≤ v2 then (rt v1) else (bd (gt pR 100 v0) fun x101 => bd (f_X4_party K v2) fun x105 => bd (ald pI 1001 x101 (x105 + (2 : Int32))) fun x110 => if x110 = 0 then (bd (gt pR 100 v0) fun x115 => bd (f_X4_party K v2) fun x119 => bd (ald pI 1001 x115 x119) fun x122 => bd (gt pR 100 v0) fun x124 => bd (ald pI 1001 x124 (0 : Int32)) fun x128 => if x122 = x128 then (bd (dv v0 1 (f_X4_partyComes K v0 v2) (fl)) fun _ => f_X4_minuteGoes_j137 K rc90 v0 v1 v2 ) else (f_X4_minuteGoes_j137 K rc90 v0 v1 v2 )) else (f_X4_minuteGoes_j137 K rc90 v0 v1 v2 ))
def f_X4_minuteGoes_l90 (K : Nat → Nat)  (v0 : Option Nat) (v1 : Int32) : Nat → Int32 → AM (Int32) := fun n => match n with
  | 0 => fun _ => fl
  | n + 1 => fun v2 => f_X4_minuteGoes_b90 K (f_X4_minuteGoes_l90 K v0 v1 n) v0 v1 v2
def f_X4_minuteGoes_j78 (K : Nat → Nat)  (v0 : Option Nat) (v1 : Int32)  : AM (Int32) :=
  bd (gt pR 100 v0) fun x79 => bd (ald pI 1001 x79 (0 : Int32)) fun x84 => bd (ast K 1001 x79 (0 : Int32) (.int (x84 + (1 : Int32)))) fun _ => f_X4_minuteGoes_l90 K  v0 v1 FU (0 : Int32)
def f_X4_minuteGoes_b54 (K : Nat → Nat) (rc54 : Int32 → Int32 → AM (Int32)) (v0 : Option Nat) (v1 : Int32) (v2 : Int32)  : AM (Int32) :=
  bd (gt pR 100 v0) fun x56 => bd (ald pI 1001 x56 (1 : Int32)) fun x60 => if x60 ≤ v2 then (f_X4_minuteGoes_j78 K  v0 v1 ) else (bd (dv v0 1 (f_X4_sinks K v0 v2) (fl)) fun x67 => rc54 (v1 + x67) (v2 + (1 : Int32)))
def f_X4_minuteGoes_l54 (K : Nat → Nat)  (v0 : Option Nat) : Nat → Int32 → Int32 → AM (Int32) := fun n => match n with
  | 0 => fun _ _ => fl
  | n + 1 => fun v1 v2 => f_X4_minuteGoes_b54 K (f_X4_minuteGoes_l54 K v0 n) v0 v1 v2
def f_X4_minuteGoes_j50 (K : Nat → Nat)  (v0 : Option Nat)  : AM (Int32) :=
  f_X4_minuteGoes_l54 K  v0 FU (0 : Int32) (0 : Int32)
def f_X4_minuteGoes_j44 (K : Nat → Nat) (rc2 : Int32 → AM (Int32)) (v0 : Option Nat) (v1 : Int32)  : AM (Int32) :=
  rc2 (v1 + (1 : Int32))
def f_X4_minuteGoes_j38 (K : Nat → Nat) (rc2 : Int32 → AM (Int32)) (rc14 : Int32 → AM (Int32)) (v0 : Option Nat) (v1 : Int32) (v2 : Int32)  : AM (Int32) :=
  rc14 (v2 + (1 : Int32))
def f_X4_minuteGoes_b14 (K : Nat → Nat) (rc2 : Int32 → AM (Int32)) (rc14 : Int32 → AM (Int32)) (v0 : Option Nat) (v1 : Int32) (v2 : Int32)  : AM (Int32) :=
  bd (gt pR 100 v0) fun x16 => bd (ald pI 1001 x16 (2 : Int32)) fun x20 => if x20 ≤ v2 then (f_X4_minuteGoes_j44 K rc2 v0 v1 ) else (bd (dv v0 1 (f_X4_isOn K v0 v2 v1) (fl)) fun x27 => if x27 = 0 then (f_X4_minuteGoes_j38 K rc2 rc14 v0 v1 v2 ) else (bd (dv v0 1 (f_X4_jumps K v0 v2) (fl)) fun _ => f_X4_minuteGoes_j38 K rc2 rc14 v0 v1 v2 ))
def f_X4_minuteGoes_l14 (K : Nat → Nat) (rc2 : Int32 → AM (Int32)) (v0 : Option Nat) (v1 : Int32) : Nat → Int32 → AM (Int32) := fun n => match n with
  | 0 => fun _ => fl
  | n + 1 => fun v2 => f_X4_minuteGoes_b14 K rc2 (f_X4_minuteGoes_l14 K rc2 v0 v1 n) v0 v1 v2
def f_X4_minuteGoes_b2 (K : Nat → Nat) (rc2 : Int32 → AM (Int32)) (v0 : Option Nat) (v1 : Int32)  : AM (Int32) :=
  bd (gt pR 100 v0) fun x4 => bd (ald pI 1001 x4 (1 : Int32)) fun x8 => if x8 ≤ v1 then (f_X4_minuteGoes_j50 K  v0 ) else (f_X4_minuteGoes_l14 K rc2 v0 v1 FU (0 : Int32))
def f_X4_minuteGoes_l2 (K : Nat → Nat)  (v0 : Option Nat) : Nat → Int32 → AM (Int32) := fun n => match n with
  | 0 => fun _ => fl
  | n + 1 => fun v1 => f_X4_minuteGoes_b2 K (f_X4_minuteGoes_l2 K v0 n) v0 v1
def f_X4_minuteGoes (K : Nat → Nat) (v0 : Option Nat) : AM (Int32) :=
  f_X4_minuteGoes_l2 K  v0 FU (0 : Int32)
def f_X4_lasts_b85 (K : Nat → Nat) (rc85 : Int32 → AM (Int32)) (v0 : Option Nat) (v2 : Int32) (v3 : Int32)  : AM (Int32) :=
  if (306 : Int32) ≤ v3 then (rt v2) else (bd (gt pR 100 v0) fun x93 => bd (gt pR 102 v0) fun x98 => bd (ald pI 1001 x98 v3) fun x102 => bd (ast K 1001 x93 v3 (.int x102)) fun _ => rc85 (v3 + (1 : Int32)))
def f_X4_lasts_l85 (K : Nat → Nat)  (v0 : Option Nat) (v2 : Int32) : Nat → Int32 → AM (Int32) := fun n => match n with
  | 0 => fun _ => fl
  | n + 1 => fun v3 => f_X4_lasts_b85 K (f_X4_lasts_l85 K v0 v2 n) v0 v2 v3
def f_X4_lasts_j83 (K : Nat → Nat)  (v0 : Option Nat) (v2 : Int32)  : AM (Int32) :=
  f_X4_lasts_l85 K  v0 v2 FU (0 : Int32)
def f_X4_lasts_b63 (K : Nat → Nat) (rc63 : Int32 → AM (Int32)) (v0 : Option Nat) (v1 : Int32) (v2 : Int32)  : AM (Int32) :=
  bd (dv v0 1 (f_X4_lowestOn K v0 v1) (fl)) fun x65 => if x65 = (-1 : Int32) then (f_X4_lasts_j83 K  v0 v2 ) else (bd (dv v0 1 (f_X4_minuteGoes K v0) (fl)) fun x73 => rc63 (v2 + (1 : Int32)))
def f_X4_lasts_l63 (K : Nat → Nat)  (v0 : Option Nat) (v1 : Int32) : Nat → Int32 → AM (Int32) := fun n => match n with
  | 0 => fun _ => fl
  | n + 1 => fun v2 => f_X4_lasts_b63 K (f_X4_lasts_l63 K v0 v1 n) v0 v1 v2
def f_X4_lasts_j61 (K : Nat → Nat)  (v0 : Option Nat) (v1 : Int32)  : AM (Int32) :=
  f_X4_lasts_l63 K  v0 v1 FU (0 : Int32)
def f_X4_lasts_b36 (K : Nat → Nat) (rc36 : Int32 → AM (Int32)) (v0 : Option Nat) (v1 : Int32) (v2 : Int32)  : AM (Int32) :=
  if (306 : Int32) ≤ v2 then (f_X4_lasts_j61 K  v0 v1 ) else (bd (gt pR 102 v0) fun x44 => bd (gt pR 100 v0) fun x49 => bd (ald pI 1001 x49 v2) fun x53 => bd (ast K 1001 x44 v2 (.int x53)) fun _ => rc36 (v2 + (1 : Int32)))
def f_X4_lasts_l36 (K : Nat → Nat)  (v0 : Option Nat) (v1 : Int32) : Nat → Int32 → AM (Int32) := fun n => match n with
  | 0 => fun _ => fl
  | n + 1 => fun v2 => f_X4_lasts_b36 K (f_X4_lasts_l36 K v0 v1 n) v0 v1 v2
def f_X4_lasts (K : Nat → Nat) (v0 : Option Nat) (v1 : Int32) : AM (Int32) :=
  bd (pu K 107 v0 (.int (0 : Int32))) fun _ => bd (dv v0 1 (f_X4_isMat K v0 v1) (fl)) fun x7 => if x7 = 0 then (bd (dv v0 1 (f_X4_throwing K v0 (1 : Int32)) (fl)) fun x15 => rt x15) else (bd (dv v0 1 (f_X4_lowestOn K v0 v1) (fl)) fun x21 => if x21 = (-1 : Int32) then (bd (dv v0 1 (f_X4_throwing K v0 (2 : Int32)) (fl)) fun x30 => rt x30) else (f_X4_lasts_l36 K  v0 v1 FU (0 : Int32)))
def f_X2_bestMat_j110 (K : Nat → Nat) (rc4 : Int32 → Int32 → AM (Int32)) (v0 : Option Nat) (v2 : Int32) (t0 : Int32) : AM (Int32) :=
  rc4 t0 (v2 + (1 : Int32))
def f_X2_bestMat_j105 (K : Nat → Nat) (rc4 : Int32 → Int32 → AM (Int32)) (v0 : Option Nat) (v2 : Int32)  : AM (Int32) :=
  f_X2_bestMat_j110 K rc4 v0 v2 v2
def f_X2_bestMat_j94 (K : Nat → Nat) (rc4 : Int32 → Int32 → AM (Int32)) (v0 : Option Nat) (v1 : Int32) (v2 : Int32) (v3 : Int32) (t0 : Int32) : AM (Int32) :=
  if 0 < v3 then (f_X2_bestMat_j105 K rc4 v0 v2 ) else (if t0 = 0 then (f_X2_bestMat_j110 K rc4 v0 v2 v1) else (f_X2_bestMat_j105 K rc4 v0 v2 ))
def f_X2_bestMat_j93 (K : Nat → Nat) (rc4 : Int32 → Int32 → AM (Int32)) (v0 : Option Nat) (v1 : Int32) (v2 : Int32) (v3 : Int32)  : AM (Int32) :=
  f_X2_bestMat_j94 K rc4 v0 v1 v2 v3 (0 : Int32)
def f_X2_bestMat_j53 (K : Nat → Nat) (rc4 : Int32 → Int32 → AM (Int32)) (v0 : Option Nat) (v1 : Int32) (v2 : Int32) (t0 : Int32) : AM (Int32) :=
  if t0 = 0 then (bd (gt pR 300 v0) fun x59 => bd (dv x59 25 (f_J2_get K x59 v2) (fl)) fun x63 => bd (ckc [4] x63) fun _ => bd (dv x63 4 (f_X7_sum K x63) (fl)) fun x69 => bd (gt pR 300 v0) fun x73 => bd (dv x73 25 (f_J2_get K x73 v1) (fl)) fun x77 => bd (ckc [4] x77) fun _ => bd (dv x77 4 (f_X7_sum K x77) (fl)) fun x83 => if x83 ≤ x69 then (f_X2_bestMat_j93 K rc4 v0 v1 v2 t0 ) else (f_X2_bestMat_j94 K rc4 v0 v1 v2 t0 (1 : Int32))) else (f_X2_bestMat_j93 K rc4 v0 v1 v2 t0 )
def f_X2_bestMat_b4 (K : Nat → Nat) (rc4 : Int32 → Int32 → AM (Int32)) (v0 : Option Nat) (v1 : Int32) (v2 : Int32)  : AM (Int32) :=
  bd (gt pR 300 v0) fun x6 => bd (dv x6 25 (f_J2_size K x6) (fl)) fun x9 => if x9 ≤ v2 then (rt v1) else (if v1 = (-1 : Int32) then (f_X2_bestMat_j53 K rc4 v0 v1 v2 (1 : Int32)) else (bd (gt pR 300 v0) fun x25 => bd (dv x25 25 (f_J2_get K x25 v2) (fl)) fun x29 => bd (ckc [4] x29) fun _ => bd (dv x29 4 (f_X7_bears K x29) (fl)) fun x35 => bd (gt pR 300 v0) fun x39 => bd (dv x39 25 (f_J2_get K x39 v1) (fl)) fun x43 => bd (ckc [4] x43) fun _ => bd (dv x43 4 (f_X7_bears K x43) (fl)) fun x49 => f_X2_bestMat_j53 K rc4 v0 v1 v2 (x35 - x49)))
def f_X2_bestMat_l4 (K : Nat → Nat)  (v0 : Option Nat) : Nat → Int32 → Int32 → AM (Int32) := fun n => match n with
  | 0 => fun _ _ => fl
  | n + 1 => fun v1 v2 => f_X2_bestMat_b4 K (f_X2_bestMat_l4 K v0 n) v0 v1 v2
def f_X2_bestMat (K : Nat → Nat) (v0 : Option Nat) : AM (Int32) :=
  f_X2_bestMat_l4 K  v0 FU (-1 : Int32) (0 : Int32)
def f_X1_bestMat_j18 (K : Nat → Nat)  (v1 : Int32) (t0 : Int32) : AM (Int32) :=
  bd (f_X1_checkElement K t0) fun _ => rt v1
def f_X1_bestMat (K : Nat → Nat) (v0 : Option Nat) : AM (Int32) :=
  bd (gt pR 200 v0) fun x1 => bd (dv x1 3 (f_X2_bestMat K x1) (fl)) fun x4 => if x4 = (-1 : Int32) then (f_X1_bestMat_j18 K  x4 (0 : Int32)) else (f_X1_bestMat_j18 K  x4 (1 : Int32))
def f_X0_bestMat (K : Nat → Nat) (v0 : Option Nat) (v1 : Option Nat) : AM (Int32) :=
  tc (dv v0 2 (f_X1_bestMat K v0) (fl)) (fun q => ctc [20] [12, 13, 14, 16, 17, 18, 19, 21] q (rt (1 : Int32)) (th q)) fun x3 => bd (ast K 1004 v1 (0 : Int32) (.long (x3.toInt64))) fun _ => rt (0 : Int32)
def f_X4_bestMat_j76 (K : Nat → Nat)  (v0 : Option Nat) (v1 : Int32)  : AM (Int32) :=
  if v1 = (-1 : Int32) then (bd (dv v0 1 (f_X4_throwing K v0 (1 : Int32)) (fl)) fun x83 => rt x83) else (rt v1)
def f_X4_bestMat_j69 (K : Nat → Nat) (rc9 : Int32 → Int32 → AM (Int32)) (v0 : Option Nat) (v2 : Int32) (t0 : Int32) : AM (Int32) :=
  rc9 t0 (v2 + (1 : Int32))
def f_X4_bestMat_j59 (K : Nat → Nat) (rc9 : Int32 → Int32 → AM (Int32)) (v0 : Option Nat) (v1 : Int32) (v2 : Int32) (t0 : Int32) : AM (Int32) :=
  if t0 ≤ 0 then (f_X4_bestMat_j69 K rc9 v0 v2 v1) else (f_X4_bestMat_j69 K rc9 v0 v2 v2)
def f_X4_bestMat_j39 (K : Nat → Nat) (rc9 : Int32 → Int32 → AM (Int32)) (v0 : Option Nat) (v1 : Int32) (v2 : Int32) (t0 : Int32) : AM (Int32) :=
  if t0 = 0 then (bd (dv v0 1 (f_X4_wears K v0 v1) (fl)) fun x46 => bd (dv v0 1 (f_X4_wears K v0 v2) (fl)) fun x51 => f_X4_bestMat_j59 K rc9 v0 v1 v2 (x46 - x51)) else (f_X4_bestMat_j59 K rc9 v0 v1 v2 t0)
def f_X4_bestMat_b9 (K : Nat → Nat) (rc9 : Int32 → Int32 → AM (Int32)) (v0 : Option Nat) (v1 : Int32) (v2 : Int32)  : AM (Int32) :=
  bd (gt pR 100 v0) fun x11 => bd (ald pI 1001 x11 (1 : Int32)) fun x15 => if x15 ≤ v2 then (f_X4_bestMat_j76 K  v0 v1 ) else (if v1 = (-1 : Int32) then (f_X4_bestMat_j39 K rc9 v0 v1 v2 (1 : Int32)) else (bd (dv v0 1 (f_X4_bears K v0 v2) (fl)) fun x30 => bd (dv v0 1 (f_X4_bears K v0 v1) (fl)) fun x35 => f_X4_bestMat_j39 K rc9 v0 v1 v2 (x30 - x35)))
def f_X4_bestMat_l9 (K : Nat → Nat)  (v0 : Option Nat) : Nat → Int32 → Int32 → AM (Int32) := fun n => match n with
  | 0 => fun _ _ => fl
  | n + 1 => fun v1 v2 => f_X4_bestMat_b9 K (f_X4_bestMat_l9 K v0 n) v0 v1 v2
def f_X4_bestMat (K : Nat → Nat) (v0 : Option Nat) : AM (Int32) :=
  bd (pu K 107 v0 (.int (0 : Int32))) fun _ => f_X4_bestMat_l9 K  v0 FU (-1 : Int32) (0 : Int32)
def f_X1_jumper_j25 (K : Nat → Nat)  (v0 : Option Nat) (v1 : Int32) (v2 : Int32) (t0 : Int32) : AM (Int32) :=
  bd (f_X1_checkArgument K t0) fun _ => bd (nwL K 207 [.int v1, .int v2]) fun x31 => bd (dv v0 2 (f_X1_does K v0 x31) (fl)) fun x36 => rt x36
def f_X1_jumper_j24 (K : Nat → Nat)  (v0 : Option Nat) (v1 : Int32) (v2 : Int32)  : AM (Int32) :=
  f_X1_jumper_j25 K  v0 v1 v2 (0 : Int32)
def f_X1_jumper (K : Nat → Nat) (v0 : Option Nat) (v1 : Int32) (v2 : Int32) : AM (Int32) :=
  bd (f_X1_isIn K v1 (10 : Int32) (99 : Int32)) fun x5 => if x5 = 0 then (f_X1_jumper_j24 K  v0 v1 v2 ) else (bd (f_X1_isIn K v2 (0 : Int32) (4 : Int32)) fun x14 => if x14 = 0 then (f_X1_jumper_j24 K  v0 v1 v2 ) else (f_X1_jumper_j25 K  v0 v1 v2 (1 : Int32)))
def f_X0_jumper (K : Nat → Nat) (v0 : Option Nat) (v1 : Int32) (v2 : Int32) (v3 : Option Nat) : AM (Int32) :=
  tc (dv v0 2 (f_X1_jumper K v0 v1 v2) (fl)) (fun q => ctc [17] [12, 13, 14, 16, 18, 19, 20, 21] q (rt (1 : Int32)) (ctc [21] [12, 13, 14, 16, 17, 18, 19, 20] q (rt (2 : Int32)) (th q))) fun x5 => bd (ast K 1004 v3 (0 : Int32) (.long (x5.toInt64))) fun _ => rt (0 : Int32)
def f_X4_jumper_j30 (K : Nat → Nat)  (v0 : Option Nat)  : AM (Int32) :=
  bd (dv v0 1 (f_X4_throwing K v0 (1 : Int32)) (fl)) fun x32 => rt x32
def f_X4_jumper (K : Nat → Nat) (v0 : Option Nat) (v1 : Int32) (v2 : Int32) : AM (Int32) :=
  bd (dv v0 1 (f_X4_layAside K v0) (fl)) fun _ => bd (f_X4_in K (v1.toInt64) (10 : Int64) (99 : Int64)) fun x12 => if x12 = 0 then (f_X4_jumper_j30 K  v0 ) else (bd (f_X4_in K (v2.toInt64) (0 : Int64) (4 : Int64)) fun x24 => if x24 = 0 then (f_X4_jumper_j30 K  v0 ) else (bd (gt pR 100 v0) fun x37 => bd (ald pI 1001 x37 (2 : Int32)) fun x41 => if x41 = (12 : Int32) then (bd (dv v0 1 (f_X4_refuse K v0 (2 : Int32) (1 : Int32) (12 : Int32)) (fl)) fun x52 => rt x52) else (bd (dv v0 1 (f_X4_jumperComes K v0 v1 v2 (-1 : Int32)) (fl)) fun x61 => bd (dv v0 1 (f_X4_changed K v0 x61) (fl)) fun x64 => rt x64)))
def f_X1_up_j27 (K : Nat → Nat)  (v0 : Option Nat) (v1 : Int32) (v2 : Int32) (t0 : Int32) : AM (Int32) :=
  bd (f_X1_checkIndex K t0) fun _ => bd (nwL K 208 [.int v1, .int v2]) fun x33 => bd (dv v0 2 (f_X1_does K v0 x33) (fl)) fun x38 => rt x38
def f_X1_up_j26 (K : Nat → Nat)  (v0 : Option Nat) (v1 : Int32) (v2 : Int32)  : AM (Int32) :=
  f_X1_up_j27 K  v0 v1 v2 (0 : Int32)
def f_X1_up (K : Nat → Nat) (v0 : Option Nat) (v1 : Int32) (v2 : Int32) : AM (Int32) :=
  bd (gt pR 200 v0) fun x1 => bd (dv x1 3 (f_X2_isJumper K x1 v1) (fl)) fun x5 => if x5 = 0 then (f_X1_up_j26 K  v0 v1 v2 ) else (bd (gt pR 200 v0) fun x12 => bd (dv x12 3 (f_X2_isMat K x12 v2) (fl)) fun x16 => if x16 = 0 then (f_X1_up_j26 K  v0 v1 v2 ) else (f_X1_up_j27 K  v0 v1 v2 (1 : Int32)))
def f_X0_up (K : Nat → Nat) (v0 : Option Nat) (v1 : Int32) (v2 : Int32) (v3 : Option Nat) : AM (Int32) :=
  tc (dv v0 2 (f_X1_up K v0 v1 v2) (fl)) (fun q => ctc [19] [12, 13, 14, 16, 17, 18, 20, 21] q (rt (1 : Int32)) (ctc [21] [12, 13, 14, 16, 17, 18, 19, 20] q (rt (2 : Int32)) (th q))) fun x5 => bd (ast K 1004 v3 (0 : Int32) (.long (x5.toInt64))) fun _ => rt (0 : Int32)
def f_X4_isJumper (K : Nat → Nat) (v0 : Option Nat) (v1 : Int32) : AM (Int32) :=
  bd (gt pR 100 v0) fun x4 => bd (ald pI 1001 x4 (2 : Int32)) fun x8 => bd (f_X4_in K (v1.toInt64) (0 : Int64) ((x8 - (1 : Int32)).toInt64)) fun x12 => chk (fits .boolean (.int x12)) <| rt x12
def f_X4_upReason_j205 (K : Nat → Nat)   (t0 : Int32) (t1 : Option Nat) : AM (Int32) :=
  bd (pu K 114 t1 (.int t0)) fun _ => rt (7 : Int32)
def f_X4_upReason_j185 (K : Nat → Nat)  (v0 : Option Nat) (v1 : Int32) (v3 : Int32) (v4 : Int32)  : AM (Int32) :=
  bd (gt pR 100 v0) fun x187 => bd (ald pI 1001 x187 (v3 + (0 : Int32))) fun x193 => if (25 : Int32) ≤ x193 then (f_X4_upReason_j205 K   v4 v0) else (f_X4_upReason_j205 K   v1 v0)
def f_X4_upReason (K : Nat → Nat) (v0 : Option Nat) (v1 : Int32) (v2 : Int32) : AM (Int32) :=
  bd (f_X4_at0 K v1) fun x1 => bd (dv v0 1 (f_X4_lowestOn K v0 v2) (fl)) fun x7 => bd (dv v0 1 (f_X4_on K v0 v2 (1 : Int32)) (fl)) fun x15 => bd (gt pR 100 v0) fun x19 => bd (ald pI 1001 x19 (x1 + (0 : Int32))) fun x25 => bd (dv v0 1 (f_X4_bears K v0 v2) (fl)) fun x29 => bd (gt pR 100 v0) fun x36 => bd (ald pI 1001 x36 (x1 + (2 : Int32))) fun x42 => if x42 = 0 then (bd (gt pR 100 v0) fun x61 => bd (ald pI 1001 x61 (x1 + (4 : Int32))) fun x67 => if x67 = (-1 : Int32) then (bd (gt pR 100 v0) fun x74 => bd (ald pI 1001 x74 (x1 + (1 : Int32))) fun x80 => bd (pu K 114 v0 (.int x80)) fun _ => rt (3 : Int32)) else (bd (gt pR 100 v0) fun x87 => bd (f_X4_of K v2) fun x91 => bd (ald pI 1001 x87 (x91 + (8 : Int32))) fun x97 => if x97 = 0 then (bd (pu K 114 v0 (.int v2)) fun _ => rt (4 : Int32)) else (bd (dv v0 1 (f_X4_on K v0 v2 (0 : Int32)) (fl)) fun x111 => if x111 = (2 : Int32) then (bd (pu K 114 v0 (.int x7)) fun _ => rt (5 : Int32)) else (if ((x15 + x25) - x29) ≤ 0 then (if x7 = (-1 : Int32) then (rt (0 : Int32)) else (bd (dv v0 1 (f_X4_guardAt K v0 v2) (fl)) fun x148 => if x148 = (-1 : Int32) then (bd (gt pR 100 v0) fun x156 => bd (ald pI 1001 x156 (x1 + (0 : Int32))) fun x162 => if x162 < (25 : Int32) then (f_X4_upReason_j185 K  v0 v1 x1 x7 ) else (bd (gt pR 100 v0) fun x169 => bd (f_X4_at0 K x7) fun x174 => bd (ald pI 1001 x169 (x174 + (0 : Int32))) fun x179 => if (25 : Int32) ≤ x179 then (rt (0 : Int32)) else (f_X4_upReason_j185 K  v0 v1 x1 x7 ))) else (rt (0 : Int32)))) else (bd (pu K 114 v0 (.int ((x15 + x25) - x29))) fun _ => rt (6 : Int32)))))) else (bd (gt pR 100 v0) fun x48 => bd (ald pI 1001 x48 (x1 + (2 : Int32))) fun x54 => bd (pu K 114 v0 (.int x54)) fun _ => rt (2 : Int32))
def f_X4_refuseBy (K : Nat → Nat) (v0 : Option Nat) (v1 : Int32) (v2 : Int32) (v3 : Int32) (v4 : Int32) (v5 : Int32) : AM (Int32) :=
  bd (dv v0 1 (f_X4_refuse K v0 v1 v2 v3) (fl)) fun x4 => bd (gt pR 108 v0) fun x9 => bd (ast K 1001 x9 (1 : Int32) (.int v4)) fun _ => bd (gt pR 109 v0) fun x17 => bd (ast K 1001 x17 (1 : Int32) (.int v5)) fun _ => bd (pu K 110 v0 (.int (2 : Int32))) fun _ => rt (0 : Int32)
def f_X4_upIt_j16 (K : Nat → Nat)  (v0 : Option Nat)  : AM (Int32) :=
  bd (dv v0 1 (f_X4_throwing K v0 (1 : Int32)) (fl)) fun x18 => rt x18
def f_X4_upIt_j68 (K : Nat → Nat)  (v0 : Option Nat) (v3 : Int32)  : AM (Int32) :=
  bd (gt pI 114 v0) fun x72 => bd (dv v0 1 (f_X4_refuse K v0 (2 : Int32) v3 x72) (fl)) fun x75 => rt x75
def f_X4_upIt (K : Nat → Nat) (v0 : Option Nat) (v1 : Int32) (v2 : Int32) : AM (Int32) :=
  bd (dv v0 1 (f_X4_isJumper K v0 v1) (fl)) fun x2 => if x2 = 0 then (f_X4_upIt_j16 K  v0 ) else (bd (dv v0 1 (f_X4_isMat K v0 v2) (fl)) fun x10 => if x10 = 0 then (f_X4_upIt_j16 K  v0 ) else (bd (dv v0 1 (f_X4_upReason K v0 v1 v2) (fl)) fun x25 => if x25 ≤ 0 then (bd (gt pR 100 v0) fun x80 => bd (f_X4_at0 K v1) fun x84 => bd (ast K 1001 x80 (x84 + (2 : Int32)) (.int (1 : Int32))) fun _ => bd (gt pR 100 v0) fun x92 => bd (f_X4_at0 K v1) fun x96 => bd (ast K 1001 x92 (x96 + (3 : Int32)) (.int v2)) fun _ => bd (gt pR 100 v0) fun x104 => bd (f_X4_of K v2) fun x108 => bd (ald pI 1001 x104 (x108 + (9 : Int32))) fun x115 => bd (ast K 1001 x104 (x108 + (9 : Int32)) (.int (x115 + (1 : Int32)))) fun _ => bd (dv v0 1 (f_X4_bears K v0 v2) (fl)) fun x121 => bd (dv v0 1 (f_X4_on K v0 v2 (1 : Int32)) (fl)) fun x127 => rt (x121 - x127)) else (if x25 = (6 : Int32) then (bd (dv v0 1 (f_X4_broken K v0 v2) (fl)) fun x41 => if x41 ≤ 0 then (f_X4_upIt_j68 K  v0 x25 ) else (bd (gt pI 114 v0) fun x52 => bd (dv v0 1 (f_X4_broken K v0 v2) (fl)) fun x59 => bd (dv v0 1 (f_X4_refuseBy K v0 (2 : Int32) (6 : Int32) x52 (16 : Int32) x59) (fl)) fun x62 => rt x62)) else (f_X4_upIt_j68 K  v0 x25 ))))
def f_X4_up (K : Nat → Nat) (v0 : Option Nat) (v1 : Int32) (v2 : Int32) : AM (Int32) :=
  bd (dv v0 1 (f_X4_layAside K v0) (fl)) fun _ => bd (dv v0 1 (f_X4_upIt K v0 v1 v2) (fl)) fun x8 => bd (dv v0 1 (f_X4_changed K v0 x8) (fl)) fun x11 => rt x11
def f_X1_jumperAt (K : Nat → Nat) (v0 : Option Nat) (v1 : Int32) : AM (Option Nat) :=
  bd (gt pR 200 v0) fun x1 => bd (dv x1 3 (f_X2_isJumper K x1 v1) (fl)) fun x5 => bd (f_X1_checkIndex K x5) fun _ => bd (gt pR 200 v0) fun x12 => bd (gt pR 301 x12) fun x15 => bd (dv x15 25 (f_J2_get K x15 v1) (fl)) fun x19 => bd (ckc [5] x19) fun _ => rt x19
def f_X1_down (K : Nat → Nat) (v0 : Option Nat) (v1 : Int32) : AM (Int32) :=
  bd (dv v0 2 (f_X1_jumperAt K v0 v1) (fl)) fun x2 => bd (nwL K 211 [.int v1]) fun x8 => bd (dv v0 2 (f_X1_does K v0 x8) (fl)) fun x13 => rt x13
def f_X0_down (K : Nat → Nat) (v0 : Option Nat) (v1 : Int32) (v2 : Option Nat) : AM (Int32) :=
  tc (dv v0 2 (f_X1_down K v0 v1) (fl)) (fun q => ctc [19] [12, 13, 14, 16, 17, 18, 20, 21] q (rt (1 : Int32)) (ctc [21] [12, 13, 14, 16, 17, 18, 19, 20] q (rt (2 : Int32)) (th q))) fun x4 => bd (ast K 1004 v2 (0 : Int32) (.long (x4.toInt64))) fun _ => rt (0 : Int32)
def f_X4_downIt (K : Nat → Nat) (v0 : Option Nat) (v1 : Int32) : AM (Int32) :=
  bd (dv v0 1 (f_X4_isJumper K v0 v1) (fl)) fun x2 => if x2 = 0 then (bd (dv v0 1 (f_X4_throwing K v0 (1 : Int32)) (fl)) fun x10 => rt x10) else (bd (f_X4_at0 K v1) fun x15 => bd (gt pR 100 v0) fun x20 => bd (ald pI 1001 x20 (x15 + (2 : Int32))) fun x26 => if x26 = (1 : Int32) then (bd (gt pR 100 v0) fun x47 => bd (ald pI 1001 x47 (x15 + (3 : Int32))) fun x53 => bd (gt pR 100 v0) fun x56 => bd (ast K 1001 x56 (x15 + (2 : Int32)) (.int (0 : Int32))) fun _ => bd (gt pR 100 v0) fun x65 => bd (ast K 1001 x65 (x15 + (3 : Int32)) (.int (-1 : Int32))) fun _ => rt x53) else (bd (gt pR 100 v0) fun x35 => bd (ald pI 1001 x35 (x15 + (2 : Int32))) fun x41 => bd (dv v0 1 (f_X4_refuse K v0 (2 : Int32) (2 : Int32) x41) (fl)) fun x42 => rt x42))
def f_X4_down (K : Nat → Nat) (v0 : Option Nat) (v1 : Int32) : AM (Int32) :=
  bd (dv v0 1 (f_X4_layAside K v0) (fl)) fun _ => bd (dv v0 1 (f_X4_downIt K v0 v1) (fl)) fun x7 => bd (dv v0 1 (f_X4_changed K v0 x7) (fl)) fun x10 => rt x10
def f_X1_leave (K : Nat → Nat) (v0 : Option Nat) (v1 : Int32) : AM (Int32) :=
  bd (dv v0 2 (f_X1_jumperAt K v0 v1) (fl)) fun x2 => bd (nwL K 212 [.int v1]) fun x8 => bd (dv v0 2 (f_X1_does K v0 x8) (fl)) fun x13 => rt x13
def f_X0_leave (K : Nat → Nat) (v0 : Option Nat) (v1 : Int32) (v2 : Option Nat) : AM (Int32) :=
  tc (dv v0 2 (f_X1_leave K v0 v1) (fl)) (fun q => ctc [19] [12, 13, 14, 16, 17, 18, 20, 21] q (rt (1 : Int32)) (ctc [21] [12, 13, 14, 16, 17, 18, 19, 20] q (rt (2 : Int32)) (th q))) fun x4 => bd (ast K 1004 v2 (0 : Int32) (.long (x4.toInt64))) fun _ => rt (0 : Int32)
def f_X4_jumpersAt_j35 (K : Nat → Nat) (rc4 : Int32 → Int32 → AM (Int32)) (v0 : Option Nat) (v1 : Int32) (v3 : Int32) (t0 : Int32) (t1 : Int32) : AM (Int32) :=
  rc4 (t1 + t0) (v3 + (1 : Int32))
def f_X4_jumpersAt_b4 (K : Nat → Nat) (rc4 : Int32 → Int32 → AM (Int32)) (v0 : Option Nat) (v1 : Int32) (v2 : Int32) (v3 : Int32)  : AM (Int32) :=
  bd (gt pR 100 v0) fun x6 => bd (ald pI 1001 x6 (2 : Int32)) fun x10 => if x10 ≤ v3 then (rt v2) else (bd (gt pR 100 v0) fun x16 => bd (f_X4_at0 K v3) fun x20 => bd (ald pI 1001 x16 (x20 + (2 : Int32))) fun x25 => if x25 = v1 then (f_X4_jumpersAt_j35 K rc4 v0 v1 v3 (1 : Int32) v2) else (f_X4_jumpersAt_j35 K rc4 v0 v1 v3 (0 : Int32) v2))
def f_X4_jumpersAt_l4 (K : Nat → Nat)  (v0 : Option Nat) (v1 : Int32) : Nat → Int32 → Int32 → AM (Int32) := fun n => match n with
  | 0 => fun _ _ => fl
  | n + 1 => fun v2 v3 => f_X4_jumpersAt_b4 K (f_X4_jumpersAt_l4 K v0 v1 n) v0 v1 v2 v3
def f_X4_jumpersAt (K : Nat → Nat) (v0 : Option Nat) (v1 : Int32) : AM (Int32) :=
  f_X4_jumpersAt_l4 K  v0 v1 FU (0 : Int32) (0 : Int32)
def f_X4_leave (K : Nat → Nat) (v0 : Option Nat) (v1 : Int32) : AM (Int32) :=
  bd (dv v0 1 (f_X4_layAside K v0) (fl)) fun _ => bd (dv v0 1 (f_X4_isJumper K v0 v1) (fl)) fun x6 => if x6 = 0 then (bd (dv v0 1 (f_X4_throwing K v0 (1 : Int32)) (fl)) fun x14 => rt x14) else (bd (gt pR 100 v0) fun x19 => bd (f_X4_at0 K v1) fun x23 => bd (ald pI 1001 x19 (x23 + (2 : Int32))) fun x28 => if x28 = 0 then (bd (gt pR 100 v0) fun x51 => bd (f_X4_at0 K v1) fun x55 => bd (ast K 1001 x51 (x55 + (2 : Int32)) (.int (2 : Int32))) fun _ => bd (gt pR 100 v0) fun x64 => bd (ald pI 1001 x64 (2 : Int32)) fun x68 => bd (dv v0 1 (f_X4_jumpersAt K v0 (2 : Int32)) (fl)) fun x71 => bd (dv v0 1 (f_X4_changed K v0 (x68 - x71)) (fl)) fun x75 => rt x75) else (bd (gt pR 100 v0) fun x36 => bd (f_X4_at0 K v1) fun x40 => bd (ald pI 1001 x36 (x40 + (2 : Int32))) fun x45 => bd (dv v0 1 (f_X4_refuse K v0 (2 : Int32) (2 : Int32) x45) (fl)) fun x46 => rt x46))
def f_X1_areSocks (K : Nat → Nat) (v0 : Int32) (v1 : Int32) : AM (Int32) :=
  bd (f_X1_isIn K v0 (0 : Int32) (4 : Int32)) fun x3 => if x3 = 0 then (rt (0 : Int32)) else (bd (f_X1_isIn K v1 (0 : Int32) (2 : Int32)) fun x12 => if x12 = 0 then (rt (0 : Int32)) else (rt (1 : Int32)))
def f_X1_stock_j23 (K : Nat → Nat)  (v0 : Option Nat) (v1 : Int32) (v2 : Int32) (v3 : Int32) (t0 : Int32) : AM (Int32) :=
  bd (f_X1_checkArgument K t0) fun _ => bd (nwL K 214 [.int v1, .int v2, .int v3]) fun x30 => bd (dv v0 2 (f_X1_does K v0 x30) (fl)) fun x35 => rt x35
def f_X1_stock_j22 (K : Nat → Nat)  (v0 : Option Nat) (v1 : Int32) (v2 : Int32) (v3 : Int32)  : AM (Int32) :=
  f_X1_stock_j23 K  v0 v1 v2 v3 (0 : Int32)
def f_X1_stock (K : Nat → Nat) (v0 : Option Nat) (v1 : Int32) (v2 : Int32) (v3 : Int32) : AM (Int32) :=
  bd (f_X1_areSocks K v1 v2) fun x2 => if x2 = 0 then (f_X1_stock_j22 K  v0 v1 v2 v3 ) else (bd (f_X1_isIn K v3 (1 : Int32) (99 : Int32)) fun x12 => if x12 = 0 then (f_X1_stock_j22 K  v0 v1 v2 v3 ) else (f_X1_stock_j23 K  v0 v1 v2 v3 (1 : Int32)))
def f_X0_stock (K : Nat → Nat) (v0 : Option Nat) (v1 : Int32) (v2 : Int32) (v3 : Int32) (v4 : Option Nat) : AM (Int32) :=
  tc (dv v0 2 (f_X1_stock K v0 v1 v2 v3) (fl)) (fun q => ctc [17] [12, 13, 14, 16, 18, 19, 20, 21] q (rt (1 : Int32)) (th q)) fun x7 => bd (ast K 1004 v4 (0 : Int32) (.long (x7.toInt64))) fun _ => rt (0 : Int32)
def f_X4_isSock (K : Nat → Nat) (v0 : Int32) (v1 : Int32) : AM (Int32) :=
  bd (f_X4_in K (v0.toInt64) (0 : Int64) (4 : Int64)) fun x6 => if x6 = 0 then (rt (0 : Int32)) else (bd (f_X4_in K (v1.toInt64) (0 : Int64) (2 : Int64)) fun x18 => if x18 = 0 then (rt (0 : Int32)) else (rt (1 : Int32)))
def f_X4_stock_j24 (K : Nat → Nat)  (v0 : Option Nat)  : AM (Int32) :=
  bd (dv v0 1 (f_X4_throwing K v0 (1 : Int32)) (fl)) fun x26 => rt x26
def f_X4_stock (K : Nat → Nat) (v0 : Option Nat) (v1 : Int32) (v2 : Int32) (v3 : Int32) : AM (Int32) :=
  bd (dv v0 1 (f_X4_layAside K v0) (fl)) fun _ => bd (f_X4_isSock K v1 v2) fun x6 => if x6 = 0 then (f_X4_stock_j24 K  v0 ) else (bd (f_X4_in K (v3.toInt64) (1 : Int64) (99 : Int64)) fun x18 => if x18 = 0 then (f_X4_stock_j24 K  v0 ) else (bd (gt pR 100 v0) fun x42 => bd (gt pR 100 v0) fun x50 => bd (ald pI 1001 x50 (((152 : Int32) + ((3 : Int32) * v1)) + v2)) fun x55 => bd (ast K 1001 x42 (((152 : Int32) + ((3 : Int32) * v1)) + v2) (.int (if (x55 + v3) < (99 : Int32) then (x55 + v3) else (99 : Int32)))) fun _ => bd (gt pR 100 v0) fun x64 => bd (ald pI 1001 x64 (((152 : Int32) + ((3 : Int32) * v1)) + v2)) fun x69 => bd (dv v0 1 (f_X4_changed K v0 x69) (fl)) fun x70 => rt x70))
def f_X1_sell (K : Nat → Nat) (v0 : Option Nat) (v1 : Int32) (v2 : Int32) : AM (Int32) :=
  bd (dv v0 2 (f_X1_jumperAt K v0 v1) (fl)) fun x2 => bd (f_X1_isIn K v2 (0 : Int32) (2 : Int32)) fun x9 => bd (f_X1_checkArgument K x9) fun _ => bd (nwL K 215 [.int v1, .int v2]) fun x18 => bd (dv v0 2 (f_X1_does K v0 x18) (fl)) fun x23 => rt x23
def f_X0_sell (K : Nat → Nat) (v0 : Option Nat) (v1 : Int32) (v2 : Int32) (v3 : Option Nat) : AM (Int32) :=
  tc (dv v0 2 (f_X1_sell K v0 v1 v2) (fl)) (fun q => ctc [19] [12, 13, 14, 16, 17, 18, 20, 21] q (rt (1 : Int32)) (ctc [17] [12, 13, 14, 16, 18, 19, 20, 21] q (rt (2 : Int32)) (ctc [21] [12, 13, 14, 16, 17, 18, 19, 20] q (rt (3 : Int32)) (th q)))) fun x5 => bd (ast K 1004 v3 (0 : Int32) (.long (x5.toInt64))) fun _ => rt (0 : Int32)
def f_X4_ofSize (K : Nat → Nat) (v0 : Option Nat) (v1 : Int32) (v2 : Int32) : AM (Int32) :=
  bd (gt pR 100 v0) fun x1 => bd (ald pI 1001 x1 (v1 + ((3 : Int32) * v2))) fun x9 => bd (gt pR 100 v0) fun x11 => bd (ald pI 1001 x11 ((v1 + ((3 : Int32) * v2)) + (1 : Int32))) fun x21 => bd (gt pR 100 v0) fun x24 => bd (ald pI 1001 x24 ((v1 + ((3 : Int32) * v2)) + (2 : Int32))) fun x34 => rt ((x9 + x21) + x34)
def f_X4_sellIt (K : Nat → Nat) (v0 : Option Nat) (v1 : Int32) (v2 : Int32) : AM (Int32) :=
  bd (dv v0 1 (f_X4_isJumper K v0 v1) (fl)) fun x2 => if x2 = 0 then (bd (dv v0 1 (f_X4_throwing K v0 (1 : Int32)) (fl)) fun x10 => rt x10) else (bd (f_X4_in K (v2.toInt64) (0 : Int64) (2 : Int64)) fun x20 => if x20 = 0 then (bd (dv v0 1 (f_X4_throwing K v0 (2 : Int32)) (fl)) fun x28 => rt x28) else (bd (f_X4_at0 K v1) fun x33 => bd (gt pR 100 v0) fun x38 => bd (ald pI 1001 x38 (x33 + (1 : Int32))) fun x44 => bd (gt pR 100 v0) fun x48 => bd (ald pI 1001 x48 (x33 + (2 : Int32))) fun x54 => if x54 = (2 : Int32) then (bd (dv v0 1 (f_X4_refuse K v0 (3 : Int32) (2 : Int32) (2 : Int32)) (fl)) fun x63 => rt x63) else (bd (gt pR 100 v0) fun x68 => bd (ald pI 1001 x68 (x33 + (4 : Int32))) fun x74 => if x74 = (-1 : Int32) then (bd (gt pR 100 v0) fun x96 => bd (ald pI 1001 x96 (((152 : Int32) + ((3 : Int32) * x44)) + v2)) fun x109 => if x109 = 0 then (bd (dv v0 1 (f_X4_ofSize K v0 (152 : Int32) x44) (fl)) fun x123 => bd (dv v0 1 (f_X4_refuse K v0 (3 : Int32) (8 : Int32) x123) (fl)) fun x126 => rt x126) else (bd (gt pR 100 v0) fun x131 => bd (ald pI 1001 x131 (((152 : Int32) + ((3 : Int32) * x44)) + v2)) fun x145 => bd (ast K 1001 x131 (((152 : Int32) + ((3 : Int32) * x44)) + v2) (.int (x145 - (1 : Int32)))) fun _ => bd (gt pR 100 v0) fun x150 => bd (ald pI 1001 x150 (((167 : Int32) + ((3 : Int32) * x44)) + v2)) fun x164 => bd (ast K 1001 x150 (((167 : Int32) + ((3 : Int32) * x44)) + v2) (.int (x164 + (1 : Int32)))) fun _ => bd (gt pR 100 v0) fun x169 => bd (ast K 1001 x169 (x33 + (4 : Int32)) (.int v2)) fun _ => bd (gt pR 100 v0) fun x178 => bd (ald pI 1001 x178 (5 : Int32)) fun x183 => bd (ast K 1001 x178 (5 : Int32) (.int (x183 + (2 : Int32)))) fun _ => bd (gt pR 100 v0) fun x188 => bd (ald pI 1001 x188 (5 : Int32)) fun x192 => rt x192)) else (bd (gt pR 100 v0) fun x84 => bd (ald pI 1001 x84 (x33 + (4 : Int32))) fun x90 => bd (dv v0 1 (f_X4_refuse K v0 (3 : Int32) (9 : Int32) x90) (fl)) fun x91 => rt x91))))
def f_X4_sell (K : Nat → Nat) (v0 : Option Nat) (v1 : Int32) (v2 : Int32) : AM (Int32) :=
  bd (dv v0 1 (f_X4_layAside K v0) (fl)) fun _ => bd (dv v0 1 (f_X4_sellIt K v0 v1 v2) (fl)) fun x8 => bd (dv v0 1 (f_X4_changed K v0 x8) (fl)) fun x11 => rt x11
def f_X1_jumperOf (K : Nat → Nat) (v0 : Option Nat) (v1 : Int32) (v2 : Int32) : AM (Int32) :=
  bd (dv v0 2 (f_X1_jumperAt K v0 v1) (fl)) fun x2 => bd (f_X1_isIn K v2 (0 : Int32) (6 : Int32)) fun x10 => bd (f_X1_checkArgument K x10) fun _ => if v2 = (0 : Int32) then (bd (gt pI 501 x2) fun x57 => rt x57) else if v2 = (1 : Int32) then (bd (gt pI 502 x2) fun x64 => rt x64) else if v2 = (2 : Int32) then (bd (gt pI 504 x2) fun x71 => rt x71) else if v2 = (3 : Int32) then (bd (gt pI 505 x2) fun x78 => rt x78) else if v2 = (4 : Int32) then (bd (gt pI 506 x2) fun x85 => rt x85) else if v2 = (5 : Int32) then (bd (gt pI 507 x2) fun x92 => rt x92) else (bd (gt pI 503 x2) fun x99 => rt x99)
def f_X0_jumperOf (K : Nat → Nat) (v0 : Option Nat) (v1 : Int32) (v2 : Int32) (v3 : Option Nat) : AM (Int32) :=
  tc (dv v0 2 (f_X1_jumperOf K v0 v1 v2) (fl)) (fun q => ctc [19] [12, 13, 14, 16, 17, 18, 20, 21] q (rt (1 : Int32)) (ctc [17] [12, 13, 14, 16, 18, 19, 20, 21] q (rt (2 : Int32)) (th q))) fun x5 => bd (ast K 1004 v3 (0 : Int32) (.long (x5.toInt64))) fun _ => rt (0 : Int32)
def f_X4_jumperOf (K : Nat → Nat) (v0 : Option Nat) (v1 : Int32) (v2 : Int32) : AM (Int32) :=
  bd (pu K 107 v0 (.int (0 : Int32))) fun _ => bd (dv v0 1 (f_X4_isJumper K v0 v1) (fl)) fun x7 => if x7 = 0 then (bd (dv v0 1 (f_X4_throwing K v0 (1 : Int32)) (fl)) fun x15 => rt x15) else (bd (f_X4_in K (v2.toInt64) (0 : Int64) (6 : Int64)) fun x25 => if x25 = 0 then (bd (dv v0 1 (f_X4_throwing K v0 (2 : Int32)) (fl)) fun x47 => rt x47) else (bd (gt pR 100 v0) fun x32 => bd (f_X4_at0 K v1) fun x36 => bd (ald pI 1001 x32 (x36 + v2)) fun x41 => rt x41))
def f_X2_bestSize_j32 (K : Nat → Nat) (rc6 : Int32 → Int32 → Int32 → AM (Int32)) (v0 : Option Nat) (v2 : Int32) (v3 : Int32) (v4 : Int32) (t0 : Int32) : AM (Int32) :=
  rc6 t0 (if v2 < v4 then v4 else v2) (v3 + (1 : Int32))
def f_X2_bestSize_b6 (K : Nat → Nat) (rc6 : Int32 → Int32 → Int32 → AM (Int32)) (v0 : Option Nat) (v1 : Int32) (v2 : Int32) (v3 : Int32)  : AM (Int32) :=
  if (5 : Int32) ≤ v3 then (rt v1) else (bd (gt pR 305 v0) fun x12 => bd (dv x12 7 (f_X3_ofSize K x12 v3) (fl)) fun x16 => if x16 ≤ v2 then (f_X2_bestSize_j32 K rc6 v0 v2 v3 x16 v1) else (f_X2_bestSize_j32 K rc6 v0 v2 v3 x16 v3))
def f_X2_bestSize_l6 (K : Nat → Nat)  (v0 : Option Nat) : Nat → Int32 → Int32 → Int32 → AM (Int32) := fun n => match n with
  | 0 => fun _ _ _ => fl
  | n + 1 => fun v1 v2 v3 => f_X2_bestSize_b6 K (f_X2_bestSize_l6 K v0 n) v0 v1 v2 v3
def f_X2_bestSize (K : Nat → Nat) (v0 : Option Nat) : AM (Int32) :=
  f_X2_bestSize_l6 K  v0 FU (-1 : Int32) (0 : Int32) (0 : Int32)
def f_X1_bestSize_j18 (K : Nat → Nat)  (v1 : Int32) (t0 : Int32) : AM (Int32) :=
  bd (f_X1_checkElement K t0) fun _ => rt v1
def f_X1_bestSize (K : Nat → Nat) (v0 : Option Nat) : AM (Int32) :=
  bd (gt pR 200 v0) fun x1 => bd (dv x1 3 (f_X2_bestSize K x1) (fl)) fun x4 => if x4 = (-1 : Int32) then (f_X1_bestSize_j18 K  x4 (0 : Int32)) else (f_X1_bestSize_j18 K  x4 (1 : Int32))
def f_X0_bestSize (K : Nat → Nat) (v0 : Option Nat) (v1 : Option Nat) : AM (Int32) :=
  tc (dv v0 2 (f_X1_bestSize K v0) (fl)) (fun q => ctc [20] [12, 13, 14, 16, 17, 18, 19, 21] q (rt (1 : Int32)) (th q)) fun x3 => bd (ast K 1004 v1 (0 : Int32) (.long (x3.toInt64))) fun _ => rt (0 : Int32)
def f_X4_bestSize_j45 (K : Nat → Nat)  (v0 : Option Nat) (v1 : Int32)  : AM (Int32) :=
  bd (dv v0 1 (f_X4_ofSize K v0 (167 : Int32) v1) (fl)) fun x50 => if x50 = 0 then (bd (dv v0 1 (f_X4_throwing K v0 (1 : Int32)) (fl)) fun x58 => rt x58) else (rt v1)
def f_X4_bestSize_j38 (K : Nat → Nat) (rc9 : Int32 → Int32 → AM (Int32)) (v0 : Option Nat) (v2 : Int32) (t0 : Int32) : AM (Int32) :=
  rc9 t0 (v2 + (1 : Int32))
def f_X4_bestSize_b9 (K : Nat → Nat) (rc9 : Int32 → Int32 → AM (Int32)) (v0 : Option Nat) (v1 : Int32) (v2 : Int32)  : AM (Int32) :=
  if (5 : Int32) ≤ v2 then (f_X4_bestSize_j45 K  v0 v1 ) else (bd (dv v0 1 (f_X4_ofSize K v0 (167 : Int32) v2) (fl)) fun x19 => bd (dv v0 1 (f_X4_ofSize K v0 (167 : Int32) v1) (fl)) fun x27 => if x19 ≤ x27 then (f_X4_bestSize_j38 K rc9 v0 v2 v1) else (f_X4_bestSize_j38 K rc9 v0 v2 v2))
def f_X4_bestSize_l9 (K : Nat → Nat)  (v0 : Option Nat) : Nat → Int32 → Int32 → AM (Int32) := fun n => match n with
  | 0 => fun _ _ => fl
  | n + 1 => fun v1 v2 => f_X4_bestSize_b9 K (f_X4_bestSize_l9 K v0 n) v0 v1 v2
def f_X4_bestSize (K : Nat → Nat) (v0 : Option Nat) : AM (Int32) :=
  bd (pu K 107 v0 (.int (0 : Int32))) fun _ => f_X4_bestSize_l9 K  v0 FU (0 : Int32) (1 : Int32)
def f_X2_matFor_j31 (K : Nat → Nat) (rc2 : Int32 → AM (Int32)) (v0 : Option Nat) (v1 : Int32) (v2 : Int32) (t0 : Option Nat) : AM (Int32) :=
  rc2 (v2 + (1 : Int32))
def f_X2_matFor_b2 (K : Nat → Nat) (rc2 : Int32 → AM (Int32)) (v0 : Option Nat) (v1 : Int32) (v2 : Int32)  : AM (Int32) :=
  bd (gt pR 300 v0) fun x4 => bd (dv x4 25 (f_J2_size K x4) (fl)) fun x7 => if x7 ≤ v2 then (rt (-1 : Int32)) else (bd (gt pR 301 v0) fun x15 => tc (dv x15 25 (f_J2_get K x15 v1) (fl)) (fun q => ctc [12] [13, 14, 16, 17, 18, 19, 20, 21] q (f_X2_matFor_j31 K rc2 v0 v1 v2 (some q)) (th q)) fun x19 => bd (ckc [5] x19) fun _ => tc (dv v0 3 (f_X2_checkUp K v0 x19 v2) (fl)) (fun q => ctc [12] [13, 14, 16, 17, 18, 19, 20, 21] q (f_X2_matFor_j31 K rc2 v0 v1 v2 (some q)) (th q)) fun _ => rt v2)
def f_X2_matFor_l2 (K : Nat → Nat)  (v0 : Option Nat) (v1 : Int32) : Nat → Int32 → AM (Int32) := fun n => match n with
  | 0 => fun _ => fl
  | n + 1 => fun v2 => f_X2_matFor_b2 K (f_X2_matFor_l2 K v0 v1 n) v0 v1 v2
def f_X2_matFor (K : Nat → Nat) (v0 : Option Nat) (v1 : Int32) : AM (Int32) :=
  f_X2_matFor_l2 K  v0 v1 FU (0 : Int32)
def f_X1_matFor_j25 (K : Nat → Nat)  (v3 : Int32) (t0 : Int32) : AM (Int32) :=
  bd (f_X1_checkElement K t0) fun _ => rt v3
def f_X1_matFor (K : Nat → Nat) (v0 : Option Nat) (v1 : Int32) : AM (Int32) :=
  bd (dv v0 2 (f_X1_jumperAt K v0 v1) (fl)) fun x2 => bd (gt pR 200 v0) fun x7 => bd (dv x7 3 (f_X2_matFor K x7 v1) (fl)) fun x11 => if x11 = (-1 : Int32) then (f_X1_matFor_j25 K  x11 (0 : Int32)) else (f_X1_matFor_j25 K  x11 (1 : Int32))
def f_X0_matFor (K : Nat → Nat) (v0 : Option Nat) (v1 : Int32) (v2 : Option Nat) : AM (Int32) :=
  tc (dv v0 2 (f_X1_matFor K v0 v1) (fl)) (fun q => ctc [19] [12, 13, 14, 16, 17, 18, 20, 21] q (rt (1 : Int32)) (ctc [20] [12, 13, 14, 16, 17, 18, 19, 21] q (rt (2 : Int32)) (th q))) fun x4 => bd (ast K 1004 v2 (0 : Int32) (.long (x4.toInt64))) fun _ => rt (0 : Int32)
def f_X4_matFor_j48 (K : Nat → Nat)  (v0 : Option Nat)  : AM (Int32) :=
  bd (dv v0 1 (f_X4_throwing K v0 (2 : Int32)) (fl)) fun x50 => rt x50
def f_X4_matFor_b21 (K : Nat → Nat) (rc21 : Int32 → AM (Int32)) (v0 : Option Nat) (v1 : Int32) (v2 : Int32)  : AM (Int32) :=
  bd (gt pR 100 v0) fun x23 => bd (ald pI 1001 x23 (1 : Int32)) fun x27 => if x27 ≤ v2 then (f_X4_matFor_j48 K  v0 ) else (bd (dv v0 1 (f_X4_upReason K v0 v1 v2) (fl)) fun x34 => if x34 = 0 then (rt v2) else (rc21 (v2 + (1 : Int32))))
def f_X4_matFor_l21 (K : Nat → Nat)  (v0 : Option Nat) (v1 : Int32) : Nat → Int32 → AM (Int32) := fun n => match n with
  | 0 => fun _ => fl
  | n + 1 => fun v2 => f_X4_matFor_b21 K (f_X4_matFor_l21 K v0 v1 n) v0 v1 v2
def f_X4_matFor (K : Nat → Nat) (v0 : Option Nat) (v1 : Int32) : AM (Int32) :=
  bd (pu K 107 v0 (.int (0 : Int32))) fun _ => bd (dv v0 1 (f_X4_isJumper K v0 v1) (fl)) fun x7 => if x7 = 0 then (bd (dv v0 1 (f_X4_throwing K v0 (1 : Int32)) (fl)) fun x15 => rt x15) else (f_X4_matFor_l21 K  v0 v1 FU (0 : Int32))
def f_X1_guard (K : Nat → Nat) (v0 : Option Nat) : AM (Int32) :=
  bd (dv v0 2 (f_X1_does K v0 (some (K 116))) (fl)) fun x6 => rt x6
def f_X0_guard (K : Nat → Nat) (v0 : Option Nat) (v1 : Option Nat) : AM (Int32) :=
  tc (dv v0 2 (f_X1_guard K v0) (fl)) (fun q => ctc [21] [12, 13, 14, 16, 17, 18, 19, 20] q (rt (1 : Int32)) (th q)) fun x3 => bd (ast K 1004 v1 (0 : Int32) (.long (x3.toInt64))) fun _ => rt (0 : Int32)
def f_X4_guard (K : Nat → Nat) (v0 : Option Nat) : AM (Int32) :=
  bd (dv v0 1 (f_X4_layAside K v0) (fl)) fun _ => bd (gt pR 100 v0) fun x5 => bd (ald pI 1001 x5 (3 : Int32)) fun x9 => if x9 = (4 : Int32) then (bd (dv v0 1 (f_X4_refuse K v0 (1 : Int32) (1 : Int32) (4 : Int32)) (fl)) fun x18 => rt x18) else (bd (gt pR 100 v0) fun x23 => bd (gt pR 100 v0) fun x30 => bd (ald pI 1001 x30 (3 : Int32)) fun x34 => bd (ast K 1001 x23 ((182 : Int32) + x34) (.int (-1 : Int32))) fun _ => bd (gt pR 100 v0) fun x39 => bd (ald pI 1001 x39 (3 : Int32)) fun x44 => bd (ast K 1001 x39 (3 : Int32) (.int (x44 + (1 : Int32)))) fun _ => bd (gt pR 100 v0) fun x50 => bd (ald pI 1001 x50 (3 : Int32)) fun x54 => bd (dv v0 1 (f_X4_changed K v0 (x54 - (1 : Int32))) (fl)) fun x57 => rt x57)
def f_X1_place_j27 (K : Nat → Nat)  (v0 : Option Nat) (v1 : Int32) (v2 : Int32) (t0 : Int32) : AM (Int32) :=
  bd (f_X1_checkIndex K t0) fun _ => bd (nwL K 217 [.int v1, .int v2]) fun x33 => bd (dv v0 2 (f_X1_does K v0 x33) (fl)) fun x38 => rt x38
def f_X1_place_j26 (K : Nat → Nat)  (v0 : Option Nat) (v1 : Int32) (v2 : Int32)  : AM (Int32) :=
  f_X1_place_j27 K  v0 v1 v2 (0 : Int32)
def f_X1_place (K : Nat → Nat) (v0 : Option Nat) (v1 : Int32) (v2 : Int32) : AM (Int32) :=
  bd (gt pR 200 v0) fun x1 => bd (dv x1 3 (f_X2_isGuard K x1 v1) (fl)) fun x5 => if x5 = 0 then (f_X1_place_j26 K  v0 v1 v2 ) else (bd (gt pR 200 v0) fun x12 => bd (dv x12 3 (f_X2_isMat K x12 v2) (fl)) fun x16 => if x16 = 0 then (f_X1_place_j26 K  v0 v1 v2 ) else (f_X1_place_j27 K  v0 v1 v2 (1 : Int32)))
def f_X0_place (K : Nat → Nat) (v0 : Option Nat) (v1 : Int32) (v2 : Int32) (v3 : Option Nat) : AM (Int32) :=
  tc (dv v0 2 (f_X1_place K v0 v1 v2) (fl)) (fun q => ctc [19] [12, 13, 14, 16, 17, 18, 20, 21] q (rt (1 : Int32)) (th q)) fun x5 => bd (ast K 1004 v3 (0 : Int32) (.long (x5.toInt64))) fun _ => rt (0 : Int32)
def f_X4_isGuard (K : Nat → Nat) (v0 : Option Nat) (v1 : Int32) : AM (Int32) :=
  bd (gt pR 100 v0) fun x4 => bd (ald pI 1001 x4 (3 : Int32)) fun x8 => bd (f_X4_in K (v1.toInt64) (0 : Int64) ((x8 - (1 : Int32)).toInt64)) fun x12 => chk (fits .boolean (.int x12)) <| rt x12
def f_X4_placeIt_j16 (K : Nat → Nat)  (v0 : Option Nat)  : AM (Int32) :=
  bd (dv v0 1 (f_X4_throwing K v0 (1 : Int32)) (fl)) fun x18 => rt x18
def f_X4_placeIt_j44 (K : Nat → Nat)  (v0 : Option Nat) (v1 : Int32) (v2 : Int32) (v3 : Int32)  : AM (Int32) :=
  bd (gt pR 100 v0) fun x45 => bd (ast K 1001 x45 ((182 : Int32) + v1) (.int v2)) fun _ => rt v3
def f_X4_placeIt (K : Nat → Nat) (v0 : Option Nat) (v1 : Int32) (v2 : Int32) : AM (Int32) :=
  bd (dv v0 1 (f_X4_isGuard K v0 v1) (fl)) fun x2 => if x2 = 0 then (f_X4_placeIt_j16 K  v0 ) else (bd (dv v0 1 (f_X4_isMat K v0 v2) (fl)) fun x10 => if x10 = 0 then (f_X4_placeIt_j16 K  v0 ) else (bd (dv v0 1 (f_X4_guardAt K v0 v2) (fl)) fun x24 => if x24 = (-1 : Int32) then (f_X4_placeIt_j44 K  v0 v1 v2 x24 ) else (bd (gt pR 100 v0) fun x34 => bd (ast K 1001 x34 ((182 : Int32) + x24) (.int (-1 : Int32))) fun _ => f_X4_placeIt_j44 K  v0 v1 v2 x24 )))
def f_X4_place (K : Nat → Nat) (v0 : Option Nat) (v1 : Int32) (v2 : Int32) : AM (Int32) :=
  bd (dv v0 1 (f_X4_layAside K v0) (fl)) fun _ => bd (dv v0 1 (f_X4_placeIt K v0 v1 v2) (fl)) fun x8 => bd (dv v0 1 (f_X4_changed K v0 x8) (fl)) fun x11 => rt x11
def f_X1_at_j39 (K : Nat → Nat)  (v2 : Int32) (t0 : Int32) : AM (Int32) :=
  bd (f_X1_checkElement K t0) fun _ => rt v2
def f_X1_at (K : Nat → Nat) (v0 : Option Nat) (v1 : Int32) : AM (Int32) :=
  bd (gt pR 200 v0) fun x1 => bd (dv x1 3 (f_X2_isGuard K x1 v1) (fl)) fun x5 => bd (f_X1_checkIndex K x5) fun _ => bd (gt pR 200 v0) fun x12 => bd (gt pR 303 x12) fun x15 => bd (dv x15 25 (f_J2_get K x15 v1) (fl)) fun x19 => bd (ckc [33] x19) fun _ => bd (dv x19 33 (f_J23_intValue K x19) (fl)) fun x25 => if x25 = (-1 : Int32) then (f_X1_at_j39 K  x25 (0 : Int32)) else (f_X1_at_j39 K  x25 (1 : Int32))
def f_X0_at (K : Nat → Nat) (v0 : Option Nat) (v1 : Int32) (v2 : Option Nat) : AM (Int32) :=
  tc (dv v0 2 (f_X1_at K v0 v1) (fl)) (fun q => ctc [19] [12, 13, 14, 16, 17, 18, 20, 21] q (rt (1 : Int32)) (ctc [20] [12, 13, 14, 16, 17, 18, 19, 21] q (rt (2 : Int32)) (th q))) fun x4 => bd (ast K 1004 v2 (0 : Int32) (.long (x4.toInt64))) fun _ => rt (0 : Int32)
def f_X4_at (K : Nat → Nat) (v0 : Option Nat) (v1 : Int32) : AM (Int32) :=
  bd (pu K 107 v0 (.int (0 : Int32))) fun _ => bd (dv v0 1 (f_X4_isGuard K v0 v1) (fl)) fun x7 => if x7 = 0 then (bd (dv v0 1 (f_X4_throwing K v0 (1 : Int32)) (fl)) fun x15 => rt x15) else (bd (gt pR 100 v0) fun x20 => bd (ald pI 1001 x20 ((182 : Int32) + v1)) fun x28 => if x28 = (-1 : Int32) then (bd (dv v0 1 (f_X4_throwing K v0 (2 : Int32)) (fl)) fun x35 => rt x35) else (bd (gt pR 100 v0) fun x42 => bd (ald pI 1001 x42 ((182 : Int32) + v1)) fun x50 => rt x50))
def f_X1_book_j47 (K : Nat → Nat)  (v0 : Option Nat) (v1 : Int32) (v2 : Int32) (v3 : Int32) (v4 : Int32) (t0 : Int32) : AM (Int32) :=
  bd (f_X1_checkArgument K t0) fun _ => bd (nwL K 218 [.int v1, .int v2, .int v3, .int v4]) fun x56 => bd (dv v0 2 (f_X1_does K v0 x56) (fl)) fun x61 => rt x61
def f_X1_book_j46 (K : Nat → Nat)  (v0 : Option Nat) (v1 : Int32) (v2 : Int32) (v3 : Int32) (v4 : Int32)  : AM (Int32) :=
  f_X1_book_j47 K  v0 v1 v2 v3 v4 (0 : Int32)
def f_X1_book (K : Nat → Nat) (v0 : Option Nat) (v1 : Int32) (v2 : Int32) (v3 : Int32) (v4 : Int32) : AM (Int32) :=
  bd (f_X1_isIn K v1 (0 : Int32) (9999 : Int32)) fun x5 => if x5 = 0 then (f_X1_book_j46 K  v0 v1 v2 v3 v4 ) else (bd (f_X1_isIn K v2 (1 : Int32) (6 : Int32)) fun x15 => if x15 = 0 then (f_X1_book_j46 K  v0 v1 v2 v3 v4 ) else (bd (f_X1_isIn K v3 (10 : Int32) (99 : Int32)) fun x26 => if x26 = 0 then (f_X1_book_j46 K  v0 v1 v2 v3 v4 ) else (bd (f_X1_isIn K v4 (0 : Int32) (4 : Int32)) fun x36 => if x36 = 0 then (f_X1_book_j46 K  v0 v1 v2 v3 v4 ) else (f_X1_book_j47 K  v0 v1 v2 v3 v4 (1 : Int32)))))
def f_X0_book (K : Nat → Nat) (v0 : Option Nat) (v1 : Int32) (v2 : Int32) (v3 : Int32) (v4 : Int32) (v5 : Option Nat) : AM (Int32) :=
  tc (dv v0 2 (f_X1_book K v0 v1 v2 v3 v4) (fl)) (fun q => ctc [17] [12, 13, 14, 16, 18, 19, 20, 21] q (rt (1 : Int32)) (ctc [21] [12, 13, 14, 16, 17, 18, 19, 20] q (rt (2 : Int32)) (th q))) fun x9 => bd (ast K 1004 v5 (0 : Int32) (.long (x9.toInt64))) fun _ => rt (0 : Int32)
def f_X4_partiesAt_j35 (K : Nat → Nat) (rc4 : Int32 → Int32 → AM (Int32)) (v0 : Option Nat) (v1 : Int32) (v3 : Int32) (t0 : Int32) (t1 : Int32) : AM (Int32) :=
  rc4 (t1 + t0) (v3 + (1 : Int32))
def f_X4_partiesAt_b4 (K : Nat → Nat) (rc4 : Int32 → Int32 → AM (Int32)) (v0 : Option Nat) (v1 : Int32) (v2 : Int32) (v3 : Int32)  : AM (Int32) :=
  bd (gt pR 100 v0) fun x6 => bd (ald pI 1001 x6 (4 : Int32)) fun x10 => if x10 ≤ v3 then (rt v2) else (bd (gt pR 100 v0) fun x16 => bd (f_X4_party K v3) fun x20 => bd (ald pI 1001 x16 (x20 + (2 : Int32))) fun x25 => if x25 = v1 then (f_X4_partiesAt_j35 K rc4 v0 v1 v3 (1 : Int32) v2) else (f_X4_partiesAt_j35 K rc4 v0 v1 v3 (0 : Int32) v2))
def f_X4_partiesAt_l4 (K : Nat → Nat)  (v0 : Option Nat) (v1 : Int32) : Nat → Int32 → Int32 → AM (Int32) := fun n => match n with
  | 0 => fun _ _ => fl
  | n + 1 => fun v2 v3 => f_X4_partiesAt_b4 K (f_X4_partiesAt_l4 K v0 v1 n) v0 v1 v2 v3
def f_X4_partiesAt (K : Nat → Nat) (v0 : Option Nat) (v1 : Int32) : AM (Int32) :=
  f_X4_partiesAt_l4 K  v0 v1 FU (0 : Int32) (0 : Int32)
def f_X4_book_j55 (K : Nat → Nat)  (v0 : Option Nat)  : AM (Int32) :=
  bd (dv v0 1 (f_X4_throwing K v0 (1 : Int32)) (fl)) fun x57 => rt x57
def f_X4_book (K : Nat → Nat) (v0 : Option Nat) (v1 : Int32) (v2 : Int32) (v3 : Int32) (v4 : Int32) : AM (Int32) :=
  bd (dv v0 1 (f_X4_layAside K v0) (fl)) fun _ => bd (f_X4_in K (v1.toInt64) (0 : Int64) (9999 : Int64)) fun x10 => if x10 = 0 then (f_X4_book_j55 K  v0 ) else (bd (f_X4_in K (v2.toInt64) (1 : Int64) (6 : Int64)) fun x22 => if x22 = 0 then (f_X4_book_j55 K  v0 ) else (bd (f_X4_in K (v3.toInt64) (10 : Int64) (99 : Int64)) fun x36 => if x36 = 0 then (f_X4_book_j55 K  v0 ) else (bd (f_X4_in K (v4.toInt64) (0 : Int64) (4 : Int64)) fun x49 => if x49 = 0 then (f_X4_book_j55 K  v0 ) else (bd (dv v0 1 (f_X4_partiesAt K v0 (0 : Int32)) (fl)) fun x63 => if x63 = (6 : Int32) then (bd (dv v0 1 (f_X4_refuse K v0 (2 : Int32) (1 : Int32) (6 : Int32)) (fl)) fun x76 => rt x76) else (bd (gt pR 100 v0) fun x81 => bd (ald pI 1001 x81 (4 : Int32)) fun x85 => if x85 = (20 : Int32) then (bd (dv v0 1 (f_X4_refuse K v0 (2 : Int32) (1 : Int32) (20 : Int32)) (fl)) fun x96 => rt x96) else (bd (gt pR 100 v0) fun x102 => bd (ald pI 1001 x102 (0 : Int32)) fun x106 => if x106 < v1 then (bd (gt pR 100 v0) fun x125 => bd (ald pI 1001 x125 (4 : Int32)) fun x129 => bd (f_X4_party K x129) fun x130 => bd (gt pR 100 v0) fun x136 => bd (ast K 1001 x136 x130 (.int v1)) fun _ => bd (gt pR 100 v0) fun x144 => bd (ast K 1001 x144 (x130 + (1 : Int32)) (.int v2)) fun _ => bd (gt pR 100 v0) fun x154 => bd (ast K 1001 x154 (x130 + (2 : Int32)) (.int (0 : Int32))) fun _ => bd (gt pR 100 v0) fun x164 => bd (ast K 1001 x164 (x130 + (3 : Int32)) (.int (0 : Int32))) fun _ => bd (gt pR 100 v0) fun x174 => bd (ast K 1001 x174 (x130 + (4 : Int32)) (.int v3)) fun _ => bd (gt pR 100 v0) fun x184 => bd (ast K 1001 x184 (x130 + (5 : Int32)) (.int v4)) fun _ => bd (gt pR 100 v0) fun x195 => bd (ald pI 1001 x195 (4 : Int32)) fun x200 => bd (ast K 1001 x195 (4 : Int32) (.int (x200 + (1 : Int32)))) fun _ => bd (gt pR 100 v0) fun x206 => bd (ald pI 1001 x206 (4 : Int32)) fun x210 => bd (dv v0 1 (f_X4_changed K v0 (x210 - (1 : Int32))) (fl)) fun x213 => rt x213) else (bd (gt pR 100 v0) fun x115 => bd (ald pI 1001 x115 (0 : Int32)) fun x119 => bd (dv v0 1 (f_X4_refuse K v0 (2 : Int32) (12 : Int32) x119) (fl)) fun x120 => rt x120)))))))
def f_X1_partyAt (K : Nat → Nat) (v0 : Option Nat) (v1 : Int32) : AM (Option Nat) :=
  bd (gt pR 200 v0) fun x3 => bd (gt pR 302 x3) fun x6 => bd (dv x6 25 (f_J2_size K x6) (fl)) fun x9 => bd (f_X1_isIn K v1 (0 : Int32) (x9 - (1 : Int32))) fun x14 => bd (f_X1_checkIndex K x14) fun _ => bd (gt pR 200 v0) fun x21 => bd (gt pR 302 x21) fun x24 => bd (dv x24 25 (f_J2_get K x24 v1) (fl)) fun x28 => bd (ckc [6] x28) fun _ => rt x28
def f_X1_cancel (K : Nat → Nat) (v0 : Option Nat) (v1 : Int32) : AM (Int32) :=
  bd (dv v0 2 (f_X1_partyAt K v0 v1) (fl)) fun x2 => bd (nwL K 219 [.int v1]) fun x8 => bd (dv v0 2 (f_X1_does K v0 x8) (fl)) fun x13 => rt x13
def f_X0_cancel (K : Nat → Nat) (v0 : Option Nat) (v1 : Int32) (v2 : Option Nat) : AM (Int32) :=
  tc (dv v0 2 (f_X1_cancel K v0 v1) (fl)) (fun q => ctc [19] [12, 13, 14, 16, 17, 18, 20, 21] q (rt (1 : Int32)) (ctc [21] [12, 13, 14, 16, 17, 18, 19, 20] q (rt (2 : Int32)) (th q))) fun x4 => bd (ast K 1004 v2 (0 : Int32) (.long (x4.toInt64))) fun _ => rt (0 : Int32)
def f_X4_isParty (K : Nat → Nat) (v0 : Option Nat) (v1 : Int32) : AM (Int32) :=
  bd (gt pR 100 v0) fun x4 => bd (ald pI 1001 x4 (4 : Int32)) fun x8 => bd (f_X4_in K (v1.toInt64) (0 : Int64) ((x8 - (1 : Int32)).toInt64)) fun x12 => chk (fits .boolean (.int x12)) <| rt x12
def f_X4_cancel (K : Nat → Nat) (v0 : Option Nat) (v1 : Int32) : AM (Int32) :=
  bd (dv v0 1 (f_X4_layAside K v0) (fl)) fun _ => bd (dv v0 1 (f_X4_isParty K v0 v1) (fl)) fun x6 => if x6 = 0 then (bd (dv v0 1 (f_X4_throwing K v0 (1 : Int32)) (fl)) fun x14 => rt x14) else (bd (f_X4_party K v1) fun x19 => bd (gt pR 100 v0) fun x24 => bd (ald pI 1001 x24 (x19 + (2 : Int32))) fun x30 => if x30 = 0 then (bd (gt pR 100 v0) fun x51 => bd (ast K 1001 x51 (x19 + (2 : Int32)) (.int (2 : Int32))) fun _ => bd (dv v0 1 (f_X4_partiesAt K v0 (0 : Int32)) (fl)) fun x62 => bd (dv v0 1 (f_X4_changed K v0 x62) (fl)) fun x65 => rt x65) else (bd (gt pR 100 v0) fun x39 => bd (ald pI 1001 x39 (x19 + (2 : Int32))) fun x45 => bd (dv v0 1 (f_X4_refuse K v0 (2 : Int32) (11 : Int32) x45) (fl)) fun x46 => rt x46))
def f_X1_partyOf (K : Nat → Nat) (v0 : Option Nat) (v1 : Int32) (v2 : Int32) : AM (Int32) :=
  bd (dv v0 2 (f_X1_partyAt K v0 v1) (fl)) fun x2 => bd (f_X1_isIn K v2 (0 : Int32) (3 : Int32)) fun x9 => bd (f_X1_checkArgument K x9) fun _ => if v2 = 0 then (bd (gt pI 600 x2) fun x20 => rt x20) else (if v2 = (1 : Int32) then (bd (gt pI 601 x2) fun x32 => rt x32) else (if v2 = (2 : Int32) then (bd (gt pI 604 x2) fun x44 => rt x44) else (bd (gt pI 605 x2) fun x51 => rt x51)))
def f_X0_partyOf (K : Nat → Nat) (v0 : Option Nat) (v1 : Int32) (v2 : Int32) (v3 : Option Nat) : AM (Int32) :=
  tc (dv v0 2 (f_X1_partyOf K v0 v1 v2) (fl)) (fun q => ctc [19] [12, 13, 14, 16, 17, 18, 20, 21] q (rt (1 : Int32)) (ctc [17] [12, 13, 14, 16, 18, 19, 20, 21] q (rt (2 : Int32)) (th q))) fun x5 => bd (ast K 1004 v3 (0 : Int32) (.long (x5.toInt64))) fun _ => rt (0 : Int32)
def f_X4_partyOf (K : Nat → Nat) (v0 : Option Nat) (v1 : Int32) (v2 : Int32) : AM (Int32) :=
  bd (pu K 107 v0 (.int (0 : Int32))) fun _ => bd (dv v0 1 (f_X4_isParty K v0 v1) (fl)) fun x7 => if x7 = 0 then (bd (dv v0 1 (f_X4_throwing K v0 (1 : Int32)) (fl)) fun x15 => rt x15) else (bd (f_X4_in K (v2.toInt64) (0 : Int64) (3 : Int64)) fun x25 => if x25 = 0 then (bd (dv v0 1 (f_X4_throwing K v0 (2 : Int32)) (fl)) fun x47 => rt x47) else (bd (gt pR 100 v0) fun x32 => bd (f_X4_party K v1) fun x36 => bd (ald pI 1001 x32 (x36 + v2)) fun x41 => rt x41))
def f_X2_nextParty_j65 (K : Nat → Nat) (rc4 : Int32 → Int32 → AM (Int32)) (v0 : Option Nat) (v2 : Int32) (t0 : Int32) : AM (Int32) :=
  rc4 t0 (v2 + (1 : Int32))
def f_X2_nextParty_j64 (K : Nat → Nat) (rc4 : Int32 → Int32 → AM (Int32)) (v0 : Option Nat) (v1 : Int32) (v2 : Int32)  : AM (Int32) :=
  f_X2_nextParty_j65 K rc4 v0 v2 v1
def f_X2_nextParty_j60 (K : Nat → Nat) (rc4 : Int32 → Int32 → AM (Int32)) (v0 : Option Nat) (v2 : Int32)  : AM (Int32) :=
  f_X2_nextParty_j65 K rc4 v0 v2 v2
def f_X2_nextParty_b4 (K : Nat → Nat) (rc4 : Int32 → Int32 → AM (Int32)) (v0 : Option Nat) (v1 : Int32) (v2 : Int32)  : AM (Int32) :=
  bd (gt pR 302 v0) fun x6 => bd (dv x6 25 (f_J2_size K x6) (fl)) fun x9 => if x9 ≤ v2 then (rt v1) else (bd (gt pR 302 v0) fun x16 => bd (dv x16 25 (f_J2_get K x16 v2) (fl)) fun x20 => bd (ckc [6] x20) fun _ => bd (dv x20 6 (f_X9_isBooked K x20) (fl)) fun x28 => if x28 = 0 then (f_X2_nextParty_j64 K rc4 v0 v1 v2 ) else (if v1 = (-1 : Int32) then (f_X2_nextParty_j60 K rc4 v0 v2 ) else (bd (gt pI 600 x20) fun x40 => bd (gt pR 302 v0) fun x44 => bd (dv x44 25 (f_J2_get K x44 v1) (fl)) fun x48 => bd (ckc [6] x48) fun _ => bd (gt pI 600 x48) fun x54 => if x54 ≤ x40 then (f_X2_nextParty_j64 K rc4 v0 v1 v2 ) else (f_X2_nextParty_j60 K rc4 v0 v2 ))))
def f_X2_nextParty_l4 (K : Nat → Nat)  (v0 : Option Nat) : Nat → Int32 → Int32 → AM (Int32) := fun n => match n with
  | 0 => fun _ _ => fl
  | n + 1 => fun v1 v2 => f_X2_nextParty_b4 K (f_X2_nextParty_l4 K v0 n) v0 v1 v2
def f_X2_nextParty (K : Nat → Nat) (v0 : Option Nat) : AM (Int32) :=
  f_X2_nextParty_l4 K  v0 FU (-1 : Int32) (0 : Int32)
def f_X1_nextParty_j18 (K : Nat → Nat)  (v1 : Int32) (t0 : Int32) : AM (Int32) :=
  bd (f_X1_checkElement K t0) fun _ => rt v1
def f_X1_nextParty (K : Nat → Nat) (v0 : Option Nat) : AM (Int32) :=
  bd (gt pR 200 v0) fun x1 => bd (dv x1 3 (f_X2_nextParty K x1) (fl)) fun x4 => if x4 = (-1 : Int32) then (f_X1_nextParty_j18 K  x4 (0 : Int32)) else (f_X1_nextParty_j18 K  x4 (1 : Int32))
def f_X0_nextParty (K : Nat → Nat) (v0 : Option Nat) (v1 : Option Nat) : AM (Int32) :=
  tc (dv v0 2 (f_X1_nextParty K v0) (fl)) (fun q => ctc [20] [12, 13, 14, 16, 17, 18, 19, 21] q (rt (1 : Int32)) (th q)) fun x3 => bd (ast K 1004 v1 (0 : Int32) (.long (x3.toInt64))) fun _ => rt (0 : Int32)
def f_X4_nextParty_j81 (K : Nat → Nat)  (v0 : Option Nat) (v1 : Int32)  : AM (Int32) :=
  if v1 = (-1 : Int32) then (bd (dv v0 1 (f_X4_throwing K v0 (1 : Int32)) (fl)) fun x88 => rt x88) else (rt v1)
def f_X4_nextParty_j74 (K : Nat → Nat) (rc9 : Int32 → Int32 → AM (Int32)) (v0 : Option Nat) (v2 : Int32) (t0 : Int32) : AM (Int32) :=
  rc9 t0 (v2 + (1 : Int32))
def f_X4_nextParty_j64 (K : Nat → Nat) (rc9 : Int32 → Int32 → AM (Int32)) (v0 : Option Nat) (v1 : Int32) (v2 : Int32) (t0 : Int32) : AM (Int32) :=
  if t0 = 0 then (f_X4_nextParty_j74 K rc9 v0 v2 v1) else (f_X4_nextParty_j74 K rc9 v0 v2 v2)
def f_X4_nextParty_j59 (K : Nat → Nat) (rc9 : Int32 → Int32 → AM (Int32)) (v0 : Option Nat) (v1 : Int32) (v2 : Int32)  : AM (Int32) :=
  f_X4_nextParty_j64 K rc9 v0 v1 v2 (1 : Int32)
def f_X4_nextParty_j63 (K : Nat → Nat) (rc9 : Int32 → Int32 → AM (Int32)) (v0 : Option Nat) (v1 : Int32) (v2 : Int32)  : AM (Int32) :=
  f_X4_nextParty_j64 K rc9 v0 v1 v2 (0 : Int32)
def f_X4_nextParty_b9 (K : Nat → Nat) (rc9 : Int32 → Int32 → AM (Int32)) (v0 : Option Nat) (v1 : Int32) (v2 : Int32)  : AM (Int32) :=
  bd (gt pR 100 v0) fun x11 => bd (ald pI 1001 x11 (4 : Int32)) fun x15 => if x15 ≤ v2 then (f_X4_nextParty_j81 K  v0 v1 ) else (bd (gt pR 100 v0) fun x20 => bd (f_X4_party K v2) fun x24 => bd (ald pI 1001 x20 (x24 + (2 : Int32))) fun x29 => if x29 = 0 then (if v1 = (-1 : Int32) then (f_X4_nextParty_j59 K rc9 v0 v1 v2 ) else (bd (gt pR 100 v0) fun x39 => bd (f_X4_party K v2) fun x43 => bd (ald pI 1001 x39 x43) fun x46 => bd (gt pR 100 v0) fun x48 => bd (f_X4_party K v1) fun x52 => bd (ald pI 1001 x48 x52) fun x55 => if x55 ≤ x46 then (f_X4_nextParty_j63 K rc9 v0 v1 v2 ) else (f_X4_nextParty_j59 K rc9 v0 v1 v2 ))) else (f_X4_nextParty_j63 K rc9 v0 v1 v2 ))
def f_X4_nextParty_l9 (K : Nat → Nat)  (v0 : Option Nat) : Nat → Int32 → Int32 → AM (Int32) := fun n => match n with
  | 0 => fun _ _ => fl
  | n + 1 => fun v1 v2 => f_X4_nextParty_b9 K (f_X4_nextParty_l9 K v0 n) v0 v1 v2
def f_X4_nextParty (K : Nat → Nat) (v0 : Option Nat) : AM (Int32) :=
  bd (pu K 107 v0 (.int (0 : Int32))) fun _ => f_X4_nextParty_l9 K  v0 FU (-1 : Int32) (0 : Int32)
def f_X1_pass (K : Nat → Nat) (v0 : Option Nat) (v1 : Int32) : AM (Int32) :=
  bd (f_X1_isIn K v1 (1 : Int32) (60 : Int32)) fun x4 => bd (f_X1_checkArgument K x4) fun _ => bd (nwL K 220 [.int v1]) fun x12 => bd (dv v0 2 (f_X1_does K v0 x12) (fl)) fun x17 => rt x17
def f_X0_pass (K : Nat → Nat) (v0 : Option Nat) (v1 : Int32) (v2 : Option Nat) : AM (Int32) :=
  tc (dv v0 2 (f_X1_pass K v0 v1) (fl)) (fun q => ctc [17] [12, 13, 14, 16, 18, 19, 20, 21] q (rt (1 : Int32)) (th q)) fun x4 => bd (ast K 1004 v2 (0 : Int32) (.long (x4.toInt64))) fun _ => rt (0 : Int32)
def f_X4_passIt_b22 (K : Nat → Nat) (rc22 : Int32 → Int32 → AM (Int32)) (v0 : Option Nat) (v1 : Int32) (v2 : Int32) (v3 : Int32)  : AM (Int32) :=
  if v1 ≤ v3 then (rt v2) else (bd (dv v0 1 (f_X4_minuteGoes K v0) (fl)) fun x29 => rc22 (v2 + x29) (v3 + (1 : Int32)))
def f_X4_passIt_l22 (K : Nat → Nat)  (v0 : Option Nat) (v1 : Int32) : Nat → Int32 → Int32 → AM (Int32) := fun n => match n with
  | 0 => fun _ _ => fl
  | n + 1 => fun v2 v3 => f_X4_passIt_b22 K (f_X4_passIt_l22 K v0 v1 n) v0 v1 v2 v3
def f_X4_passIt (K : Nat → Nat) (v0 : Option Nat) (v1 : Int32) : AM (Int32) :=
  bd (f_X4_in K (v1.toInt64) (1 : Int64) (60 : Int64)) fun x6 => if x6 = 0 then (bd (dv v0 1 (f_X4_throwing K v0 (1 : Int32)) (fl)) fun x14 => rt x14) else (f_X4_passIt_l22 K  v0 v1 FU (0 : Int32) (0 : Int32))
def f_X4_pass (K : Nat → Nat) (v0 : Option Nat) (v1 : Int32) : AM (Int32) :=
  bd (dv v0 1 (f_X4_layAside K v0) (fl)) fun _ => bd (dv v0 1 (f_X4_passIt K v0 v1) (fl)) fun x7 => bd (dv v0 1 (f_X4_changed K v0 x7) (fl)) fun x10 => rt x10
def f_J5_newCapacity (K : Nat → Nat) (v0 : Option Nat) (v1 : Int32) : AM (Int32) :=
  bd (gt pR 3500 v0) fun x1 => bd (alen x1) fun x4 => bd (gt pI 3501 v0) fun x8 => bd (gt pI 3501 v0) fun x24 => bd (f_J11_newLength K x4 ((v1 <<< (x8 &&& 31)) - x4) (x4 + ((2 : Int32) <<< (x24 &&& 31)))) fun x29 => if x29 = (2147483647 : Int32) then fl else (bd (gt pI 3501 v0) fun x54 => rt (x29 >>> (x54 &&& 31)))
def f_J13_copyOf (K : Nat → Nat) (v0 : Option Nat) (v1 : Int32) : AM (Option Nat) :=
  bd (alen v0) fun x2 => if v1 = x2 then fl else (bd (nwA K 1003 (.int 0) v1) fun x15 => bd (alen v0) fun x23 => bd (acp K [1003] v0 (0 : Int32) x15 (0 : Int32) (if v1 < x23 then v1 else x23)) fun _ => rt x15)
def f_J5_ensureCapacityInternal (K : Nat → Nat) (v0 : Option Nat) (v1 : Int32) : AM (Unit) :=
  bd (gt pR 3500 v0) fun x1 => bd (alen x1) fun x4 => bd (gt pI 3501 v0) fun x6 => if (v1 - (x4 >>> (x6 &&& 31))) ≤ 0 then (rt ()) else (bd (gt pR 3500 v0) fun x19 => bd (dv v0 36 (f_J5_newCapacity K v0 v1) (fl)) fun x24 => bd (gt pI 3501 v0) fun x28 => bd (f_J13_copyOf K x19 (x24 <<< (x28 &&& 31))) fun x32 => bd (pu K 3500 v0 (va_rf x32)) fun _ => rt ())
def f_J5_isLatin1 (K : Nat → Nat) (v0 : Option Nat) : AM (Int32) :=
  if (1 : Int32) = 0 then (rt (0 : Int32)) else (bd (gt pI 3501 v0) fun x7 => if x7 = 0 then (rt (1 : Int32)) else (rt (0 : Int32)))
def f_J13_rangeCheck (K : Nat → Nat) (v0 : Int32) (v1 : Int32) (v2 : Int32) : AM (Unit) :=
  if v1 ≤ v2 then (if 0 ≤ v1 then (if v2 ≤ v0 then (rt ()) else (bd (nwO K 22 6) fun x64 => fl)) else (bd (nwO K 22 6) fun x50 => fl)) else (bd (nwO K 17 6) fun x5 => bd (nwO K 36 4) fun x9 => bd (f_J6_init K x9) fun _ => fl)
def f_J13_fill_b10 (K : Nat → Nat) (rc10 : Int32 → AM (Unit)) (v0 : Option Nat) (v2 : Int32) (v3 : Int32) (v4 : Int32)  : AM (Unit) :=
  if v2 ≤ v4 then (rt ()) else (chk (fits .byte (.int v3)) <| bd (ast K 1003 v0 v4 (.int v3)) fun _ => rc10 (v4 + (1 : Int32)))
def f_J13_fill_l10 (K : Nat → Nat)  (v0 : Option Nat) (v2 : Int32) (v3 : Int32) : Nat → Int32 → AM (Unit) := fun n => match n with
  | 0 => fun _ => fl
  | n + 1 => fun v4 => f_J13_fill_b10 K (f_J13_fill_l10 K v0 v2 v3 n) v0 v2 v3 v4
def f_J13_fill (K : Nat → Nat) (v0 : Option Nat) (v1 : Int32) (v2 : Int32) (v3 : Int32) : AM (Unit) :=
  bd (alen v0) fun x1 => bd (f_J13_rangeCheck K x1 v1 v2) fun _ => f_J13_fill_l10 K  v0 v2 v3 FU v1
def f_J21_fillNull (K : Nat → Nat) (v0 : Option Nat) (v1 : Int32) (v2 : Int32) : AM (Unit) :=
  bd (f_J13_fill K v0 v1 v2 (0 : Int32)) fun _ => rt ()
def f_J5_setLength_j76 (K : Nat → Nat)  (v0 : Option Nat) (v1 : Int32)  : AM (Unit) :=
  bd (pu K 3503 v0 (.int v1)) fun _ => rt ()
def f_J5_setLength (K : Nat → Nat) (v0 : Option Nat) (v1 : Int32) : AM (Unit) :=
  if 0 ≤ v1 then (bd (dv v0 36 (f_J5_ensureCapacityInternal K v0 v1) (fl)) fun _ => bd (gt pI 3503 v0) fun x19 => if v1 ≤ x19 then (bd (gt pI 3503 v0) fun x64 => if x64 ≤ v1 then (f_J5_setLength_j76 K  v0 v1 ) else (bd (pu K 3502 v0 (.int (1 : Int32))) fun _ => f_J5_setLength_j76 K  v0 v1 )) else (bd (dv v0 36 (f_J5_isLatin1 K v0) (fl)) fun x27 => if x27 = 0 then (bd (gt pR 3500 v0) fun x49 => bd (gt pI 3503 v0) fun x53 => fl) else (bd (gt pR 3500 v0) fun x34 => bd (gt pI 3503 v0) fun x38 => bd (f_J21_fillNull K x34 x38 v1) fun _ => f_J5_setLength_j76 K  v0 v1 ))) else (bd (nwO K 23 6) fun x4 => fl)
def f_J6_setLength (K : Nat → Nat) (v0 : Option Nat) (v1 : Int32) : AM (Unit) :=
  bd (dv v0 36 (f_J5_setLength K v0 v1) (fl)) fun _ => rt ()
def f_J21_canEncode (K : Nat → Nat) (v0 : Int32) : AM (Int32) :=
  if (255 : Int32) < v0 then (rt (0 : Int32)) else (rt (1 : Int32))
def f_J5_append_3_j56 (K : Nat → Nat)  (v0 : Option Nat) (v1 : Int32)  : AM (Option Nat) :=
  bd (gt pR 3500 v0) fun x57 => bd (gt pI 3503 v0) fun x62 => bd (pu K 3503 v0 (.int (x62 + (1 : Int32)))) fun _ => fl
def f_J5_append_3_j45 (K : Nat → Nat)  (v0 : Option Nat) (v1 : Int32)  : AM (Option Nat) :=
  bd (dv v0 36 (f_J5_isLatin1 K v0) (fl)) fun x46 => if x46 = 0 then (f_J5_append_3_j56 K  v0 v1 ) else fl
def f_J5_append_3 (K : Nat → Nat) (v0 : Option Nat) (v1 : Int32) : AM (Option Nat) :=
  bd (gt pI 3503 v0) fun x2 => bd (dv v0 36 (f_J5_ensureCapacityInternal K v0 (x2 + (1 : Int32))) (fl)) fun _ => bd (dv v0 36 (f_J5_isLatin1 K v0) (fl)) fun x11 => if x11 = 0 then (f_J5_append_3_j45 K  v0 v1 ) else (bd (f_J21_canEncode K v1) fun x18 => if x18 = 0 then (f_J5_append_3_j45 K  v0 v1 ) else (bd (gt pR 3500 v0) fun x25 => bd (gt pI 3503 v0) fun x30 => bd (pu K 3503 v0 (.int (x30 + (1 : Int32)))) fun _ => chk (fits .byte (.int (v1.toInt8.toInt32))) <| bd (ast K 1003 x25 x30 (.int (v1.toInt8.toInt32))) fun _ => rt v0))
def f_J6_append_3 (K : Nat → Nat) (v0 : Option Nat) (v1 : Int32) : AM (Option Nat) :=
  bd (dv v0 36 (f_J5_append_3 K v0 v1) (fl)) fun x2 => rt v0
def f_J23_stringSize_j42 (K : Nat → Nat)  (v1 : Int32)  : AM (Int32) :=
  rt ((10 : Int32) + v1)
def f_J23_stringSize_j27 (K : Nat → Nat)  (v1 : Int32) (v3 : Int32)  : AM (Int32) :=
  rt (v3 + v1)
def f_J23_stringSize_b16 (K : Nat → Nat) (rc16 : Int32 → Int32 → AM (Int32)) (v0 : Int32) (v1 : Int32) (v2 : Int32) (v3 : Int32)  : AM (Int32) :=
  if (10 : Int32) ≤ v3 then (f_J23_stringSize_j42 K  v1 ) else (if v0 ≤ v2 then (rc16 ((10 : Int32) * v2) (v3 + (1 : Int32))) else (f_J23_stringSize_j27 K  v1 v3 ))
def f_J23_stringSize_l16 (K : Nat → Nat)  (v0 : Int32) (v1 : Int32) : Nat → Int32 → Int32 → AM (Int32) := fun n => match n with
  | 0 => fun _ _ => fl
  | n + 1 => fun v2 v3 => f_J23_stringSize_b16 K (f_J23_stringSize_l16 K v0 v1 n) v0 v1 v2 v3
def f_J23_stringSize_j11 (K : Nat → Nat)  (v0 : Int32) (v1 : Int32)  : AM (Int32) :=
  f_J23_stringSize_l16 K  v0 v1 FU (-10 : Int32) (1 : Int32)
def f_J23_stringSize (K : Nat → Nat) (v0 : Int32) : AM (Int32) :=
  if v0 < 0 then (f_J23_stringSize_j11 K  v0 (1 : Int32) ) else (f_J23_stringSize_j11 K  (-v0) (0 : Int32) )
def f_J23_getChars_j104 (K : Nat → Nat)  (v2 : Option Nat) (v5 : Int32) (v6 : Int32)  : AM (Int32) :=
  if v6 = 0 then (rt v5) else (bd (ast K 1003 v2 (v5 + (-1 : Int32)) (.int (45 : Int32))) fun _ => rt (v5 + (-1 : Int32)))
def f_J23_getChars_j72 (K : Nat → Nat)  (v0 : Int32) (v2 : Option Nat) (v5 : Int32) (v6 : Int32)  : AM (Int32) :=
  bd (ald pI 1003 (some (K 8)) (-v0)) fun x83 => chk (fits .byte (.int x83)) <| bd (ast K 1003 v2 (v5 + (-1 : Int32)) (.int x83)) fun _ => if (-9 : Int32) ≤ v0 then (f_J23_getChars_j104 K  v2 (v5 + (-1 : Int32)) v6 ) else (bd (ald pI 1003 (some (K 9)) (-v0)) fun x102 => chk (fits .byte (.int x102)) <| bd (ast K 1003 v2 ((v5 + (-1 : Int32)) + (-1 : Int32)) (.int x102)) fun _ => f_J23_getChars_j104 K  v2 ((v5 + (-1 : Int32)) + (-1 : Int32)) v6 )
def f_J23_getChars_b22 (K : Nat → Nat) (rc22 : Int32 → Int32 → AM (Int32)) (v0 : Int32) (v2 : Option Nat) (v5 : Int32) (v6 : Int32)  : AM (Int32) :=
  if (-100 : Int32) < v0 then (f_J23_getChars_j72 K  v0 v2 v5 v6 ) else (bd (ald pI 1003 (some (K 8)) (((v0 / (100 : Int32)) * (100 : Int32)) - v0)) fun x54 => chk (fits .byte (.int x54)) <| bd (ast K 1003 v2 (v5 + (-1 : Int32)) (.int x54)) fun _ => bd (ald pI 1003 (some (K 9)) (((v0 / (100 : Int32)) * (100 : Int32)) - v0)) fun x67 => chk (fits .byte (.int x67)) <| bd (ast K 1003 v2 ((v5 + (-1 : Int32)) + (-1 : Int32)) (.int x67)) fun _ => rc22 (v0 / (100 : Int32)) ((v5 + (-1 : Int32)) + (-1 : Int32)))
def f_J23_getChars_l22 (K : Nat → Nat)  (v2 : Option Nat) (v6 : Int32) : Nat → Int32 → Int32 → AM (Int32) := fun n => match n with
  | 0 => fun _ _ => fl
  | n + 1 => fun v0 v5 => f_J23_getChars_b22 K (f_J23_getChars_l22 K v2 v6 n) v0 v2 v5 v6
def f_J23_getChars_j12 (K : Nat → Nat)  (v0 : Int32) (v2 : Option Nat) (v5 : Int32) (t0 : Int32) : AM (Int32) :=
  if t0 = 0 then (f_J23_getChars_l22 K  v2 t0 FU (-v0) v5) else (f_J23_getChars_l22 K  v2 t0 FU v0 v5)
def f_J23_getChars (K : Nat → Nat) (v0 : Int32) (v1 : Int32) (v2 : Option Nat) : AM (Int32) :=
  if 0 ≤ v0 then (f_J23_getChars_j12 K  v0 v2 v1 (0 : Int32)) else (f_J23_getChars_j12 K  v0 v2 v1 (1 : Int32))
def f_J5_append_2_j48 (K : Nat → Nat)  (v0 : Option Nat) (v3 : Int32)  : AM (Option Nat) :=
  bd (pu K 3503 v0 (.int v3)) fun _ => rt v0
def f_J5_append_2 (K : Nat → Nat) (v0 : Option Nat) (v1 : Int32) : AM (Option Nat) :=
  bd (gt pI 3503 v0) fun x1 => bd (f_J23_stringSize K v1) fun x7 => bd (dv v0 36 (f_J5_ensureCapacityInternal K v0 (x1 + x7)) (fl)) fun _ => bd (dv v0 36 (f_J5_isLatin1 K v0) (fl)) fun x18 => if x18 = 0 then (bd (gt pR 3500 v0) fun x41 => fl) else (bd (gt pR 3500 v0) fun x27 => bd (f_J23_getChars K v1 (x1 + x7) x27) fun x30 => f_J5_append_2_j48 K  v0 (x1 + x7) )
def f_J6_append_2 (K : Nat → Nat) (v0 : Option Nat) (v1 : Int32) : AM (Option Nat) :=
  bd (dv v0 36 (f_J5_append_2 K v0 v1) (fl)) fun x2 => rt v0
def f_J7_coder (K : Nat → Nat) (v0 : Option Nat) : AM (Int32) :=
  if (1 : Int32) = 0 then (rt (1 : Int32)) else (bd (gt pI 3401 v0) fun x7 => chk (fits .byte (.int x7)) <| rt x7)
def f_J7_length (K : Nat → Nat) (v0 : Option Nat) : AM (Int32) :=
  bd (gt pR 3400 v0) fun x1 => bd (alen x1) fun x4 => bd (dv v0 34 (f_J7_coder K v0) (fl)) fun x6 => rt (x4 >>> (x6 &&& 31))
def f_J5_inflateIfNeededFor (K : Nat → Nat) (v0 : Option Nat) (v1 : Option Nat) : AM (Unit) :=
  if (1 : Int32) = 0 then (rt ()) else (bd (gt pI 3501 v0) fun x7 => bd (dv v1 34 (f_J7_coder K v1) (fl)) fun x11 => if x7 = x11 then (rt ()) else fl)
def f_J21_inflate (K : Nat → Nat) (v0 : Option Nat) (v1 : Int32) (v2 : Option Nat) (v3 : Int32) (v4 : Int32) : AM (Unit) :=
  fl
def f_J7_getBytes (K : Nat → Nat) (v0 : Option Nat) (v1 : Option Nat) (v2 : Int32) (v3 : Int32) : AM (Unit) :=
  bd (dv v0 34 (f_J7_coder K v0) (fl)) fun x1 => if x1 = v3 then (bd (gt pR 3400 v0) fun x9 => bd (gt pR 3400 v0) fun x18 => bd (alen x18) fun x21 => bd (acp K [1003] x9 (0 : Int32) v1 (v2 <<< (v3 &&& 31)) x21) fun _ => rt ()) else (bd (gt pR 3400 v0) fun x29 => bd (gt pR 3400 v0) fun x36 => bd (alen x36) fun x39 => bd (f_J21_inflate K x29 (0 : Int32) v1 v2 x39) fun _ => rt ())
def f_J5_putStringAt (K : Nat → Nat) (v0 : Option Nat) (v1 : Int32) (v2 : Option Nat) : AM (Unit) :=
  bd (dv v0 36 (f_J5_inflateIfNeededFor K v0 v2) (fl)) fun _ => bd (gt pR 3500 v0) fun x7 => bd (gt pI 3501 v0) fun x12 => bd (dv v2 34 (f_J7_getBytes K v2 x7 v1 x12) (fl)) fun _ => rt ()
def f_J5_append (K : Nat → Nat) (v0 : Option Nat) (v1 : Option Nat) : AM (Option Nat) :=
  if v1 = none then fl else (bd (dv v1 34 (f_J7_length K v1) (fl)) fun x10 => bd (gt pI 3503 v0) fun x16 => bd (dv v0 36 (f_J5_ensureCapacityInternal K v0 (x16 + x10)) (fl)) fun _ => bd (gt pI 3503 v0) fun x26 => bd (dv v0 36 (f_J5_putStringAt K v0 x26 v1) (fl)) fun _ => bd (gt pI 3503 v0) fun x35 => bd (pu K 3503 v0 (.int (x35 + x10))) fun _ => rt v0)
def f_J6_append (K : Nat → Nat) (v0 : Option Nat) (v1 : Option Nat) : AM (Option Nat) :=
  bd (dv v0 36 (f_J5_append K v0 v1) (fl)) fun x2 => rt v0
def f_J5_length (K : Nat → Nat) (v0 : Option Nat) : AM (Int32) :=
  bd (gt pI 3503 v0) fun x1 => rt x1
def f_J6_length (K : Nat → Nat) (v0 : Option Nat) : AM (Int32) :=
  bd (dv v0 36 (f_J5_length K v0) (fl)) fun x1 => rt x1
def f_X1_tell_j140 (K : Nat → Nat)  (v0 : Option Nat) (t0 : Option Nat) (t1 : Option Nat) : AM (Int32) :=
  bd (dv t1 36 (f_J6_append K t1 t0) (fl)) fun x140 => bd (gt pR 204 v0) fun x145 => bd (dv x145 36 (f_J6_length K x145) (fl)) fun x148 => rt x148
def f_X1_tell_j120 (K : Nat → Nat)  (v0 : Option Nat) (v2 : Option Nat)  : AM (Int32) :=
  bd (gt pR 204 v0) fun x121 => bd (gt pI 401 v2) fun x125 => if x125 = 0 then (f_X1_tell_j140 K  v0 (some (K 13)) x121) else (f_X1_tell_j140 K  v0 (some (K 12)) x121)
def f_X1_tell_j117 (K : Nat → Nat) (rc70 : AM (Int32)) (v0 : Option Nat) (v1 : Int32) (v2 : Option Nat) (v3 : Option Nat)  : AM (Int32) :=
  rc70
def f_X1_tell_b70 (K : Nat → Nat) (rc70 : AM (Int32)) (v0 : Option Nat) (v1 : Int32) (v2 : Option Nat) (v3 : Option Nat)  : AM (Int32) :=
  bd (dv v3 26 (f_J14_hasNext K v3) (fl)) fun x71 => if x71 = 0 then (f_X1_tell_j120 K  v0 v2 ) else (bd (dv v3 26 (f_J14_next K v3) (fl)) fun x80 => bd (ckc [5] x80) fun _ => bd (dv x80 5 (f_X8_isOn K x80 v1) (fl)) fun x93 => if x93 = 0 then (f_X1_tell_j117 K rc70 v0 v1 v2 v3 ) else (bd (gt pR 204 v0) fun x100 => bd (dv x100 36 (f_J6_append_3 K x100 (124 : Int32)) (fl)) fun x105 => bd (gt pI 500 x80) fun x110 => bd (dv x105 36 (f_J6_append_2 K x105 x110) (fl)) fun x113 => f_X1_tell_j117 K rc70 v0 v1 v2 v3 ))
def f_X1_tell_l70 (K : Nat → Nat)  (v0 : Option Nat) (v1 : Int32) (v2 : Option Nat) (v3 : Option Nat) : Nat → AM (Int32) := fun n => match n with
  | 0 => fl
  | n + 1 => f_X1_tell_b70 K (f_X1_tell_l70 K v0 v1 v2 v3 n) v0 v1 v2 v3
def f_X1_tell_j59 (K : Nat → Nat)  (v0 : Option Nat) (v1 : Int32) (v2 : Option Nat)  : AM (Int32) :=
  bd (gt pR 200 v0) fun x60 => bd (gt pR 301 x60) fun x63 => bd (dv x63 25 (f_J2_iterator K x63) (fl)) fun x66 => f_X1_tell_l70 K  v0 v1 v2 x66 FU 
def f_X1_tell_j49 (K : Nat → Nat) (rc16 : Int32 → AM (Int32)) (v0 : Option Nat) (v1 : Int32) (v2 : Option Nat) (v3 : Int32) (t0 : Int32) (t1 : Option Nat) : AM (Int32) :=
  bd (dv t1 36 (f_J6_append_3 K t1 t0) (fl)) fun x49 => rc16 (v3 + (1 : Int32))
def f_X1_tell_b16 (K : Nat → Nat) (rc16 : Int32 → AM (Int32)) (v0 : Option Nat) (v1 : Int32) (v2 : Option Nat) (v3 : Int32)  : AM (Int32) :=
  if (8 : Int32) ≤ v3 then (f_X1_tell_j59 K  v0 v1 v2 ) else (bd (gt pR 204 v0) fun x23 => bd (dv v2 4 (f_X7_isBroken K v2 v3) (fl)) fun x28 => if x28 = 0 then (bd (gt pR 400 v2) fun x42 => bd (ald pI 1001 x42 v3) fun x46 => f_X1_tell_j49 K rc16 v0 v1 v2 v3 ((((48 : Int32) + x46).toUInt32 % 65536).toInt32) x23) else (f_X1_tell_j49 K rc16 v0 v1 v2 v3 (42 : Int32) x23))
def f_X1_tell_l16 (K : Nat → Nat)  (v0 : Option Nat) (v1 : Int32) (v2 : Option Nat) : Nat → Int32 → AM (Int32) := fun n => match n with
  | 0 => fun _ => fl
  | n + 1 => fun v3 => f_X1_tell_b16 K (f_X1_tell_l16 K v0 v1 v2 n) v0 v1 v2 v3
def f_X1_tell (K : Nat → Nat) (v0 : Option Nat) (v1 : Int32) : AM (Int32) :=
  bd (dv v0 2 (f_X1_matAt K v0 v1) (fl)) fun x2 => bd (gt pR 204 v0) fun x7 => bd (dv x7 36 (f_J6_setLength K x7 (0 : Int32)) (fl)) fun _ => f_X1_tell_l16 K  v0 v1 x2 FU (0 : Int32)
def f_X0_tell (K : Nat → Nat) (v0 : Option Nat) (v1 : Int32) (v2 : Option Nat) : AM (Int32) :=
  tc (dv v0 2 (f_X1_tell K v0 v1) (fl)) (fun q => ctc [19] [12, 13, 14, 16, 17, 18, 20, 21] q (rt (1 : Int32)) (th q)) fun x4 => bd (ast K 1004 v2 (0 : Int32) (.long (x4.toInt64))) fun _ => rt (0 : Int32)
def f_X4_sign (K : Nat → Nat) (v0 : Option Nat) (v1 : Int32) : AM (Unit) :=
  bd (gt pR 115 v0) fun x1 => bd (gt pI 116 v0) fun x5 => bd (ast K 1001 x1 x5 (.int v1)) fun _ => bd (gt pI 116 v0) fun x12 => bd (pu K 116 v0 (.int (x12 + (1 : Int32)))) fun _ => rt ()
def f_X4_tell_j154 (K : Nat → Nat)  (v0 : Option Nat)  : AM (Int32) :=
  bd (gt pI 116 v0) fun x155 => rt x155
def f_X4_tell_j133 (K : Nat → Nat)  (v0 : Option Nat) (v1 : Int32)  : AM (Int32) :=
  bd (gt pR 100 v0) fun x134 => bd (f_X4_of K v1) fun x138 => bd (ald pI 1001 x134 (x138 + (8 : Int32))) fun x144 => if x144 = 0 then (bd (dv v0 1 (f_X4_sign K v0 (120 : Int32)) (fl)) fun _ => f_X4_tell_j154 K  v0 ) else (f_X4_tell_j154 K  v0 )
def f_X4_tell_j127 (K : Nat → Nat) (rc79 : Int32 → AM (Int32)) (v0 : Option Nat) (v1 : Int32) (v2 : Int32)  : AM (Int32) :=
  rc79 (v2 + (1 : Int32))
def f_X4_tell_j116 (K : Nat → Nat) (rc79 : Int32 → AM (Int32)) (v0 : Option Nat) (v1 : Int32) (v2 : Int32)  : AM (Int32) :=
  bd (dv v0 1 (f_X4_sign K v0 ((48 : Int32) + (v2 - v2 / (10 : Int32) * (10 : Int32)))) (fl)) fun _ => f_X4_tell_j127 K rc79 v0 v1 v2 
def f_X4_tell_b79 (K : Nat → Nat) (rc79 : Int32 → AM (Int32)) (v0 : Option Nat) (v1 : Int32) (v2 : Int32)  : AM (Int32) :=
  bd (gt pR 100 v0) fun x81 => bd (ald pI 1001 x81 (2 : Int32)) fun x85 => if x85 ≤ v2 then (f_X4_tell_j133 K  v0 v1 ) else (bd (dv v0 1 (f_X4_isOn K v0 v2 v1) (fl)) fun x92 => if x92 = 0 then (f_X4_tell_j127 K rc79 v0 v1 v2 ) else (bd (dv v0 1 (f_X4_sign K v0 (124 : Int32)) (fl)) fun _ => if v2 ≤ (9 : Int32) then (f_X4_tell_j116 K rc79 v0 v1 v2 ) else (bd (dv v0 1 (f_X4_sign K v0 (49 : Int32)) (fl)) fun _ => f_X4_tell_j116 K rc79 v0 v1 v2 )))
def f_X4_tell_l79 (K : Nat → Nat)  (v0 : Option Nat) (v1 : Int32) : Nat → Int32 → AM (Int32) := fun n => match n with
  | 0 => fun _ => fl
  | n + 1 => fun v2 => f_X4_tell_b79 K (f_X4_tell_l79 K v0 v1 n) v0 v1 v2
def f_X4_tell_j77 (K : Nat → Nat)  (v0 : Option Nat) (v1 : Int32)  : AM (Int32) :=
  f_X4_tell_l79 K  v0 v1 FU (0 : Int32)
def f_X4_tell_j68 (K : Nat → Nat) (rc26 : Int32 → AM (Int32)) (v0 : Option Nat) (v1 : Int32) (v2 : Int32) (t0 : Int32) (t1 : Option Nat) : AM (Int32) :=
  bd (dv t1 1 (f_X4_sign K t1 t0) (fl)) fun _ => rc26 (v2 + (1 : Int32))
def f_X4_tell_b26 (K : Nat → Nat) (rc26 : Int32 → AM (Int32)) (v0 : Option Nat) (v1 : Int32) (v2 : Int32)  : AM (Int32) :=
  if (8 : Int32) ≤ v2 then (f_X4_tell_j77 K  v0 v1 ) else (bd (gt pR 100 v0) fun x34 => bd (f_X4_of K v1) fun x38 => bd (ald pI 1001 x34 (x38 + v2)) fun x43 => if x43 = (9 : Int32) then (f_X4_tell_j68 K rc26 v0 v1 v2 (42 : Int32) v0) else (bd (gt pR 100 v0) fun x57 => bd (f_X4_of K v1) fun x61 => bd (ald pI 1001 x57 (x61 + v2)) fun x66 => f_X4_tell_j68 K rc26 v0 v1 v2 ((48 : Int32) + x66) v0))
def f_X4_tell_l26 (K : Nat → Nat)  (v0 : Option Nat) (v1 : Int32) : Nat → Int32 → AM (Int32) := fun n => match n with
  | 0 => fun _ => fl
  | n + 1 => fun v2 => f_X4_tell_b26 K (f_X4_tell_l26 K v0 v1 n) v0 v1 v2
def f_X4_tell (K : Nat → Nat) (v0 : Option Nat) (v1 : Int32) : AM (Int32) :=
  bd (pu K 107 v0 (.int (0 : Int32))) fun _ => bd (dv v0 1 (f_X4_isMat K v0 v1) (fl)) fun x7 => if x7 = 0 then (bd (dv v0 1 (f_X4_throwing K v0 (1 : Int32)) (fl)) fun x15 => rt x15) else (bd (pu K 116 v0 (.int (0 : Int32))) fun _ => f_X4_tell_l26 K  v0 v1 FU (0 : Int32))
def f_J7_checkIndex (K : Nat → Nat) (v0 : Int32) (v1 : Int32) : AM (Unit) :=
  bd (f_J18_checkIndex K v0 v1 (kO (K 7))) fun x5 => rt ()
def f_J5_charAt (K : Nat → Nat) (v0 : Option Nat) (v1 : Int32) : AM (Int32) :=
  bd (gt pI 3501 v0) fun x1 => bd (gt pR 3500 v0) fun x6 => bd (gt pI 3503 v0) fun x11 => bd (alen x6) fun x15 => bd (f_J7_checkIndex K v1 (if (x15 >>> (x1 &&& 31)) < x11 then (x15 >>> (x1 &&& 31)) else x11)) fun _ => if x1 = 0 then (bd (ald pI 1003 x6 v1) fun x35 => chk (fits .char (.int (((x35 &&& (255 : Int32)).toUInt32 % 65536).toInt32))) <| rt (((x35 &&& (255 : Int32)).toUInt32 % 65536).toInt32)) else fl
def f_J6_charAt (K : Nat → Nat) (v0 : Option Nat) (v1 : Int32) : AM (Int32) :=
  bd (dv v0 36 (f_J5_charAt K v0 v1) (fl)) fun x2 => chk (fits .char (.int x2)) <| rt x2
def f_X1_character (K : Nat → Nat) (v0 : Option Nat) (v1 : Int32) : AM (Int32) :=
  bd (gt pR 204 v0) fun x3 => bd (dv x3 36 (f_J6_length K x3) (fl)) fun x6 => bd (f_X1_isIn K v1 (0 : Int32) (x6 - (1 : Int32))) fun x11 => bd (f_X1_checkElement K x11) fun _ => bd (gt pR 204 v0) fun x18 => bd (dv x18 36 (f_J6_charAt K x18 v1) (fl)) fun x22 => chk (fits .char (.int x22)) <| rt x22
def f_X0_character (K : Nat → Nat) (v0 : Option Nat) (v1 : Int32) (v2 : Option Nat) : AM (Int32) :=
  tc (dv v0 2 (f_X1_character K v0 v1) (fl)) (fun q => ctc [20] [12, 13, 14, 16, 17, 18, 19, 21] q (rt (1 : Int32)) (th q)) fun x4 => bd (ast K 1004 v2 (0 : Int32) (.long (x4.toInt64))) fun _ => rt (0 : Int32)
def f_X4_character (K : Nat → Nat) (v0 : Option Nat) (v1 : Int32) : AM (Int32) :=
  bd (pu K 107 v0 (.int (0 : Int32))) fun _ => bd (gt pI 116 v0) fun x9 => bd (f_X4_in K (v1.toInt64) (0 : Int64) ((x9 - (1 : Int32)).toInt64)) fun x15 => if x15 = 0 then (bd (dv v0 1 (f_X4_throwing K v0 (1 : Int32)) (fl)) fun x23 => rt (32 : Int32)) else (bd (gt pR 115 v0) fun x31 => bd (ald pI 1001 x31 v1) fun x35 => chk (fits .char (.int ((x35.toUInt32 % 65536).toInt32))) <| rt ((x35.toUInt32 % 65536).toInt32))
def f_J40_init_2 (K : Nat → Nat) (v0 : Option Nat) : AM (Unit) :=
  nz v0 <| bd (f_J15_init K v0) fun _ => rt ()
def f_X1_checkCount (K : Nat → Nat) (v0 : Int32) : AM (Unit) :=
  if v0 = 0 then (bd (nwO K 16 6) fun x4 => bd (f_J40_init_2 K x4) fun _ => thr x4) else (rt ())
def f_X1_meanWeight (K : Nat → Nat) (v0 : Option Nat) : AM (UInt32) :=
  bd (gt pR 200 v0) fun x1 => bd (dv x1 3 (f_X2_many K x1 (some (K 121))) (fl)) fun x9 => bd (f_X1_checkCount K x9) fun _ => bd (gt pR 200 v0) fun x18 => bd (dv x18 3 (f_X2_weightOf K x18 (some (K 122))) (fl)) fun x26 => chk (decide ((FP.fdiv (FP.i2f x26) (FP.i2f x9)) &&& 0x7fffffff ≤ 0x7f800000)) <| rt (FP.fdiv (FP.i2f x26) (FP.i2f x9))
def f_X0_meanWeight (K : Nat → Nat) (v0 : Option Nat) (v1 : Option Nat) : AM (Int32) :=
  tc (dv v0 2 (f_X1_meanWeight K v0) (fl)) (fun q => ctc [16] [12, 13, 14, 17, 18, 19, 20, 21] q (rt (1 : Int32)) (th q)) fun x3 => chk (decide ((FP.f2d x3) &&& 0x7fffffffffffffff ≤ 0x7ff0000000000000)) <| bd (ast K 1005 v1 (0 : Int32) (.double (FP.f2d x3))) fun _ => rt (0 : Int32)
def f_X4_meanWeight_j85 (K : Nat → Nat)  (v0 : Option Nat) (v1 : Int32) (v2 : Int32)  : AM (UInt32) :=
  if v2 = 0 then (bd (dv v0 1 (f_X4_throwing K v0 (1 : Int32)) (fl)) fun x91 => rt FP.fconst0) else (chk (decide ((FP.fdiv (FP.i2f v1) (FP.i2f v2)) &&& 0x7fffffff ≤ 0x7f800000)) <| rt (FP.fdiv (FP.i2f v1) (FP.i2f v2)))
def f_X4_meanWeight_j77 (K : Nat → Nat) (rc11 : Int32 → Int32 → Int32 → AM (UInt32)) (v0 : Option Nat) (v1 : Int32) (v3 : Int32) (t0 : Int32) (t1 : Int32) : AM (UInt32) :=
  rc11 v1 (t1 + t0) (v3 + (1 : Int32))
def f_X4_meanWeight_j64 (K : Nat → Nat) (rc11 : Int32 → Int32 → Int32 → AM (UInt32)) (v0 : Option Nat) (v2 : Int32) (v3 : Int32) (v4 : Int32) (t0 : Int32) (t1 : Int32) : AM (UInt32) :=
  if v4 = 0 then (f_X4_meanWeight_j77 K rc11 v0 (t1 + t0) v3 (0 : Int32) v2) else (f_X4_meanWeight_j77 K rc11 v0 (t1 + t0) v3 (1 : Int32) v2)
def f_X4_meanWeight_j41 (K : Nat → Nat) (rc11 : Int32 → Int32 → Int32 → AM (UInt32)) (v0 : Option Nat) (v1 : Int32) (v2 : Int32) (v3 : Int32) (t0 : Int32) : AM (UInt32) :=
  if t0 = 0 then (f_X4_meanWeight_j64 K rc11 v0 v2 v3 t0 (0 : Int32) v1) else (bd (gt pR 100 v0) fun x50 => bd (f_X4_at0 K v3) fun x54 => bd (ald pI 1001 x50 (x54 + (0 : Int32))) fun x59 => f_X4_meanWeight_j64 K rc11 v0 v2 v3 t0 x59 v1)
def f_X4_meanWeight_b11 (K : Nat → Nat) (rc11 : Int32 → Int32 → Int32 → AM (UInt32)) (v0 : Option Nat) (v1 : Int32) (v2 : Int32) (v3 : Int32)  : AM (UInt32) :=
  bd (gt pR 100 v0) fun x13 => bd (ald pI 1001 x13 (2 : Int32)) fun x17 => if x17 ≤ v3 then (f_X4_meanWeight_j85 K  v0 v1 v2 ) else (bd (gt pR 100 v0) fun x22 => bd (f_X4_at0 K v3) fun x26 => bd (ald pI 1001 x22 (x26 + (2 : Int32))) fun x31 => if x31 = (2 : Int32) then (f_X4_meanWeight_j41 K rc11 v0 v1 v2 v3 (0 : Int32)) else (f_X4_meanWeight_j41 K rc11 v0 v1 v2 v3 (1 : Int32)))
def f_X4_meanWeight_l11 (K : Nat → Nat)  (v0 : Option Nat) : Nat → Int32 → Int32 → Int32 → AM (UInt32) := fun n => match n with
  | 0 => fun _ _ _ => fl
  | n + 1 => fun v1 v2 v3 => f_X4_meanWeight_b11 K (f_X4_meanWeight_l11 K v0 n) v0 v1 v2 v3
def f_X4_meanWeight (K : Nat → Nat) (v0 : Option Nat) : AM (UInt32) :=
  bd (pu K 107 v0 (.int (0 : Int32))) fun _ => f_X4_meanWeight_l11 K  v0 FU (0 : Int32) (0 : Int32) (0 : Int32)
def f_X2_brokenSprings_b10 (K : Nat → Nat) (rc10 : Int32 → AM (Int32)) (v1 : Int32) (v2 : Option Nat)  : AM (Int32) :=
  bd (dv v2 26 (f_J14_hasNext K v2) (fl)) fun x11 => if x11 = 0 then (rt v1) else (bd (dv v2 26 (f_J14_next K v2) (fl)) fun x20 => bd (ckc [4] x20) fun _ => bd (dv x20 4 (f_X7_broken K x20) (fl)) fun x31 => rc10 (v1 + x31))
def f_X2_brokenSprings_l10 (K : Nat → Nat)  (v2 : Option Nat) : Nat → Int32 → AM (Int32) := fun n => match n with
  | 0 => fun _ => fl
  | n + 1 => fun v1 => f_X2_brokenSprings_b10 K (f_X2_brokenSprings_l10 K v2 n) v1 v2
def f_X2_brokenSprings (K : Nat → Nat) (v0 : Option Nat) : AM (Int32) :=
  bd (gt pR 300 v0) fun x3 => bd (dv x3 25 (f_J2_iterator K x3) (fl)) fun x6 => f_X2_brokenSprings_l10 K  x6 FU (0 : Int32)
def f_X1_brokenShare (K : Nat → Nat) (v0 : Option Nat) : AM (UInt64) :=
  bd (gt pR 200 v0) fun x3 => bd (gt pR 300 x3) fun x6 => bd (dv x6 25 (f_J2_size K x6) (fl)) fun x9 => bd (f_X1_checkCount K ((8 : Int32) * x9)) fun _ => bd (gt pR 200 v0) fun x19 => bd (dv x19 3 (f_X2_brokenSprings K x19) (fl)) fun x22 => chk (decide ((FP.ddiv (FP.i2d x22) (FP.i2d ((8 : Int32) * x9))) &&& 0x7fffffffffffffff ≤ 0x7ff0000000000000)) <| rt (FP.ddiv (FP.i2d x22) (FP.i2d ((8 : Int32) * x9)))
def f_X0_brokenShare (K : Nat → Nat) (v0 : Option Nat) (v1 : Option Nat) : AM (Int32) :=
  tc (dv v0 2 (f_X1_brokenShare K v0) (fl)) (fun q => ctc [16] [12, 13, 14, 17, 18, 19, 20, 21] q (rt (1 : Int32)) (th q)) fun x3 => bd (ast K 1005 v1 (0 : Int32) (.double x3)) fun _ => rt (0 : Int32)
def f_X4_allBroken_b4 (K : Nat → Nat) (rc4 : Int32 → Int32 → AM (Int32)) (v0 : Option Nat) (v1 : Int32) (v2 : Int32)  : AM (Int32) :=
  bd (gt pR 100 v0) fun x6 => bd (ald pI 1001 x6 (1 : Int32)) fun x10 => if x10 ≤ v2 then (rt v1) else (bd (dv v0 1 (f_X4_broken K v0 v2) (fl)) fun x17 => rc4 (v1 + x17) (v2 + (1 : Int32)))
def f_X4_allBroken_l4 (K : Nat → Nat)  (v0 : Option Nat) : Nat → Int32 → Int32 → AM (Int32) := fun n => match n with
  | 0 => fun _ _ => fl
  | n + 1 => fun v1 v2 => f_X4_allBroken_b4 K (f_X4_allBroken_l4 K v0 n) v0 v1 v2
def f_X4_allBroken (K : Nat → Nat) (v0 : Option Nat) : AM (Int32) :=
  f_X4_allBroken_l4 K  v0 FU (0 : Int32) (0 : Int32)
def f_X4_brokenShare (K : Nat → Nat) (v0 : Option Nat) : AM (UInt64) :=
  bd (pu K 107 v0 (.int (0 : Int32))) fun _ => bd (gt pR 100 v0) fun x6 => bd (ald pI 1001 x6 (1 : Int32)) fun x10 => if x10 = 0 then (bd (dv v0 1 (f_X4_throwing K v0 (1 : Int32)) (fl)) fun x16 => rt FP.dconst0) else (bd (dv v0 1 (f_X4_allBroken K v0) (fl)) fun x23 => bd (gt pR 100 v0) fun x30 => bd (ald pI 1001 x30 (1 : Int32)) fun x34 => chk (decide ((FP.ddiv (FP.i2d x23) (FP.i2d ((8 : Int32) * x34))) &&& 0x7fffffffffffffff ≤ 0x7ff0000000000000)) <| rt (FP.ddiv (FP.i2d x23) (FP.i2d ((8 : Int32) * x34))))
def f_X2_openMats_j42 (K : Nat → Nat) (rc10 : Int32 → AM (Int32)) (v2 : Option Nat) (t0 : Int32) (t1 : Int32) : AM (Int32) :=
  rc10 (t1 + t0)
def f_X2_openMats_b10 (K : Nat → Nat) (rc10 : Int32 → AM (Int32)) (v1 : Int32) (v2 : Option Nat)  : AM (Int32) :=
  bd (dv v2 26 (f_J14_hasNext K v2) (fl)) fun x11 => if x11 = 0 then (rt v1) else (bd (dv v2 26 (f_J14_next K v2) (fl)) fun x20 => bd (ckc [4] x20) fun _ => bd (gt pI 401 x20) fun x31 => if x31 = 0 then (f_X2_openMats_j42 K rc10 v2 (1 : Int32) v1) else (f_X2_openMats_j42 K rc10 v2 (0 : Int32) v1))
def f_X2_openMats_l10 (K : Nat → Nat)  (v2 : Option Nat) : Nat → Int32 → AM (Int32) := fun n => match n with
  | 0 => fun _ => fl
  | n + 1 => fun v1 => f_X2_openMats_b10 K (f_X2_openMats_l10 K v2 n) v1 v2
def f_X2_openMats (K : Nat → Nat) (v0 : Option Nat) : AM (Int32) :=
  bd (gt pR 300 v0) fun x3 => bd (dv x3 25 (f_J2_iterator K x3) (fl)) fun x6 => f_X2_openMats_l10 K  x6 FU (0 : Int32)
def f_X1_account (K : Nat → Nat) (v0 : Option Nat) (v1 : Int32) : AM (Int32) :=
  bd (f_X1_isIn K v1 (0 : Int32) (19 : Int32)) fun x4 => bd (f_X1_checkArgument K x4) fun _ => if v1 = (0 : Int32) then (bd (gt pR 200 v0) fun x101 => bd (gt pR 300 x101) fun x104 => bd (dv x104 25 (f_J2_size K x104) (fl)) fun x107 => rt x107) else if v1 = (1 : Int32) then (bd (gt pR 200 v0) fun x114 => bd (dv x114 3 (f_X2_openMats K x114) (fl)) fun x117 => rt x117) else if v1 = (2 : Int32) then (bd (gt pR 200 v0) fun x124 => bd (dv x124 3 (f_X2_brokenSprings K x124) (fl)) fun x127 => rt x127) else if v1 = (3 : Int32) then (bd (gt pR 200 v0) fun x134 => bd (gt pR 301 x134) fun x137 => bd (dv x137 25 (f_J2_size K x137) (fl)) fun x140 => rt x140) else if v1 = (4 : Int32) then (bd (gt pR 200 v0) fun x147 => bd (nwL K 223 [.int v1]) fun x151 => bd (dv x147 3 (f_X2_many K x147 x151) (fl)) fun x156 => rt x156) else if v1 = (5 : Int32) then (bd (gt pR 200 v0) fun x147 => bd (nwL K 223 [.int v1]) fun x151 => bd (dv x147 3 (f_X2_many K x147 x151) (fl)) fun x156 => rt x156) else if v1 = (6 : Int32) then (bd (gt pR 200 v0) fun x147 => bd (nwL K 223 [.int v1]) fun x151 => bd (dv x147 3 (f_X2_many K x147 x151) (fl)) fun x156 => rt x156) else if v1 = (7 : Int32) then (bd (gt pR 200 v0) fun x163 => bd (dv x163 3 (f_X2_many K x163 (some (K 124))) (fl)) fun x171 => rt x171) else if v1 = (8 : Int32) then (bd (gt pR 200 v0) fun x178 => bd (gt pR 304 x178) fun x181 => bd (dv x181 7 (f_X3_ofSize K x181 (-1 : Int32)) (fl)) fun x185 => rt x185) else if v1 = (9 : Int32) then (bd (gt pR 200 v0) fun x192 => bd (gt pI 306 x192) fun x195 => rt x195) else if v1 = (10 : Int32) then (bd (gt pR 200 v0) fun x202 => bd (gt pI 307 x202) fun x205 => rt x205) else if v1 = (11 : Int32) then (bd (gt pR 200 v0) fun x212 => bd (gt pR 303 x212) fun x215 => bd (dv x215 25 (f_J2_size K x215) (fl)) fun x218 => rt x218) else if v1 = (12 : Int32) then (bd (gt pR 200 v0) fun x225 => bd (dv x225 3 (f_X2_partiesIn K x225 (v1 - (12 : Int32))) (fl)) fun x232 => rt x232) else if v1 = (13 : Int32) then (bd (gt pR 200 v0) fun x225 => bd (dv x225 3 (f_X2_partiesIn K x225 (v1 - (12 : Int32))) (fl)) fun x232 => rt x232) else if v1 = (14 : Int32) then (bd (gt pR 200 v0) fun x225 => bd (dv x225 3 (f_X2_partiesIn K x225 (v1 - (12 : Int32))) (fl)) fun x232 => rt x232) else if v1 = (15 : Int32) then (bd (gt pR 200 v0) fun x239 => bd (gt pI 308 x239) fun x242 => rt x242) else if v1 = (16 : Int32) then (bd (gt pR 200 v0) fun x249 => bd (gt pI 309 x249) fun x252 => rt x252) else if v1 = (17 : Int32) then (bd (gt pR 200 v0) fun x259 => bd (gt pI 310 x259) fun x262 => rt x262) else if v1 = (18 : Int32) then (bd (gt pI 205 v0) fun x269 => rt x269) else (bd (gt pR 202 v0) fun x276 => bd (dv x276 25 (f_J2_size K x276) (fl)) fun x279 => rt x279)
def f_X0_account (K : Nat → Nat) (v0 : Option Nat) (v1 : Int32) (v2 : Option Nat) : AM (Int32) :=
  tc (dv v0 2 (f_X1_account K v0 v1) (fl)) (fun q => ctc [17] [12, 13, 14, 16, 18, 19, 20, 21] q (rt (1 : Int32)) (th q)) fun x4 => bd (ast K 1004 v2 (0 : Int32) (.long (x4.toInt64))) fun _ => rt (0 : Int32)
def f_X4_openMats_b4 (K : Nat → Nat) (rc4 : Int32 → Int32 → AM (Int32)) (v0 : Option Nat) (v1 : Int32) (v2 : Int32)  : AM (Int32) :=
  bd (gt pR 100 v0) fun x6 => bd (ald pI 1001 x6 (1 : Int32)) fun x10 => if x10 ≤ v2 then (rt v1) else (bd (gt pR 100 v0) fun x16 => bd (f_X4_of K v2) fun x20 => bd (ald pI 1001 x16 (x20 + (8 : Int32))) fun x26 => rc4 (v1 + x26) (v2 + (1 : Int32)))
def f_X4_openMats_l4 (K : Nat → Nat)  (v0 : Option Nat) : Nat → Int32 → Int32 → AM (Int32) := fun n => match n with
  | 0 => fun _ _ => fl
  | n + 1 => fun v1 v2 => f_X4_openMats_b4 K (f_X4_openMats_l4 K v0 n) v0 v1 v2
def f_X4_openMats (K : Nat → Nat) (v0 : Option Nat) : AM (Int32) :=
  f_X4_openMats_l4 K  v0 FU (0 : Int32) (0 : Int32)
def f_X4_withSocks_j35 (K : Nat → Nat) (rc4 : Int32 → Int32 → AM (Int32)) (v0 : Option Nat) (v2 : Int32) (t0 : Int32) (t1 : Int32) : AM (Int32) :=
  rc4 (t1 + t0) (v2 + (1 : Int32))
def f_X4_withSocks_b4 (K : Nat → Nat) (rc4 : Int32 → Int32 → AM (Int32)) (v0 : Option Nat) (v1 : Int32) (v2 : Int32)  : AM (Int32) :=
  bd (gt pR 100 v0) fun x6 => bd (ald pI 1001 x6 (2 : Int32)) fun x10 => if x10 ≤ v2 then (rt v1) else (bd (gt pR 100 v0) fun x16 => bd (f_X4_at0 K v2) fun x20 => bd (ald pI 1001 x16 (x20 + (4 : Int32))) fun x25 => if x25 = (-1 : Int32) then (f_X4_withSocks_j35 K rc4 v0 v2 (0 : Int32) v1) else (f_X4_withSocks_j35 K rc4 v0 v2 (1 : Int32) v1))
def f_X4_withSocks_l4 (K : Nat → Nat)  (v0 : Option Nat) : Nat → Int32 → Int32 → AM (Int32) := fun n => match n with
  | 0 => fun _ _ => fl
  | n + 1 => fun v1 v2 => f_X4_withSocks_b4 K (f_X4_withSocks_l4 K v0 n) v0 v1 v2
def f_X4_withSocks (K : Nat → Nat) (v0 : Option Nat) : AM (Int32) :=
  f_X4_withSocks_l4 K  v0 FU (0 : Int32) (0 : Int32)
def f_X4_pairs_b4 (K : Nat → Nat) (rc4 : Int32 → Int32 → AM (Int32)) (v0 : Option Nat) (v1 : Int32) (v2 : Int32) (v3 : Int32)  : AM (Int32) :=
  if (5 : Int32) ≤ v3 then (rt v2) else (bd (dv v0 1 (f_X4_ofSize K v0 v1 v3) (fl)) fun x13 => rc4 (v2 + x13) (v3 + (1 : Int32)))
def f_X4_pairs_l4 (K : Nat → Nat)  (v0 : Option Nat) (v1 : Int32) : Nat → Int32 → Int32 → AM (Int32) := fun n => match n with
  | 0 => fun _ _ => fl
  | n + 1 => fun v2 v3 => f_X4_pairs_b4 K (f_X4_pairs_l4 K v0 v1 n) v0 v1 v2 v3
def f_X4_pairs (K : Nat → Nat) (v0 : Option Nat) (v1 : Int32) : AM (Int32) :=
  f_X4_pairs_l4 K  v0 v1 FU (0 : Int32) (0 : Int32)
def f_X4_account (K : Nat → Nat) (v0 : Option Nat) (v1 : Int32) : AM (Int32) :=
  bd (pu K 107 v0 (.int (0 : Int32))) fun _ => if v1 = (0 : Int32) then (bd (gt pR 100 v0) fun x101 => bd (ald pI 1001 x101 (1 : Int32)) fun x105 => rt x105) else if v1 = (1 : Int32) then (bd (dv v0 1 (f_X4_openMats K v0) (fl)) fun x108 => rt x108) else if v1 = (2 : Int32) then (bd (dv v0 1 (f_X4_allBroken K v0) (fl)) fun x113 => rt x113) else if v1 = (3 : Int32) then (bd (gt pR 100 v0) fun x118 => bd (ald pI 1001 x118 (2 : Int32)) fun x122 => rt x122) else if v1 = (4 : Int32) then (bd (dv v0 1 (f_X4_jumpersAt K v0 (v1 - (4 : Int32))) (fl)) fun x128 => rt x128) else if v1 = (5 : Int32) then (bd (dv v0 1 (f_X4_jumpersAt K v0 (v1 - (4 : Int32))) (fl)) fun x128 => rt x128) else if v1 = (6 : Int32) then (bd (dv v0 1 (f_X4_jumpersAt K v0 (v1 - (4 : Int32))) (fl)) fun x128 => rt x128) else if v1 = (7 : Int32) then (bd (dv v0 1 (f_X4_withSocks K v0) (fl)) fun x133 => rt x133) else if v1 = (8 : Int32) then (bd (dv v0 1 (f_X4_pairs K v0 (152 : Int32)) (fl)) fun x141 => rt x141) else if v1 = (9 : Int32) then (bd (dv v0 1 (f_X4_pairs K v0 (167 : Int32)) (fl)) fun x149 => rt x149) else if v1 = (10 : Int32) then (bd (gt pR 100 v0) fun x154 => bd (ald pI 1001 x154 (5 : Int32)) fun x158 => rt x158) else if v1 = (11 : Int32) then (bd (gt pR 100 v0) fun x161 => bd (ald pI 1001 x161 (3 : Int32)) fun x165 => rt x165) else if v1 = (12 : Int32) then (bd (dv v0 1 (f_X4_partiesAt K v0 (v1 - (12 : Int32))) (fl)) fun x172 => rt x172) else if v1 = (13 : Int32) then (bd (dv v0 1 (f_X4_partiesAt K v0 (v1 - (12 : Int32))) (fl)) fun x172 => rt x172) else if v1 = (14 : Int32) then (bd (dv v0 1 (f_X4_partiesAt K v0 (v1 - (12 : Int32))) (fl)) fun x172 => rt x172) else if v1 = (15 : Int32) then (bd (gt pR 100 v0) fun x177 => bd (ald pI 1001 x177 (6 : Int32)) fun x182 => rt x182) else if v1 = (16 : Int32) then (bd (gt pR 100 v0) fun x185 => bd (ald pI 1001 x185 (7 : Int32)) fun x190 => rt x190) else if v1 = (17 : Int32) then (bd (gt pR 100 v0) fun x193 => bd (ald pI 1001 x193 (0 : Int32)) fun x197 => rt x197) else if v1 = (18 : Int32) then (bd (gt pI 113 v0) fun x200 => rt x200) else if v1 = (19 : Int32) then (bd (gt pI 106 v0) fun x205 => rt x205) else (bd (dv v0 1 (f_X4_throwing K v0 (1 : Int32)) (fl)) fun x211 => rt x211)
def f_J38_init_2 (K : Nat → Nat) (v0 : Option Nat) : AM (Unit) :=
  nz v0 <| bd (f_J15_init K v0) fun _ => rt ()
def f_X1_checkState (K : Nat → Nat) (v0 : Int32) : AM (Unit) :=
  if v0 = 0 then (bd (nwO K 18 6) fun x4 => bd (f_J38_init_2 K x4) fun _ => thr x4) else (rt ())
def f_X1_append_j25 (K : Nat → Nat)  (v0 : Option Nat) (v1 : Int32) (t0 : Int32) : AM (Int32) :=
  bd (f_X1_checkState K t0) fun _ => bd (gt pR 203 v0) fun x29 => bd (gt pI 205 v0) fun x33 => chk (fits .char (.int v1)) <| bd (ast K 1002 x29 x33 (.int v1)) fun _ => bd (gt pI 205 v0) fun x40 => bd (pu K 205 v0 (.int (x40 + (1 : Int32)))) fun _ => bd (gt pI 205 v0) fun x49 => rt x49
def f_X1_append (K : Nat → Nat) (v0 : Option Nat) (v1 : Int32) : AM (Int32) :=
  bd (f_X1_isIn K v1 (32 : Int32) (126 : Int32)) fun x5 => bd (f_X1_checkArgument K x5) fun _ => bd (gt pI 205 v0) fun x12 => if (60 : Int32) ≤ x12 then (f_X1_append_j25 K  v0 v1 (0 : Int32)) else (f_X1_append_j25 K  v0 v1 (1 : Int32))
def f_X0_append (K : Nat → Nat) (v0 : Option Nat) (v1 : Int32) (v2 : Option Nat) : AM (Int32) :=
  tc (dv v0 2 (f_X1_append K v0 v1) (fl)) (fun q => ctc [17] [12, 13, 14, 16, 18, 19, 20, 21] q (rt (1 : Int32)) (ctc [18] [12, 13, 14, 16, 17, 19, 20, 21] q (rt (2 : Int32)) (th q))) fun x4 => bd (ast K 1004 v2 (0 : Int32) (.long (x4.toInt64))) fun _ => rt (0 : Int32)
def f_X4_append (K : Nat → Nat) (v0 : Option Nat) (v1 : Int32) : AM (Int32) :=
  bd (pu K 107 v0 (.int (0 : Int32))) fun _ => bd (f_X4_in K (v1.toInt64) (32 : Int64) (126 : Int64)) fun x13 => if x13 = 0 then (bd (dv v0 1 (f_X4_throwing K v0 (1 : Int32)) (fl)) fun x21 => rt x21) else (bd (gt pI 113 v0) fun x26 => if x26 = (60 : Int32) then (bd (dv v0 1 (f_X4_throwing K v0 (2 : Int32)) (fl)) fun x36 => rt x36) else (bd (gt pR 112 v0) fun x41 => bd (gt pI 113 v0) fun x45 => bd (ast K 1001 x41 x45 (.int v1)) fun _ => bd (gt pI 113 v0) fun x52 => bd (pu K 113 v0 (.int (x52 + (1 : Int32)))) fun _ => bd (gt pI 113 v0) fun x61 => rt x61))
def f_X11_init (K : Nat → Nat) (v0 : Option Nat) (v1 : Option Nat) (v2 : Int32) : AM (Unit) :=
  nz v0 <| bd (nwO K 25 3) fun x5 => bd (f_J2_init K x5) fun _ => bd (pu K 902 v0 (va_rf x5)) fun _ => bd (pu K 900 v0 (va_rf v1)) fun _ => bd (pu K 901 v0 (.int v2)) fun _ => rt ()
def f_J17_requireNonNull (K : Nat → Nat) (v0 : Option Nat) : AM (Option Nat) :=
  if v0 = none then fl else (rt v0)
def f_J42_init (K : Nat → Nat) (v0 : Option Nat) : AM (Unit) :=
  nz v0 <| bd (f_J0_init K v0) fun _ => rt ()
def f_J43_init (K : Nat → Nat) (v0 : Option Nat) : AM (Unit) :=
  nz v0 <| bd (f_J42_init K v0) fun _ => rt ()
def f_J45_init (K : Nat → Nat) (v0 : Option Nat) (v1 : Option Nat) (v2 : Int32) : AM (Unit) :=
  nz v0 <| bd (f_J43_init K v0) fun _ => bd (pu K 3700 v0 (va_rf v1)) fun _ => chk (fits .boolean (.int v2)) <| bd (pu K 3701 v0 (.int v2)) fun _ => rt ()
def f_J19_listFromTrustedArray_j52 (K : Nat → Nat)  (v0 : Option Nat)  : AM (Option Nat) :=
  bd (alen v0) fun x53 => if x53 = (0 : Int32) then fl else if x53 = (1 : Int32) then fl else if x53 = (2 : Int32) then fl else (bd (nwO K 37 2) fun x115 => bd (f_J45_init K x115 v0 (0 : Int32)) fun _ => rt x115)
def f_J19_listFromTrustedArray_b30 (K : Nat → Nat) (rc30 : Int32 → AM (Option Nat)) (v0 : Option Nat) (v1 : Option Nat) (v2 : Int32) (v3 : Int32)  : AM (Option Nat) :=
  if v2 ≤ v3 then (f_J19_listFromTrustedArray_j52 K  v0 ) else (bd (ald pR 1006 v1 v3) fun x37 => bd (f_J17_requireNonNull K x37) fun x42 => rc30 (v3 + (1 : Int32)))
def f_J19_listFromTrustedArray_l30 (K : Nat → Nat)  (v0 : Option Nat) (v1 : Option Nat) (v2 : Int32) : Nat → Int32 → AM (Option Nat) := fun n => match n with
  | 0 => fun _ => fl
  | n + 1 => fun v3 => f_J19_listFromTrustedArray_b30 K (f_J19_listFromTrustedArray_l30 K v0 v1 v2 n) v0 v1 v2 v3
def f_J19_listFromTrustedArray_j23 (K : Nat → Nat)  (v0 : Option Nat)  : AM (Option Nat) :=
  bd (alen v0) fun x26 => f_J19_listFromTrustedArray_l30 K  v0 v0 x26 FU (0 : Int32)
def f_J19_listFromTrustedArray (K : Nat → Nat) (v0 : Option Nat) : AM (Option Nat) :=
  if (1 : Int32) = 0 then fl else (f_J19_listFromTrustedArray_j23 K  v0 )
def f_J41_of (K : Nat → Nat) (v0 : Option Nat) (v1 : Option Nat) (v2 : Option Nat) (v3 : Option Nat) (v4 : Option Nat) (v5 : Option Nat) (v6 : Option Nat) : AM (Option Nat) :=
  bd (nwA K 1006 .null (7 : Int32)) fun x2 => bd (asr K 1006 [1, 2, 3, 4, 5, 6, 7, 8, 9, 10, 12, 13, 14, 15, 16, 17, 18, 19, 20, 21, 22, 23, 25, 26, 28, 29, 30, 32, 33, 34, 36, 37, 38] x2 (0 : Int32) v0) fun _ => bd (asr K 1006 [1, 2, 3, 4, 5, 6, 7, 8, 9, 10, 12, 13, 14, 15, 16, 17, 18, 19, 20, 21, 22, 23, 25, 26, 28, 29, 30, 32, 33, 34, 36, 37, 38] x2 (1 : Int32) v1) fun _ => bd (asr K 1006 [1, 2, 3, 4, 5, 6, 7, 8, 9, 10, 12, 13, 14, 15, 16, 17, 18, 19, 20, 21, 22, 23, 25, 26, 28, 29, 30, 32, 33, 34, 36, 37, 38] x2 (2 : Int32) v2) fun _ => bd (asr K 1006 [1, 2, 3, 4, 5, 6, 7, 8, 9, 10, 12, 13, 14, 15, 16, 17, 18, 19, 20, 21, 22, 23, 25, 26, 28, 29, 30, 32, 33, 34, 36, 37, 38] x2 (3 : Int32) v3) fun _ => bd (asr K 1006 [1, 2, 3, 4, 5, 6, 7, 8, 9, 10, 12, 13, 14, 15, 16, 17, 18, 19, 20, 21, 22, 23, 25, 26, 28, 29, 30, 32, 33, 34, 36, 37, 38] x2 (4 : Int32) v4) fun _ => bd (asr K 1006 [1, 2, 3, 4, 5, 6, 7, 8, 9, 10, 12, 13, 14, 15, 16, 17, 18, 19, 20, 21, 22, 23, 25, 26, 28, 29, 30, 32, 33, 34, 36, 37, 38] x2 (5 : Int32) v5) fun _ => bd (asr K 1006 [1, 2, 3, 4, 5, 6, 7, 8, 9, 10, 12, 13, 14, 15, 16, 17, 18, 19, 20, 21, 22, 23, 25, 26, 28, 29, 30, 32, 33, 34, 36, 37, 38] x2 (6 : Int32) v6) fun _ => bd (f_J19_listFromTrustedArray K x2) fun x37 => rt x37
def f_J5_getValue (K : Nat → Nat) (v0 : Option Nat) : AM (Option Nat) :=
  bd (gt pR 3500 v0) fun x1 => rt x1
def f_J13_checkLength (K : Nat → Nat) (v0 : Int32) (v1 : Int32) : AM (Unit) :=
  if v0 ≤ v1 then (rt ()) else (bd (nwO K 17 6) fun x5 => bd (nwO K 36 4) fun x9 => bd (f_J6_init K x9) fun _ => bd (dv x9 36 (f_J6_append_2 K x9 v0) (fl)) fun x17 => fl)
def f_J13_copyOfRangeByte (K : Nat → Nat) (v0 : Option Nat) (v1 : Int32) (v2 : Int32) : AM (Option Nat) :=
  bd (f_J13_checkLength K v1 v2) fun _ => bd (nwA K 1003 (.int 0) (v2 - v1)) fun x10 => bd (alen v0) fun x20 => bd (acp K [1003] v0 v1 x10 (0 : Int32) (if (v2 - v1) < (x20 - v1) then (v2 - v1) else (x20 - v1))) fun _ => rt x10
def f_J13_copyOfRange_j10 (K : Nat → Nat)  (v0 : Option Nat) (v1 : Int32) (v2 : Int32)  : AM (Option Nat) :=
  bd (f_J13_copyOfRangeByte K v0 v1 v2) fun x13 => rt x13
def f_J13_copyOfRange (K : Nat → Nat) (v0 : Option Nat) (v1 : Int32) (v2 : Int32) : AM (Option Nat) :=
  if v1 = 0 then (bd (alen v0) fun x6 => if v2 = x6 then fl else (f_J13_copyOfRange_j10 K  v0 v1 v2 )) else (f_J13_copyOfRange_j10 K  v0 v1 v2 )
def f_J7_init_2_j79 (K : Nat → Nat)  (v0 : Option Nat) (v3 : Option Nat) (v4 : Int32)  : AM (Unit) :=
  bd (pu K 3401 v0 (.int (1 : Int32))) fun _ => bd (f_J13_copyOfRange K v3 (0 : Int32) (v4 <<< ((1 : Int32) &&& 31))) fun x91 => bd (pu K 3400 v0 (va_rf x91)) fun _ => rt ()
def f_J7_init_2 (K : Nat → Nat) (v0 : Option Nat) (v1 : Option Nat) (v2 : Option Nat) : AM (Unit) :=
  nz v0 <| bd (dv v1 36 (f_J5_getValue K v1) (fl)) fun x5 => bd (dv v1 36 (f_J6_length K v1) (fl)) fun x10 => bd (dv v1 36 (f_J5_isLatin1 K v1) (fl)) fun x16 => if x16 = 0 then (if (1 : Int32) = 0 then (f_J7_init_2_j79 K  v0 x5 x10 ) else (bd (gt pI 3502 v1) fun x48 => if x48 = 0 then (f_J7_init_2_j79 K  v0 x5 x10 ) else fl)) else (bd (pu K 3401 v0 (.int (0 : Int32))) fun _ => bd (f_J13_copyOfRange K x5 (0 : Int32) x10) fun x32 => bd (pu K 3400 v0 (va_rf x32)) fun _ => rt ())
def f_J7_init (K : Nat → Nat) (v0 : Option Nat) (v1 : Option Nat) : AM (Unit) :=
  nz v0 <| bd (f_J7_init_2 K v0 v1 none) fun _ => rt ()
def f_J6_toString (K : Nat → Nat) (v0 : Option Nat) : AM (Option Nat) :=
  bd (nwO K 34 4) fun x0 => bd (f_J7_init K x0 v0) fun _ => rt x0
def f_J17_equals_j17 (K : Nat → Nat)    : AM (Int32) :=
  rt (1 : Int32)
def f_J17_equals (K : Nat → Nat) (v0 : Option Nat) (v1 : Option Nat) : AM (Int32) :=
  if v0 = v1 then (f_J17_equals_j17 K   ) else (if v0 = none then (rt (0 : Int32)) else (bd (dv v0 8 (f_X10_equals K v0 v1) (dv v0 33 (f_J23_equals K v0 v1) (dv v0 34 (f_J7_equals K v0 v1) (fl)))) fun x11 => if x11 = 0 then (rt (0 : Int32)) else (f_J17_equals_j17 K   )))
def f_J45_indexOf_b26 (K : Nat → Nat) (rc26 : Int32 → AM (Int32)) (v1 : Option Nat) (v2 : Option Nat) (v3 : Int32)  : AM (Int32) :=
  bd (alen v2) fun x28 => if x28 ≤ v3 then (rt (-1 : Int32)) else (bd (ald pR 1006 v2 v3) fun x35 => bd (f_J17_equals K v1 x35) fun x36 => if x36 = 0 then (rc26 (v3 + (1 : Int32))) else (rt v3))
def f_J45_indexOf_l26 (K : Nat → Nat)  (v1 : Option Nat) (v2 : Option Nat) : Nat → Int32 → AM (Int32) := fun n => match n with
  | 0 => fun _ => fl
  | n + 1 => fun v3 => f_J45_indexOf_b26 K (f_J45_indexOf_l26 K v1 v2 n) v1 v2 v3
def f_J45_indexOf_j19 (K : Nat → Nat)  (v0 : Option Nat) (v1 : Option Nat)  : AM (Int32) :=
  bd (gt pR 3700 v0) fun x20 => f_J45_indexOf_l26 K  v1 x20 FU (0 : Int32)
def f_J45_indexOf (K : Nat → Nat) (v0 : Option Nat) (v1 : Option Nat) : AM (Int32) :=
  bd (gt pI 3701 v0) fun x1 => if x1 = 0 then (if v1 = none then fl else (f_J45_indexOf_j19 K  v0 v1 )) else (f_J45_indexOf_j19 K  v0 v1 )
def f_J43_contains (K : Nat → Nat) (v0 : Option Nat) (v1 : Option Nat) : AM (Int32) :=
  bd (dv v0 37 (f_J45_indexOf K v0 v1) (fl)) fun x2 => if x2 < 0 then (rt (0 : Int32)) else (rt (1 : Int32))
def f_X11_peek (K : Nat → Nat) (v0 : Option Nat) : AM (Int32) :=
  bd (gt pI 903 v0) fun x1 => bd (gt pI 901 v0) fun x5 => if x5 ≤ x1 then (rt (0 : Int32)) else (bd (gt pR 900 v0) fun x12 => bd (gt pI 903 v0) fun x16 => bd (ald pI 1002 x12 x16) fun x19 => chk (fits .char (.int x19)) <| rt x19)
def f_J45_size (K : Nat → Nat) (v0 : Option Nat) : AM (Int32) :=
  bd (gt pR 3700 v0) fun x1 => bd (alen x1) fun x4 => rt x4
def f_J27_init (K : Nat → Nat) (v0 : Option Nat) (v1 : Option Nat) (v2 : Int32) : AM (Unit) :=
  nz v0 <| bd (pu K 3800 v0 (va_rf v1)) fun _ => bd (pu K 3801 v0 (.int v2)) fun _ => bd (pu K 3803 v0 (.int (0 : Int32))) fun _ => bd (pu K 3802 v0 (.int (0 : Int32))) fun _ => rt ()
def f_J43_iterator (K : Nat → Nat) (v0 : Option Nat) : AM (Option Nat) :=
  bd (nwO K 38 4) fun x0 => bd (dv v0 37 (f_J45_size K v0) (fl)) fun x6 => bd (f_J27_init K x0 v0 x6) fun _ => rt x0
def f_J27_hasNext (K : Nat → Nat) (v0 : Option Nat) : AM (Int32) :=
  bd (gt pI 3803 v0) fun x1 => bd (gt pI 3801 v0) fun x5 => if x1 = x5 then (rt (0 : Int32)) else (rt (1 : Int32))
def f_J45_get (K : Nat → Nat) (v0 : Option Nat) (v1 : Int32) : AM (Option Nat) :=
  bd (gt pR 3700 v0) fun x1 => bd (ald pR 1006 x1 v1) fun x5 => rt x5
def f_J27_next (K : Nat → Nat) (v0 : Option Nat) : AM (Option Nat) :=
  bd (gt pI 3803 v0) fun x1 => bd (gt pR 3800 v0) fun x6 => tc (dv x6 37 (f_J45_get K x6 x1) (fl)) (fun q => fl) fun x10 => bd (pu K 3803 v0 (.int (x1 + (1 : Int32)))) fun _ => rt x10
def f_J11_mismatch_2_b70 (K : Nat → Nat) (rc70 : Int32 → AM (Int32)) (v0 : Option Nat) (v1 : Int32) (v2 : Option Nat) (v3 : Int32) (v4 : Int32) (v5 : Int32)  : AM (Int32) :=
  if v4 ≤ v5 then (rt (-1 : Int32)) else (bd (ald pI 1003 v0 (v1 + v5)) fun x82 => bd (ald pI 1003 v2 (v3 + v5)) fun x88 => if x82 = x88 then (rc70 (v5 + (1 : Int32))) else (rt v5))
def f_J11_mismatch_2_l70 (K : Nat → Nat)  (v0 : Option Nat) (v1 : Int32) (v2 : Option Nat) (v3 : Int32) (v4 : Int32) : Nat → Int32 → AM (Int32) := fun n => match n with
  | 0 => fun _ => fl
  | n + 1 => fun v5 => f_J11_mismatch_2_b70 K (f_J11_mismatch_2_l70 K v0 v1 v2 v3 v4 n) v0 v1 v2 v3 v4 v5
def f_J11_mismatch_2 (K : Nat → Nat) (v0 : Option Nat) (v1 : Int32) (v2 : Option Nat) (v3 : Int32) (v4 : Int32) : AM (Int32) :=
  if v4 ≤ (7 : Int32) then (f_J11_mismatch_2_l70 K  v0 v1 v2 v3 v4 FU (0 : Int32)) else (bd (ald pI 1003 v0 v1) fun x12 => bd (ald pI 1003 v2 v3) fun x15 => if x12 = x15 then fl else (rt (0 : Int32)))
def f_J7_startsWith_2_j63 (K : Nat → Nat)  (v2 : Int32) (v3 : Option Nat) (v4 : Option Nat) (v6 : Int32)  : AM (Int32) :=
  bd (f_J11_mismatch_2 K v3 v2 v4 (0 : Int32) v6) fun x70 => if 0 ≤ x70 then (rt (0 : Int32)) else (rt (1 : Int32))
def f_J7_startsWith_2_b89 (K : Nat → Nat) (rc89 : Int32 → Int32 → AM (Int32)) (v2 : Int32) (v3 : Option Nat) (v4 : Option Nat) (v5 : Int32) (v6 : Int32)  : AM (Int32) :=
  if v6 ≤ v5 then (rt (1 : Int32)) else fl
def f_J7_startsWith_2_l89 (K : Nat → Nat)  (v3 : Option Nat) (v4 : Option Nat) (v6 : Int32) : Nat → Int32 → Int32 → AM (Int32) := fun n => match n with
  | 0 => fun _ _ => fl
  | n + 1 => fun v2 v5 => f_J7_startsWith_2_b89 K (f_J7_startsWith_2_l89 K v3 v4 v6 n) v2 v3 v4 v5 v6
def f_J7_startsWith_2 (K : Nat → Nat) (v0 : Option Nat) (v1 : Option Nat) (v2 : Int32) : AM (Int32) :=
  if v2 < 0 then (rt (0 : Int32)) else (bd (dv v0 34 (f_J7_length K v0) (fl)) fun x6 => bd (dv v1 34 (f_J7_length K v1) (fl)) fun x10 => if v2 ≤ (x6 - x10) then (bd (gt pR 3400 v0) fun x20 => bd (gt pR 3400 v1) fun x25 => bd (alen x25) fun x35 => bd (dv v0 34 (f_J7_coder K v0) (fl)) fun x39 => bd (dv v1 34 (f_J7_coder K v1) (fl)) fun x47 => if x39 = x47 then (if x39 = (1 : Int32) then (f_J7_startsWith_2_j63 K  (v2 <<< ((1 : Int32) &&& 31)) x20 x25 x35 ) else (f_J7_startsWith_2_j63 K  v2 x20 x25 x35 )) else (if x39 = 0 then (rt (0 : Int32)) else (f_J7_startsWith_2_l89 K  x20 x25 x35 FU v2 (0 : Int32)))) else (rt (0 : Int32)))
def f_J7_startsWith (K : Nat → Nat) (v0 : Option Nat) (v1 : Option Nat) : AM (Int32) :=
  bd (dv v0 34 (f_J7_startsWith_2 K v0 v1 (0 : Int32)) (fl)) fun x3 => chk (fits .boolean (.int x3)) <| rt x3
def f_X11_isBegun_b7 (K : Nat → Nat) (rc7 : AM (Int32)) (v1 : Option Nat) (v2 : Option Nat)  : AM (Int32) :=
  bd (dv v2 38 (f_J27_hasNext K v2) (fl)) fun x8 => if x8 = 0 then (rt (0 : Int32)) else (bd (dv v2 38 (f_J27_next K v2) (fl)) fun x17 => bd (ckc [34] x17) fun _ => bd (dv x17 34 (f_J7_startsWith K x17 v1) (fl)) fun x28 => if x28 = 0 then rc7 else (rt (1 : Int32)))
def f_X11_isBegun_l7 (K : Nat → Nat)  (v1 : Option Nat) (v2 : Option Nat) : Nat → AM (Int32) := fun n => match n with
  | 0 => fl
  | n + 1 => f_X11_isBegun_b7 K (f_X11_isBegun_l7 K v1 v2 n) v1 v2
def f_X11_isBegun (K : Nat → Nat) (v0 : Option Nat) (v1 : Option Nat) : AM (Int32) :=
  bd (dv v0 37 (f_J43_iterator K v0) (fl)) fun x1 => f_X11_isBegun_l7 K  v1 x1 FU 
def f_X12_init (K : Nat → Nat) (v0 : Option Nat) (v1 : Int32) : AM (Unit) :=
  nz v0 <| bd (f_J10_init K v0) fun _ => bd (pu K 1400 v0 (.int v1)) fun _ => rt ()
def f_X11_word_j57 (K : Nat → Nat)  (v0 : Option Nat)  : AM (Option Nat) :=
  bd (nwO K 14 7) fun x57 => bd (gt pI 903 v0) fun x62 => bd (f_X12_init K x57 x62) fun _ => thr x57
def f_X11_word_j82 (K : Nat → Nat)  (v2 : Option Nat)  : AM (Option Nat) :=
  bd (dv v2 36 (f_J6_toString K v2) (fl)) fun x83 => rt x83
def f_X11_word_b26 (K : Nat → Nat) (rc26 : AM (Option Nat)) (v0 : Option Nat) (v1 : Option Nat) (v2 : Option Nat)  : AM (Option Nat) :=
  bd (dv v2 36 (f_J6_toString K v2) (fl)) fun x28 => bd (dv v1 37 (f_J43_contains K v1 x28) (fl)) fun x31 => if x31 = 0 then (bd (dv v0 9 (f_X11_peek K v0) (fl)) fun x42 => bd (dv v2 36 (f_J6_append_3 K v2 x42) (fl)) fun x45 => bd (dv x45 36 (f_J6_toString K x45) (fl)) fun x48 => bd (f_X11_isBegun K v1 x48) fun x51 => if x51 = 0 then (f_X11_word_j57 K  v0 ) else (bd (gt pI 903 v0) fun x71 => bd (pu K 903 v0 (.int (x71 + (1 : Int32)))) fun _ => rc26)) else (f_X11_word_j82 K  v2 )
def f_X11_word_l26 (K : Nat → Nat)  (v0 : Option Nat) (v1 : Option Nat) (v2 : Option Nat) : Nat → AM (Option Nat) := fun n => match n with
  | 0 => fl
  | n + 1 => f_X11_word_b26 K (f_X11_word_l26 K v0 v1 v2 n) v0 v1 v2
def f_X11_word (K : Nat → Nat) (v0 : Option Nat) : AM (Option Nat) :=
  bd (f_J41_of K (some (K 14)) (some (K 15)) (some (K 16)) (some (K 17)) (some (K 18)) (some (K 19)) (some (K 20))) fun x14 => bd (nwO K 36 4) fun x18 => bd (f_J6_init K x18) fun _ => f_X11_word_l26 K  v0 x14 x18 FU 
def f_X11_next (K : Nat → Nat) (v0 : Option Nat) (v1 : Int32) (v2 : Int32) : AM (Int32) :=
  bd (dv v0 9 (f_X11_peek K v0) (fl)) fun x1 => bd (f_X1_isIn K x1 v1 v2) fun x6 => if x6 = 0 then (bd (nwO K 14 7) fun x12 => bd (gt pI 903 v0) fun x17 => bd (f_X12_init K x12 x17) fun _ => thr x12) else (bd (gt pI 903 v0) fun x26 => bd (pu K 903 v0 (.int (x26 + (1 : Int32)))) fun _ => bd (gt pR 900 v0) fun x35 => bd (gt pI 903 v0) fun x39 => bd (ald pI 1002 x35 (x39 - (1 : Int32))) fun x44 => rt (x44 - (48 : Int32)))
def f_X11_number (K : Nat → Nat) (v0 : Option Nat) : AM (Int32) :=
  bd (dv v0 9 (f_X11_next K v0 (32 : Int32) (32 : Int32)) (fl)) fun x5 => bd (dv v0 9 (f_X11_next K v0 (48 : Int32) (57 : Int32)) (fl)) fun x14 => bd (dv v0 9 (f_X11_peek K v0) (fl)) fun x19 => bd (f_X1_isIn K x19 (48 : Int32) (57 : Int32)) fun x26 => if x26 = 0 then (rt x14) else (bd (dv v0 9 (f_X11_next K v0 (48 : Int32) (57 : Int32)) (fl)) fun x41 => rt (((10 : Int32) * x14) + x41))
def f_X13_init (K : Nat → Nat) (v0 : Option Nat) (v1 : Option Nat) (v2 : Int32) (v3 : Int32) : AM (Unit) :=
  nz v0 <| bd (pu K 1000 v0 (va_rf v1)) fun _ => bd (pu K 1001 v0 (.int v2)) fun _ => bd (pu K 1002 v0 (.int v3)) fun _ => rt ()
def f_X11_command_j94 (K : Nat → Nat)  (v0 : Option Nat) (v1 : Option Nat) (v2 : Int32) (v4 : Int32)  : AM (Option Nat) :=
  if v4 = (0 : Int32) then (bd (nwO K 10 3) fun x124 => bd (f_X13_init K x124 v1 v2 (0 : Int32)) fun _ => rt x124) else if v4 = (1 : Int32) then (bd (nwO K 10 3) fun x124 => bd (f_X13_init K x124 v1 v2 (0 : Int32)) fun _ => rt x124) else if v4 = (2 : Int32) then (bd (nwO K 10 3) fun x124 => bd (f_X13_init K x124 v1 v2 (0 : Int32)) fun _ => rt x124) else (bd (nwO K 10 3) fun x135 => bd (dv v0 9 (f_X11_number K v0) (fl)) fun x142 => bd (f_X13_init K x135 v1 v2 x142) fun _ => rt x135)
def f_X11_command (K : Nat → Nat) (v0 : Option Nat) : AM (Option Nat) :=
  bd (dv v0 9 (f_X11_word K v0) (fl)) fun x1 => bd (dv v0 9 (f_X11_number K v0) (fl)) fun x6 => bd (dv x1 34 (f_J7_hashCode K x1) (fl)) fun x16 => if x16 = (3089570 : Int32) then (bd (dv x1 34 (f_J7_equals K x1 (some (K 15))) (fl)) fun x55 => if x55 = 0 then (f_X11_command_j94 K  v0 x1 x6 (-1 : Int32) ) else (f_X11_command_j94 K  v0 x1 x6 (0 : Int32) )) else if x16 = (3417674 : Int32) then (bd (dv x1 34 (f_J7_equals K x1 (some (K 19))) (fl)) fun x70 => if x70 = 0 then (f_X11_command_j94 K  v0 x1 x6 (-1 : Int32) ) else (f_X11_command_j94 K  v0 x1 x6 (1 : Int32) )) else if x16 = (3433489 : Int32) then (bd (dv x1 34 (f_J7_equals K x1 (some (K 20))) (fl)) fun x85 => if x85 = 0 then (f_X11_command_j94 K  v0 x1 x6 (-1 : Int32) ) else (f_X11_command_j94 K  v0 x1 x6 (2 : Int32) )) else (f_X11_command_j94 K  v0 x1 x6 (-1 : Int32) )
def f_X11_all_b12 (K : Nat → Nat) (rc12 : AM (Unit)) (v0 : Option Nat)  : AM (Unit) :=
  bd (gt pI 903 v0) fun x13 => bd (gt pI 901 v0) fun x17 => if x17 ≤ x13 then (rt ()) else (bd (dv v0 9 (f_X11_next K v0 (59 : Int32) (59 : Int32)) (fl)) fun x28 => bd (gt pR 902 v0) fun x33 => bd (dv v0 9 (f_X11_command K v0) (fl)) fun x37 => bd (dv x33 25 (f_J2_add K x33 x37) (fl)) fun x40 => rc12)
def f_X11_all_l12 (K : Nat → Nat)  (v0 : Option Nat) : Nat → AM (Unit) := fun n => match n with
  | 0 => fl
  | n + 1 => f_X11_all_b12 K (f_X11_all_l12 K v0 n) v0
def f_X11_all (K : Nat → Nat) (v0 : Option Nat) : AM (Unit) :=
  bd (gt pR 902 v0) fun x1 => bd (dv v0 9 (f_X11_command K v0) (fl)) fun x5 => bd (dv x1 25 (f_J2_add K x1 x5) (fl)) fun x8 => f_X11_all_l12 K  v0 FU 
def f_X1_read_j52 (K : Nat → Nat)  (v0 : Option Nat) (t0 : Option Nat) : AM (Int32) :=
  bd (pu K 205 v0 (.int (0 : Int32))) fun _ => thr t0
def f_X1_read_j38 (K : Nat → Nat)  (v0 : Option Nat) (t0 : Option Nat) : AM (Int32) :=
  bd (pu K 206 v0 (va_rf t0)) fun _ => bd (nwO K 17 6) fun x44 => tc (f_J24_init_2 K x44) (fun q => f_X1_read_j52 K  v0 (some q)) fun _ => thc x44 fun q => (f_X1_read_j52 K  v0 (some q))
def f_X1_read (K : Nat → Nat) (v0 : Option Nat) : AM (Int32) :=
  bd (nwO K 9 4) fun x0 => bd (gt pR 203 v0) fun x5 => bd (gt pI 205 v0) fun x9 => bd (f_X11_init K x0 x5 x9) fun _ => tc (dv x0 9 (f_X11_all K x0) (fl)) (fun q => ctc [14] [12, 13, 16, 17, 18, 19, 20, 21] q (f_X1_read_j38 K  v0 (some q)) (f_X1_read_j52 K  v0 (some q))) fun _ => bd (nwL K 225 [va_rf x0]) fun x22 => tc (dv v0 2 (f_X1_does K v0 x22) (fl)) (fun q => ctc [14] [12, 13, 16, 17, 18, 19, 20, 21] q (f_X1_read_j38 K  v0 (some q)) (f_X1_read_j52 K  v0 (some q))) fun x27 => bd (pu K 205 v0 (.int (0 : Int32))) fun _ => rt x27
def f_X0_read (K : Nat → Nat) (v0 : Option Nat) (v1 : Option Nat) : AM (Int32) :=
  tc (dv v0 2 (f_X1_read K v0) (fl)) (fun q => ctc [17] [12, 13, 14, 16, 18, 19, 20, 21] q (rt (1 : Int32)) (ctc [21] [12, 13, 14, 16, 17, 18, 19, 20] q (rt (2 : Int32)) (th q))) fun x3 => bd (ast K 1004 v1 (0 : Int32) (.long (x3.toInt64))) fun _ => rt (0 : Int32)
def f_X4_here (K : Nat → Nat) (v0 : Option Nat) : AM (Int32) :=
  bd (gt pI 122 v0) fun x1 => bd (gt pI 123 v0) fun x5 => if x5 ≤ x1 then (rt (-1 : Int32)) else (bd (gt pR 112 v0) fun x12 => bd (gt pI 122 v0) fun x16 => bd (ald pI 1001 x12 x16) fun x19 => rt x19)
def f_X4_wordHere_j33 (K : Nat → Nat) (rc4 : Int32 → Int32 → AM (Int32)) (v0 : Option Nat) (v2 : Int32) (t0 : Int32) : AM (Int32) :=
  rc4 t0 (v2 + (1 : Int32))
def f_X4_wordHere_b4 (K : Nat → Nat) (rc4 : Int32 → Int32 → AM (Int32)) (v0 : Option Nat) (v1 : Int32) (v2 : Int32)  : AM (Int32) :=
  if (7 : Int32) ≤ v2 then (rt v1) else (bd (dv v0 1 (f_X4_here K v0) (fl)) fun x11 => bd (gt pR 117 v0) fun x15 => bd (gt pR 118 v0) fun x19 => bd (ald pI 1001 x19 v2) fun x23 => bd (ald pI 1002 x15 x23) fun x24 => if x11 = x24 then (f_X4_wordHere_j33 K rc4 v0 v2 v2) else (f_X4_wordHere_j33 K rc4 v0 v2 v1))
def f_X4_wordHere_l4 (K : Nat → Nat)  (v0 : Option Nat) : Nat → Int32 → Int32 → AM (Int32) := fun n => match n with
  | 0 => fun _ _ => fl
  | n + 1 => fun v1 v2 => f_X4_wordHere_b4 K (f_X4_wordHere_l4 K v0 n) v0 v1 v2
def f_X4_wordHere (K : Nat → Nat) (v0 : Option Nat) : AM (Int32) :=
  f_X4_wordHere_l4 K  v0 FU (-1 : Int32) (0 : Int32)
def f_X4_expects_j41 (K : Nat → Nat)   (t0 : Int32) (t1 : Int32) (t2 : Option Nat) : AM (Unit) :=
  bd (pu K 122 t2 (.int (t1 + t0))) fun _ => rt ()
def f_X4_expects_j21 (K : Nat → Nat)  (v0 : Option Nat) (t0 : Int32) (t1 : Option Nat) : AM (Unit) :=
  chk (fits .boolean (.int t0)) <| bd (pu K 124 t1 (.int t0)) fun _ => bd (gt pI 122 v0) fun x26 => bd (gt pI 124 v0) fun x30 => if x30 = 0 then (f_X4_expects_j41 K   (1 : Int32) x26 v0) else (f_X4_expects_j41 K   (0 : Int32) x26 v0)
def f_X4_expects_j16 (K : Nat → Nat)  (v0 : Option Nat) (t0 : Option Nat) : AM (Unit) :=
  f_X4_expects_j21 K  v0 (1 : Int32) t0
def f_X4_expects (K : Nat → Nat) (v0 : Option Nat) (v1 : Int32) : AM (Unit) :=
  bd (gt pI 124 v0) fun x2 => if x2 = 0 then (bd (dv v0 1 (f_X4_here K v0) (fl)) fun x9 => if x9 = v1 then (f_X4_expects_j21 K  v0 (0 : Int32) v0) else (f_X4_expects_j16 K  v0 v0)) else (f_X4_expects_j16 K  v0 v0)
def f_X4_digit_j69 (K : Nat → Nat)  (v1 : Int32) (t0 : Int32) (t1 : Int32) (t2 : Option Nat) : AM (Int32) :=
  bd (pu K 122 t2 (.int (t1 + t0))) fun _ => rt v1
def f_X4_digit_j51 (K : Nat → Nat)  (v0 : Option Nat) (t0 : Int32) : AM (Int32) :=
  bd (gt pI 122 v0) fun x54 => bd (gt pI 124 v0) fun x58 => if x58 = 0 then (f_X4_digit_j69 K  t0 (1 : Int32) x54 v0) else (f_X4_digit_j69 K  t0 (0 : Int32) x54 v0)
def f_X4_digit_j30 (K : Nat → Nat)  (v0 : Option Nat) (t0 : Int32) (t1 : Option Nat) : AM (Int32) :=
  chk (fits .boolean (.int t0)) <| bd (pu K 124 t1 (.int t0)) fun _ => bd (gt pI 124 v0) fun x34 => if x34 = 0 then (bd (dv v0 1 (f_X4_here K v0) (fl)) fun x45 => f_X4_digit_j51 K  v0 (x45 - (48 : Int32))) else (f_X4_digit_j51 K  v0 (0 : Int32))
def f_X4_digit_j25 (K : Nat → Nat)  (v0 : Option Nat) (t0 : Option Nat) : AM (Int32) :=
  f_X4_digit_j30 K  v0 (1 : Int32) t0
def f_X4_digit (K : Nat → Nat) (v0 : Option Nat) : AM (Int32) :=
  bd (gt pI 124 v0) fun x2 => if x2 = 0 then (bd (dv v0 1 (f_X4_here K v0) (fl)) fun x9 => bd (f_X4_in K (x9.toInt64) (48 : Int64) (57 : Int64)) fun x19 => if x19 = 0 then (f_X4_digit_j25 K  v0 v0) else (f_X4_digit_j30 K  v0 (0 : Int32) v0)) else (f_X4_digit_j25 K  v0 v0)
def f_X4_number (K : Nat → Nat) (v0 : Option Nat) : AM (Int32) :=
  bd (dv v0 1 (f_X4_digit K v0) (fl)) fun x1 => bd (gt pI 124 v0) fun x6 => if x6 = 0 then (bd (dv v0 1 (f_X4_here K v0) (fl)) fun x13 => bd (f_X4_in K (x13.toInt64) (48 : Int64) (57 : Int64)) fun x23 => if x23 = 0 then (rt x1) else (bd (dv v0 1 (f_X4_digit K v0) (fl)) fun x34 => rt (((10 : Int32) * x1) + x34))) else (rt x1)
def f_X4_readCommand_j114 (K : Nat → Nat)  (v0 : Option Nat)  : AM (Unit) :=
  bd (gt pI 121 v0) fun x116 => bd (pu K 121 v0 (.int (x116 + (1 : Int32)))) fun _ => rt ()
def f_X4_readCommand_b78 (K : Nat → Nat) (rc78 : Int32 → AM (Unit)) (v0 : Option Nat) (v1 : Int32) (v2 : Int32) (v3 : Int32)  : AM (Unit) :=
  bd (gt pR 119 v0) fun x80 => bd (ald pI 1001 x80 v2) fun x84 => if x84 ≤ v3 then (f_X4_readCommand_j114 K  v0 ) else (bd (dv v0 1 (f_X4_expects K v0 (32 : Int32)) (fl)) fun _ => bd (gt pR 120 v0) fun x95 => bd (dv v0 1 (f_X4_number K v0) (fl)) fun x104 => bd (ast K 1001 x95 ((v1 + (1 : Int32)) + v3) (.int x104)) fun _ => rc78 (v3 + (1 : Int32)))
def f_X4_readCommand_l78 (K : Nat → Nat)  (v0 : Option Nat) (v1 : Int32) (v2 : Int32) : Nat → Int32 → AM (Unit) := fun n => match n with
  | 0 => fun _ => fl
  | n + 1 => fun v3 => f_X4_readCommand_b78 K (f_X4_readCommand_l78 K v0 v1 v2 n) v0 v1 v2 v3
def f_X4_readCommand_j69 (K : Nat → Nat)  (v0 : Option Nat) (v1 : Int32) (v2 : Int32)  : AM (Unit) :=
  bd (gt pR 120 v0) fun x70 => bd (ast K 1001 x70 v1 (.int v2)) fun _ => f_X4_readCommand_l78 K  v0 v1 v2 FU (0 : Int32)
def f_X4_readCommand_b41 (K : Nat → Nat) (rc41 : Int32 → AM (Unit)) (v0 : Option Nat) (v1 : Int32) (v2 : Int32) (v3 : Int32)  : AM (Unit) :=
  bd (gt pR 118 v0) fun x43 => bd (ald pI 1001 x43 (v2 + (1 : Int32))) fun x49 => if x49 ≤ v3 then (f_X4_readCommand_j69 K  v0 v1 v2 ) else (bd (gt pR 117 v0) fun x55 => bd (ald pI 1002 x55 v3) fun x59 => bd (dv v0 1 (f_X4_expects K v0 x59) (fl)) fun _ => rc41 (v3 + (1 : Int32)))
def f_X4_readCommand_l41 (K : Nat → Nat)  (v0 : Option Nat) (v1 : Int32) (v2 : Int32) : Nat → Int32 → AM (Unit) := fun n => match n with
  | 0 => fun _ => fl
  | n + 1 => fun v3 => f_X4_readCommand_b41 K (f_X4_readCommand_l41 K v0 v1 v2 n) v0 v1 v2 v3
def f_X4_readCommand_j23 (K : Nat → Nat)  (v0 : Option Nat) (v1 : Int32) (v2 : Int32) (t0 : Int32) (t1 : Option Nat) : AM (Unit) :=
  chk (fits .boolean (.int t0)) <| bd (pu K 124 t1 (.int t0)) fun _ => bd (gt pI 124 v0) fun x27 => if x27 = 0 then (bd (gt pR 118 v0) fun x35 => bd (ald pI 1001 x35 v2) fun x39 => f_X4_readCommand_l41 K  v0 v1 v2 FU x39) else (rt ())
def f_X4_readCommand (K : Nat → Nat) (v0 : Option Nat) : AM (Unit) :=
  bd (gt pI 121 v0) fun x2 => bd (dv v0 1 (f_X4_wordHere K v0) (fl)) fun x8 => if x8 = (-1 : Int32) then (f_X4_readCommand_j23 K  v0 ((3 : Int32) * x2) x8 (1 : Int32) v0) else (f_X4_readCommand_j23 K  v0 ((3 : Int32) * x2) x8 (0 : Int32) v0)
def f_X4_does (K : Nat → Nat) (v0 : Option Nat) (v1 : Int32) : AM (Int32) :=
  bd (gt pR 120 v0) fun x1 => bd (ald pI 1001 x1 (v1 + (1 : Int32))) fun x7 => bd (gt pR 120 v0) fun x10 => bd (ald pI 1001 x10 (v1 + (2 : Int32))) fun x16 => bd (gt pR 120 v0) fun x19 => bd (ald pI 1001 x19 v1) fun x23 => if x23 = (0 : Int32) then (bd (dv v0 1 (f_X4_upIt K v0 x7 x16) (fl)) fun x67 => rt x67) else if x23 = (1 : Int32) then (bd (dv v0 1 (f_X4_downIt K v0 x7) (fl)) fun x73 => rt x73) else if x23 = (2 : Int32) then (bd (dv v0 1 (f_X4_sellIt K v0 x7 x16) (fl)) fun x80 => rt x80) else if x23 = (3 : Int32) then (bd (dv v0 1 (f_X4_placeIt K v0 x7 x16) (fl)) fun x87 => rt x87) else if x23 = (4 : Int32) then (bd (dv v0 1 (f_X4_fixIt K v0 x7 x16) (fl)) fun x94 => rt x94) else if x23 = (5 : Int32) then (bd (dv v0 1 (f_X4_openIt K v0 x7) (fl)) fun x100 => rt x100) else (bd (dv v0 1 (f_X4_passIt K v0 x7) (fl)) fun x106 => rt x106)
def f_X4_refusedAt_j20 (K : Nat → Nat)    : AM (Int32) :=
  rt (9 : Int32)
def f_X4_refusedAt (K : Nat → Nat) (v0 : Int32) : AM (Int32) :=
  if v0 = (2 : Int32) then (rt (3 : Int32)) else (if v0 = (3 : Int32) then (f_X4_refusedAt_j20 K   ) else (if v0 = (6 : Int32) then (f_X4_refusedAt_j20 K   ) else (rt (2 : Int32))))
def f_X4_refusesAll_j56 (K : Nat → Nat)  (v0 : Option Nat) (v1 : Int32)  : AM (Int32) :=
  bd (gt pR 108 v0) fun x57 => bd (ast K 1001 x57 (0 : Int32) (.int (15 : Int32))) fun _ => bd (gt pR 109 v0) fun x65 => bd (ast K 1001 x65 (0 : Int32) (.int v1)) fun _ => bd (gt pI 110 v0) fun x73 => bd (pu K 110 v0 (.int (x73 + (1 : Int32)))) fun _ => bd (dv v0 1 (f_X4_throwing K v0 (2 : Int32)) (fl)) fun x83 => rt x83
def f_X4_refusesAll_b18 (K : Nat → Nat) (rc18 : Int32 → AM (Int32)) (v0 : Option Nat) (v1 : Int32) (v3 : Int32)  : AM (Int32) :=
  if v3 ≤ 0 then (f_X4_refusesAll_j56 K  v0 v1 ) else (bd (gt pR 108 v0) fun x23 => bd (gt pR 108 v0) fun x28 => bd (ald pI 1001 x28 (v3 - (1 : Int32))) fun x34 => bd (ast K 1001 x23 v3 (.int x34)) fun _ => bd (gt pR 109 v0) fun x37 => bd (gt pR 109 v0) fun x42 => bd (ald pI 1001 x42 (v3 - (1 : Int32))) fun x48 => bd (ast K 1001 x37 v3 (.int x48)) fun _ => rc18 (v3 + (-1 : Int32)))
def f_X4_refusesAll_l18 (K : Nat → Nat)  (v0 : Option Nat) (v1 : Int32) : Nat → Int32 → AM (Int32) := fun n => match n with
  | 0 => fun _ => fl
  | n + 1 => fun v3 => f_X4_refusesAll_b18 K (f_X4_refusesAll_l18 K v0 v1 n) v0 v1 v3
def f_X4_refusesAll_j13 (K : Nat → Nat)  (v0 : Option Nat) (v1 : Int32)  : AM (Int32) :=
  bd (gt pI 110 v0) fun x14 => f_X4_refusesAll_l18 K  v0 v1 FU x14
def f_X4_refusesAll (K : Nat → Nat) (v0 : Option Nat) (v1 : Int32) (v2 : Int32) : AM (Int32) :=
  if v2 = 0 then (bd (dv v0 1 (f_X4_refuse K v0 (2 : Int32) (17 : Int32) (0 : Int32)) (fl)) fun x9 => f_X4_refusesAll_j13 K  v0 v1 ) else (f_X4_refusesAll_j13 K  v0 v1 )
def f_X4_read_j201 (K : Nat → Nat)  (v0 : Option Nat)  : AM (Int32) :=
  bd (gt pI 121 v0) fun x203 => bd (dv v0 1 (f_X4_changed K v0 x203) (fl)) fun x206 => rt x206
def f_X4_read_j188 (K : Nat → Nat)  (v0 : Option Nat) (v2 : Int32) (v3 : Int32)  : AM (Int32) :=
  bd (dv v0 1 (f_X4_refusesAll K v0 v2 v3) (fl)) fun x191 => rt x191
def f_X4_read_b160 (K : Nat → Nat) (rc160 : Int32 → AM (Int32)) (v0 : Option Nat) (v2 : Int32) (v3 : Int32) (v4 : Int32)  : AM (Int32) :=
  if (306 : Int32) ≤ v4 then (f_X4_read_j188 K  v0 v2 v3 ) else (bd (gt pR 100 v0) fun x169 => bd (gt pR 101 v0) fun x175 => bd (ald pI 1001 x175 v4) fun x180 => bd (ast K 1001 x169 v4 (.int x180)) fun _ => rc160 (v4 + (1 : Int32)))
def f_X4_read_l160 (K : Nat → Nat)  (v0 : Option Nat) (v2 : Int32) (v3 : Int32) : Nat → Int32 → AM (Int32) := fun n => match n with
  | 0 => fun _ => fl
  | n + 1 => fun v4 => f_X4_read_b160 K (f_X4_read_l160 K v0 v2 v3 n) v0 v2 v3 v4
def f_X4_read_j156 (K : Nat → Nat)  (v0 : Option Nat) (v2 : Int32) (t0 : Int32) : AM (Int32) :=
  f_X4_read_l160 K  v0 v2 t0 FU (0 : Int32)
def f_X4_read_j133 (K : Nat → Nat)  (v0 : Option Nat) (v2 : Int32)  : AM (Int32) :=
  bd (gt pI 107 v0) fun x134 => bd (gt pR 120 v0) fun x138 => bd (ald pI 1001 x138 ((3 : Int32) * v2)) fun x144 => bd (f_X4_refusedAt K x144) fun x145 => if x134 = x145 then (f_X4_read_j156 K  v0 v2 (1 : Int32)) else (f_X4_read_j156 K  v0 v2 (0 : Int32))
def f_X4_read_b110 (K : Nat → Nat) (rc110 : Int32 → AM (Int32)) (v0 : Option Nat) (v2 : Int32)  : AM (Int32) :=
  bd (gt pI 121 v0) fun x112 => if x112 ≤ v2 then (f_X4_read_j201 K  v0 ) else (bd (dv v0 1 (f_X4_does K v0 ((3 : Int32) * v2)) (fl)) fun x122 => bd (gt pI 107 v0) fun x127 => if x127 ≤ 0 then (rc110 (v2 + (1 : Int32))) else (f_X4_read_j133 K  v0 v2 ))
def f_X4_read_l110 (K : Nat → Nat)  (v0 : Option Nat) : Nat → Int32 → AM (Int32) := fun n => match n with
  | 0 => fun _ => fl
  | n + 1 => fun v2 => f_X4_read_b110 K (f_X4_read_l110 K v0 n) v0 v2
def f_X4_read_j83 (K : Nat → Nat)  (v0 : Option Nat)  : AM (Int32) :=
  bd (dv v0 1 (f_X4_layAside K v0) (fl)) fun _ => bd (gt pI 124 v0) fun x88 => if x88 = 0 then (f_X4_read_l110 K  v0 FU (0 : Int32)) else (bd (gt pI 122 v0) fun x96 => bd (pu K 111 v0 (.int x96)) fun _ => bd (dv v0 1 (f_X4_throwing K v0 (1 : Int32)) (fl)) fun x104 => rt x104)
def f_X4_read_j79 (K : Nat → Nat) (rc25 : Int32 → AM (Int32)) (v0 : Option Nat) (t0 : Int32) : AM (Int32) :=
  rc25 t0
def f_X4_read_j56 (K : Nat → Nat) (rc25 : Int32 → AM (Int32)) (v0 : Option Nat) (t0 : Int32) : AM (Int32) :=
  if t0 = 0 then (rc25 t0) else (bd (dv v0 1 (f_X4_expects K v0 (59 : Int32)) (fl)) fun _ => bd (gt pI 124 v0) fun x68 => if x68 = 0 then (f_X4_read_j79 K rc25 v0 (1 : Int32)) else (f_X4_read_j79 K rc25 v0 (0 : Int32)))
def f_X4_read_j55 (K : Nat → Nat) (rc25 : Int32 → AM (Int32)) (v0 : Option Nat)  : AM (Int32) :=
  f_X4_read_j56 K rc25 v0 (0 : Int32)
def f_X4_read_b25 (K : Nat → Nat) (rc25 : Int32 → AM (Int32)) (v0 : Option Nat) (v1 : Int32)  : AM (Int32) :=
  if v1 = 0 then (f_X4_read_j83 K  v0 ) else (bd (dv v0 1 (f_X4_readCommand K v0) (fl)) fun _ => bd (gt pI 124 v0) fun x34 => if x34 = 0 then (bd (gt pI 122 v0) fun x41 => bd (gt pI 123 v0) fun x45 => if x45 ≤ x41 then (f_X4_read_j55 K rc25 v0 ) else (f_X4_read_j56 K rc25 v0 (1 : Int32))) else (f_X4_read_j55 K rc25 v0 ))
def f_X4_read_l25 (K : Nat → Nat)  (v0 : Option Nat) : Nat → Int32 → AM (Int32) := fun n => match n with
  | 0 => fun _ => fl
  | n + 1 => fun v1 => f_X4_read_b25 K (f_X4_read_l25 K v0 n) v0 v1
def f_X4_read (K : Nat → Nat) (v0 : Option Nat) : AM (Int32) :=
  bd (gt pI 113 v0) fun x2 => bd (pu K 123 v0 (.int x2)) fun _ => bd (pu K 113 v0 (.int (0 : Int32))) fun _ => bd (pu K 122 v0 (.int (0 : Int32))) fun _ => bd (pu K 121 v0 (.int (0 : Int32))) fun _ => f_X4_read_l25 K  v0 FU (1 : Int32)
def f_X1_errorPosition_j12 (K : Nat → Nat)  (v0 : Option Nat) (t0 : Int32) : AM (Int32) :=
  bd (f_X1_checkElement K t0) fun _ => bd (gt pR 206 v0) fun x16 => bd (gt pI 1400 x16) fun x19 => rt x19
def f_X1_errorPosition (K : Nat → Nat) (v0 : Option Nat) : AM (Int32) :=
  bd (gt pR 206 v0) fun x1 => if x1 = none then (f_X1_errorPosition_j12 K  v0 (0 : Int32)) else (f_X1_errorPosition_j12 K  v0 (1 : Int32))
def f_X0_errorPosition (K : Nat → Nat) (v0 : Option Nat) (v1 : Option Nat) : AM (Int32) :=
  tc (dv v0 2 (f_X1_errorPosition K v0) (fl)) (fun q => ctc [20] [12, 13, 14, 16, 17, 18, 19, 21] q (rt (1 : Int32)) (th q)) fun x3 => bd (ast K 1004 v1 (0 : Int32) (.long (x3.toInt64))) fun _ => rt (0 : Int32)
def f_X4_errorPosition (K : Nat → Nat) (v0 : Option Nat) : AM (Int32) :=
  bd (pu K 107 v0 (.int (0 : Int32))) fun _ => bd (gt pI 111 v0) fun x6 => if x6 = (-1 : Int32) then (bd (dv v0 1 (f_X4_throwing K v0 (1 : Int32)) (fl)) fun x15 => rt x15) else (bd (gt pI 111 v0) fun x22 => rt x22)
def f_X1_undo_j15 (K : Nat → Nat)  (v0 : Option Nat) (t0 : Int32) : AM (Int32) :=
  bd (f_X1_checkElement K t0) fun _ => bd (gt pR 202 v0) fun x20 => bd (gt pR 202 v0) fun x24 => bd (dv x24 25 (f_J2_size K x24) (fl)) fun x27 => bd (dv x20 25 (f_J2_remove K x20 (x27 - (1 : Int32))) (fl)) fun x32 => bd (ckc [3] x32) fun _ => bd (pu K 200 v0 (va_rf x32)) fun _ => bd (gt pR 202 v0) fun x42 => bd (dv x42 25 (f_J2_size K x42) (fl)) fun x45 => rt x45
def f_X1_undo (K : Nat → Nat) (v0 : Option Nat) : AM (Int32) :=
  bd (gt pR 202 v0) fun x1 => bd (dv x1 25 (f_J2_size K x1) (fl)) fun x4 => if x4 ≤ 0 then (f_X1_undo_j15 K  v0 (0 : Int32)) else (f_X1_undo_j15 K  v0 (1 : Int32))
def f_X0_undo (K : Nat → Nat) (v0 : Option Nat) (v1 : Option Nat) : AM (Int32) :=
  tc (dv v0 2 (f_X1_undo K v0) (fl)) (fun q => ctc [20] [12, 13, 14, 16, 17, 18, 19, 21] q (rt (1 : Int32)) (th q)) fun x3 => bd (ast K 1004 v1 (0 : Int32) (.long (x3.toInt64))) fun _ => rt (0 : Int32)
def f_X4_undo_j64 (K : Nat → Nat)  (v0 : Option Nat)  : AM (Int32) :=
  bd (gt pI 106 v0) fun x65 => rt x65
def f_X4_undo_b30 (K : Nat → Nat) (rc30 : Int32 → AM (Int32)) (v0 : Option Nat) (v1 : Int32)  : AM (Int32) :=
  if (306 : Int32) ≤ v1 then (f_X4_undo_j64 K  v0 ) else (bd (gt pR 100 v0) fun x38 => bd (gt pR 105 v0) fun x43 => bd (gt pI 106 v0) fun x50 => bd (ald pI 1001 x43 (((306 : Int32) * x50) + v1)) fun x56 => bd (ast K 1001 x38 v1 (.int x56)) fun _ => rc30 (v1 + (1 : Int32)))
def f_X4_undo_l30 (K : Nat → Nat)  (v0 : Option Nat) : Nat → Int32 → AM (Int32) := fun n => match n with
  | 0 => fun _ => fl
  | n + 1 => fun v1 => f_X4_undo_b30 K (f_X4_undo_l30 K v0 n) v0 v1
def f_X4_undo (K : Nat → Nat) (v0 : Option Nat) : AM (Int32) :=
  bd (pu K 107 v0 (.int (0 : Int32))) fun _ => bd (gt pI 106 v0) fun x6 => if x6 = 0 then (bd (dv v0 1 (f_X4_throwing K v0 (1 : Int32)) (fl)) fun x14 => rt x14) else (bd (gt pI 106 v0) fun x20 => bd (pu K 106 v0 (.int (x20 - (1 : Int32)))) fun _ => f_X4_undo_l30 K  v0 FU (0 : Int32))
def f_X1_save (K : Nat → Nat) (v0 : Option Nat) : AM (Int32) :=
  bd (gt pR 200 v0) fun x2 => bd (dv x2 3 (f_X2_copy K x2) (fl)) fun x5 => bd (pu K 201 v0 (va_rf x5)) fun _ => bd (gt pR 201 v0) fun x12 => bd (gt pR 300 x12) fun x15 => bd (dv x15 25 (f_J2_size K x15) (fl)) fun x18 => rt x18
def f_X4_save_j32 (K : Nat → Nat)  (v0 : Option Nat)  : AM (Int32) :=
  bd (pu K 104 v0 (.int (1 : Int32))) fun _ => bd (gt pR 100 v0) fun x38 => bd (ald pI 1001 x38 (1 : Int32)) fun x42 => rt x42
def f_X4_save_b7 (K : Nat → Nat) (rc7 : Int32 → AM (Int32)) (v0 : Option Nat) (v1 : Int32)  : AM (Int32) :=
  if (306 : Int32) ≤ v1 then (f_X4_save_j32 K  v0 ) else (bd (gt pR 103 v0) fun x15 => bd (gt pR 100 v0) fun x20 => bd (ald pI 1001 x20 v1) fun x24 => bd (ast K 1001 x15 v1 (.int x24)) fun _ => rc7 (v1 + (1 : Int32)))
def f_X4_save_l7 (K : Nat → Nat)  (v0 : Option Nat) : Nat → Int32 → AM (Int32) := fun n => match n with
  | 0 => fun _ => fl
  | n + 1 => fun v1 => f_X4_save_b7 K (f_X4_save_l7 K v0 n) v0 v1
def f_X4_save (K : Nat → Nat) (v0 : Option Nat) : AM (Int32) :=
  bd (pu K 107 v0 (.int (0 : Int32))) fun _ => f_X4_save_l7 K  v0 FU (0 : Int32)
def f_J2_clear_b27 (K : Nat → Nat) (rc27 : Int32 → AM (Unit)) (v1 : Option Nat) (v2 : Int32) (v3 : Int32)  : AM (Unit) :=
  if v2 ≤ v3 then (rt ()) else (bd (asr K 1006 [1, 2, 3, 4, 5, 6, 7, 8, 9, 10, 12, 13, 14, 15, 16, 17, 18, 19, 20, 21, 22, 23, 25, 26, 28, 29, 30, 32, 33, 34, 36, 37, 38] v1 v3 none) fun _ => rc27 (v3 + (1 : Int32)))
def f_J2_clear_l27 (K : Nat → Nat)  (v1 : Option Nat) (v2 : Int32) : Nat → Int32 → AM (Unit) := fun n => match n with
  | 0 => fun _ => fl
  | n + 1 => fun v3 => f_J2_clear_b27 K (f_J2_clear_l27 K v1 v2 n) v1 v2 v3
def f_J2_clear (K : Nat → Nat) (v0 : Option Nat) : AM (Unit) :=
  bd (gt pI 2400 v0) fun x2 => bd (pu K 2400 v0 (.int (x2 + (1 : Int32)))) fun _ => bd (gt pR 2500 v0) fun x11 => bd (gt pI 2501 v0) fun x16 => bd (pu K 2501 v0 (.int (0 : Int32))) fun _ => f_J2_clear_l27 K  x11 x16 FU (0 : Int32)
def f_X1_restore_j12 (K : Nat → Nat)  (v0 : Option Nat) (t0 : Int32) : AM (Int32) :=
  bd (f_X1_checkState K t0) fun _ => bd (gt pR 201 v0) fun x17 => bd (dv x17 3 (f_X2_copy K x17) (fl)) fun x20 => bd (pu K 200 v0 (va_rf x20)) fun _ => bd (gt pR 202 v0) fun x27 => bd (dv x27 25 (f_J2_clear K x27) (fl)) fun _ => bd (gt pR 200 v0) fun x34 => bd (gt pR 300 x34) fun x37 => bd (dv x37 25 (f_J2_size K x37) (fl)) fun x40 => rt x40
def f_X1_restore (K : Nat → Nat) (v0 : Option Nat) : AM (Int32) :=
  bd (gt pR 201 v0) fun x1 => if x1 = none then (f_X1_restore_j12 K  v0 (0 : Int32)) else (f_X1_restore_j12 K  v0 (1 : Int32))
def f_X0_restore (K : Nat → Nat) (v0 : Option Nat) (v1 : Option Nat) : AM (Int32) :=
  tc (dv v0 2 (f_X1_restore K v0) (fl)) (fun q => ctc [18] [12, 13, 14, 16, 17, 19, 20, 21] q (rt (1 : Int32)) (th q)) fun x3 => bd (ast K 1004 v1 (0 : Int32) (.long (x3.toInt64))) fun _ => rt (0 : Int32)
def f_X4_restore_j45 (K : Nat → Nat)  (v0 : Option Nat)  : AM (Int32) :=
  bd (pu K 106 v0 (.int (0 : Int32))) fun _ => bd (gt pR 100 v0) fun x51 => bd (ald pI 1001 x51 (1 : Int32)) fun x55 => rt x55
def f_X4_restore_b20 (K : Nat → Nat) (rc20 : Int32 → AM (Int32)) (v0 : Option Nat) (v1 : Int32)  : AM (Int32) :=
  if (306 : Int32) ≤ v1 then (f_X4_restore_j45 K  v0 ) else (bd (gt pR 100 v0) fun x28 => bd (gt pR 103 v0) fun x33 => bd (ald pI 1001 x33 v1) fun x37 => bd (ast K 1001 x28 v1 (.int x37)) fun _ => rc20 (v1 + (1 : Int32)))
def f_X4_restore_l20 (K : Nat → Nat)  (v0 : Option Nat) : Nat → Int32 → AM (Int32) := fun n => match n with
  | 0 => fun _ => fl
  | n + 1 => fun v1 => f_X4_restore_b20 K (f_X4_restore_l20 K v0 n) v0 v1
def f_X4_restore (K : Nat → Nat) (v0 : Option Nat) : AM (Int32) :=
  bd (pu K 107 v0 (.int (0 : Int32))) fun _ => bd (gt pI 104 v0) fun x6 => if x6 = 0 then (bd (dv v0 1 (f_X4_throwing K v0 (1 : Int32)) (fl)) fun x14 => rt x14) else (f_X4_restore_l20 K  v0 FU (0 : Int32))
def f_X1_socks_j29 (K : Nat → Nat)  (v1 : Int32) (v2 : Int32) (t0 : Option Nat) : AM (Int32) :=
  bd (nwO K 8 2) fun x29 => bd (f_X10_init K x29 v1 v2) fun _ => bd (dv t0 7 (f_X3_of K t0 x29) (fl)) fun x38 => rt x38
def f_X1_socks (K : Nat → Nat) (v0 : Option Nat) (v1 : Int32) (v2 : Int32) (v3 : Int32) : AM (Int32) :=
  bd (f_X1_areSocks K v1 v2) fun x2 => bd (f_X1_checkArgument K x2) fun _ => if v3 = 0 then (bd (gt pR 200 v0) fun x23 => bd (gt pR 304 x23) fun x26 => f_X1_socks_j29 K  v1 v2 x26) else (bd (gt pR 200 v0) fun x13 => bd (gt pR 305 x13) fun x16 => f_X1_socks_j29 K  v1 v2 x16)
def f_X0_socks (K : Nat → Nat) (v0 : Option Nat) (v1 : Int32) (v2 : Int32) (v3 : Int32) (v4 : Option Nat) : AM (Int32) :=
  tc (dv v0 2 (f_X1_socks K v0 v1 v2 v3) (fl)) (fun q => ctc [17] [12, 13, 14, 16, 18, 19, 20, 21] q (rt (1 : Int32)) (th q)) fun x7 => bd (ast K 1004 v4 (0 : Int32) (.long (x7.toInt64))) fun _ => rt (0 : Int32)
def f_X5_at_j24 (K : Nat → Nat)  (v2 : Option Nat)  : AM (Option Nat) :=
  bd (ckc [12, 13] v2) fun _ => rt v2
def f_X5_at_b4 (K : Nat → Nat) (rc4 : Option Nat → Int32 → AM (Option Nat)) (v1 : Int32) (v2 : Option Nat) (v3 : Int32)  : AM (Option Nat) :=
  if v1 ≤ v3 then (f_X5_at_j24 K  v2 ) else (if v2 = none then (f_X5_at_j24 K  v2 ) else (bd (dv v2 12 (f_T_getCause K v2) (dv v2 13 (f_T_getCause K v2) (fl))) fun x14 => rc4 x14 (v3 + (1 : Int32))))
def f_X5_at_l4 (K : Nat → Nat)  (v1 : Int32) : Nat → Option Nat → Int32 → AM (Option Nat) := fun n => match n with
  | 0 => fun _ _ => fl
  | n + 1 => fun v2 v3 => f_X5_at_b4 K (f_X5_at_l4 K v1 n) v1 v2 v3
def f_X5_at (K : Nat → Nat) (v0 : Option Nat) (v1 : Int32) : AM (Option Nat) :=
  f_X5_at_l4 K  v1 FU v0 (0 : Int32)
def f_X1_reason_j33 (K : Nat → Nat)  (v2 : Int32) (v3 : Option Nat) (t0 : Int32) : AM (Int32) :=
  bd (f_X1_checkElement K t0) fun _ => if v2 = 0 then (bd (gt pI 1100 v3) fun x48 => rt x48) else (bd (gt pI 1101 v3) fun x41 => rt x41)
def f_X1_reason_j23 (K : Nat → Nat)  (v2 : Int32) (t0 : Option Nat) : AM (Int32) :=
  if t0 = none then (f_X1_reason_j33 K  v2 t0 (0 : Int32)) else (f_X1_reason_j33 K  v2 t0 (1 : Int32))
def f_X1_reason_j11 (K : Nat → Nat)  (v2 : Int32)  : AM (Int32) :=
  f_X1_reason_j23 K  v2 none
def f_X1_reason (K : Nat → Nat) (v0 : Option Nat) (v1 : Int32) (v2 : Int32) : AM (Int32) :=
  bd (gt pR 207 v0) fun x1 => if x1 = none then (f_X1_reason_j11 K  v2 ) else (if 0 ≤ v1 then (bd (gt pR 207 v0) fun x16 => bd (dv x16 12 (f_X5_at K x16 v1) (dv x16 13 (f_X5_at K x16 v1) (fl))) fun x20 => f_X1_reason_j23 K  v2 x20) else (f_X1_reason_j11 K  v2 ))
def f_X0_reason (K : Nat → Nat) (v0 : Option Nat) (v1 : Int32) (v2 : Int32) (v3 : Option Nat) : AM (Int32) :=
  tc (dv v0 2 (f_X1_reason K v0 v1 v2) (fl)) (fun q => ctc [20] [12, 13, 14, 16, 17, 18, 19, 21] q (rt (1 : Int32)) (th q)) fun x5 => bd (ast K 1004 v3 (0 : Int32) (.long (x5.toInt64))) fun _ => rt (0 : Int32)
def f_X4_socks_j30 (K : Nat → Nat)  (v1 : Int32) (v2 : Int32) (t0 : Int32) (t1 : Option Nat) : AM (Int32) :=
  bd (ald pI 1001 t1 ((t0 + ((3 : Int32) * v1)) + v2)) fun x36 => rt x36
def f_X4_socks (K : Nat → Nat) (v0 : Option Nat) (v1 : Int32) (v2 : Int32) (v3 : Int32) : AM (Int32) :=
  bd (pu K 107 v0 (.int (0 : Int32))) fun _ => bd (f_X4_isSock K v1 v2) fun x7 => if x7 = 0 then (bd (dv v0 1 (f_X4_throwing K v0 (1 : Int32)) (fl)) fun x42 => rt x42) else (bd (gt pR 100 v0) fun x14 => if v3 = 0 then (f_X4_socks_j30 K  v1 v2 (152 : Int32) x14) else (f_X4_socks_j30 K  v1 v2 (167 : Int32) x14))
def f_X4_reason (K : Nat → Nat) (v0 : Option Nat) (v1 : Int32) (v2 : Int32) : AM (Int32) :=
  bd (pu K 107 v0 (.int (0 : Int32))) fun _ => bd (gt pI 110 v0) fun x9 => bd (f_X4_in K (v1.toInt64) (0 : Int64) ((x9 - (1 : Int32)).toInt64)) fun x15 => if x15 = 0 then (bd (dv v0 1 (f_X4_throwing K v0 (1 : Int32)) (fl)) fun x23 => rt x23) else (if v2 = 0 then (bd (gt pR 108 v0) fun x41 => bd (ald pI 1001 x41 v1) fun x45 => rt x45) else (bd (gt pR 109 v0) fun x32 => bd (ald pI 1001 x32 v1) fun x36 => rt x36))
def f_L_law_j2446 (K : Nat → Nat) (rc28 : Int32 → AM (Int32)) (v0 : Option Nat) (v1 : Option Nat) (v2 : Option Nat) (v3 : Option Nat) (v4 : Option Nat) (v5 : Int32)  : AM (Int32) :=
  rc28 (v5 + (5 : Int32))
def f_L_law_j253 (K : Nat → Nat) (rc28 : Int32 → AM (Int32)) (v0 : Option Nat) (v1 : Option Nat) (v2 : Option Nat) (v3 : Option Nat) (v4 : Option Nat) (v5 : Int32)  : AM (Int32) :=
  f_L_law_j2446 K rc28 v0 v1 v2 v3 v4 v5 
def f_L_law_j321 (K : Nat → Nat) (rc28 : Int32 → AM (Int32)) (v0 : Option Nat) (v1 : Option Nat) (v2 : Option Nat) (v3 : Option Nat) (v4 : Option Nat) (v5 : Int32)  : AM (Int32) :=
  f_L_law_j2446 K rc28 v0 v1 v2 v3 v4 v5 
def f_L_law_j377 (K : Nat → Nat) (rc28 : Int32 → AM (Int32)) (v0 : Option Nat) (v1 : Option Nat) (v2 : Option Nat) (v3 : Option Nat) (v4 : Option Nat) (v5 : Int32)  : AM (Int32) :=
  f_L_law_j2446 K rc28 v0 v1 v2 v3 v4 v5 
def f_L_law_j445 (K : Nat → Nat) (rc28 : Int32 → AM (Int32)) (v0 : Option Nat) (v1 : Option Nat) (v2 : Option Nat) (v3 : Option Nat) (v4 : Option Nat) (v5 : Int32)  : AM (Int32) :=
  f_L_law_j2446 K rc28 v0 v1 v2 v3 v4 v5 
def f_L_law_j513 (K : Nat → Nat) (rc28 : Int32 → AM (Int32)) (v0 : Option Nat) (v1 : Option Nat) (v2 : Option Nat) (v3 : Option Nat) (v4 : Option Nat) (v5 : Int32)  : AM (Int32) :=
  f_L_law_j2446 K rc28 v0 v1 v2 v3 v4 v5 
def f_L_law_j569 (K : Nat → Nat) (rc28 : Int32 → AM (Int32)) (v0 : Option Nat) (v1 : Option Nat) (v2 : Option Nat) (v3 : Option Nat) (v4 : Option Nat) (v5 : Int32)  : AM (Int32) :=
  f_L_law_j2446 K rc28 v0 v1 v2 v3 v4 v5 
def f_L_law_j625 (K : Nat → Nat) (rc28 : Int32 → AM (Int32)) (v0 : Option Nat) (v1 : Option Nat) (v2 : Option Nat) (v3 : Option Nat) (v4 : Option Nat) (v5 : Int32)  : AM (Int32) :=
  f_L_law_j2446 K rc28 v0 v1 v2 v3 v4 v5 
def f_L_law_j669 (K : Nat → Nat) (rc28 : Int32 → AM (Int32)) (v0 : Option Nat) (v1 : Option Nat) (v2 : Option Nat) (v3 : Option Nat) (v4 : Option Nat) (v5 : Int32)  : AM (Int32) :=
  f_L_law_j2446 K rc28 v0 v1 v2 v3 v4 v5 
def f_L_law_j737 (K : Nat → Nat) (rc28 : Int32 → AM (Int32)) (v0 : Option Nat) (v1 : Option Nat) (v2 : Option Nat) (v3 : Option Nat) (v4 : Option Nat) (v5 : Int32)  : AM (Int32) :=
  f_L_law_j2446 K rc28 v0 v1 v2 v3 v4 v5 
def f_L_law_j805 (K : Nat → Nat) (rc28 : Int32 → AM (Int32)) (v0 : Option Nat) (v1 : Option Nat) (v2 : Option Nat) (v3 : Option Nat) (v4 : Option Nat) (v5 : Int32)  : AM (Int32) :=
  f_L_law_j2446 K rc28 v0 v1 v2 v3 v4 v5 
def f_L_law_j861 (K : Nat → Nat) (rc28 : Int32 → AM (Int32)) (v0 : Option Nat) (v1 : Option Nat) (v2 : Option Nat) (v3 : Option Nat) (v4 : Option Nat) (v5 : Int32)  : AM (Int32) :=
  f_L_law_j2446 K rc28 v0 v1 v2 v3 v4 v5 
def f_L_law_j917 (K : Nat → Nat) (rc28 : Int32 → AM (Int32)) (v0 : Option Nat) (v1 : Option Nat) (v2 : Option Nat) (v3 : Option Nat) (v4 : Option Nat) (v5 : Int32)  : AM (Int32) :=
  f_L_law_j2446 K rc28 v0 v1 v2 v3 v4 v5 
def f_L_law_j997 (K : Nat → Nat) (rc28 : Int32 → AM (Int32)) (v0 : Option Nat) (v1 : Option Nat) (v2 : Option Nat) (v3 : Option Nat) (v4 : Option Nat) (v5 : Int32)  : AM (Int32) :=
  f_L_law_j2446 K rc28 v0 v1 v2 v3 v4 v5 
def f_L_law_j1065 (K : Nat → Nat) (rc28 : Int32 → AM (Int32)) (v0 : Option Nat) (v1 : Option Nat) (v2 : Option Nat) (v3 : Option Nat) (v4 : Option Nat) (v5 : Int32)  : AM (Int32) :=
  f_L_law_j2446 K rc28 v0 v1 v2 v3 v4 v5 
def f_L_law_j1133 (K : Nat → Nat) (rc28 : Int32 → AM (Int32)) (v0 : Option Nat) (v1 : Option Nat) (v2 : Option Nat) (v3 : Option Nat) (v4 : Option Nat) (v5 : Int32)  : AM (Int32) :=
  f_L_law_j2446 K rc28 v0 v1 v2 v3 v4 v5 
def f_L_law_j1229 (K : Nat → Nat) (rc28 : Int32 → AM (Int32)) (v0 : Option Nat) (v1 : Option Nat) (v2 : Option Nat) (v3 : Option Nat) (v4 : Option Nat) (v5 : Int32)  : AM (Int32) :=
  f_L_law_j2446 K rc28 v0 v1 v2 v3 v4 v5 
def f_L_law_j1196 (K : Nat → Nat) (rc28 : Int32 → AM (Int32)) (v0 : Option Nat) (v1 : Option Nat) (v2 : Option Nat) (v3 : Option Nat) (v4 : Option Nat) (v5 : Int32) (v6 : Int32) (t0 : Int32) (t1 : Int32) (t2 : Int32) (t3 : Option Nat) : AM (Int32) :=
  bd (dv t3 1 (f_X4_socks K t3 t2 t1 t0) (fl)) fun x1196 => bd (dv v2 1 (f_X4_thrown K v2) (fl)) fun x1202 => if x1202 = v6 then (if v6 = 0 then (bd (ald pJ 1004 v3 (0 : Int32)) fun x1219 => if (lg_cmp x1219 (x1196.toInt64)) = 0 then (f_L_law_j1229 K rc28 v0 v1 v2 v3 v4 v5 ) else (rt (0 : Int32))) else (f_L_law_j1229 K rc28 v0 v1 v2 v3 v4 v5 )) else (rt (0 : Int32))
def f_L_law_j1163 (K : Nat → Nat) (rc28 : Int32 → AM (Int32)) (v0 : Option Nat) (v1 : Option Nat) (v2 : Option Nat) (v3 : Option Nat) (v4 : Option Nat) (v5 : Int32) (t0 : Int32) (t1 : Int32) (t2 : Int32) (t3 : Option Nat) : AM (Int32) :=
  bd (f_X0_socks K t3 t2 t1 t0 v3) fun x1164 => bd (ald pI 1001 v0 (v5 + (1 : Int32))) fun x1175 => bd (ald pI 1001 v0 (v5 + (2 : Int32))) fun x1181 => bd (ald pI 1001 v0 (v5 + (3 : Int32))) fun x1187 => if x1187 = 0 then (f_L_law_j1196 K rc28 v0 v1 v2 v3 v4 v5 x1164 (0 : Int32) x1181 x1175 v2) else (f_L_law_j1196 K rc28 v0 v1 v2 v3 v4 v5 x1164 (1 : Int32) x1181 x1175 v2)
def f_L_law_j1273 (K : Nat → Nat) (rc28 : Int32 → AM (Int32)) (v0 : Option Nat) (v1 : Option Nat) (v2 : Option Nat) (v3 : Option Nat) (v4 : Option Nat) (v5 : Int32)  : AM (Int32) :=
  f_L_law_j2446 K rc28 v0 v1 v2 v3 v4 v5 
def f_L_law_j1329 (K : Nat → Nat) (rc28 : Int32 → AM (Int32)) (v0 : Option Nat) (v1 : Option Nat) (v2 : Option Nat) (v3 : Option Nat) (v4 : Option Nat) (v5 : Int32)  : AM (Int32) :=
  f_L_law_j2446 K rc28 v0 v1 v2 v3 v4 v5 
def f_L_law_j1373 (K : Nat → Nat) (rc28 : Int32 → AM (Int32)) (v0 : Option Nat) (v1 : Option Nat) (v2 : Option Nat) (v3 : Option Nat) (v4 : Option Nat) (v5 : Int32)  : AM (Int32) :=
  f_L_law_j2446 K rc28 v0 v1 v2 v3 v4 v5 
def f_L_law_j1441 (K : Nat → Nat) (rc28 : Int32 → AM (Int32)) (v0 : Option Nat) (v1 : Option Nat) (v2 : Option Nat) (v3 : Option Nat) (v4 : Option Nat) (v5 : Int32)  : AM (Int32) :=
  f_L_law_j2446 K rc28 v0 v1 v2 v3 v4 v5 
def f_L_law_j1497 (K : Nat → Nat) (rc28 : Int32 → AM (Int32)) (v0 : Option Nat) (v1 : Option Nat) (v2 : Option Nat) (v3 : Option Nat) (v4 : Option Nat) (v5 : Int32)  : AM (Int32) :=
  f_L_law_j2446 K rc28 v0 v1 v2 v3 v4 v5 
def f_L_law_j1589 (K : Nat → Nat) (rc28 : Int32 → AM (Int32)) (v0 : Option Nat) (v1 : Option Nat) (v2 : Option Nat) (v3 : Option Nat) (v4 : Option Nat) (v5 : Int32)  : AM (Int32) :=
  f_L_law_j2446 K rc28 v0 v1 v2 v3 v4 v5 
def f_L_law_j1645 (K : Nat → Nat) (rc28 : Int32 → AM (Int32)) (v0 : Option Nat) (v1 : Option Nat) (v2 : Option Nat) (v3 : Option Nat) (v4 : Option Nat) (v5 : Int32)  : AM (Int32) :=
  f_L_law_j2446 K rc28 v0 v1 v2 v3 v4 v5 
def f_L_law_j1713 (K : Nat → Nat) (rc28 : Int32 → AM (Int32)) (v0 : Option Nat) (v1 : Option Nat) (v2 : Option Nat) (v3 : Option Nat) (v4 : Option Nat) (v5 : Int32)  : AM (Int32) :=
  f_L_law_j2446 K rc28 v0 v1 v2 v3 v4 v5 
def f_L_law_j1757 (K : Nat → Nat) (rc28 : Int32 → AM (Int32)) (v0 : Option Nat) (v1 : Option Nat) (v2 : Option Nat) (v3 : Option Nat) (v4 : Option Nat) (v5 : Int32)  : AM (Int32) :=
  f_L_law_j2446 K rc28 v0 v1 v2 v3 v4 v5 
def f_L_law_j1813 (K : Nat → Nat) (rc28 : Int32 → AM (Int32)) (v0 : Option Nat) (v1 : Option Nat) (v2 : Option Nat) (v3 : Option Nat) (v4 : Option Nat) (v5 : Int32)  : AM (Int32) :=
  f_L_law_j2446 K rc28 v0 v1 v2 v3 v4 v5 
def f_L_law_j1869 (K : Nat → Nat) (rc28 : Int32 → AM (Int32)) (v0 : Option Nat) (v1 : Option Nat) (v2 : Option Nat) (v3 : Option Nat) (v4 : Option Nat) (v5 : Int32)  : AM (Int32) :=
  f_L_law_j2446 K rc28 v0 v1 v2 v3 v4 v5 
def f_L_law_j1925 (K : Nat → Nat) (rc28 : Int32 → AM (Int32)) (v0 : Option Nat) (v1 : Option Nat) (v2 : Option Nat) (v3 : Option Nat) (v4 : Option Nat) (v5 : Int32)  : AM (Int32) :=
  f_L_law_j2446 K rc28 v0 v1 v2 v3 v4 v5 
def f_L_law_j1991 (K : Nat → Nat) (rc28 : Int32 → AM (Int32)) (v0 : Option Nat) (v1 : Option Nat) (v2 : Option Nat) (v3 : Option Nat) (v4 : Option Nat) (v5 : Int32)  : AM (Int32) :=
  f_L_law_j2446 K rc28 v0 v1 v2 v3 v4 v5 
def f_L_law_j2056 (K : Nat → Nat) (rc28 : Int32 → AM (Int32)) (v0 : Option Nat) (v1 : Option Nat) (v2 : Option Nat) (v3 : Option Nat) (v4 : Option Nat) (v5 : Int32)  : AM (Int32) :=
  f_L_law_j2446 K rc28 v0 v1 v2 v3 v4 v5 
def f_L_law_j2112 (K : Nat → Nat) (rc28 : Int32 → AM (Int32)) (v0 : Option Nat) (v1 : Option Nat) (v2 : Option Nat) (v3 : Option Nat) (v4 : Option Nat) (v5 : Int32)  : AM (Int32) :=
  f_L_law_j2446 K rc28 v0 v1 v2 v3 v4 v5 
def f_L_law_j2170 (K : Nat → Nat) (rc28 : Int32 → AM (Int32)) (v0 : Option Nat) (v1 : Option Nat) (v2 : Option Nat) (v3 : Option Nat) (v4 : Option Nat) (v5 : Int32)  : AM (Int32) :=
  f_L_law_j2446 K rc28 v0 v1 v2 v3 v4 v5 
def f_L_law_j2214 (K : Nat → Nat) (rc28 : Int32 → AM (Int32)) (v0 : Option Nat) (v1 : Option Nat) (v2 : Option Nat) (v3 : Option Nat) (v4 : Option Nat) (v5 : Int32)  : AM (Int32) :=
  f_L_law_j2446 K rc28 v0 v1 v2 v3 v4 v5 
def f_L_law_j2258 (K : Nat → Nat) (rc28 : Int32 → AM (Int32)) (v0 : Option Nat) (v1 : Option Nat) (v2 : Option Nat) (v3 : Option Nat) (v4 : Option Nat) (v5 : Int32)  : AM (Int32) :=
  f_L_law_j2446 K rc28 v0 v1 v2 v3 v4 v5 
def f_L_law_j2342 (K : Nat → Nat) (rc28 : Int32 → AM (Int32)) (v0 : Option Nat) (v1 : Option Nat) (v2 : Option Nat) (v3 : Option Nat) (v4 : Option Nat) (v5 : Int32)  : AM (Int32) :=
  f_L_law_j2446 K rc28 v0 v1 v2 v3 v4 v5 
def f_L_law_j2309 (K : Nat → Nat) (rc28 : Int32 → AM (Int32)) (v0 : Option Nat) (v1 : Option Nat) (v2 : Option Nat) (v3 : Option Nat) (v4 : Option Nat) (v5 : Int32) (v6 : Int32) (t0 : Int32) (t1 : Int32) (t2 : Option Nat) : AM (Int32) :=
  bd (dv t2 1 (f_X4_reason K t2 t1 t0) (fl)) fun x2309 => bd (dv v2 1 (f_X4_thrown K v2) (fl)) fun x2315 => if x2315 = v6 then (if v6 = 0 then (bd (ald pJ 1004 v3 (0 : Int32)) fun x2332 => if (lg_cmp x2332 (x2309.toInt64)) = 0 then (f_L_law_j2342 K rc28 v0 v1 v2 v3 v4 v5 ) else (rt (0 : Int32))) else (f_L_law_j2342 K rc28 v0 v1 v2 v3 v4 v5 )) else (rt (0 : Int32))
def f_L_law_j2282 (K : Nat → Nat) (rc28 : Int32 → AM (Int32)) (v0 : Option Nat) (v1 : Option Nat) (v2 : Option Nat) (v3 : Option Nat) (v4 : Option Nat) (v5 : Int32) (t0 : Int32) (t1 : Int32) (t2 : Option Nat) : AM (Int32) :=
  bd (f_X0_reason K t2 t1 t0 v3) fun x2283 => bd (ald pI 1001 v0 (v5 + (1 : Int32))) fun x2294 => bd (ald pI 1001 v0 (v5 + (2 : Int32))) fun x2300 => if x2300 = 0 then (f_L_law_j2309 K rc28 v0 v1 v2 v3 v4 v5 x2283 (0 : Int32) x2294 v2) else (f_L_law_j2309 K rc28 v0 v1 v2 v3 v4 v5 x2283 (1 : Int32) x2294 v2)
def f_L_law_j2386 (K : Nat → Nat) (rc28 : Int32 → AM (Int32)) (v0 : Option Nat) (v1 : Option Nat) (v2 : Option Nat) (v3 : Option Nat) (v4 : Option Nat) (v5 : Int32)  : AM (Int32) :=
  f_L_law_j2446 K rc28 v0 v1 v2 v3 v4 v5 
def f_L_law_j2443 (K : Nat → Nat) (rc28 : Int32 → AM (Int32)) (v0 : Option Nat) (v1 : Option Nat) (v2 : Option Nat) (v3 : Option Nat) (v4 : Option Nat) (v5 : Int32)  : AM (Int32) :=
  f_L_law_j2446 K rc28 v0 v1 v2 v3 v4 v5 
def f_L_law_b28 (K : Nat → Nat) (rc28 : Int32 → AM (Int32)) (v0 : Option Nat) (v1 : Option Nat) (v2 : Option Nat) (v3 : Option Nat) (v4 : Option Nat) (v5 : Int32)  : AM (Int32) :=
  bd (alen v0) fun x31 => if (x31 - (5 : Int32)) < v5 then (rt (1 : Int32)) else (bd (ald pI 1001 v0 v5) fun x40 => if (x40 &&& (63 : Int32)) = (0 : Int32) then (bd (f_X0_mat K v1 v3) fun x214 => bd (dv v2 1 (f_X4_mat K v2) (fl)) fun x220 => bd (dv v2 1 (f_X4_thrown K v2) (fl)) fun x226 => if x226 = x214 then (if x214 = 0 then (bd (ald pJ 1004 v3 (0 : Int32)) fun x243 => if (lg_cmp x243 (x220.toInt64)) = 0 then (f_L_law_j253 K rc28 v0 v1 v2 v3 v4 v5 ) else (rt (0 : Int32))) else (f_L_law_j253 K rc28 v0 v1 v2 v3 v4 v5 )) else (rt (0 : Int32))) else if (x40 &&& (63 : Int32)) = (1 : Int32) then (bd (ald pI 1001 v0 (v5 + (1 : Int32))) fun x262 => bd (ald pI 1001 v0 (v5 + (2 : Int32))) fun x268 => bd (f_X0_fix K v1 x262 x268 v3) fun x270 => bd (ald pI 1001 v0 (v5 + (1 : Int32))) fun x281 => bd (ald pI 1001 v0 (v5 + (2 : Int32))) fun x287 => bd (dv v2 1 (f_X4_fix K v2 x281 x287) (fl)) fun x288 => bd (dv v2 1 (f_X4_thrown K v2) (fl)) fun x294 => if x294 = x270 then (if x270 = 0 then (bd (ald pJ 1004 v3 (0 : Int32)) fun x311 => if (lg_cmp x311 (x288.toInt64)) = 0 then (f_L_law_j321 K rc28 v0 v1 v2 v3 v4 v5 ) else (rt (0 : Int32))) else (f_L_law_j321 K rc28 v0 v1 v2 v3 v4 v5 )) else (rt (0 : Int32))) else if (x40 &&& (63 : Int32)) = (2 : Int32) then (bd (ald pI 1001 v0 (v5 + (1 : Int32))) fun x330 => bd (f_X0_open K v1 x330 v3) fun x332 => bd (ald pI 1001 v0 (v5 + (1 : Int32))) fun x343 => bd (dv v2 1 (f_X4_open K v2 x343) (fl)) fun x344 => bd (dv v2 1 (f_X4_thrown K v2) (fl)) fun x350 => if x350 = x332 then (if x332 = 0 then (bd (ald pJ 1004 v3 (0 : Int32)) fun x367 => if (lg_cmp x367 (x344.toInt64)) = 0 then (f_L_law_j377 K rc28 v0 v1 v2 v3 v4 v5 ) else (rt (0 : Int32))) else (f_L_law_j377 K rc28 v0 v1 v2 v3 v4 v5 )) else (rt (0 : Int32))) else if (x40 &&& (63 : Int32)) = (3 : Int32) then (bd (ald pI 1001 v0 (v5 + (1 : Int32))) fun x386 => bd (ald pI 1001 v0 (v5 + (2 : Int32))) fun x392 => bd (f_X0_matOf K v1 x386 x392 v3) fun x394 => bd (ald pI 1001 v0 (v5 + (1 : Int32))) fun x405 => bd (ald pI 1001 v0 (v5 + (2 : Int32))) fun x411 => bd (dv v2 1 (f_X4_matOf K v2 x405 x411) (fl)) fun x412 => bd (dv v2 1 (f_X4_thrown K v2) (fl)) fun x418 => if x418 = x394 then (if x394 = 0 then (bd (ald pJ 1004 v3 (0 : Int32)) fun x435 => if (lg_cmp x435 (x412.toInt64)) = 0 then (f_L_law_j445 K rc28 v0 v1 v2 v3 v4 v5 ) else (rt (0 : Int32))) else (f_L_law_j445 K rc28 v0 v1 v2 v3 v4 v5 )) else (rt (0 : Int32))) else if (x40 &&& (63 : Int32)) = (4 : Int32) then (bd (ald pI 1001 v0 (v5 + (1 : Int32))) fun x454 => bd (ald pI 1001 v0 (v5 + (2 : Int32))) fun x460 => bd (f_X0_wear K v1 x454 x460 v3) fun x462 => bd (ald pI 1001 v0 (v5 + (1 : Int32))) fun x473 => bd (ald pI 1001 v0 (v5 + (2 : Int32))) fun x479 => bd (dv v2 1 (f_X4_wear K v2 x473 x479) (fl)) fun x480 => bd (dv v2 1 (f_X4_thrown K v2) (fl)) fun x486 => if x486 = x462 then (if x462 = 0 then (bd (ald pJ 1004 v3 (0 : Int32)) fun x503 => if (lg_cmp x503 (x480.toInt64)) = 0 then (f_L_law_j513 K rc28 v0 v1 v2 v3 v4 v5 ) else (rt (0 : Int32))) else (f_L_law_j513 K rc28 v0 v1 v2 v3 v4 v5 )) else (rt (0 : Int32))) else if (x40 &&& (63 : Int32)) = (5 : Int32) then (bd (ald pI 1001 v0 (v5 + (1 : Int32))) fun x522 => bd (f_X0_bearsAgain K v1 x522 v3) fun x524 => bd (ald pI 1001 v0 (v5 + (1 : Int32))) fun x535 => bd (dv v2 1 (f_X4_bearsAgain K v2 x535) (fl)) fun x536 => bd (dv v2 1 (f_X4_thrown K v2) (fl)) fun x542 => if x542 = x524 then (if x524 = 0 then (bd (ald pJ 1004 v3 (0 : Int32)) fun x559 => if (lg_cmp x559 (x536.toInt64)) = 0 then (f_L_law_j569 K rc28 v0 v1 v2 v3 v4 v5 ) else (rt (0 : Int32))) else (f_L_law_j569 K rc28 v0 v1 v2 v3 v4 v5 )) else (rt (0 : Int32))) else if (x40 &&& (63 : Int32)) = (6 : Int32) then (bd (ald pI 1001 v0 (v5 + (1 : Int32))) fun x578 => bd (f_X0_lasts K v1 x578 v3) fun x580 => bd (ald pI 1001 v0 (v5 + (1 : Int32))) fun x591 => bd (dv v2 1 (f_X4_lasts K v2 x591) (fl)) fun x592 => bd (dv v2 1 (f_X4_thrown K v2) (fl)) fun x598 => if x598 = x580 then (if x580 = 0 then (bd (ald pJ 1004 v3 (0 : Int32)) fun x615 => if (lg_cmp x615 (x592.toInt64)) = 0 then (f_L_law_j625 K rc28 v0 v1 v2 v3 v4 v5 ) else (rt (0 : Int32))) else (f_L_law_j625 K rc28 v0 v1 v2 v3 v4 v5 )) else (rt (0 : Int32))) else if (x40 &&& (63 : Int32)) = (7 : Int32) then (bd (f_X0_bestMat K v1 v3) fun x630 => bd (dv v2 1 (f_X4_bestMat K v2) (fl)) fun x636 => bd (dv v2 1 (f_X4_thrown K v2) (fl)) fun x642 => if x642 = x630 then (if x630 = 0 then (bd (ald pJ 1004 v3 (0 : Int32)) fun x659 => if (lg_cmp x659 (x636.toInt64)) = 0 then (f_L_law_j669 K rc28 v0 v1 v2 v3 v4 v5 ) else (rt (0 : Int32))) else (f_L_law_j669 K rc28 v0 v1 v2 v3 v4 v5 )) else (rt (0 : Int32))) else if (x40 &&& (63 : Int32)) = (8 : Int32) then (bd (ald pI 1001 v0 (v5 + (1 : Int32))) fun x678 => bd (ald pI 1001 v0 (v5 + (2 : Int32))) fun x684 => bd (f_X0_jumper K v1 x678 x684 v3) fun x686 => bd (ald pI 1001 v0 (v5 + (1 : Int32))) fun x697 => bd (ald pI 1001 v0 (v5 + (2 : Int32))) fun x703 => bd (dv v2 1 (f_X4_jumper K v2 x697 x703) (fl)) fun x704 => bd (dv v2 1 (f_X4_thrown K v2) (fl)) fun x710 => if x710 = x686 then (if x686 = 0 then (bd (ald pJ 1004 v3 (0 : Int32)) fun x727 => if (lg_cmp x727 (x704.toInt64)) = 0 then (f_L_law_j737 K rc28 v0 v1 v2 v3 v4 v5 ) else (rt (0 : Int32))) else (f_L_law_j737 K rc28 v0 v1 v2 v3 v4 v5 )) else (rt (0 : Int32))) else if (x40 &&& (63 : Int32)) = (9 : Int32) then (bd (ald pI 1001 v0 (v5 + (1 : Int32))) fun x746 => bd (ald pI 1001 v0 (v5 + (2 : Int32))) fun x752 => bd (f_X0_up K v1 x746 x752 v3) fun x754 => bd (ald pI 1001 v0 (v5 + (1 : Int32))) fun x765 => bd (ald pI 1001 v0 (v5 + (2 : Int32))) fun x771 => bd (dv v2 1 (f_X4_up K v2 x765 x771) (fl)) fun x772 => bd (dv v2 1 (f_X4_thrown K v2) (fl)) fun x778 => if x778 = x754 then (if x754 = 0 then (bd (ald pJ 1004 v3 (0 : Int32)) fun x795 => if (lg_cmp x795 (x772.toInt64)) = 0 then (f_L_law_j805 K rc28 v0 v1 v2 v3 v4 v5 ) else (rt (0 : Int32))) else (f_L_law_j805 K rc28 v0 v1 v2 v3 v4 v5 )) else (rt (0 : Int32))) else if (x40 &&& (63 : Int32)) = (10 : Int32) then (bd (ald pI 1001 v0 (v5 + (1 : Int32))) fun x814 => bd (f_X0_down K v1 x814 v3) fun x816 => bd (ald pI 1001 v0 (v5 + (1 : Int32))) fun x827 => bd (dv v2 1 (f_X4_down K v2 x827) (fl)) fun x828 => bd (dv v2 1 (f_X4_thrown K v2) (fl)) fun x834 => if x834 = x816 then (if x816 = 0 then (bd (ald pJ 1004 v3 (0 : Int32)) fun x851 => if (lg_cmp x851 (x828.toInt64)) = 0 then (f_L_law_j861 K rc28 v0 v1 v2 v3 v4 v5 ) else (rt (0 : Int32))) else (f_L_law_j861 K rc28 v0 v1 v2 v3 v4 v5 )) else (rt (0 : Int32))) else if (x40 &&& (63 : Int32)) = (11 : Int32) then (bd (ald pI 1001 v0 (v5 + (1 : Int32))) fun x870 => bd (f_X0_leave K v1 x870 v3) fun x872 => bd (ald pI 1001 v0 (v5 + (1 : Int32))) fun x883 => bd (dv v2 1 (f_X4_leave K v2 x883) (fl)) fun x884 => bd (dv v2 1 (f_X4_thrown K v2) (fl)) fun x890 => if x890 = x872 then (if x872 = 0 then (bd (ald pJ 1004 v3 (0 : Int32)) fun x907 => if (lg_cmp x907 (x884.toInt64)) = 0 then (f_L_law_j917 K rc28 v0 v1 v2 v3 v4 v5 ) else (rt (0 : Int32))) else (f_L_law_j917 K rc28 v0 v1 v2 v3 v4 v5 )) else (rt (0 : Int32))) else if (x40 &&& (63 : Int32)) = (12 : Int32) then (bd (ald pI 1001 v0 (v5 + (1 : Int32))) fun x926 => bd (ald pI 1001 v0 (v5 + (2 : Int32))) fun x932 => bd (ald pI 1001 v0 (v5 + (3 : Int32))) fun x938 => bd (f_X0_stock K v1 x926 x932 x938 v3) fun x940 => bd (ald pI 1001 v0 (v5 + (1 : Int32))) fun x951 => bd (ald pI 1001 v0 (v5 + (2 : Int32))) fun x957 => bd (ald pI 1001 v0 (v5 + (3 : Int32))) fun x963 => bd (dv v2 1 (f_X4_stock K v2 x951 x957 x963) (fl)) fun x964 => bd (dv v2 1 (f_X4_thrown K v2) (fl)) fun x970 => if x970 = x940 then (if x940 = 0 then (bd (ald pJ 1004 v3 (0 : Int32)) fun x987 => if (lg_cmp x987 (x964.toInt64)) = 0 then (f_L_law_j997 K rc28 v0 v1 v2 v3 v4 v5 ) else (rt (0 : Int32))) else (f_L_law_j997 K rc28 v0 v1 v2 v3 v4 v5 )) else (rt (0 : Int32))) else if (x40 &&& (63 : Int32)) = (13 : Int32) then (bd (ald pI 1001 v0 (v5 + (1 : Int32))) fun x1006 => bd (ald pI 1001 v0 (v5 + (2 : Int32))) fun x1012 => bd (f_X0_sell K v1 x1006 x1012 v3) fun x1014 => bd (ald pI 1001 v0 (v5 + (1 : Int32))) fun x1025 => bd (ald pI 1001 v0 (v5 + (2 : Int32))) fun x1031 => bd (dv v2 1 (f_X4_sell K v2 x1025 x1031) (fl)) fun x1032 => bd (dv v2 1 (f_X4_thrown K v2) (fl)) fun x1038 => if x1038 = x1014 then (if x1014 = 0 then (bd (ald pJ 1004 v3 (0 : Int32)) fun x1055 => if (lg_cmp x1055 (x1032.toInt64)) = 0 then (f_L_law_j1065 K rc28 v0 v1 v2 v3 v4 v5 ) else (rt (0 : Int32))) else (f_L_law_j1065 K rc28 v0 v1 v2 v3 v4 v5 )) else (rt (0 : Int32))) else if (x40 &&& (63 : Int32)) = (14 : Int32) then (bd (ald pI 1001 v0 (v5 + (1 : Int32))) fun x1074 => bd (ald pI 1001 v0 (v5 + (2 : Int32))) fun x1080 => bd (f_X0_jumperOf K v1 x1074 x1080 v3) fun x1082 => bd (ald pI 1001 v0 (v5 + (1 : Int32))) fun x1093 => bd (ald pI 1001 v0 (v5 + (2 : Int32))) fun x1099 => bd (dv v2 1 (f_X4_jumperOf K v2 x1093 x1099) (fl)) fun x1100 => bd (dv v2 1 (f_X4_thrown K v2) (fl)) fun x1106 => if x1106 = x1082 then (if x1082 = 0 then (bd (ald pJ 1004 v3 (0 : Int32)) fun x1123 => if (lg_cmp x1123 (x1100.toInt64)) = 0 then (f_L_law_j1133 K rc28 v0 v1 v2 v3 v4 v5 ) else (rt (0 : Int32))) else (f_L_law_j1133 K rc28 v0 v1 v2 v3 v4 v5 )) else (rt (0 : Int32))) else if (x40 &&& (63 : Int32)) = (15 : Int32) then (bd (ald pI 1001 v0 (v5 + (1 : Int32))) fun x1142 => bd (ald pI 1001 v0 (v5 + (2 : Int32))) fun x1148 => bd (ald pI 1001 v0 (v5 + (3 : Int32))) fun x1154 => if x1154 = 0 then (f_L_law_j1163 K rc28 v0 v1 v2 v3 v4 v5 (0 : Int32) x1148 x1142 v1) else (f_L_law_j1163 K rc28 v0 v1 v2 v3 v4 v5 (1 : Int32) x1148 x1142 v1)) else if (x40 &&& (63 : Int32)) = (16 : Int32) then (bd (f_X0_bestSize K v1 v3) fun x1234 => bd (dv v2 1 (f_X4_bestSize K v2) (fl)) fun x1240 => bd (dv v2 1 (f_X4_thrown K v2) (fl)) fun x1246 => if x1246 = x1234 then (if x1234 = 0 then (bd (ald pJ 1004 v3 (0 : Int32)) fun x1263 => if (lg_cmp x1263 (x1240.toInt64)) = 0 then (f_L_law_j1273 K rc28 v0 v1 v2 v3 v4 v5 ) else (rt (0 : Int32))) else (f_L_law_j1273 K rc28 v0 v1 v2 v3 v4 v5 )) else (rt (0 : Int32))) else if (x40 &&& (63 : Int32)) = (17 : Int32) then (bd (ald pI 1001 v0 (v5 + (1 : Int32))) fun x1282 => bd (f_X0_matFor K v1 x1282 v3) fun x1284 => bd (ald pI 1001 v0 (v5 + (1 : Int32))) fun x1295 => bd (dv v2 1 (f_X4_matFor K v2 x1295) (fl)) fun x1296 => bd (dv v2 1 (f_X4_thrown K v2) (fl)) fun x1302 => if x1302 = x1284 then (if x1284 = 0 then (bd (ald pJ 1004 v3 (0 : Int32)) fun x1319 => if (lg_cmp x1319 (x1296.toInt64)) = 0 then (f_L_law_j1329 K rc28 v0 v1 v2 v3 v4 v5 ) else (rt (0 : Int32))) else (f_L_law_j1329 K rc28 v0 v1 v2 v3 v4 v5 )) else (rt (0 : Int32))) else if (x40 &&& (63 : Int32)) = (18 : Int32) then (bd (f_X0_guard K v1 v3) fun x1334 => bd (dv v2 1 (f_X4_guard K v2) (fl)) fun x1340 => bd (dv v2 1 (f_X4_thrown K v2) (fl)) fun x1346 => if x1346 = x1334 then (if x1334 = 0 then (bd (ald pJ 1004 v3 (0 : Int32)) fun x1363 => if (lg_cmp x1363 (x1340.toInt64)) = 0 then (f_L_law_j1373 K rc28 v0 v1 v2 v3 v4 v5 ) else (rt (0 : Int32))) else (f_L_law_j1373 K rc28 v0 v1 v2 v3 v4 v5 )) else (rt (0 : Int32))) else if (x40 &&& (63 : Int32)) = (19 : Int32) then (bd (ald pI 1001 v0 (v5 + (1 : Int32))) fun x1382 => bd (ald pI 1001 v0 (v5 + (2 : Int32))) fun x1388 => bd (f_X0_place K v1 x1382 x1388 v3) fun x1390 => bd (ald pI 1001 v0 (v5 + (1 : Int32))) fun x1401 => bd (ald pI 1001 v0 (v5 + (2 : Int32))) fun x1407 => bd (dv v2 1 (f_X4_place K v2 x1401 x1407) (fl)) fun x1408 => bd (dv v2 1 (f_X4_thrown K v2) (fl)) fun x1414 => if x1414 = x1390 then (if x1390 = 0 then (bd (ald pJ 1004 v3 (0 : Int32)) fun x1431 => if (lg_cmp x1431 (x1408.toInt64)) = 0 then (f_L_law_j1441 K rc28 v0 v1 v2 v3 v4 v5 ) else (rt (0 : Int32))) else (f_L_law_j1441 K rc28 v0 v1 v2 v3 v4 v5 )) else (rt (0 : Int32))) else if (x40 &&& (63 : Int32)) = (20 : Int32) then (bd (ald pI 1001 v0 (v5 + (1 : Int32))) fun x1450 => bd (f_X0_at K v1 x1450 v3) fun x1452 => bd (ald pI 1001 v0 (v5 + (1 : Int32))) fun x1463 => bd (dv v2 1 (f_X4_at K v2 x1463) (fl)) fun x1464 => bd (dv v2 1 (f_X4_thrown K v2) (fl)) fun x1470 => if x1470 = x1452 then (if x1452 = 0 then (bd (ald pJ 1004 v3 (0 : Int32)) fun x1487 => if (lg_cmp x1487 (x1464.toInt64)) = 0 then (f_L_law_j1497 K rc28 v0 v1 v2 v3 v4 v5 ) else (rt (0 : Int32))) else (f_L_law_j1497 K rc28 v0 v1 v2 v3 v4 v5 )) else (rt (0 : Int32))) else if (x40 &&& (63 : Int32)) = (21 : Int32) then (bd (ald pI 1001 v0 (v5 + (1 : Int32))) fun x1506 => bd (ald pI 1001 v0 (v5 + (2 : Int32))) fun x1512 => bd (ald pI 1001 v0 (v5 + (3 : Int32))) fun x1518 => bd (ald pI 1001 v0 (v5 + (4 : Int32))) fun x1524 => bd (f_X0_book K v1 x1506 x1512 x1518 x1524 v3) fun x1526 => bd (ald pI 1001 v0 (v5 + (1 : Int32))) fun x1537 => bd (ald pI 1001 v0 (v5 + (2 : Int32))) fun x1543 => bd (ald pI 1001 v0 (v5 + (3 : Int32))) fun x1549 => bd (ald pI 1001 v0 (v5 + (4 : Int32))) fun x1555 => bd (dv v2 1 (f_X4_book K v2 x1537 x1543 x1549 x1555) (fl)) fun x1556 => bd (dv v2 1 (f_X4_thrown K v2) (fl)) fun x1562 => if x1562 = x1526 then (if x1526 = 0 then (bd (ald pJ 1004 v3 (0 : Int32)) fun x1579 => if (lg_cmp x1579 (x1556.toInt64)) = 0 then (f_L_law_j1589 K rc28 v0 v1 v2 v3 v4 v5 ) else (rt (0 : Int32))) else (f_L_law_j1589 K rc28 v0 v1 v2 v3 v4 v5 )) else (rt (0 : Int32))) else if (x40 &&& (63 : Int32)) = (22 : Int32) then (bd (ald pI 1001 v0 (v5 + (1 : Int32))) fun x1598 => bd (f_X0_cancel K v1 x1598 v3) fun x1600 => bd (ald pI 1001 v0 (v5 + (1 : Int32))) fun x1611 => bd (dv v2 1 (f_X4_cancel K v2 x1611) (fl)) fun x1612 => bd (dv v2 1 (f_X4_thrown K v2) (fl)) fun x1618 => if x1618 = x1600 then (if x1600 = 0 then (bd (ald pJ 1004 v3 (0 : Int32)) fun x1635 => if (lg_cmp x1635 (x1612.toInt64)) = 0 then (f_L_law_j1645 K rc28 v0 v1 v2 v3 v4 v5 ) else (rt (0 : Int32))) else (f_L_law_j1645 K rc28 v0 v1 v2 v3 v4 v5 )) else (rt (0 : Int32))) else if (x40 &&& (63 : Int32)) = (23 : Int32) then (bd (ald pI 1001 v0 (v5 + (1 : Int32))) fun x1654 => bd (ald pI 1001 v0 (v5 + (2 : Int32))) fun x1660 => bd (f_X0_partyOf K v1 x1654 x1660 v3) fun x1662 => bd (ald pI 1001 v0 (v5 + (1 : Int32))) fun x1673 => bd (ald pI 1001 v0 (v5 + (2 : Int32))) fun x1679 => bd (dv v2 1 (f_X4_partyOf K v2 x1673 x1679) (fl)) fun x1680 => bd (dv v2 1 (f_X4_thrown K v2) (fl)) fun x1686 => if x1686 = x1662 then (if x1662 = 0 then (bd (ald pJ 1004 v3 (0 : Int32)) fun x1703 => if (lg_cmp x1703 (x1680.toInt64)) = 0 then (f_L_law_j1713 K rc28 v0 v1 v2 v3 v4 v5 ) else (rt (0 : Int32))) else (f_L_law_j1713 K rc28 v0 v1 v2 v3 v4 v5 )) else (rt (0 : Int32))) else if (x40 &&& (63 : Int32)) = (24 : Int32) then (bd (f_X0_nextParty K v1 v3) fun x1718 => bd (dv v2 1 (f_X4_nextParty K v2) (fl)) fun x1724 => bd (dv v2 1 (f_X4_thrown K v2) (fl)) fun x1730 => if x1730 = x1718 then (if x1718 = 0 then (bd (ald pJ 1004 v3 (0 : Int32)) fun x1747 => if (lg_cmp x1747 (x1724.toInt64)) = 0 then (f_L_law_j1757 K rc28 v0 v1 v2 v3 v4 v5 ) else (rt (0 : Int32))) else (f_L_law_j1757 K rc28 v0 v1 v2 v3 v4 v5 )) else (rt (0 : Int32))) else if (x40 &&& (63 : Int32)) = (25 : Int32) then (bd (ald pI 1001 v0 (v5 + (1 : Int32))) fun x1766 => bd (f_X0_pass K v1 x1766 v3) fun x1768 => bd (ald pI 1001 v0 (v5 + (1 : Int32))) fun x1779 => bd (dv v2 1 (f_X4_pass K v2 x1779) (fl)) fun x1780 => bd (dv v2 1 (f_X4_thrown K v2) (fl)) fun x1786 => if x1786 = x1768 then (if x1768 = 0 then (bd (ald pJ 1004 v3 (0 : Int32)) fun x1803 => if (lg_cmp x1803 (x1780.toInt64)) = 0 then (f_L_law_j1813 K rc28 v0 v1 v2 v3 v4 v5 ) else (rt (0 : Int32))) else (f_L_law_j1813 K rc28 v0 v1 v2 v3 v4 v5 )) else (rt (0 : Int32))) else if (x40 &&& (63 : Int32)) = (26 : Int32) then (bd (ald pI 1001 v0 (v5 + (1 : Int32))) fun x1822 => bd (f_X0_tell K v1 x1822 v3) fun x1824 => bd (ald pI 1001 v0 (v5 + (1 : Int32))) fun x1835 => bd (dv v2 1 (f_X4_tell K v2 x1835) (fl)) fun x1836 => bd (dv v2 1 (f_X4_thrown K v2) (fl)) fun x1842 => if x1842 = x1824 then (if x1824 = 0 then (bd (ald pJ 1004 v3 (0 : Int32)) fun x1859 => if (lg_cmp x1859 (x1836.toInt64)) = 0 then (f_L_law_j1869 K rc28 v0 v1 v2 v3 v4 v5 ) else (rt (0 : Int32))) else (f_L_law_j1869 K rc28 v0 v1 v2 v3 v4 v5 )) else (rt (0 : Int32))) else if (x40 &&& (63 : Int32)) = (27 : Int32) then (bd (ald pI 1001 v0 (v5 + (1 : Int32))) fun x1878 => bd (f_X0_character K v1 x1878 v3) fun x1880 => bd (ald pI 1001 v0 (v5 + (1 : Int32))) fun x1891 => bd (dv v2 1 (f_X4_character K v2 x1891) (fl)) fun x1892 => bd (dv v2 1 (f_X4_thrown K v2) (fl)) fun x1898 => if x1898 = x1880 then (if x1880 = 0 then (bd (ald pJ 1004 v3 (0 : Int32)) fun x1915 => if (lg_cmp x1915 (x1892.toInt64)) = 0 then (f_L_law_j1925 K rc28 v0 v1 v2 v3 v4 v5 ) else (rt (0 : Int32))) else (f_L_law_j1925 K rc28 v0 v1 v2 v3 v4 v5 )) else (rt (0 : Int32))) else if (x40 &&& (63 : Int32)) = (28 : Int32) then (bd (f_X0_meanWeight K v1 v4) fun x1931 => bd (dv v2 1 (f_X4_meanWeight K v2) (fl)) fun x1937 => bd (dv v2 1 (f_X4_thrown K v2) (fl)) fun x1943 => if x1943 = x1931 then (if x1931 = 0 then (bd (ald pD 1005 v4 (0 : Int32)) fun x1961 => chk (decide ((FP.f2d x1937) &&& 0x7fffffffffffffff ≤ 0x7ff0000000000000)) <| if (Op.cmpValue (FP.dcmp x1961 (FP.f2d x1937)) .l) = 0 then (f_L_law_j1991 K rc28 v0 v1 v2 v3 v4 v5 ) else (bd (ald pD 1005 v4 (0 : Int32)) fun x1972 => bd (ald pD 1005 v4 (0 : Int32)) fun x1976 => if (Op.cmpValue (FP.dcmp x1972 x1976) .l) = 0 then (rt (0 : Int32)) else (if (Op.cmpValue (FP.fcmp x1937 x1937) .l) = 0 then (rt (0 : Int32)) else (f_L_law_j1991 K rc28 v0 v1 v2 v3 v4 v5 )))) else (f_L_law_j1991 K rc28 v0 v1 v2 v3 v4 v5 )) else (rt (0 : Int32))) else if (x40 &&& (63 : Int32)) = (29 : Int32) then (bd (f_X0_brokenShare K v1 v4) fun x1997 => bd (dv v2 1 (f_X4_brokenShare K v2) (fl)) fun x2003 => bd (dv v2 1 (f_X4_thrown K v2) (fl)) fun x2009 => if x2009 = x1997 then (if x1997 = 0 then (bd (ald pD 1005 v4 (0 : Int32)) fun x2027 => if (Op.cmpValue (FP.dcmp x2027 x2003) .l) = 0 then (f_L_law_j2056 K rc28 v0 v1 v2 v3 v4 v5 ) else (bd (ald pD 1005 v4 (0 : Int32)) fun x2037 => bd (ald pD 1005 v4 (0 : Int32)) fun x2041 => if (Op.cmpValue (FP.dcmp x2037 x2041) .l) = 0 then (rt (0 : Int32)) else (if (Op.cmpValue (FP.dcmp x2003 x2003) .l) = 0 then (rt (0 : Int32)) else (f_L_law_j2056 K rc28 v0 v1 v2 v3 v4 v5 )))) else (f_L_law_j2056 K rc28 v0 v1 v2 v3 v4 v5 )) else (rt (0 : Int32))) else if (x40 &&& (63 : Int32)) = (30 : Int32) then (bd (ald pI 1001 v0 (v5 + (1 : Int32))) fun x2065 => bd (f_X0_account K v1 x2065 v3) fun x2067 => bd (ald pI 1001 v0 (v5 + (1 : Int32))) fun x2078 => bd (dv v2 1 (f_X4_account K v2 x2078) (fl)) fun x2079 => bd (dv v2 1 (f_X4_thrown K v2) (fl)) fun x2085 => if x2085 = x2067 then (if x2067 = 0 then (bd (ald pJ 1004 v3 (0 : Int32)) fun x2102 => if (lg_cmp x2102 (x2079.toInt64)) = 0 then (f_L_law_j2112 K rc28 v0 v1 v2 v3 v4 v5 ) else (rt (0 : Int32))) else (f_L_law_j2112 K rc28 v0 v1 v2 v3 v4 v5 )) else (rt (0 : Int32))) else if (x40 &&& (63 : Int32)) = (31 : Int32) then (bd (ald pI 1001 v0 (v5 + (1 : Int32))) fun x2121 => bd (f_X0_append K v1 ((x2121.toUInt32 % 65536).toInt32) v3) fun x2124 => bd (ald pI 1001 v0 (v5 + (1 : Int32))) fun x2135 => bd (dv v2 1 (f_X4_append K v2 ((x2135.toUInt32 % 65536).toInt32)) (fl)) fun x2137 => bd (dv v2 1 (f_X4_thrown K v2) (fl)) fun x2143 => if x2143 = x2124 then (if x2124 = 0 then (bd (ald pJ 1004 v3 (0 : Int32)) fun x2160 => if (lg_cmp x2160 (x2137.toInt64)) = 0 then (f_L_law_j2170 K rc28 v0 v1 v2 v3 v4 v5 ) else (rt (0 : Int32))) else (f_L_law_j2170 K rc28 v0 v1 v2 v3 v4 v5 )) else (rt (0 : Int32))) else if (x40 &&& (63 : Int32)) = (32 : Int32) then (bd (f_X0_read K v1 v3) fun x2175 => bd (dv v2 1 (f_X4_read K v2) (fl)) fun x2181 => bd (dv v2 1 (f_X4_thrown K v2) (fl)) fun x2187 => if x2187 = x2175 then (if x2175 = 0 then (bd (ald pJ 1004 v3 (0 : Int32)) fun x2204 => if (lg_cmp x2204 (x2181.toInt64)) = 0 then (f_L_law_j2214 K rc28 v0 v1 v2 v3 v4 v5 ) else (rt (0 : Int32))) else (f_L_law_j2214 K rc28 v0 v1 v2 v3 v4 v5 )) else (rt (0 : Int32))) else if (x40 &&& (63 : Int32)) = (33 : Int32) then (bd (f_X0_errorPosition K v1 v3) fun x2219 => bd (dv v2 1 (f_X4_errorPosition K v2) (fl)) fun x2225 => bd (dv v2 1 (f_X4_thrown K v2) (fl)) fun x2231 => if x2231 = x2219 then (if x2219 = 0 then (bd (ald pJ 1004 v3 (0 : Int32)) fun x2248 => if (lg_cmp x2248 (x2225.toInt64)) = 0 then (f_L_law_j2258 K rc28 v0 v1 v2 v3 v4 v5 ) else (rt (0 : Int32))) else (f_L_law_j2258 K rc28 v0 v1 v2 v3 v4 v5 )) else (rt (0 : Int32))) else if (x40 &&& (63 : Int32)) = (34 : Int32) then (bd (ald pI 1001 v0 (v5 + (1 : Int32))) fun x2267 => bd (ald pI 1001 v0 (v5 + (2 : Int32))) fun x2273 => if x2273 = 0 then (f_L_law_j2282 K rc28 v0 v1 v2 v3 v4 v5 (0 : Int32) x2267 v1) else (f_L_law_j2282 K rc28 v0 v1 v2 v3 v4 v5 (1 : Int32) x2267 v1)) else if (x40 &&& (63 : Int32)) = (35 : Int32) then (bd (f_X0_undo K v1 v3) fun x2347 => bd (dv v2 1 (f_X4_undo K v2) (fl)) fun x2353 => bd (dv v2 1 (f_X4_thrown K v2) (fl)) fun x2359 => if x2359 = x2347 then (if x2347 = 0 then (bd (ald pJ 1004 v3 (0 : Int32)) fun x2376 => if (lg_cmp x2376 (x2353.toInt64)) = 0 then (f_L_law_j2386 K rc28 v0 v1 v2 v3 v4 v5 ) else (rt (0 : Int32))) else (f_L_law_j2386 K rc28 v0 v1 v2 v3 v4 v5 )) else (rt (0 : Int32))) else if (x40 &&& (63 : Int32)) = (36 : Int32) then (bd (dv v1 2 (f_X1_save K v1) (fl)) fun x2390 => bd (dv v2 1 (f_X4_save K v2) (fl)) fun x2394 => if x2390 = x2394 then (f_L_law_j2446 K rc28 v0 v1 v2 v3 v4 v5 ) else (rt (0 : Int32))) else if (x40 &&& (63 : Int32)) = (37 : Int32) then (bd (f_X0_restore K v1 v3) fun x2404 => bd (dv v2 1 (f_X4_restore K v2) (fl)) fun x2410 => bd (dv v2 1 (f_X4_thrown K v2) (fl)) fun x2416 => if x2416 = x2404 then (if x2404 = 0 then (bd (ald pJ 1004 v3 (0 : Int32)) fun x2433 => if (lg_cmp x2433 (x2410.toInt64)) = 0 then (f_L_law_j2443 K rc28 v0 v1 v2 v3 v4 v5 ) else (rt (0 : Int32))) else (f_L_law_j2443 K rc28 v0 v1 v2 v3 v4 v5 )) else (rt (0 : Int32))) else (f_L_law_j2446 K rc28 v0 v1 v2 v3 v4 v5 ))
def f_L_law_l28 (K : Nat → Nat)  (v0 : Option Nat) (v1 : Option Nat) (v2 : Option Nat) (v3 : Option Nat) (v4 : Option Nat) : Nat → Int32 → AM (Int32) := fun n => match n with
  | 0 => fun _ => fl
  | n + 1 => fun v5 => f_L_law_b28 K (f_L_law_l28 K v0 v1 v2 v3 v4 n) v0 v1 v2 v3 v4 v5
def f_L_law (K : Nat → Nat) (v0 : Option Nat) : AM (Int32) :=
  bd (nwO K 2 8) fun x0 => bd (f_X1_init K x0) fun _ => bd (nwO K 1 25) fun x8 => bd (f_X4_init K x8) fun _ => bd (nwA K 1004 (.long 0) (1 : Int32)) fun x17 => bd (nwA K 1005 (.double 0) (1 : Int32)) fun x21 => f_L_law_l28 K  v0 x0 x8 x17 x21 FU (0 : Int32)
