/-! the component's methods, decompiled (written by wip/gen/genc.py) -/
set_option maxRecDepth 100000
def f_X1_feed_s17 (k17 : Int → Int → CW → Option (Int × CW)) (x1 : Int) (x2 : Int) (C : CW) : Option (Int × CW) :=
  if w32 x2 < 0 then (
    some (1, C))
  else (
    rd (cI C 200 6) fun v1 =>
    ax v1 400 fun j => rd (csI C 213 j (i2b (i2b (iShr x1 x2)))) fun C2 =>
    rd (cI C2 200 6) fun v3 =>
    rd (csI C2 200 6 (v3 + 1)) fun C4 =>
    k17 x1 (x2 + (-8)) C4)
def f_X1_feed_b17 : Nat → Int → Int → CW → Option (Int × CW)
  | 0 => fun _ _ _ => none
  | n + 1 => fun x1 x2 C => f_X1_feed_s17 (f_X1_feed_b17 n) x1 x2 C
def f_X1_feed (x1 : Int) (C : CW) : Option (Int × CW) :=
  rd (cI C 200 6) fun v5 =>
  if w32 (v5 + 4) ≤ w32 400 then (
    f_X1_feed_b17 FU x1 24 C)
  else (
    some (0, C))
def f_X1_end (x1 : Int) (C : CW) : Option (Int × CW) :=
  rd (cI C 200 7) fun v1 =>
  if w32 v1 = 0 then (
    some ((-1), C))
  else (
    if w32 x1 = 0 then (
      rd (cI C 200 8) fun v5 =>
      some (v5, C))
    else (
      if w32 x1 = w32 1 then (
        rd (cI C 200 9) fun v4 =>
        some (v4, C))
      else (
        if w32 x1 = w32 2 then (
          rd (cI C 200 10) fun v3 =>
          some (v3, C))
        else (
          if w32 x1 = w32 3 then (
            rd (cI C 200 11) fun v2 =>
            some (v2, C))
          else (
            some ((-1), C))))))
def f_J2_size (x0 : Nat) (C : CW) : Option (Int × CW) :=
  dr (some x0) fun q1 => gdB (hK C q1 == 15) <| rd (hI C q1 2) fun v2 =>
  some (v2, C)
def f_X1_count (x1 : Int) (C : CW) : Option (Int × CW) :=
  if w32 x1 = 0 then (
    rd (cI C 201 2) fun v8 =>
    some (v8, C))
  else (
    if w32 x1 = w32 1 then (
      dr (some (hB C + 4)) fun q7 => gdB (hK C q7 == 15) <| cB (f_J2_size q7 C) fun v6 C5 =>
      some (v6, C5))
    else (
      if w32 x1 = w32 2 then (
        dr (some (hB C + 5)) fun q4 => gdB (hK C q4 == 15) <| cB (f_J2_size q4 C) fun v3 C2 =>
        some (v3, C2))
      else (
        if w32 x1 = w32 3 then (
          rd (cI C 200 6) fun v1 =>
          some (v1, C))
        else (
          some ((-1), C)))))
def f_X2_has (x1 : Int) (C : CW) : Option (Int × CW) :=
  if w32 x1 < 0 then (
    some (0, C))
  else (
    rd (cI C 201 2) fun v1 =>
    if w32 v1 ≤ w32 x1 then (
      some (0, C))
    else (
      some (1, C)))
def f_J4_init (x0 : Nat) (C : CW) : Option (Unit × CW) :=
  dr (some x0) fun q2 => cB (f_J3_init q2 C) fun _ C1 =>
  some ((), C1)
def f_J5_init (x0 : Nat) (C : CW) : Option (Unit × CW) :=
  dr (some x0) fun q2 => cB (f_J4_init q2 C) fun _ C1 =>
  some ((), C1)
def f_J6_init (x0 : Nat) (C : CW) : Option (Unit × CW) :=
  dr (some x0) fun q2 => cB (f_J5_init q2 C) fun _ C1 =>
  some ((), C1)
def f_X1_allow (x0 : Int) (C : CW) : Option ((Nat ⊕ Unit) × CW) :=
  if w32 x0 = 0 then (
    al C 6 fun q1 => rd (hNew C 16 0 6) fun C2 =>
    dr (some q1) fun q4 => cB (f_J6_init q4 C2) fun _ C3 =>
    dr (some q1) fun q5 => some (Sum.inl q5, C3))
  else (
    some (Sum.inr (), C))
def f_J7_init (x0 : Nat) (C : CW) : Option (Unit × CW) :=
  dr (some x0) fun q2 => cB (f_J5_init q2 C) fun _ C1 =>
  some ((), C1)
def f_X1_need (x0 : Int) (C : CW) : Option ((Nat ⊕ Unit) × CW) :=
  if w32 x0 = 0 then (
    al C 6 fun q1 => rd (hNew C 17 0 6) fun C2 =>
    dr (some q1) fun q4 => cB (f_J7_init q4 C2) fun _ C3 =>
    dr (some q1) fun q5 => some (Sum.inl q5, C3))
  else (
    some (Sum.inr (), C))
def f_X2_add (x1 : Int) (x2 : Int) (C : CW) : Option (Int × CW) :=
  rd (cI C 201 2) fun v1 =>
  ax v1 16 fun j => rd (csI C 202 j x1) fun C2 =>
  rd (cI C2 201 2) fun v3 =>
  ax v3 16 fun j => rd (csI C2 203 j (iAnd x2 1)) fun C4 =>
  rd (cI C4 201 2) fun v5 =>
  rd (csI C4 201 2 (v5 + 1)) fun C6 =>
  rd (cI C6 201 2) fun v7 =>
  some ((v7 - 1), C6)
def f_X1_cls_b68 (x2 : Int) (s1 : Int) (C : CW) : Option ((Nat ⊕ Int) × CW) :=
  cB (f_X2_add s1 x2 C) fun v5 C4 =>
  some (Sum.inr v5, C4)
def f_X1_cls_b52 (x1 : Int) (x2 : Int) (s0 : Int) (C : CW) : Option ((Nat ⊕ Int) × CW) :=
  xB (f_X1_need s0 C) fun _ C3 =>
  if w32 x2 = 0 then (
    f_X1_cls_b68 x2 x1 C3)
  else (
    f_X1_cls_b68 x2 0 C3)
def f_X1_cls_b32 (x1 : Int) (x2 : Int) (s0 : Int) (C : CW) : Option ((Nat ⊕ Int) × CW) :=
  xB (f_X1_allow s0 C) fun _ C1 =>
  rd (cI C1 201 2) fun v2 =>
  if w32 16 ≤ w32 v2 then (
    f_X1_cls_b52 x1 x2 0 C1)
  else (
    f_X1_cls_b52 x1 x2 1 C1)
def f_X1_cls_b27 (x1 : Int) (x2 : Int) (C : CW) : Option ((Nat ⊕ Int) × CW) :=
  f_X1_cls_b32 x1 x2 1 C
def f_X1_cls_b31 (x1 : Int) (x2 : Int) (C : CW) : Option ((Nat ⊕ Int) × CW) :=
  f_X1_cls_b32 x1 x2 0 C
def f_X1_cls (x1 : Int) (x2 : Int) (C : CW) : Option ((Nat ⊕ Int) × CW) :=
  if w32 x2 = 0 then (
    cB (f_X2_has x1 C) fun v7 C6 =>
    if w32 v7 = 0 then (
      f_X1_cls_b31 x1 x2 C6)
    else (
      ax x1 16 fun j => rd (cI C6 203 j) fun v8 =>
      if w32 v8 = 0 then (
        f_X1_cls_b27 x1 x2 C6)
      else (
        f_X1_cls_b31 x1 x2 C6)))
  else (
    f_X1_cls_b27 x1 x2 C)
def f_X2_isObject (x0 : Int) (C : CW) : Option (Int × CW) :=
  if w32 x0 < w32 32 then (
    some (0, C))
  else (
    if w32 64 ≤ w32 x0 then (
      some (0, C))
    else (
      some (1, C)))
def f_X2_isArrayOf (x0 : Int) (C : CW) : Option (Int × CW) :=
  if w32 x0 < w32 64 then (
    some (0, C))
  else (
    if w32 1000 ≤ w32 x0 then (
      some (0, C))
    else (
      some (1, C)))
def f_X2_isType_b27 (x1 : Int) (C : CW) : Option (Int × CW) :=
  cB (f_X2_isArrayOf x1 C) fun v6 C5 =>
  if w32 v6 = 0 then (
    some (0, C5))
  else (
    cB (f_X2_has (x1 - 64) C5) fun v8 C7 =>
    if w32 v8 = 0 then (
      some (0, C7))
    else (
      some (1, C7)))
def f_X2_isType_b9 (x1 : Int) (C : CW) : Option (Int × CW) :=
  cB (f_X2_isObject x1 C) fun v2 C1 =>
  if w32 v2 = 0 then (
    f_X2_isType_b27 x1 C1)
  else (
    cB (f_X2_has (x1 - 32) C1) fun v4 C3 =>
    if w32 v4 = 0 then (
      f_X2_isType_b27 x1 C3)
    else (
      some (1, C3)))
def f_X2_isType (x1 : Int) (C : CW) : Option (Int × CW) :=
  if w32 x1 ≤ 0 then (
    f_X2_isType_b9 x1 C)
  else (
    if w32 x1 < w32 5 then (
      some (1, C))
    else (
      f_X2_isType_b9 x1 C))
def f_X7_init (x0 : Nat) (x1 : Int) (x2 : Int) (x3 : Int) (x4 : Int) (C : CW) : Option (Unit × CW) :=
  dr (some x0) fun q2 => gdB (hK C q2 == 8) <| rd (hsI C q2 0 x1) fun C1 =>
  dr (some x0) fun q4 => gdB (hK C1 q4 == 8) <| rd (hsI C1 q4 1 x2) fun C3 =>
  dr (some x0) fun q6 => gdB (hK C3 q6 == 8) <| rd (hsI C3 q6 2 x3) fun C5 =>
  dr (some x0) fun q8 => gdB (hK C5 q8 == 8) <| gdB (isZ x4) <| rd (hsI C5 q8 3 x4) fun C7 =>
  some ((), C7)
def f_J9_max (x0 : Int) (x1 : Int) (C : CW) : Option (Int × CW) :=
  if w32 x0 < w32 x1 then (
    some (x1, C))
  else (
    some (x0, C))
def f_J8_newLength_b21 (x0 : Int) (x1 : Int) (C : CW) : Option (Int × CW) :=
  none
def f_J8_newLength (x0 : Int) (x1 : Int) (x2 : Int) (C : CW) : Option (Int × CW) :=
  cB (f_J9_max x1 x2 C) fun v2 C1 =>
  rd (x0 + v2) fun v3 =>
  if w32 v3 ≤ w32 0 then (
    f_J8_newLength_b21 x0 x1 C1)
  else (
    if w32 2147483639 < w32 v3 then (
      f_J8_newLength_b21 x0 x1 C1)
    else (
      some (v3, C1)))
def f_J9_min (x0 : Int) (x1 : Int) (C : CW) : Option (Int × CW) :=
  if w32 x1 < w32 x0 then (
    some (x1, C))
  else (
    some (x0, C))
def f_J10_copyOf_2 (x0 : Option Nat) (x1 : Int) (x2 : Option Nat) (C : CW) : Option (Option Nat × CW) :=
  if x2 = (hE C 3) then (
    gdB (decide (0 ≤ w32 x1)) <| al C (w32 x1).toNat fun q1 => rd (hNew C (64 + 4) (w32 x1).toNat (w32 x1).toNat) fun C2 =>
    dr x0 fun q4 => gdB (Nat.ble 64 (hK C2 q4)) <| rd (hL C2 q4 : Int) fun v3 =>
    cB (f_J9_min v3 x1 C2) fun v6 C5 =>
    hCp C5 x0 0 (some q1) 0 v6 fun C7 =>
    some ((some q1), C7))
  else (
    none)
def f_J10_copyOf (x0 : Option Nat) (x1 : Int) (C : CW) : Option (Option Nat × CW) :=
  dr x0 fun q1 => gdB (hK C q1 == 68) <|
  cB (f_J10_copyOf_2 x0 x1 (hE C 3) C) fun v3 C2 =>
  some (v3, C2)
def f_J2_grow_2_b20 (x0 : Option Nat) (x1 : Int) (x2 : Int) (C : CW) : Option (Option Nat × CW) :=
  cB (f_J8_newLength x2 (x1 - x2) (iShr x2 1) C) fun v2 C1 =>
  dr x0 fun q3 => gdB (hK C1 q3 == 15) <| rd (hR C1 q3 1) fun v4 =>
  cB (f_J10_copyOf v4 v2 C1) fun v6 C5 =>
  dr x0 fun q8 => gdB (hK C5 q8 == 15) <| rd (hsR C5 q8 1 v6) fun C7 =>
  some (v6, C7)
def f_J2_grow_2 (x0 : Nat) (x1 : Int) (C : CW) : Option (Option Nat × CW) :=
  dr (some x0) fun q9 => gdB (hK C q9 == 15) <| rd (hR C q9 1) fun v10 =>
  dr v10 fun q12 => gdB (Nat.ble 64 (hK C q12)) <| rd (hL C q12 : Int) fun v11 =>
  if 0 < w32 v11 then (
    f_J2_grow_2_b20 (some x0) x1 v11 C)
  else (
    dr (some x0) fun q13 => gdB (hK C q13 == 15) <| rd (hR C q13 1) fun v14 =>
    if v14 = (hE C 0) then (
      cB (f_J9_max 10 x1 C) fun v16 C15 =>
      gdB (decide (0 ≤ w32 v16)) <| al C15 (w32 v16).toNat fun q17 => rd (hNew C15 (64 + 4) (w32 v16).toNat (w32 v16).toNat) fun C18 =>
      dr (some x0) fun q20 => gdB (hK C18 q20 == 15) <| rd (hsR C18 q20 1 (some q17)) fun C19 =>
      some ((some q17), C19))
    else (
      f_J2_grow_2_b20 (some x0) x1 v11 C))
def f_J2_grow (x0 : Nat) (C : CW) : Option (Option Nat × CW) :=
  dr (some x0) fun q1 => gdB (hK C q1 == 15) <| rd (hI C q1 2) fun v2 =>
  dr (some x0) fun q5 => gdB (hK C q5 == 15) <| cB (f_J2_grow_2 q5 (v2 + 1) C) fun v4 C3 =>
  some (v4, C3)
def f_J2_add_2_b11 (x0 : Option Nat) (x1 : Option Nat) (x2 : Option Nat) (x3 : Int) (C : CW) : Option (Unit × CW) :=
  dr x2 fun q2 => gdB (hK C q2 == 64 + 4 && okN x1 (fun w => okE 4 (hK C w))) <| ax x3 (hL C q2) fun j => rd (hsR C q2 j x1) fun C1 =>
  dr x0 fun q4 => gdB (hK C1 q4 == 15) <| rd (hsI C1 q4 2 (x3 + 1)) fun C3 =>
  some ((), C3)
def f_J2_add_2 (x0 : Nat) (x1 : Option Nat) (x2 : Option Nat) (x3 : Int) (C : CW) : Option (Unit × CW) :=
  dr x2 fun q6 => gdB (Nat.ble 64 (hK C q6)) <| rd (hL C q6 : Int) fun v5 =>
  if w32 x3 = w32 v5 then (
    dr (some x0) fun q9 => gdB (hK C q9 == 15) <| cB (f_J2_grow q9 C) fun v8 C7 =>
    f_J2_add_2_b11 (some x0) x1 v8 x3 C7)
  else (
    f_J2_add_2_b11 (some x0) x1 x2 x3 C)
def f_J2_add (x0 : Nat) (x1 : Option Nat) (C : CW) : Option (Int × CW) :=
  dr (some x0) fun q1 => gdB (hK C q1 == 15) <| rd (hI C q1 0) fun v2 =>
  dr (some x0) fun q4 => gdB (hK C q4 == 15) <| rd (hsI C q4 0 (v2 + 1)) fun C3 =>
  dr (some x0) fun q5 => gdB (hK C3 q5 == 15) <| rd (hR C3 q5 1) fun v6 =>
  dr (some x0) fun q7 => gdB (hK C3 q7 == 15) <| rd (hI C3 q7 2) fun v8 =>
  dr (some x0) fun q10 => gdB (hK C3 q10 == 15) <| cB (f_J2_add_2 q10 x1 v6 v8 C3) fun _ C9 =>
  some (1, C9)
def f_X1_field_b67 (x1 : Int) (x2 : Int) (x3 : Int) (s0 : Int) (C : CW) : Option ((Nat ⊕ Int) × CW) :=
  xB (f_X1_need s0 C) fun _ C5 =>
  al C5 4 fun q6 => rd (hNew C5 8 0 4) fun C7 =>
  dr (some (hB C7 + 4)) fun q10 => gdB (hK C7 q10 == 15) <| cB (f_J2_size q10 C7) fun v9 C8 =>
  dr (some q6) fun q12 => cB (f_X7_init q12 v9 x1 x2 x3 C8) fun _ C11 =>
  dr (some (hB C5 + 4)) fun q15 => gdB (hK C11 q15 == 15) <| cB (f_J2_add q15 (some q6) C11) fun v14 C13 =>
  dr (some (hB C13 + 4)) fun q18 => gdB (hK C13 q18 == 15) <| cB (f_J2_size q18 C13) fun v17 C16 =>
  some (Sum.inr (v17 - 1), C16)
def f_X1_field_b47 (x1 : Int) (x2 : Int) (x3 : Int) (s0 : Int) (C : CW) : Option ((Nat ⊕ Int) × CW) :=
  xB (f_X1_allow s0 C) fun _ C1 =>
  dr (some (hB C1 + 4)) fun q4 => gdB (hK C1 q4 == 15) <| cB (f_J2_size q4 C1) fun v3 C2 =>
  if w32 16 ≤ w32 v3 then (
    f_X1_field_b67 x1 x2 x3 0 C2)
  else (
    f_X1_field_b67 x1 x2 x3 1 C2)
def f_X1_field_b42 (x1 : Int) (x2 : Int) (x3 : Int) (C : CW) : Option ((Nat ⊕ Int) × CW) :=
  f_X1_field_b47 x1 x2 x3 1 C
def f_X1_field_b46 (x1 : Int) (x2 : Int) (x3 : Int) (C : CW) : Option ((Nat ⊕ Int) × CW) :=
  f_X1_field_b47 x1 x2 x3 0 C
def f_X1_field (x1 : Int) (x2 : Int) (x3 : Int) (C : CW) : Option ((Nat ⊕ Int) × CW) :=
  cB (f_X2_has x1 C) fun v20 C19 =>
  if w32 v20 = 0 then (
    f_X1_field_b46 x1 x2 x3 C19)
  else (
    cB (f_X2_isType x2 C19) fun v22 C21 =>
    if w32 v22 = 0 then (
      f_X1_field_b46 x1 x2 x3 C21)
    else (
      if w32 x3 = 0 then (
        if w32 x1 = 0 then (
          f_X1_field_b46 x1 x2 x3 C21)
        else (
          ax x1 16 fun j => rd (cI C21 203 j) fun v23 =>
          if w32 v23 = 0 then (
            f_X1_field_b42 x1 x2 x3 C21)
          else (
            f_X1_field_b46 x1 x2 x3 C21)))
      else (
        f_X1_field_b42 x1 x2 x3 C21)))
def f_J0_init (x0 : Nat) (C : CW) : Option (Unit × CW) :=
  some ((), C)
def f_J1_init (x0 : Nat) (C : CW) : Option (Unit × CW) :=
  dr (some x0) fun q2 => cB (f_J0_init q2 C) fun _ C1 =>
  dr (some x0) fun q4 => gdB (hK C1 q4 == 15) <| rd (hsI C1 q4 0 0) fun C3 =>
  some ((), C3)
def f_J2_init (x0 : Nat) (C : CW) : Option (Unit × CW) :=
  dr (some x0) fun q2 => cB (f_J1_init q2 C) fun _ C1 =>
  dr (some x0) fun q4 => gdB (hK C1 q4 == 15) <| rd (hsR C1 q4 1 (hE C1 0)) fun C3 =>
  some ((), C3)
def f_X8_init (x0 : Nat) (x1 : Option Nat) (x2 : Int) (C : CW) : Option (Unit × CW) :=
  al C 3 fun q1 => rd (hNew C 15 0 3) fun C2 =>
  dr (some q1) fun q4 => cB (f_J2_init q4 C2) fun _ C3 =>
  dr (some x0) fun q6 => gdB (hK C3 q6 == 7) <| rd (hsR C3 q6 5 (some q1)) fun C5 =>
  dr (some x0) fun q8 => gdB (hK C5 q8 == 7) <| rd (hsI C5 q8 8 (-1)) fun C7 =>
  gdB (decide (0 ≤ w32 0)) <| al C7 (w32 0).toNat fun q9 => rd (hNew C7 (64 + 3) (w32 0).toNat (w32 0).toNat) fun C10 =>
  dr (some x0) fun q12 => gdB (hK C10 q12 == 7) <| rd (hsR C10 q12 11 (some q9)) fun C11 =>
  dr (some x0) fun q14 => gdB (hK C11 q14 == 7) <| rd (hsR C11 q14 0 x1) fun C13 =>
  dr (some x0) fun q16 => gdB (hK C13 q16 == 7) <| rd (hsI C13 q16 1 x2) fun C15 =>
  some ((), C15)
def f_X1_method_b117 (x2 : Int) (x4 : Option Nat) (s0 : Int) (C : CW) : Option ((Nat ⊕ Int) × CW) :=
  xB (f_X1_need s0 C) fun _ C16 =>
  al C16 12 fun q17 => rd (hNew C16 7 0 12) fun C18 =>
  dr (some q17) fun q20 => cB (f_X8_init q20 x4 x2 C18) fun _ C19 =>
  dr (some (hB C16 + 5)) fun q23 => gdB (hK C19 q23 == 15) <| cB (f_J2_add q23 (some q17) C19) fun v22 C21 =>
  dr (some (hB C21 + 5)) fun q26 => gdB (hK C21 q26 == 15) <| cB (f_J2_size q26 C21) fun v25 C24 =>
  some (Sum.inr (v25 - 1), C24)
def f_X1_method_b97 (x2 : Int) (x4 : Option Nat) (s0 : Int) (C : CW) : Option ((Nat ⊕ Int) × CW) :=
  xB (f_X1_allow s0 C) fun _ C12 =>
  dr (some (hB C12 + 5)) fun q15 => gdB (hK C12 q15 == 15) <| cB (f_J2_size q15 C12) fun v14 C13 =>
  if w32 8 ≤ w32 v14 then (
    f_X1_method_b117 x2 x4 0 C13)
  else (
    f_X1_method_b117 x2 x4 1 C13)
def f_X1_method_b92 (x2 : Int) (x4 : Option Nat) (C : CW) : Option ((Nat ⊕ Int) × CW) :=
  f_X1_method_b97 x2 x4 1 C
def f_X1_method_s34 (k34 : Int → Int → Int → Option Nat → Int → CW → Option ((Nat ⊕ Int) × CW)) (x1 : Int) (x2 : Int) (x3 : Int) (x4 : Option Nat) (x5 : Int) (C : CW) : Option ((Nat ⊕ Int) × CW) :=
  if w32 x3 ≤ w32 x5 then (
    if w32 x2 = 0 then (
      f_X1_method_b92 x2 x4 C)
    else (
      cB (f_X2_isType x2 C) fun v4 C3 =>
      if w32 v4 = 0 then (
        f_X1_method_b97 x2 x4 0 C3)
      else (
        f_X1_method_b92 x2 x4 C3)))
  else (
    dr x4 fun q6 => gdB (hK C q6 == 64) <| ax x5 (hL C q6) fun j => rd (hsI C q6 j (iAnd (iShr x1 (8 * x5)) 255)) fun C5 =>
    dr x4 fun q8 => gdB (hK C5 q8 == 64) <| ax x5 (hL C5 q8) fun j => rd (hI C5 q8 j) fun v7 =>
    cB (f_X2_isType v7 C5) fun v10 C9 =>
    xB (f_X1_allow v10 C9) fun _ C11 =>
    k34 x1 x2 x3 x4 (x5 + 1) C11)
def f_X1_method_b34 : Nat → Int → Int → Int → Option Nat → Int → CW → Option ((Nat ⊕ Int) × CW)
  | 0 => fun _ _ _ _ _ _ => none
  | n + 1 => fun x1 x2 x3 x4 x5 C => f_X1_method_s34 (f_X1_method_b34 n) x1 x2 x3 x4 x5 C
def f_X1_method_b26 (x1 : Int) (x2 : Int) (x3 : Int) (C : CW) : Option ((Nat ⊕ Int) × CW) :=
  gdB (decide (0 ≤ w32 x3)) <| al C (w32 x3).toNat fun q1 => rd (hNew C (64 + 0) (w32 x3).toNat (w32 x3).toNat) fun C2 =>
  f_X1_method_b34 FU x1 x2 x3 (some q1) 0 C2
def f_X1_method_s2 (k2 : Int → Int → Int → CW → Option ((Nat ⊕ Int) × CW)) (x1 : Int) (x2 : Int) (x3 : Int) (C : CW) : Option ((Nat ⊕ Int) × CW) :=
  if w32 4 ≤ w32 x3 then (
    f_X1_method_b26 x1 x2 x3 C)
  else (
    if w32 (iAnd (iShr x1 (8 * x3)) 255) = 0 then (
      f_X1_method_b26 x1 x2 x3 C)
    else (
      k2 x1 x2 (x3 + 1) C))
def f_X1_method_b2 : Nat → Int → Int → Int → CW → Option ((Nat ⊕ Int) × CW)
  | 0 => fun _ _ _ _ => none
  | n + 1 => fun x1 x2 x3 C => f_X1_method_s2 (f_X1_method_b2 n) x1 x2 x3 C
def f_X1_method (x1 : Int) (x2 : Int) (C : CW) : Option ((Nat ⊕ Int) × CW) :=
  f_X1_method_b2 FU x1 x2 0 C
def f_J12_checkIndex_b9 (x0 : Int) (x1 : Int) (x2 : Option Nat) (C : CW) : Option (Int × CW) :=
  none
def f_J12_checkIndex (x0 : Int) (x1 : Int) (x2 : Option Nat) (C : CW) : Option (Int × CW) :=
  if w32 x0 < 0 then (
    f_J12_checkIndex_b9 x0 x1 x2 C)
  else (
    if w32 x0 < w32 x1 then (
      some (x0, C))
    else (
      f_J12_checkIndex_b9 x0 x1 x2 C))
def f_J11_checkIndex (x0 : Int) (x1 : Int) (C : CW) : Option (Int × CW) :=
  cB (f_J12_checkIndex x0 x1 none C) fun v2 C1 =>
  some (v2, C1)
def f_J2_elementData (x0 : Nat) (x1 : Int) (C : CW) : Option (Option Nat × CW) :=
  dr (some x0) fun q1 => gdB (hK C q1 == 15) <| rd (hR C q1 1) fun v2 =>
  dr v2 fun q4 => gdB (hK C q4 == 64 + 4) <| ax x1 (hL C q4) fun j => rd (hR C q4 j) fun v3 =>
  some (v3, C)
def f_J2_get (x0 : Nat) (x1 : Int) (C : CW) : Option (Option Nat × CW) :=
  dr (some x0) fun q1 => gdB (hK C q1 == 15) <| rd (hI C q1 2) fun v2 =>
  cB (f_J11_checkIndex x1 v2 C) fun v4 C3 =>
  dr (some x0) fun q7 => gdB (hK C3 q7 == 15) <| cB (f_J2_elementData q7 x1 C3) fun v6 C5 =>
  some (v6, C5)
def f_X1_methodAt (x1 : Int) (C : CW) : Option (Option Nat × CW) :=
  if w32 x1 < 0 then (
    some (none, C))
  else (
    dr (some (hB C + 5)) fun q3 => gdB (hK C q3 == 15) <| cB (f_J2_size q3 C) fun v2 C1 =>
    if w32 x1 < w32 v2 then (
      dr (some (hB C1 + 5)) fun q6 => gdB (hK C1 q6 == 15) <| cB (f_J2_get q6 x1 C1) fun v5 C4 =>
      gdB (okN v5 (fun q => hK C4 q == 7)) <|
      some (v5, C4))
    else (
      some (none, C1)))
def f_X8_words_b29 (k4 : Option Nat → Int → Int → CW → Option (Int × CW)) (x0 : Option Nat) (x2 : Int) (s0 : Int) (s1 : Int) (C : CW) : Option (Int × CW) :=
  rd (s0 + s1) fun v9 =>
  k4 x0 v9 (x2 + 1) C
def f_X8_words_s4 (k4 : Option Nat → Int → Int → CW → Option (Int × CW)) (x0 : Option Nat) (x1 : Int) (x2 : Int) (C : CW) : Option (Int × CW) :=
  dr x0 fun q1 => gdB (hK C q1 == 7) <| rd (hR C q1 0) fun v2 =>
  dr v2 fun q4 => gdB (Nat.ble 64 (hK C q4)) <| rd (hL C q4 : Int) fun v3 =>
  if w32 v3 ≤ w32 x2 then (
    some (x1, C))
  else (
    dr x0 fun q5 => gdB (hK C q5 == 7) <| rd (hR C q5 0) fun v6 =>
    dr v6 fun q8 => gdB (hK C q8 == 64) <| ax x2 (hL C q8) fun j => rd (hI C q8 j) fun v7 =>
    if w32 v7 = w32 2 then (
      f_X8_words_b29 k4 x0 x2 x1 2 C)
    else (
      f_X8_words_b29 k4 x0 x2 x1 1 C))
def f_X8_words_b4 : Nat → Option Nat → Int → Int → CW → Option (Int × CW)
  | 0 => fun _ _ _ _ => none
  | n + 1 => fun x0 x1 x2 C => f_X8_words_s4 (f_X8_words_b4 n) x0 x1 x2 C
def f_X8_words (x0 : Nat) (C : CW) : Option (Int × CW) :=
  f_X8_words_b4 FU (some x0) 0 0 C
def f_X1_code_s101 (k101 : Int → Int → Int → Option Nat → Int → CW → Option ((Nat ⊕ Unit) × CW)) (x2 : Int) (x3 : Int) (x4 : Int) (x5 : Option Nat) (x7 : Int) (C : CW) : Option ((Nat ⊕ Unit) × CW) :=
  if w32 x2 ≤ w32 x7 then (
    dr x5 fun q12 => gdB (hK C q12 == 7) <| rd (hsI C q12 3 x3) fun C11 =>
    dr x5 fun q14 => gdB (hK C11 q14 == 7) <| rd (hsI C11 q14 4 x4) fun C13 =>
    some (Sum.inr (), C13))
  else (
    dr x5 fun q15 => gdB (hK C q15 == 7) <| rd (hR C q15 2) fun v16 =>
    ax x7 400 fun j => rd (cI C 213 j) fun v17 =>
    dr v16 fun q19 => gdB (hK C q19 == 67) <| ax x7 (hL C q19) fun j => rd (hsI C q19 j (i2b v17)) fun C18 =>
    k101 x2 x3 x4 x5 (x7 + 1) C18)
def f_X1_code_b101 : Nat → Int → Int → Int → Option Nat → Int → CW → Option ((Nat ⊕ Unit) × CW)
  | 0 => fun _ _ _ _ _ _ => none
  | n + 1 => fun x2 x3 x4 x5 x7 C => f_X1_code_s101 (f_X1_code_b101 n) x2 x3 x4 x5 x7 C
def f_X1_code_b87 (x2 : Int) (x3 : Int) (x4 : Int) (x5 : Option Nat) (s0 : Int) (C : CW) : Option ((Nat ⊕ Unit) × CW) :=
  xB (f_X1_need s0 C) fun _ C6 =>
  gdB (decide (0 ≤ w32 x2)) <| al C6 (w32 x2).toNat fun q7 => rd (hNew C6 (64 + 3) (w32 x2).toNat (w32 x2).toNat) fun C8 =>
  dr x5 fun q10 => gdB (hK C8 q10 == 7) <| rd (hsR C8 q10 2 (some q7)) fun C9 =>
  f_X1_code_b101 FU x2 x3 x4 x5 0 C9
def f_X1_code_b62 (x2 : Int) (x3 : Int) (x4 : Int) (x5 : Option Nat) (s0 : Int) (C : CW) : Option ((Nat ⊕ Unit) × CW) :=
  rd (csI C 200 6 0) fun C1 =>
  xB (f_X1_allow s0 C1) fun _ C2 =>
  dr x5 fun q3 => gdB (hK C2 q3 == 7) <| rd (hR C2 q3 2) fun v4 =>
  (match v4 with
  | none => (
    f_X1_code_b87 x2 x3 x4 x5 1 C2)
  | some q5 => (
    f_X1_code_b87 x2 x3 x4 x5 0 C2))
def f_X1_code_b61 (x2 : Int) (x3 : Int) (x4 : Int) (x5 : Option Nat) (C : CW) : Option ((Nat ⊕ Unit) × CW) :=
  f_X1_code_b62 x2 x3 x4 x5 0 C
def f_X1_code (x1 : Int) (x2 : Int) (x3 : Int) (x4 : Int) (C : CW) : Option ((Nat ⊕ Unit) × CW) :=
  cB (f_X1_methodAt x1 C) fun v21 C20 =>
  (match v21 with
  | none => (
    f_X1_code_b61 x2 x3 x4 v21 C20)
  | some q22 => (
    if w32 x2 ≤ 0 then (
      f_X1_code_b61 x2 x3 x4 v21 C20)
    else (
      if w32 120 < w32 x2 then (
        f_X1_code_b61 x2 x3 x4 v21 C20)
      else (
        rd (cI C20 200 6) fun v23 =>
        if w32 v23 < w32 x2 then (
          f_X1_code_b61 x2 x3 x4 v21 C20)
        else (
          if w32 x3 < 0 then (
            f_X1_code_b61 x2 x3 x4 v21 C20)
          else (
            if w32 12 < w32 x3 then (
              f_X1_code_b61 x2 x3 x4 v21 C20)
            else (
              if w32 12 < w32 x4 then (
                f_X1_code_b61 x2 x3 x4 v21 C20)
              else (
                dr v21 fun q26 => gdB (hK C20 q26 == 7) <| cB (f_X8_words q26 C20) fun v25 C24 =>
                if w32 x4 < w32 v25 then (
                  f_X1_code_b61 x2 x3 x4 v21 C24)
                else (
                  f_X1_code_b62 x2 x3 x4 v21 1 C24)))))))))
def f_X1_isPlace (x0 : Int) (C : CW) : Option (Int × CW) :=
  if w32 x0 < 0 then (
    some (0, C))
  else (
    if w32 120 < w32 x0 then (
      some (0, C))
    else (
      some (1, C)))
def f_X2_subs_b22 (x2 : Int) (x3 : Int) (C : CW) : Option (Int × CW) :=
  if w32 x3 = w32 x2 then (
    some (1, C))
  else (
    some (0, C))
def f_X2_subs_s2 (k2 : Int → Int → CW → Option (Int × CW)) (x2 : Int) (x3 : Int) (C : CW) : Option (Int × CW) :=
  if w32 x3 = w32 (-1) then (
    f_X2_subs_b22 x2 x3 C)
  else (
    if w32 x3 = w32 x2 then (
      f_X2_subs_b22 x2 x3 C)
    else (
      ax x3 16 fun j => rd (cI C 202 j) fun v1 =>
      k2 x2 v1 C))
def f_X2_subs_b2 : Nat → Int → Int → CW → Option (Int × CW)
  | 0 => fun _ _ _ => none
  | n + 1 => fun x2 x3 C => f_X2_subs_s2 (f_X2_subs_b2 n) x2 x3 C
def f_X2_subs (x1 : Int) (x2 : Int) (C : CW) : Option (Int × CW) :=
  f_X2_subs_b2 FU x2 x1 C
def f_X9_init (x0 : Nat) (x1 : Int) (x2 : Int) (x3 : Int) (x4 : Int) (C : CW) : Option (Unit × CW) :=
  dr (some x0) fun q2 => gdB (hK C q2 == 9) <| rd (hsI C q2 0 x1) fun C1 =>
  dr (some x0) fun q4 => gdB (hK C1 q4 == 9) <| rd (hsI C1 q4 1 x2) fun C3 =>
  dr (some x0) fun q6 => gdB (hK C3 q6 == 9) <| rd (hsI C3 q6 2 x3) fun C5 =>
  dr (some x0) fun q8 => gdB (hK C5 q8 == 9) <| rd (hsI C5 q8 3 x4) fun C7 =>
  some ((), C7)
def f_X1_handler_b107 (x2 : Int) (x3 : Int) (x4 : Int) (x5 : Int) (x6 : Option Nat) (s0 : Int) (C : CW) : Option ((Nat ⊕ Int) × CW) :=
  xB (f_X1_need s0 C) fun _ C9 =>
  dr x6 fun q10 => gdB (hK C9 q10 == 7) <| rd (hR C9 q10 5) fun v11 =>
  al C9 4 fun q12 => rd (hNew C9 9 0 4) fun C13 =>
  dr (some q12) fun q15 => cB (f_X9_init q15 x2 x3 x4 x5 C13) fun _ C14 =>
  dr v11 fun q18 => gdB (hK C14 q18 == 15) <| cB (f_J2_add q18 (some q12) C14) fun v17 C16 =>
  dr x6 fun q19 => gdB (hK C16 q19 == 7) <| rd (hR C16 q19 5) fun v20 =>
  dr v20 fun q23 => gdB (hK C16 q23 == 15) <| cB (f_J2_size q23 C16) fun v22 C21 =>
  some (Sum.inr (v22 - 1), C21)
def f_X1_handler_b106 (x2 : Int) (x3 : Int) (x4 : Int) (x5 : Int) (x6 : Option Nat) (C : CW) : Option ((Nat ⊕ Int) × CW) :=
  f_X1_handler_b107 x2 x3 x4 x5 x6 0 C
def f_X1_handler_b78 (x2 : Int) (x3 : Int) (x4 : Int) (x5 : Int) (x6 : Option Nat) (s0 : Int) (C : CW) : Option ((Nat ⊕ Int) × CW) :=
  xB (f_X1_allow s0 C) fun _ C1 =>
  dr x6 fun q2 => gdB (hK C1 q2 == 7) <| rd (hI C1 q2 6) fun v3 =>
  if w32 v3 = 0 then (
    dr x6 fun q4 => gdB (hK C1 q4 == 7) <| rd (hR C1 q4 5) fun v5 =>
    dr v5 fun q8 => gdB (hK C1 q8 == 15) <| cB (f_J2_size q8 C1) fun v7 C6 =>
    if w32 6 ≤ w32 v7 then (
      f_X1_handler_b106 x2 x3 x4 x5 x6 C6)
    else (
      f_X1_handler_b107 x2 x3 x4 x5 x6 1 C6))
  else (
    f_X1_handler_b106 x2 x3 x4 x5 x6 C1)
def f_X1_handler_b73 (x2 : Int) (x3 : Int) (x4 : Int) (x5 : Int) (x6 : Option Nat) (C : CW) : Option ((Nat ⊕ Int) × CW) :=
  f_X1_handler_b78 x2 x3 x4 x5 x6 1 C
def f_X1_handler_b77 (x2 : Int) (x3 : Int) (x4 : Int) (x5 : Int) (x6 : Option Nat) (C : CW) : Option ((Nat ⊕ Int) × CW) :=
  f_X1_handler_b78 x2 x3 x4 x5 x6 0 C
def f_X1_handler (x1 : Int) (x2 : Int) (x3 : Int) (x4 : Int) (x5 : Int) (C : CW) : Option ((Nat ⊕ Int) × CW) :=
  cB (f_X1_methodAt x1 C) fun v25 C24 =>
  (match v25 with
  | none => (
    f_X1_handler_b77 x2 x3 x4 x5 v25 C24)
  | some q26 => (
    dr v25 fun q27 => gdB (hK C24 q27 == 7) <| rd (hR C24 q27 2) fun v28 =>
    (match v28 with
    | none => (
      f_X1_handler_b77 x2 x3 x4 x5 v25 C24)
    | some q29 => (
      cB (f_X1_isPlace x2 C24) fun v31 C30 =>
      if w32 v31 = 0 then (
        f_X1_handler_b77 x2 x3 x4 x5 v25 C30)
      else (
        cB (f_X1_isPlace x3 C30) fun v33 C32 =>
        if w32 v33 = 0 then (
          f_X1_handler_b77 x2 x3 x4 x5 v25 C32)
        else (
          cB (f_X1_isPlace x4 C32) fun v35 C34 =>
          if w32 v35 = 0 then (
            f_X1_handler_b77 x2 x3 x4 x5 v25 C34)
          else (
            if w32 x5 = w32 (-1) then (
              f_X1_handler_b73 x2 x3 x4 x5 v25 C34)
            else (
              cB (f_X2_has x5 C34) fun v37 C36 =>
              if w32 v37 = 0 then (
                f_X1_handler_b77 x2 x3 x4 x5 v25 C36)
              else (
                cB (f_X2_subs x5 1 C36) fun v39 C38 =>
                if w32 v39 = 0 then (
                  f_X1_handler_b77 x2 x3 x4 x5 v25 C38)
                else (
                  f_X1_handler_b73 x2 x3 x4 x5 v25 C38))))))))))
def f_X8_at (x0 : Nat) (x1 : Int) (C : CW) : Option (Int × CW) :=
  dr (some x0) fun q1 => gdB (hK C q1 == 7) <| rd (hR C q1 2) fun v2 =>
  dr v2 fun q4 => gdB (hK C q4 == 67) <| ax x1 (hL C q4) fun j => rd (hI C q4 j) fun v3 =>
  some ((iAnd v3 255), C)
def f_X1_sizeOf_b32 (x0 : Int) (C : CW) : Option (Int × CW) :=
  if w32 x0 = w32 17 then (
    some (3, C))
  else (
    if w32 x0 = w32 132 then (
      some (3, C))
    else (
      if w32 x0 = w32 198 then (
        some (3, C))
      else (
        if w32 x0 = w32 199 then (
          some (3, C))
        else (
          sw (w32 x0) 16 [
             (
              some (2, C)),
             (
              some (0, C)),
             (
              some (0, C)),
             (
              some (0, C)),
             (
              some (0, C)),
             (
              some (2, C)),
             (
              some (2, C)),
             (
              some (0, C)),
             (
              some (0, C)),
             (
              some (2, C)),
             (
              some (0, C)),
             (
              some (0, C)),
             (
              some (0, C)),
             (
              some (0, C)),
             (
              some (0, C)),
             (
              some (0, C)),
             (
              some (0, C)),
             (
              some (0, C)),
             (
              some (0, C)),
             (
              some (0, C)),
             (
              some (0, C)),
             (
              some (0, C)),
             (
              some (0, C)),
             (
              some (0, C)),
             (
              some (0, C)),
             (
              some (0, C)),
             (
              some (0, C)),
             (
              some (0, C)),
             (
              some (0, C)),
             (
              some (0, C)),
             (
              some (1, C)),
             (
              some (1, C)),
             (
              some (0, C)),
             (
              some (0, C)),
             (
              some (1, C)),
             (
              some (0, C)),
             (
              some (0, C)),
             (
              some (0, C)),
             (
              some (2, C)),
             (
              some (2, C)),
             (
              some (0, C)),
             (
              some (0, C)),
             (
              some (2, C)),
             (
              some (0, C)),
             (
              some (0, C)),
             (
              some (0, C)),
             (
              some (0, C)),
             (
              some (0, C)),
             (
              some (0, C)),
             (
              some (0, C)),
             (
              some (0, C)),
             (
              some (0, C)),
             (
              some (0, C)),
             (
              some (0, C)),
             (
              some (0, C)),
             (
              some (0, C)),
             (
              some (0, C)),
             (
              some (0, C)),
             (
              some (0, C)),
             (
              some (0, C)),
             (
              some (0, C)),
             (
              some (0, C)),
             (
              some (0, C)),
             (
              some (1, C)),
             (
              some (1, C)),
             (
              some (0, C)),
             (
              some (0, C)),
             (
              some (1, C)),
             (
              some (0, C)),
             (
              some (0, C)),
             (
              some (0, C)),
             (
              some (1, C)),
             (
              some (1, C)),
             (
              some (1, C)),
             (
              some (1, C)),
             (
              some (0, C)),
             (
              some (1, C)),
             (
              some (0, C)),
             (
              some (0, C)),
             (
              some (1, C)),
             (
              some (1, C)),
             (
              some (1, C)),
             (
              some (0, C)),
             (
              some (0, C)),
             (
              some (1, C)),
             (
              some (1, C)),
             (
              some (0, C)),
             (
              some (0, C)),
             (
              some (1, C)),
             (
              some (1, C)),
             (
              some (0, C)),
             (
              some (0, C)),
             (
              some (1, C)),
             (
              some (1, C)),
             (
              some (0, C)),
             (
              some (0, C)),
             (
              some (0, C)),
             (
              some (0, C)),
             (
              some (0, C)),
             (
              some (0, C)),
             (
              some (0, C)),
             (
              some (0, C)),
             (
              some (0, C)),
             (
              some (0, C)),
             (
              some (0, C)),
             (
              some (0, C)),
             (
              some (0, C)),
             (
              some (0, C)),
             (
              some (0, C)),
             (
              some (0, C)),
             (
              some (0, C)),
             (
              some (0, C)),
             (
              some (0, C)),
             (
              some (0, C)),
             (
              some (0, C)),
             (
              some (0, C)),
             (
              some (0, C)),
             (
              some (1, C)),
             (
              some (0, C)),
             (
              some (0, C)),
             (
              some (1, C)),
             (
              some (0, C)),
             (
              some (0, C)),
             (
              some (0, C)),
             (
              some (0, C)),
             (
              some (0, C)),
             (
              some (0, C)),
             (
              some (0, C)),
             (
              some (0, C)),
             (
              some (0, C)),
             (
              some (0, C)),
             (
              some (0, C)),
             (
              some (1, C)),
             (
              some (0, C)),
             (
              some (0, C)),
             (
              some (0, C)),
             (
              some (0, C)),
             (
              some (0, C)),
             (
              some (0, C)),
             (
              some (0, C)),
             (
              some (0, C)),
             (
              some (0, C)),
             (
              some (0, C)),
             (
              some (0, C)),
             (
              some (0, C)),
             (
              some (0, C)),
             (
              some (0, C)),
             (
              some (0, C)),
             (
              some (0, C)),
             (
              some (0, C)),
             (
              some (0, C)),
             (
              some (0, C)),
             (
              some (0, C)),
             (
              some (0, C)),
             (
              some (0, C)),
             (
              some (0, C)),
             (
              some (1, C)),
             (
              some (1, C)),
             (
              some (0, C)),
             (
              some (0, C)),
             (
              some (1, C)),
             (
              some (1, C)),
             (
              some (2, C)),
             (
              some (2, C)),
             (
              some (2, C)),
             (
              some (2, C)),
             (
              some (0, C)),
             (
              some (2, C)),
             (
              some (2, C)),
             (
              some (0, C)),
             (
              some (0, C)),
             (
              some (2, C)),
             (
              some (2, C)),
             (
              some (2, C)),
             (
              some (1, C)),
             (
              some (1, C)),
             (
              some (2, C)),
             (
              some (2, C))
            ] (
            some (0, C))))))
def f_X1_sizeOf (x0 : Int) (C : CW) : Option (Int × CW) :=
  if w32 16 ≤ w32 x0 then (
    if w32 x0 < w32 153 then (
      f_X1_sizeOf_b32 x0 C)
    else (
      if w32 x0 ≤ w32 167 then (
        some (3, C))
      else (
        f_X1_sizeOf_b32 x0 C)))
  else (
    if w32 11 ≤ w32 x0 then (
      some (0, C))
    else (
      some (1, C)))
def f_X10_init (x0 : Nat) (x1 : Int) (x2 : Int) (C : CW) : Option (Unit × CW) :=
  dr (some x0) fun q2 => cB (f_J5_init q2 C) fun _ C1 =>
  dr (some x0) fun q4 => gdB (hK C1 q4 == 13) <| rd (hsI C1 q4 6 x1) fun C3 =>
  dr (some x0) fun q6 => gdB (hK C3 q6 == 13) <| rd (hsI C3 q6 7 x2) fun C5 =>
  some ((), C5)
def f_X1_hold (x0 : Int) (x1 : Int) (x2 : Int) (C : CW) : Option ((Nat ⊕ Unit) × CW) :=
  if w32 x0 = 0 then (
    al C 8 fun q1 => rd (hNew C 13 0 8) fun C2 =>
    dr (some q1) fun q4 => cB (f_X10_init q4 x1 x2 C2) fun _ C3 =>
    dr (some q1) fun q5 => some (Sum.inl q5, C3))
  else (
    some (Sum.inr (), C))
def f_X3_need (x1 : Int) (x2 : Int) (C : CW) : Option ((Nat ⊕ Unit) × CW) :=
  rd (cI C 204 8) fun v1 =>
  xB (f_X1_hold x1 x2 v1 C) fun _ C2 =>
  some (Sum.inr (), C2)
def f_X3_operand_b173 (s1 : Int) (C : CW) : Option ((Nat ⊕ Unit) × CW) :=
  xB (f_X3_need s1 2 C) fun _ C4 =>
  some (Sum.inr (), C4)
def f_X3_operand_b156 (x2 : Int) (C : CW) : Option ((Nat ⊕ Unit) × CW) :=
  rd (cR C 204 7) fun v1 =>
  dr v1 fun q2 => gdB (hK C q2 == 7) <| rd (hI C q2 4) fun v3 =>
  if w32 v3 ≤ w32 x2 then (
    f_X3_operand_b173 0 C)
  else (
    f_X3_operand_b173 1 C)
def f_X3_operand_b209 (s1 : Int) (C : CW) : Option ((Nat ⊕ Unit) × CW) :=
  xB (f_X3_need s1 2 C) fun _ C5 =>
  some (Sum.inr (), C5)
def f_X3_operand_b235 (s1 : Int) (C : CW) : Option ((Nat ⊕ Unit) × CW) :=
  xB (f_X3_need s1 2 C) fun _ C9 =>
  some (Sum.inr (), C9)
def f_X3_operand_b216 (x2 : Int) (C : CW) : Option ((Nat ⊕ Unit) × CW) :=
  rd (cR C 204 7) fun v6 =>
  dr v6 fun q7 => gdB (hK C q7 == 7) <| rd (hI C q7 4) fun v8 =>
  if w32 v8 ≤ w32 (x2 + 1) then (
    f_X3_operand_b235 0 C)
  else (
    f_X3_operand_b235 1 C)
def f_X3_operand_b276 (s1 : Int) (C : CW) : Option ((Nat ⊕ Unit) × CW) :=
  xB (f_X3_need s1 3 C) fun _ C18 =>
  some (Sum.inr (), C18)
def f_X3_operand_b275 (C : CW) : Option ((Nat ⊕ Unit) × CW) :=
  f_X3_operand_b276 0 C
def f_X3_operand_b242 (x2 : Int) (C : CW) : Option ((Nat ⊕ Unit) × CW) :=
  dr (some (hB C + 4)) fun q12 => gdB (hK C q12 == 15) <| cB (f_J2_size q12 C) fun v11 C10 =>
  if w32 v11 ≤ w32 x2 then (
    f_X3_operand_b275 C10)
  else (
    dr (some (hB C10 + 4)) fun q15 => gdB (hK C10 q15 == 15) <| cB (f_J2_get q15 x2 C10) fun v14 C13 =>
    gdB (okN v14 (fun q => hK C13 q == 8)) <|
    dr v14 fun q16 => gdB (hK C13 q16 == 8) <| rd (hI C13 q16 3) fun v17 =>
    if w32 v17 = 0 then (
      f_X3_operand_b275 C13)
    else (
      f_X3_operand_b276 1 C13))
def f_X3_operand_b317 (s1 : Int) (C : CW) : Option ((Nat ⊕ Unit) × CW) :=
  xB (f_X3_need s1 3 C) fun _ C27 =>
  some (Sum.inr (), C27)
def f_X3_operand_b316 (C : CW) : Option ((Nat ⊕ Unit) × CW) :=
  f_X3_operand_b317 0 C
def f_X3_operand_b283 (x2 : Int) (C : CW) : Option ((Nat ⊕ Unit) × CW) :=
  dr (some (hB C + 4)) fun q21 => gdB (hK C q21 == 15) <| cB (f_J2_size q21 C) fun v20 C19 =>
  if w32 v20 ≤ w32 x2 then (
    f_X3_operand_b316 C19)
  else (
    dr (some (hB C19 + 4)) fun q24 => gdB (hK C19 q24 == 15) <| cB (f_J2_get q24 x2 C19) fun v23 C22 =>
    gdB (okN v23 (fun q => hK C22 q == 8)) <|
    dr v23 fun q25 => gdB (hK C22 q25 == 8) <| rd (hI C22 q25 3) fun v26 =>
    if w32 v26 = 0 then (
      f_X3_operand_b317 1 C22)
    else (
      f_X3_operand_b316 C22))
def f_X3_operand_b358 (s1 : Int) (C : CW) : Option ((Nat ⊕ Unit) × CW) :=
  xB (f_X3_need s1 3 C) fun _ C28 =>
  some (Sum.inr (), C28)
def f_X3_operand_b357 (C : CW) : Option ((Nat ⊕ Unit) × CW) :=
  f_X3_operand_b358 0 C
def f_X3_operand_b394 (s1 : Int) (C : CW) : Option ((Nat ⊕ Unit) × CW) :=
  xB (f_X3_need s1 3 C) fun _ C32 =>
  some (Sum.inr (), C32)
def f_X3_operand_b393 (C : CW) : Option ((Nat ⊕ Unit) × CW) :=
  f_X3_operand_b394 0 C
def f_X3_operand_b365 (x2 : Int) (C : CW) : Option ((Nat ⊕ Unit) × CW) :=
  cB (f_X2_has x2 C) fun v30 C29 =>
  if w32 v30 = 0 then (
    f_X3_operand_b393 C29)
  else (
    ax x2 16 fun j => rd (cI C29 203 j) fun v31 =>
    if w32 v31 = 0 then (
      f_X3_operand_b394 1 C29)
    else (
      f_X3_operand_b393 C29))
def f_X3_operand_b419 (s1 : Int) (C : CW) : Option ((Nat ⊕ Unit) × CW) :=
  xB (f_X3_need s1 3 C) fun _ C33 =>
  some (Sum.inr (), C33)
def f_X3_operand_b414 (C : CW) : Option ((Nat ⊕ Unit) × CW) :=
  f_X3_operand_b419 1 C
def f_X3_operand_b426 (x2 : Int) (C : CW) : Option ((Nat ⊕ Unit) × CW) :=
  cB (f_X2_has x2 C) fun v35 C34 =>
  xB (f_X3_need v35 3 C34) fun _ C36 =>
  some (Sum.inr (), C36)
def f_X3_operand (x1 : Int) (x2 : Int) (C : CW) : Option ((Nat ⊕ Unit) × CW) :=
  lsw (w32 x1) [
     (21, (
      f_X3_operand_b156 x2 C)),
     (22, (
      f_X3_operand_b216 x2 C)),
     (25, (
      f_X3_operand_b156 x2 C)),
     (54, (
      f_X3_operand_b156 x2 C)),
     (55, (
      f_X3_operand_b216 x2 C)),
     (58, (
      f_X3_operand_b156 x2 C)),
     (132, (
      rd (cR C 204 7) fun v37 =>
      rd (cI C 204 8) fun v38 =>
      dr v37 fun q41 => gdB (hK C q41 == 7) <| cB (f_X8_at q41 (v38 + 1) C) fun v40 C39 =>
      rd (cR C39 204 7) fun v42 =>
      dr v42 fun q43 => gdB (hK C39 q43 == 7) <| rd (hI C39 q43 4) fun v44 =>
      if w32 v44 ≤ w32 v40 then (
        f_X3_operand_b209 0 C39)
      else (
        f_X3_operand_b209 1 C39))),
     (178, (
      f_X3_operand_b242 x2 C)),
     (179, (
      f_X3_operand_b242 x2 C)),
     (180, (
      f_X3_operand_b283 x2 C)),
     (181, (
      f_X3_operand_b283 x2 C)),
     (183, (
      f_X3_operand_b365 x2 C)),
     (184, (
      dr (some (hB C + 5)) fun q47 => gdB (hK C q47 == 15) <| cB (f_J2_size q47 C) fun v46 C45 =>
      if w32 v46 ≤ w32 x2 then (
        f_X3_operand_b357 C45)
      else (
        dr (some (hB C45 + 5)) fun q50 => gdB (hK C45 q50 == 15) <| cB (f_J2_get q50 x2 C45) fun v49 C48 =>
        gdB (okN v49 (fun q => hK C48 q == 7)) <|
        dr v49 fun q51 => gdB (hK C48 q51 == 7) <| rd (hR C48 q51 2) fun v52 =>
        (match v52 with
        | none => (
          f_X3_operand_b357 C48)
        | some q53 => (
          f_X3_operand_b358 1 C48))))),
     (187, (
      f_X3_operand_b365 x2 C)),
     (188, (
      if w32 x2 = w32 10 then (
        f_X3_operand_b414 C)
      else (
        if w32 x2 = w32 11 then (
          f_X3_operand_b414 C)
        else (
          f_X3_operand_b419 0 C)))),
     (189, (
      f_X3_operand_b426 x2 C)),
     (192, (
      f_X3_operand_b426 x2 C)),
     (193, (
      f_X3_operand_b426 x2 C))
    ] (
    some (Sum.inr (), C))
def f_X1_isBranch_b14 (x0 : Int) (C : CW) : Option (Int × CW) :=
  if w32 x0 = w32 198 then (
    some (1, C))
  else (
    if w32 x0 = w32 199 then (
      some (1, C))
    else (
      some (0, C)))
def f_X1_isBranch (x0 : Int) (C : CW) : Option (Int × CW) :=
  if w32 x0 < w32 153 then (
    f_X1_isBranch_b14 x0 C)
  else (
    if w32 x0 ≤ w32 167 then (
      some (1, C))
    else (
      f_X1_isBranch_b14 x0 C))
def f_X8_two (x0 : Nat) (x1 : Int) (C : CW) : Option (Int × CW) :=
  dr (some x0) fun q3 => gdB (hK C q3 == 7) <| cB (f_X8_at q3 x1 C) fun v2 C1 =>
  dr (some x0) fun q6 => gdB (hK C1 q6 == 7) <| cB (f_X8_at q6 (x1 + 1) C1) fun v5 C4 =>
  some ((i2s (iOr (iShl v2 8) v5)), C4)
def f_X8_target (x0 : Nat) (x1 : Int) (C : CW) : Option (Int × CW) :=
  dr (some x0) fun q3 => gdB (hK C q3 == 7) <| cB (f_X8_two q3 (x1 + 1) C) fun v2 C1 =>
  some ((x1 + v2), C1)
def f_X3_isStart (x1 : Int) (C : CW) : Option (Int × CW) :=
  if w32 x1 < 0 then (
    some (0, C))
  else (
    rd (cR C 204 7) fun v1 =>
    dr v1 fun q2 => gdB (hK C q2 == 7) <| rd (hR C q2 2) fun v3 =>
    dr v3 fun q5 => gdB (Nat.ble 64 (hK C q5)) <| rd (hL C q5 : Int) fun v4 =>
    if w32 v4 ≤ w32 x1 then (
      some (0, C))
    else (
      ax x1 121 fun j => rd (cI C 205 j) fun v6 =>
      if w32 v6 = 0 then (
        some (0, C))
      else (
        some (1, C))))
def f_X3_form_b131 (k40 : Int → CW → Option ((Nat ⊕ Unit) × CW)) (x2 : Int) (s1 : Int) (s2 : Int) (C : CW) : Option ((Nat ⊕ Unit) × CW) :=
  xB (f_X3_operand s1 s2 C) fun _ C26 =>
  rd (cI C26 204 8) fun v27 =>
  rd (cR C26 204 7) fun v28 =>
  rd (cI C26 204 8) fun v29 =>
  dr v28 fun q32 => gdB (hK C26 q32 == 7) <| cB (f_X8_at q32 v29 C26) fun v31 C30 =>
  cB (f_X1_sizeOf v31 C30) fun v34 C33 =>
  rd (csI C33 204 8 (v27 + v34)) fun C35 =>
  k40 x2 C35
def f_X3_form_b83 (k40 : Int → CW → Option ((Nat ⊕ Unit) × CW)) (x2 : Int) (x3 : Int) (s1 : Int) (C : CW) : Option ((Nat ⊕ Unit) × CW) :=
  xB (f_X3_need s1 1 C) fun _ C13 =>
  rd (cI C13 204 8) fun v14 =>
  ax v14 121 fun j => rd (csI C13 205 j (iAnd 1 1)) fun C15 =>
  rd (cR C15 204 7) fun v16 =>
  rd (cI C15 204 8) fun v17 =>
  dr v16 fun q20 => gdB (hK C15 q20 == 7) <| cB (f_X8_at q20 v17 C15) fun v19 C18 =>
  if w32 x3 = w32 2 then (
    rd (cR C18 204 7) fun v21 =>
    rd (cI C18 204 8) fun v22 =>
    dr v21 fun q25 => gdB (hK C18 q25 == 7) <| cB (f_X8_at q25 (v22 + 1) C18) fun v24 C23 =>
    f_X3_form_b131 k40 x2 v19 v24 C23)
  else (
    f_X3_form_b131 k40 x2 v19 0 C18)
def f_X3_form_b82 (k40 : Int → CW → Option ((Nat ⊕ Unit) × CW)) (x2 : Int) (x3 : Int) (C : CW) : Option ((Nat ⊕ Unit) × CW) :=
  f_X3_form_b83 k40 x2 x3 0 C
def f_X3_form_b222 (k165 : Int → CW → Option ((Nat ⊕ Unit) × CW)) (x2 : Int) (C : CW) : Option ((Nat ⊕ Unit) × CW) :=
  rd (cI C 204 8) fun v54 =>
  rd (csI C 204 8 (v54 + 1)) fun C55 =>
  k165 x2 C55
def f_X3_form_b330 (k237 : Int → Int → CW → Option ((Nat ⊕ Unit) × CW)) (x2 : Int) (x3 : Int) (s0 : Int) (C : CW) : Option ((Nat ⊕ Unit) × CW) :=
  xB (f_X1_hold s0 5 x3 C) fun _ C86 =>
  k237 x2 (x3 + 1) C86
def f_X3_form_b325 (k237 : Int → Int → CW → Option ((Nat ⊕ Unit) × CW)) (x2 : Int) (x3 : Int) (C : CW) : Option ((Nat ⊕ Unit) × CW) :=
  f_X3_form_b330 k237 x2 x3 1 C
def f_X3_form_b329 (k237 : Int → Int → CW → Option ((Nat ⊕ Unit) × CW)) (x2 : Int) (x3 : Int) (C : CW) : Option ((Nat ⊕ Unit) × CW) :=
  f_X3_form_b330 k237 x2 x3 0 C
def f_X3_form_s237 (k237 : Int → Int → CW → Option ((Nat ⊕ Unit) × CW)) (x2 : Int) (x3 : Int) (C : CW) : Option ((Nat ⊕ Unit) × CW) :=
  rd (cR C 204 7) fun v56 =>
  dr v56 fun q57 => gdB (hK C q57 == 7) <| rd (hR C q57 5) fun v58 =>
  dr v58 fun q61 => gdB (hK C q61 == 15) <| cB (f_J2_size q61 C) fun v60 C59 =>
  if w32 v60 ≤ w32 x3 then (
    some (Sum.inr (), C59))
  else (
    rd (cR C59 204 7) fun v62 =>
    dr v62 fun q63 => gdB (hK C59 q63 == 7) <| rd (hR C59 q63 5) fun v64 =>
    dr v64 fun q67 => gdB (hK C59 q67 == 15) <| cB (f_J2_get q67 x3 C59) fun v66 C65 =>
    gdB (okN v66 (fun q => hK C65 q == 9)) <|
    dr v66 fun q68 => gdB (hK C65 q68 == 9) <| rd (hI C65 q68 0) fun v69 =>
    dr v66 fun q70 => gdB (hK C65 q70 == 9) <| rd (hI C65 q70 1) fun v71 =>
    if w32 v71 ≤ w32 v69 then (
      f_X3_form_b329 k237 x2 x3 C65)
    else (
      dr v66 fun q72 => gdB (hK C65 q72 == 9) <| rd (hI C65 q72 0) fun v73 =>
      cB (f_X3_isStart v73 C65) fun v75 C74 =>
      if w32 v75 = 0 then (
        f_X3_form_b329 k237 x2 x3 C74)
      else (
        dr v66 fun q76 => gdB (hK C74 q76 == 9) <| rd (hI C74 q76 2) fun v77 =>
        cB (f_X3_isStart v77 C74) fun v79 C78 =>
        if w32 v79 = 0 then (
          f_X3_form_b329 k237 x2 x3 C78)
        else (
          dr v66 fun q80 => gdB (hK C78 q80 == 9) <| rd (hI C78 q80 1) fun v81 =>
          if w32 v81 = w32 x2 then (
            f_X3_form_b325 k237 x2 x3 C78)
          else (
            dr v66 fun q82 => gdB (hK C78 q82 == 9) <| rd (hI C78 q82 1) fun v83 =>
            cB (f_X3_isStart v83 C78) fun v85 C84 =>
            if w32 v85 = 0 then (
              f_X3_form_b329 k237 x2 x3 C84)
            else (
              f_X3_form_b325 k237 x2 x3 C84))))))
def f_X3_form_b237 : Nat → Int → Int → CW → Option ((Nat ⊕ Unit) × CW)
  | 0 => fun _ _ _ => none
  | n + 1 => fun x2 x3 C => f_X3_form_s237 (f_X3_form_b237 n) x2 x3 C
def f_X3_form_s165 (k165 : Int → CW → Option ((Nat ⊕ Unit) × CW)) (x2 : Int) (C : CW) : Option ((Nat ⊕ Unit) × CW) :=
  rd (cI C 204 8) fun v36 =>
  if w32 x2 ≤ w32 v36 then (
    f_X3_form_b237 FU x2 0 C)
  else (
    rd (cI C 204 8) fun v37 =>
    ax v37 121 fun j => rd (cI C 205 j) fun v38 =>
    if w32 v38 = 0 then (
      f_X3_form_b222 k165 x2 C)
    else (
      rd (cR C 204 7) fun v39 =>
      rd (cI C 204 8) fun v40 =>
      dr v39 fun q43 => gdB (hK C q43 == 7) <| cB (f_X8_at q43 v40 C) fun v42 C41 =>
      cB (f_X1_isBranch v42 C41) fun v45 C44 =>
      if w32 v45 = 0 then (
        f_X3_form_b222 k165 x2 C44)
      else (
        rd (cR C44 204 7) fun v46 =>
        rd (cI C44 204 8) fun v47 =>
        dr v46 fun q50 => gdB (hK C44 q50 == 7) <| cB (f_X8_target q50 v47 C44) fun v49 C48 =>
        cB (f_X3_isStart v49 C48) fun v52 C51 =>
        xB (f_X3_need v52 4 C51) fun _ C53 =>
        f_X3_form_b222 k165 x2 C53)))
def f_X3_form_b165 : Nat → Int → CW → Option ((Nat ⊕ Unit) × CW)
  | 0 => fun _ _ => none
  | n + 1 => fun x2 C => f_X3_form_s165 (f_X3_form_b165 n) x2 C
def f_X3_form_s40 (k40 : Int → CW → Option ((Nat ⊕ Unit) × CW)) (x2 : Int) (C : CW) : Option ((Nat ⊕ Unit) × CW) :=
  rd (cI C 204 8) fun v3 =>
  if w32 x2 ≤ w32 v3 then (
    rd (csI C 204 8 0) fun C4 =>
    f_X3_form_b165 FU x2 C4)
  else (
    rd (cR C 204 7) fun v5 =>
    rd (cI C 204 8) fun v6 =>
    dr v5 fun q9 => gdB (hK C q9 == 7) <| cB (f_X8_at q9 v6 C) fun v8 C7 =>
    cB (f_X1_sizeOf v8 C7) fun v11 C10 =>
    if w32 v11 ≤ 0 then (
      f_X3_form_b82 k40 x2 v11 C10)
    else (
      rd (cI C10 204 8) fun v12 =>
      if w32 x2 < w32 (v12 + v11) then (
        f_X3_form_b82 k40 x2 v11 C10)
      else (
        f_X3_form_b83 k40 x2 v11 1 C10)))
def f_X3_form_b40 : Nat → Int → CW → Option ((Nat ⊕ Unit) × CW)
  | 0 => fun _ _ => none
  | n + 1 => fun x2 C => f_X3_form_s40 (f_X3_form_b40 n) x2 C
def f_X3_form_s16 (k16 : Int → Int → CW → Option ((Nat ⊕ Unit) × CW)) (x2 : Int) (x3 : Int) (C : CW) : Option ((Nat ⊕ Unit) × CW) :=
  if w32 120 < w32 x3 then (
    rd (csI C 204 8 0) fun C1 =>
    f_X3_form_b40 FU x2 C1)
  else (
    ax x3 121 fun j => rd (csI C 205 j (iAnd 0 1)) fun C2 =>
    k16 x2 (x3 + 1) C2)
def f_X3_form_b16 : Nat → Int → Int → CW → Option ((Nat ⊕ Unit) × CW)
  | 0 => fun _ _ _ => none
  | n + 1 => fun x2 x3 C => f_X3_form_s16 (f_X3_form_b16 n) x2 x3 C
def f_X3_form (x1 : Option Nat) (C : CW) : Option ((Nat ⊕ Unit) × CW) :=
  rd (csR C 204 7 x1) fun C87 =>
  rd (cR C87 204 7) fun v88 =>
  dr v88 fun q89 => gdB (hK C87 q89 == 7) <| rd (hR C87 q89 2) fun v90 =>
  dr v90 fun q92 => gdB (Nat.ble 64 (hK C87 q92)) <| rd (hL C87 q92 : Int) fun v91 =>
  f_X3_form_b16 FU v91 0 C87
def f_X4_init (x0 : Nat) (C : CW) : Option (Unit × CW) :=
  gdB (decide (0 ≤ w32 12)) <| al C (w32 12).toNat fun q1 => rd (hNew C (64 + 0) (w32 12).toNat (w32 12).toNat) fun C2 =>
  dr (some x0) fun q4 => gdB (hK C2 q4 == 6) <| rd (hsR C2 q4 0 (some q1)) fun C3 =>
  gdB (decide (0 ≤ w32 12)) <| al C3 (w32 12).toNat fun q5 => rd (hNew C3 (64 + 0) (w32 12).toNat (w32 12).toNat) fun C6 =>
  dr (some x0) fun q8 => gdB (hK C6 q8 == 6) <| rd (hsR C6 q8 1 (some q5)) fun C7 =>
  some ((), C7)
def f_X4_store_b25 (x0 : Option Nat) (x1 : Int) (x2 : Int) (C : CW) : Option (Unit × CW) :=
  dr x0 fun q1 => gdB (hK C q1 == 6) <| rd (hR C q1 0) fun v2 =>
  dr v2 fun q4 => gdB (hK C q4 == 64) <| ax x1 (hL C q4) fun j => rd (hsI C q4 j x2) fun C3 =>
  if w32 x2 = w32 2 then (
    dr x0 fun q5 => gdB (hK C3 q5 == 6) <| rd (hR C3 q5 0) fun v6 =>
    dr v6 fun q8 => gdB (hK C3 q8 == 64) <| ax (x1 + 1) (hL C3 q8) fun j => rd (hsI C3 q8 j 0) fun C7 =>
    some ((), C7))
  else (
    some ((), C3))
def f_X4_store (x0 : Nat) (x1 : Int) (x2 : Int) (C : CW) : Option (Unit × CW) :=
  if w32 x1 ≤ 0 then (
    f_X4_store_b25 (some x0) x1 x2 C)
  else (
    dr (some x0) fun q9 => gdB (hK C q9 == 6) <| rd (hR C q9 0) fun v10 =>
    dr v10 fun q12 => gdB (hK C q12 == 64) <| ax (x1 - 1) (hL C q12) fun j => rd (hI C q12 j) fun v11 =>
    if w32 v11 = w32 2 then (
      dr (some x0) fun q13 => gdB (hK C q13 == 6) <| rd (hR C q13 0) fun v14 =>
      dr v14 fun q16 => gdB (hK C q16 == 64) <| ax (x1 - 1) (hL C q16) fun j => rd (hsI C q16 j 0) fun C15 =>
      f_X4_store_b25 (some x0) x1 x2 C15)
    else (
      f_X4_store_b25 (some x0) x1 x2 C))
def f_X4_copy_s2 (k2 : Option Nat → Option Nat → Int → CW → Option (Unit × CW)) (x0 : Option Nat) (x1 : Option Nat) (x2 : Int) (C : CW) : Option (Unit × CW) :=
  if w32 12 ≤ w32 x2 then (
    dr x1 fun q1 => gdB (hK C q1 == 6) <| rd (hI C q1 2) fun v2 =>
    dr x0 fun q4 => gdB (hK C q4 == 6) <| rd (hsI C q4 2 v2) fun C3 =>
    dr x1 fun q5 => gdB (hK C3 q5 == 6) <| rd (hI C3 q5 3) fun v6 =>
    dr x0 fun q8 => gdB (hK C3 q8 == 6) <| rd (hsI C3 q8 3 v6) fun C7 =>
    some ((), C7))
  else (
    dr x0 fun q9 => gdB (hK C q9 == 6) <| rd (hR C q9 0) fun v10 =>
    dr x1 fun q11 => gdB (hK C q11 == 6) <| rd (hR C q11 0) fun v12 =>
    dr v12 fun q14 => gdB (hK C q14 == 64) <| ax x2 (hL C q14) fun j => rd (hI C q14 j) fun v13 =>
    dr v10 fun q16 => gdB (hK C q16 == 64) <| ax x2 (hL C q16) fun j => rd (hsI C q16 j v13) fun C15 =>
    dr x0 fun q17 => gdB (hK C15 q17 == 6) <| rd (hR C15 q17 1) fun v18 =>
    dr x1 fun q19 => gdB (hK C15 q19 == 6) <| rd (hR C15 q19 1) fun v20 =>
    dr v20 fun q22 => gdB (hK C15 q22 == 64) <| ax x2 (hL C15 q22) fun j => rd (hI C15 q22 j) fun v21 =>
    dr v18 fun q24 => gdB (hK C15 q24 == 64) <| ax x2 (hL C15 q24) fun j => rd (hsI C15 q24 j v21) fun C23 =>
    k2 x0 x1 (x2 + 1) C23)
def f_X4_copy_b2 : Nat → Option Nat → Option Nat → Int → CW → Option (Unit × CW)
  | 0 => fun _ _ _ _ => none
  | n + 1 => fun x0 x1 x2 C => f_X4_copy_s2 (f_X4_copy_b2 n) x0 x1 x2 C
def f_X4_copy (x0 : Nat) (x1 : Option Nat) (C : CW) : Option (Unit × CW) :=
  f_X4_copy_b2 FU (some x0) x1 0 C
def f_X3_wait (x1 : Int) (C : CW) : Option (Unit × CW) :=
  ax (iShr x1 6) 2 fun j => rd (cJ C 206 j) fun v1 =>
  ax (iShr x1 6) 2 fun j => rd (csJ C 206 j (jOr v1 (jShl 1 (iAnd x1 63)))) fun C2 =>
  some ((), C2)
def f_X2_isArray (x0 : Int) (C : CW) : Option (Int × CW) :=
  if w32 x0 = w32 3 then (
    some (1, C))
  else (
    if w32 x0 = w32 4 then (
      some (1, C))
    else (
      cB (f_X2_isArrayOf x0 C) fun v2 C1 =>
      if w32 v2 = 0 then (
        some (0, C1))
      else (
        some (1, C1))))
def f_X2_isReference (x0 : Int) (C : CW) : Option (Int × CW) :=
  if w32 x0 = w32 5 then (
    some (1, C))
  else (
    cB (f_X2_isObject x0 C) fun v2 C1 =>
    if w32 v2 = 0 then (
      cB (f_X2_isArray x0 C1) fun v4 C3 =>
      if w32 v4 = 0 then (
        some (0, C3))
      else (
        some (1, C3)))
    else (
      some (1, C1)))
def f_X2_nearest_s2 (k2 : Int → Int → CW → Option (Int × CW)) (x2 : Int) (x3 : Int) (C : CW) : Option (Int × CW) :=
  cB (f_X2_subs x2 x3 C) fun v2 C1 =>
  if w32 v2 = 0 then (
    ax x3 16 fun j => rd (cI C1 202 j) fun v3 =>
    k2 x2 v3 C1)
  else (
    some (x3, C1))
def f_X2_nearest_b2 : Nat → Int → Int → CW → Option (Int × CW)
  | 0 => fun _ _ _ => none
  | n + 1 => fun x2 x3 C => f_X2_nearest_s2 (f_X2_nearest_b2 n) x2 x3 C
def f_X2_nearest (x1 : Int) (x2 : Int) (C : CW) : Option (Int × CW) :=
  f_X2_nearest_b2 FU x2 x1 C
def f_X2_merge_b33 (x1 : Int) (x2 : Int) (C : CW) : Option (Int × CW) :=
  if w32 x1 = w32 5 then (
    some (x2, C))
  else (
    some (x1, C))
def f_X2_merge_b74 (x1 : Int) (x2 : Int) (C : CW) : Option (Int × CW) :=
  cB (f_X2_isArrayOf x1 C) fun v2 C1 =>
  if w32 v2 = 0 then (
    some (32, C1))
  else (
    cB (f_X2_isArrayOf x2 C1) fun v4 C3 =>
    if w32 v4 = 0 then (
      some (32, C3))
    else (
      cB (f_X2_nearest (x1 - 64) (x2 - 64) C3) fun v6 C5 =>
      some ((64 + v6), C5)))
def f_X2_merge (x1 : Int) (x2 : Int) (C : CW) : Option (Int × CW) :=
  if w32 x1 = w32 x2 then (
    some (x1, C))
  else (
    cB (f_X2_isReference x1 C) fun v8 C7 =>
    if w32 v8 = 0 then (
      some (0, C7))
    else (
      cB (f_X2_isReference x2 C7) fun v10 C9 =>
      if w32 v10 = 0 then (
        some (0, C9))
      else (
        if w32 x1 = w32 5 then (
          f_X2_merge_b33 x1 x2 C9)
        else (
          if w32 x2 = w32 5 then (
            f_X2_merge_b33 x1 x2 C9)
          else (
            cB (f_X2_isObject x1 C9) fun v12 C11 =>
            if w32 v12 = 0 then (
              f_X2_merge_b74 x1 x2 C11)
            else (
              cB (f_X2_isObject x2 C11) fun v14 C13 =>
              if w32 v14 = 0 then (
                f_X2_merge_b74 x1 x2 C13)
              else (
                cB (f_X2_nearest (x1 - 32) (x2 - 32) C13) fun v16 C15 =>
                some ((32 + v16), C15))))))))
def f_X3_give_b131 (k77 : Int → Option Nat → Option Nat → Int → Int → CW → Option ((Nat ⊕ Unit) × CW)) (x1 : Int) (x2 : Option Nat) (x3 : Option Nat) (x5 : Int) (x6 : Int) (s0 : Int) (s1 : Int) (C : CW) : Option ((Nat ⊕ Unit) × CW) :=
  rd (iOr s0 s1) fun v19 =>
  dr x3 fun q20 => gdB (hK C q20 == 6) <| rd (hR C q20 0) fun v21 =>
  dr v21 fun q23 => gdB (hK C q23 == 64) <| ax x5 (hL C q23) fun j => rd (hsI C q23 j x6) fun C22 =>
  k77 x1 x2 x3 v19 (x5 + 1) C22
def f_X3_give_b236 (k152 : Int → Option Nat → Option Nat → Int → Int → CW → Option ((Nat ⊕ Unit) × CW)) (x1 : Int) (x2 : Option Nat) (x3 : Option Nat) (x5 : Int) (x6 : Int) (s0 : Int) (s1 : Int) (C : CW) : Option ((Nat ⊕ Unit) × CW) :=
  rd (iOr s0 s1) fun v50 =>
  dr x3 fun q51 => gdB (hK C q51 == 6) <| rd (hR C q51 1) fun v52 =>
  dr v52 fun q54 => gdB (hK C q54 == 64) <| ax x5 (hL C q54) fun j => rd (hsI C q54 j x6) fun C53 =>
  k152 x1 x2 x3 v50 (x5 + 1) C53
def f_X3_give_b211 (k152 : Int → Option Nat → Option Nat → Int → Int → CW → Option ((Nat ⊕ Unit) × CW)) (x1 : Int) (x2 : Option Nat) (x3 : Option Nat) (x4 : Int) (x5 : Int) (x6 : Int) (s0 : Int) (C : CW) : Option ((Nat ⊕ Unit) × CW) :=
  xB (f_X1_hold s0 9 x1 C) fun _ C45 =>
  dr x3 fun q46 => gdB (hK C45 q46 == 6) <| rd (hR C45 q46 1) fun v47 =>
  dr v47 fun q49 => gdB (hK C45 q49 == 64) <| ax x5 (hL C45 q49) fun j => rd (hI C45 q49 j) fun v48 =>
  if w32 x6 = w32 v48 then (
    f_X3_give_b236 k152 x1 x2 x3 x5 x6 x4 0 C45)
  else (
    f_X3_give_b236 k152 x1 x2 x3 x5 x6 x4 1 C45)
def f_X3_give_b206 (k152 : Int → Option Nat → Option Nat → Int → Int → CW → Option ((Nat ⊕ Unit) × CW)) (x1 : Int) (x2 : Option Nat) (x3 : Option Nat) (x4 : Int) (x5 : Int) (x6 : Int) (C : CW) : Option ((Nat ⊕ Unit) × CW) :=
  f_X3_give_b211 k152 x1 x2 x3 x4 x5 x6 1 C
def f_X3_give_s152 (k152 : Int → Option Nat → Option Nat → Int → Int → CW → Option ((Nat ⊕ Unit) × CW)) (x1 : Int) (x2 : Option Nat) (x3 : Option Nat) (x4 : Int) (x5 : Int) (C : CW) : Option ((Nat ⊕ Unit) × CW) :=
  dr x2 fun q24 => gdB (hK C q24 == 6) <| rd (hI C q24 2) fun v25 =>
  if w32 v25 ≤ w32 x5 then (
    if w32 x4 = 0 then (
      some (Sum.inr (), C))
    else (
      cB (f_X3_wait x1 C) fun _ C26 =>
      some (Sum.inr (), C26)))
  else (
    dr x3 fun q27 => gdB (hK C q27 == 6) <| rd (hR C q27 1) fun v28 =>
    dr v28 fun q30 => gdB (hK C q30 == 64) <| ax x5 (hL C q30) fun j => rd (hI C q30 j) fun v29 =>
    dr x2 fun q31 => gdB (hK C q31 == 6) <| rd (hR C q31 1) fun v32 =>
    dr v32 fun q34 => gdB (hK C q34 == 64) <| ax x5 (hL C q34) fun j => rd (hI C q34 j) fun v33 =>
    cB (f_X2_merge v29 v33 C) fun v36 C35 =>
    if w32 v36 = 0 then (
      dr x3 fun q37 => gdB (hK C35 q37 == 6) <| rd (hR C35 q37 1) fun v38 =>
      dr v38 fun q40 => gdB (hK C35 q40 == 64) <| ax x5 (hL C35 q40) fun j => rd (hI C35 q40 j) fun v39 =>
      dr x2 fun q41 => gdB (hK C35 q41 == 6) <| rd (hR C35 q41 1) fun v42 =>
      dr v42 fun q44 => gdB (hK C35 q44 == 64) <| ax x5 (hL C35 q44) fun j => rd (hI C35 q44 j) fun v43 =>
      if w32 v39 = w32 v43 then (
        f_X3_give_b206 k152 x1 x2 x3 x4 x5 v36 C35)
      else (
        f_X3_give_b211 k152 x1 x2 x3 x4 x5 v36 0 C35))
    else (
      f_X3_give_b206 k152 x1 x2 x3 x4 x5 v36 C35))
def f_X3_give_b152 : Nat → Int → Option Nat → Option Nat → Int → Int → CW → Option ((Nat ⊕ Unit) × CW)
  | 0 => fun _ _ _ _ _ _ => none
  | n + 1 => fun x1 x2 x3 x4 x5 C => f_X3_give_s152 (f_X3_give_b152 n) x1 x2 x3 x4 x5 C
def f_X3_give_s77 (k77 : Int → Option Nat → Option Nat → Int → Int → CW → Option ((Nat ⊕ Unit) × CW)) (x1 : Int) (x2 : Option Nat) (x3 : Option Nat) (x4 : Int) (x5 : Int) (C : CW) : Option ((Nat ⊕ Unit) × CW) :=
  rd (cR C 204 7) fun v2 =>
  dr v2 fun q3 => gdB (hK C q3 == 7) <| rd (hI C q3 4) fun v4 =>
  if w32 v4 ≤ w32 x5 then (
    f_X3_give_b152 FU x1 x2 x3 x4 0 C)
  else (
    dr x3 fun q5 => gdB (hK C q5 == 6) <| rd (hR C q5 0) fun v6 =>
    dr v6 fun q8 => gdB (hK C q8 == 64) <| ax x5 (hL C q8) fun j => rd (hI C q8 j) fun v7 =>
    dr x2 fun q9 => gdB (hK C q9 == 6) <| rd (hR C q9 0) fun v10 =>
    dr v10 fun q12 => gdB (hK C q12 == 64) <| ax x5 (hL C q12) fun j => rd (hI C q12 j) fun v11 =>
    cB (f_X2_merge v7 v11 C) fun v14 C13 =>
    dr x3 fun q15 => gdB (hK C13 q15 == 6) <| rd (hR C13 q15 0) fun v16 =>
    dr v16 fun q18 => gdB (hK C13 q18 == 64) <| ax x5 (hL C13 q18) fun j => rd (hI C13 q18 j) fun v17 =>
    if w32 v14 = w32 v17 then (
      f_X3_give_b131 k77 x1 x2 x3 x5 v14 x4 0 C13)
    else (
      f_X3_give_b131 k77 x1 x2 x3 x5 v14 x4 1 C13))
def f_X3_give_b77 : Nat → Int → Option Nat → Option Nat → Int → Int → CW → Option ((Nat ⊕ Unit) × CW)
  | 0 => fun _ _ _ _ _ _ => none
  | n + 1 => fun x1 x2 x3 x4 x5 C => f_X3_give_s77 (f_X3_give_b77 n) x1 x2 x3 x4 x5 C
def f_X3_give_b65 (x1 : Int) (x2 : Option Nat) (x3 : Option Nat) (s0 : Int) (C : CW) : Option ((Nat ⊕ Unit) × CW) :=
  xB (f_X1_hold s0 9 x1 C) fun _ C1 =>
  f_X3_give_b77 FU x1 x2 x3 0 0 C1
def f_X3_give (x1 : Int) (x2 : Option Nat) (C : CW) : Option ((Nat ⊕ Unit) × CW) :=
  rd (cR C 204 7) fun v55 =>
  dr v55 fun q56 => gdB (hK C q56 == 7) <| rd (hR C q56 10) fun v57 =>
  dr v57 fun q59 => gdB (hK C q59 == 64 + 5) <| ax x1 (hL C q59) fun j => rd (hR C q59 j) fun v58 =>
  (match v58 with
  | none => (
    rd (cR C 204 7) fun v61 =>
    dr v61 fun q62 => gdB (hK C q62 == 7) <| rd (hR C q62 10) fun v63 =>
    al C 4 fun q64 => rd (hNew C 6 0 4) fun C65 =>
    dr (some q64) fun q67 => cB (f_X4_init q67 C65) fun _ C66 =>
    dr v63 fun q69 => gdB (hK C66 q69 == 64 + 5 && okN (some q64) (fun w => okE 5 (hK C66 w))) <| ax x1 (hL C66 q69) fun j => rd (hsR C66 q69 j (some q64)) fun C68 =>
    rd (cR C68 204 7) fun v70 =>
    dr v70 fun q71 => gdB (hK C68 q71 == 7) <| rd (hR C68 q71 10) fun v72 =>
    dr v72 fun q74 => gdB (hK C68 q74 == 64 + 5) <| ax x1 (hL C68 q74) fun j => rd (hR C68 q74 j) fun v73 =>
    dr v73 fun q76 => gdB (hK C68 q76 == 6) <| cB (f_X4_copy q76 x2 C68) fun _ C75 =>
    cB (f_X3_wait x1 C75) fun _ C77 =>
    some (Sum.inr (), C77))
  | some q60 => (
    dr v58 fun q78 => gdB (hK C q78 == 6) <| rd (hI C q78 2) fun v79 =>
    dr x2 fun q80 => gdB (hK C q80 == 6) <| rd (hI C q80 2) fun v81 =>
    if w32 v79 = w32 v81 then (
      f_X3_give_b65 x1 x2 v58 1 C)
    else (
      f_X3_give_b65 x1 x2 v58 0 C)))
def f_J14_numberOfTrailingZeros_b74 (x0 : Int) (x1 : Int) (C : CW) : Option (Int × CW) :=
  some ((x1 + (iUshr x0 1)), C)
def f_J14_numberOfTrailingZeros_b62 (x0 : Int) (x1 : Int) (C : CW) : Option (Int × CW) :=
  if w32 x0 ≤ w32 4 then (
    f_J14_numberOfTrailingZeros_b74 x0 x1 C)
  else (
    rd (iUshr x0 2) fun v3 =>
    f_J14_numberOfTrailingZeros_b74 v3 (x1 + 2) C)
def f_J14_numberOfTrailingZeros_b49 (x0 : Int) (x1 : Int) (C : CW) : Option (Int × CW) :=
  if w32 x0 ≤ w32 16 then (
    f_J14_numberOfTrailingZeros_b62 x0 x1 C)
  else (
    rd (iUshr x0 4) fun v2 =>
    f_J14_numberOfTrailingZeros_b62 v2 (x1 + 4) C)
def f_J14_numberOfTrailingZeros_b34 (x0 : Int) (x1 : Int) (C : CW) : Option (Int × CW) :=
  if w32 x0 ≤ w32 256 then (
    f_J14_numberOfTrailingZeros_b49 x0 x1 C)
  else (
    rd (iUshr x0 8) fun v1 =>
    f_J14_numberOfTrailingZeros_b49 v1 (x1 + 8) C)
def f_J14_numberOfTrailingZeros (x0 : Int) (C : CW) : Option (Int × CW) :=
  rd (iAnd (iXor x0 (-1)) (x0 - 1)) fun v4 =>
  if 0 < w32 v4 then (
    if w32 v4 ≤ w32 65536 then (
      f_J14_numberOfTrailingZeros_b34 v4 1 C)
    else (
      rd (iUshr v4 16) fun v5 =>
      f_J14_numberOfTrailingZeros_b34 v5 (1 + 16) C))
  else (
    some ((iAnd v4 32), C))
def f_J13_numberOfTrailingZeros (x0 : Int) (C : CW) : Option (Int × CW) :=
  if w32 x0 = 0 then (
    cB (f_J14_numberOfTrailingZeros (jUshr x0 32) C) fun v4 C3 =>
    some ((32 + v4), C3))
  else (
    cB (f_J14_numberOfTrailingZeros x0 C) fun v2 C1 =>
    some (v2, C1))
def f_X3_next_s2 (k2 : Int → CW → Option (Int × CW)) (x1 : Int) (C : CW) : Option (Int × CW) :=
  if w32 2 ≤ w32 x1 then (
    some ((-1), C))
  else (
    ax x1 2 fun j => rd (cJ C 206 j) fun v1 =>
    if w32 (jCmp v1 0) = 0 then (
      k2 (x1 + 1) C)
    else (
      ax x1 2 fun j => rd (cJ C 206 j) fun v2 =>
      cB (f_J13_numberOfTrailingZeros v2 C) fun v4 C3 =>
      ax x1 2 fun j => rd (cJ C3 206 j) fun v5 =>
      ax x1 2 fun j => rd (cJ C3 206 j) fun v6 =>
      ax x1 2 fun j => rd (csJ C3 206 j (jAnd v5 (v6 - 1))) fun C7 =>
      some (((64 * x1) + v4), C7)))
def f_X3_next_b2 : Nat → Int → CW → Option (Int × CW)
  | 0 => fun _ _ => none
  | n + 1 => fun x1 C => f_X3_next_s2 (f_X3_next_b2 n) x1 C
def f_X3_next (C : CW) : Option (Int × CW) :=
  f_X3_next_b2 FU 0 C
def f_X3_push_b45 (x1 : Int) (s1 : Int) (C : CW) : Option ((Nat ⊕ Unit) × CW) :=
  xB (f_X3_need s1 7 C) fun _ C8 =>
  dr (some (hB C8 + 8)) fun q9 => gdB (hK C8 q9 == 6) <| rd (hR C8 q9 1) fun v10 =>
  dr (some (hB C8 + 8)) fun q11 => gdB (hK C8 q11 == 6) <| rd (hI C8 q11 2) fun v12 =>
  dr v10 fun q14 => gdB (hK C8 q14 == 64) <| ax v12 (hL C8 q14) fun j => rd (hsI C8 q14 j x1) fun C13 =>
  dr (some (hB C13 + 8)) fun q15 => gdB (hK C13 q15 == 6) <| rd (hI C13 q15 2) fun v16 =>
  dr (some (hB C13 + 8)) fun q18 => gdB (hK C13 q18 == 6) <| rd (hsI C13 q18 2 (v16 + 1)) fun C17 =>
  some (Sum.inr (), C17)
def f_X3_push_b18 (x1 : Int) (s0 : Option Nat) (s1 : Int) (s2 : Int) (C : CW) : Option ((Nat ⊕ Unit) × CW) :=
  dr s0 fun q2 => gdB (hK C q2 == 6) <| rd (hsI C q2 3 (s1 + s2)) fun C1 =>
  dr (some (hB C1 + 8)) fun q3 => gdB (hK C1 q3 == 6) <| rd (hI C1 q3 3) fun v4 =>
  rd (cR C1 204 7) fun v5 =>
  dr v5 fun q6 => gdB (hK C1 q6 == 7) <| rd (hI C1 q6 3) fun v7 =>
  if w32 v7 < w32 v4 then (
    f_X3_push_b45 x1 0 C1)
  else (
    f_X3_push_b45 x1 1 C1)
def f_X3_push (x1 : Int) (C : CW) : Option ((Nat ⊕ Unit) × CW) :=
  dr (some (hB C + 8)) fun q19 => gdB (hK C q19 == 6) <| rd (hI C q19 3) fun v20 =>
  if w32 x1 = w32 2 then (
    f_X3_push_b18 x1 (some (hB C + 8)) v20 2 C)
  else (
    f_X3_push_b18 x1 (some (hB C + 8)) v20 1 C)
def f_X3_load_b68 (x3 : Int) (s1 : Int) (C : CW) : Option ((Nat ⊕ Unit) × CW) :=
  xB (f_X3_need s1 6 C) fun _ C1 =>
  xB (f_X3_push x3 C1) fun _ C2 =>
  some (Sum.inr (), C2)
def f_X3_load_b63 (x3 : Int) (C : CW) : Option ((Nat ⊕ Unit) × CW) :=
  f_X3_load_b68 x3 1 C
def f_X3_load (x1 : Int) (x2 : Int) (C : CW) : Option ((Nat ⊕ Unit) × CW) :=
  dr (some (hB C + 8)) fun q3 => gdB (hK C q3 == 6) <| rd (hR C q3 0) fun v4 =>
  dr v4 fun q6 => gdB (hK C q6 == 64) <| ax x1 (hL C q6) fun j => rd (hI C q6 j) fun v5 =>
  if w32 x2 = w32 21 then (
    if w32 v5 = w32 1 then (
      f_X3_load_b68 v5 1 C)
    else (
      f_X3_load_b68 v5 0 C))
  else (
    if w32 x2 = w32 22 then (
      if w32 v5 = w32 2 then (
        f_X3_load_b68 v5 1 C)
      else (
        f_X3_load_b68 v5 0 C))
    else (
      cB (f_X2_isReference v5 C) fun v8 C7 =>
      if w32 v8 = 0 then (
        if w32 v5 < w32 1000 then (
          f_X3_load_b68 v5 0 C7)
        else (
          f_X3_load_b63 v5 C7))
      else (
        f_X3_load_b63 v5 C7)))
def f_X3_pop_b16 (s1 : Int) (C : CW) : Option ((Nat ⊕ Int) × CW) :=
  xB (f_X3_need s1 6 C) fun _ C1 =>
  dr (some (hB C1 + 8)) fun q2 => gdB (hK C1 q2 == 6) <| rd (hI C1 q2 2) fun v3 =>
  dr (some (hB C1 + 8)) fun q5 => gdB (hK C1 q5 == 6) <| rd (hsI C1 q5 2 (v3 - 1)) fun C4 =>
  dr (some (hB C4 + 8)) fun q6 => gdB (hK C4 q6 == 6) <| rd (hR C4 q6 1) fun v7 =>
  dr (some (hB C4 + 8)) fun q8 => gdB (hK C4 q8 == 6) <| rd (hI C4 q8 2) fun v9 =>
  dr v7 fun q11 => gdB (hK C4 q11 == 64) <| ax v9 (hL C4 q11) fun j => rd (hI C4 q11 j) fun v10 =>
  dr (some (hB C4 + 8)) fun q12 => gdB (hK C4 q12 == 6) <| rd (hI C4 q12 3) fun v13 =>
  if w32 v10 = w32 2 then (
    dr (some (hB C4 + 8)) fun q17 => gdB (hK C4 q17 == 6) <| rd (hsI C4 q17 3 (v13 - 2)) fun C16 =>
    some (Sum.inr v10, C16))
  else (
    dr (some (hB C4 + 8)) fun q15 => gdB (hK C4 q15 == 6) <| rd (hsI C4 q15 3 (v13 - 1)) fun C14 =>
    some (Sum.inr v10, C14))
def f_X3_pop (C : CW) : Option ((Nat ⊕ Int) × CW) :=
  dr (some (hB C + 8)) fun q18 => gdB (hK C q18 == 6) <| rd (hI C q18 2) fun v19 =>
  if w32 v19 ≤ 0 then (
    f_X3_pop_b16 0 C)
  else (
    f_X3_pop_b16 1 C)
def f_X3_popReference (C : CW) : Option ((Nat ⊕ Int) × CW) :=
  xB (f_X3_pop C) fun v2 C1 =>
  cB (f_X2_isReference v2 C1) fun v4 C3 =>
  xB (f_X3_need v4 6 C3) fun _ C5 =>
  some (Sum.inr v2, C5)
def f_X2_classFor (x1 : Int) (x2 : Int) (C : CW) : Option (Int × CW) :=
  if w32 x2 = 0 then (
    some (1, C))
  else (
    ax x2 16 fun j => rd (cI C 203 j) fun v1 =>
    if w32 v1 = 0 then (
      cB (f_X2_subs x1 x2 C) fun v3 C2 =>
      if w32 v3 = 0 then (
        some (0, C2))
      else (
        some (1, C2)))
    else (
      some (1, C)))
def f_X2_fits (x1 : Int) (x2 : Int) (C : CW) : Option (Int × CW) :=
  if w32 x1 = w32 x2 then (
    some (1, C))
  else (
    if w32 x2 = 0 then (
      some (1, C))
    else (
      if w32 x1 = w32 5 then (
        cB (f_X2_isObject x2 C) fun v17 C16 =>
        if w32 v17 = 0 then (
          cB (f_X2_isArray x2 C16) fun v19 C18 =>
          if w32 v19 = 0 then (
            some (0, C18))
          else (
            some (1, C18)))
        else (
          some (1, C16)))
      else (
        cB (f_X2_isObject x2 C) fun v2 C1 =>
        if w32 v2 = 0 then (
          cB (f_X2_isArrayOf x1 C1) fun v4 C3 =>
          if w32 v4 = 0 then (
            some (0, C3))
          else (
            cB (f_X2_isArrayOf x2 C3) fun v6 C5 =>
            if w32 v6 = 0 then (
              some (0, C5))
            else (
              cB (f_X2_classFor (x1 - 64) (x2 - 64) C5) fun v8 C7 =>
              if w32 v8 = 0 then (
                some (0, C7))
              else (
                some (1, C7)))))
        else (
          cB (f_X2_isObject x1 C1) fun v10 C9 =>
          if w32 v10 = 0 then (
            cB (f_X2_isArray x1 C9) fun v12 C11 =>
            if w32 v12 = 0 then (
              some (0, C11))
            else (
              if w32 x2 = w32 32 then (
                some (1, C11))
              else (
                ax (x2 - 32) 16 fun j => rd (cI C11 203 j) fun v13 =>
                if w32 v13 = 0 then (
                  some (0, C11))
                else (
                  some (1, C11)))))
          else (
            cB (f_X2_classFor (x1 - 32) (x2 - 32) C9) fun v15 C14 =>
            gdB (isZ v15) (some (v15, C14)))))))
def f_X3_pop_2 (x1 : Int) (C : CW) : Option ((Nat ⊕ Int) × CW) :=
  xB (f_X3_pop C) fun v2 C1 =>
  cB (f_X2_fits v2 x1 C1) fun v4 C3 =>
  xB (f_X3_need v4 6 C3) fun _ C5 =>
  some (Sum.inr v2, C5)
def f_X3_popArray_b37 (x2 : Int) (s1 : Int) (C : CW) : Option ((Nat ⊕ Int) × CW) :=
  xB (f_X3_need s1 6 C) fun _ C1 =>
  some (Sum.inr x2, C1)
def f_X3_popArray_b32 (x2 : Int) (C : CW) : Option ((Nat ⊕ Int) × CW) :=
  f_X3_popArray_b37 x2 1 C
def f_X3_popArray_b36 (x2 : Int) (C : CW) : Option ((Nat ⊕ Int) × CW) :=
  f_X3_popArray_b37 x2 0 C
def f_X3_popArray (x1 : Int) (C : CW) : Option ((Nat ⊕ Int) × CW) :=
  xB (f_X3_pop C) fun v3 C2 =>
  if w32 v3 = w32 5 then (
    f_X3_popArray_b32 v3 C2)
  else (
    if w32 x1 = w32 32 then (
      cB (f_X2_isArrayOf v3 C2) fun v5 C4 =>
      if w32 v5 = 0 then (
        f_X3_popArray_b36 v3 C4)
      else (
        f_X3_popArray_b32 v3 C4))
    else (
      if w32 v3 = w32 x1 then (
        f_X3_popArray_b32 v3 C2)
      else (
        f_X3_popArray_b36 v3 C2)))
def f_X3_arrays_b126 (s1 : Int) (C : CW) : Option ((Nat ⊕ Unit) × CW) :=
  xB (f_X3_push s1 C) fun _ C7 =>
  some (Sum.inr (), C7)
def f_X3_arrays_b76 (x1 : Int) (s0 : Int) (C : CW) : Option ((Nat ⊕ Unit) × CW) :=
  xB (f_X3_popArray s0 C) fun v6 C5 =>
  if w32 79 ≤ w32 x1 then (
    some (Sum.inr (), C5))
  else (
    if w32 x1 = w32 46 then (
      f_X3_arrays_b126 1 C5)
    else (
      if w32 x1 = w32 47 then (
        f_X3_arrays_b126 2 C5)
      else (
        if w32 v6 = w32 5 then (
          f_X3_arrays_b126 5 C5)
        else (
          f_X3_arrays_b126 ((v6 - 64) + 32) C5))))
def f_X3_arrays_b54 (x1 : Int) (C : CW) : Option ((Nat ⊕ Unit) × CW) :=
  f_X3_arrays_b76 x1 3 C
def f_X3_arrays_b70 (x1 : Int) (C : CW) : Option ((Nat ⊕ Unit) × CW) :=
  f_X3_arrays_b76 x1 4 C
def f_X3_arrays_b36 (x1 : Int) (C : CW) : Option ((Nat ⊕ Unit) × CW) :=
  xB (f_X3_pop_2 1 C) fun v4 C3 =>
  if w32 x1 = w32 46 then (
    f_X3_arrays_b54 x1 C3)
  else (
    if w32 x1 = w32 79 then (
      f_X3_arrays_b54 x1 C3)
    else (
      if w32 x1 = w32 47 then (
        f_X3_arrays_b70 x1 C3)
      else (
        if w32 x1 = w32 80 then (
          f_X3_arrays_b70 x1 C3)
        else (
          f_X3_arrays_b76 x1 32 C3))))
def f_X3_arrays_b32 (x1 : Int) (s1 : Int) (C : CW) : Option ((Nat ⊕ Unit) × CW) :=
  xB (f_X3_pop_2 s1 C) fun v2 C1 =>
  f_X3_arrays_b36 x1 C1
def f_X3_arrays (x1 : Int) (C : CW) : Option ((Nat ⊕ Unit) × CW) :=
  if w32 x1 < w32 79 then (
    f_X3_arrays_b36 x1 C)
  else (
    if w32 x1 = w32 83 then (
      xB (f_X3_popReference C) fun v9 C8 =>
      f_X3_arrays_b36 x1 C8)
    else (
      if w32 x1 = w32 79 then (
        f_X3_arrays_b32 x1 1 C)
      else (
        f_X3_arrays_b32 x1 2 C)))
def f_X3_store_b63 (x1 : Int) (x3 : Int) (s1 : Int) (C : CW) : Option ((Nat ⊕ Unit) × CW) :=
  xB (f_X3_need s1 6 C) fun _ C1 =>
  dr (some (hB C1 + 8)) fun q3 => gdB (hK C1 q3 == 6) <| cB (f_X4_store q3 x1 x3 C1) fun _ C2 =>
  some (Sum.inr (), C2)
def f_X3_store_b58 (x1 : Int) (x3 : Int) (C : CW) : Option ((Nat ⊕ Unit) × CW) :=
  f_X3_store_b63 x1 x3 1 C
def f_X3_store (x1 : Int) (x2 : Int) (C : CW) : Option ((Nat ⊕ Unit) × CW) :=
  xB (f_X3_pop C) fun v5 C4 =>
  if w32 x2 = w32 54 then (
    if w32 v5 = w32 1 then (
      f_X3_store_b63 x1 v5 1 C4)
    else (
      f_X3_store_b63 x1 v5 0 C4))
  else (
    if w32 x2 = w32 55 then (
      if w32 v5 = w32 2 then (
        f_X3_store_b63 x1 v5 1 C4)
      else (
        f_X3_store_b63 x1 v5 0 C4))
    else (
      cB (f_X2_isReference v5 C4) fun v7 C6 =>
      if w32 v7 = 0 then (
        if w32 v5 < w32 1000 then (
          f_X3_store_b63 x1 v5 0 C6)
        else (
          f_X3_store_b58 x1 v5 C6))
      else (
        f_X3_store_b58 x1 v5 C6)))
def f_X3_popOne_b16 (x1 : Int) (s1 : Int) (C : CW) : Option ((Nat ⊕ Int) × CW) :=
  xB (f_X3_need s1 6 C) fun _ C1 =>
  some (Sum.inr x1, C1)
def f_X3_popOne (C : CW) : Option ((Nat ⊕ Int) × CW) :=
  xB (f_X3_pop C) fun v3 C2 =>
  if w32 v3 = w32 2 then (
    f_X3_popOne_b16 v3 0 C2)
  else (
    f_X3_popOne_b16 v3 1 C2)
def f_X3_two_b42 (k22 : Int → Int → Int → Int → CW → Option ((Nat ⊕ Unit) × CW)) (x1 : Int) (x2 : Int) (x3 : Int) (x4 : Int) (C : CW) : Option ((Nat ⊕ Unit) × CW) :=
  xB (f_X3_push x2 C) fun _ C2 =>
  k22 x1 x2 x3 (x4 + 1) C2
def f_X3_two_s22 (k22 : Int → Int → Int → Int → CW → Option ((Nat ⊕ Unit) × CW)) (x1 : Int) (x2 : Int) (x3 : Int) (x4 : Int) (C : CW) : Option ((Nat ⊕ Unit) × CW) :=
  if w32 2 ≤ w32 x4 then (
    some (Sum.inr (), C))
  else (
    if w32 x1 = 0 then (
      some (Sum.inr (), C))
    else (
      if w32 x2 = w32 2 then (
        f_X3_two_b42 k22 x1 x2 x3 x4 C)
      else (
        xB (f_X3_push x3 C) fun _ C1 =>
        f_X3_two_b42 k22 x1 x2 x3 x4 C1)))
def f_X3_two_b22 : Nat → Int → Int → Int → Int → CW → Option ((Nat ⊕ Unit) × CW)
  | 0 => fun _ _ _ _ _ => none
  | n + 1 => fun x1 x2 x3 x4 C => f_X3_two_s22 (f_X3_two_b22 n) x1 x2 x3 x4 C
def f_X3_two_b18 (x1 : Int) (x2 : Int) (s0 : Int) (C : CW) : Option ((Nat ⊕ Unit) × CW) :=
  f_X3_two_b22 FU x1 x2 s0 0 C
def f_X3_two (x1 : Int) (C : CW) : Option ((Nat ⊕ Unit) × CW) :=
  xB (f_X3_pop C) fun v4 C3 =>
  if w32 v4 = w32 2 then (
    f_X3_two_b18 x1 v4 0 C3)
  else (
    xB (f_X3_popOne C3) fun v6 C5 =>
    f_X3_two_b18 x1 v4 v6 C5)
def f_X3_stackOps_b82 (x1 : Int) (C : CW) : Option ((Nat ⊕ Unit) × CW) :=
  xB (f_X3_popOne C) fun v2 C1 =>
  xB (f_X3_popOne C1) fun v4 C3 =>
  xB (f_X3_push v2 C3) fun _ C5 =>
  xB (f_X3_push v4 C5) fun _ C6 =>
  if w32 x1 = w32 90 then (
    xB (f_X3_push v2 C6) fun _ C7 =>
    some (Sum.inr (), C7))
  else (
    some (Sum.inr (), C6))
def f_X3_stackOps (x1 : Int) (C : CW) : Option ((Nat ⊕ Unit) × CW) :=
  sw (w32 x1) 87 [
     (
      xB (f_X3_popOne C) fun v9 C8 =>
      some (Sum.inr (), C8)),
     (
      xB (f_X3_two 0 C) fun _ C10 =>
      some (Sum.inr (), C10)),
     (
      xB (f_X3_popOne C) fun v12 C11 =>
      xB (f_X3_push v12 C11) fun _ C13 =>
      xB (f_X3_push v12 C13) fun _ C14 =>
      some (Sum.inr (), C14)),
     (
      f_X3_stackOps_b82 x1 C),
     (
      f_X3_stackOps_b82 x1 C),
     (
      xB (f_X3_two 1 C) fun _ C15 =>
      some (Sum.inr (), C15))
    ] (
    f_X3_stackOps_b82 x1 C)
def f_X3_compute (x1 : Int) (C : CW) : Option ((Nat ⊕ Unit) × CW) :=
  xB (f_X3_pop_2 x1 C) fun v2 C1 =>
  xB (f_X3_pop_2 x1 C1) fun v4 C3 =>
  xB (f_X3_push x1 C3) fun _ C5 =>
  some (Sum.inr (), C5)
def f_X3_numbers_b38 (s1 : Int) (C : CW) : Option ((Nat ⊕ Unit) × CW) :=
  xB (f_X3_need s1 6 C) fun _ C1 =>
  some (Sum.inr (), C1)
def f_X3_numbers_b87 (s1 : Int) (C : CW) : Option ((Nat ⊕ Unit) × CW) :=
  xB (f_X3_push s1 C) fun _ C6 =>
  some (Sum.inr (), C6)
def f_X3_numbers_b74 (x1 : Int) (C : CW) : Option ((Nat ⊕ Unit) × CW) :=
  if w32 x1 = w32 133 then (
    f_X3_numbers_b87 2 C)
  else (
    f_X3_numbers_b87 1 C)
def f_X3_numbers_b57 (x1 : Int) (s1 : Int) (C : CW) : Option ((Nat ⊕ Unit) × CW) :=
  xB (f_X3_pop_2 s1 C) fun v3 C2 =>
  if w32 x1 = w32 148 then (
    xB (f_X3_pop_2 2 C2) fun v5 C4 =>
    f_X3_numbers_b74 x1 C4)
  else (
    f_X3_numbers_b74 x1 C2)
def f_X3_numbers (x1 : Int) (C : CW) : Option ((Nat ⊕ Unit) × CW) :=
  if w32 x1 = w32 132 then (
    dr (some (hB C + 8)) fun q7 => gdB (hK C q7 == 6) <| rd (hR C q7 0) fun v8 =>
    rd (cR C 204 7) fun v9 =>
    rd (cI C 204 8) fun v10 =>
    dr v9 fun q13 => gdB (hK C q13 == 7) <| cB (f_X8_at q13 (v10 + 1) C) fun v12 C11 =>
    dr v8 fun q15 => gdB (hK C11 q15 == 64) <| ax v12 (hL C11 q15) fun j => rd (hI C11 q15 j) fun v14 =>
    if w32 v14 = w32 1 then (
      f_X3_numbers_b38 1 C11)
    else (
      f_X3_numbers_b38 0 C11))
  else (
    if w32 x1 = w32 133 then (
      f_X3_numbers_b57 x1 1 C)
    else (
      f_X3_numbers_b57 x1 2 C))
def f_X3_branches_b22 (x1 : Int) (C : CW) : Option ((Nat ⊕ Unit) × CW) :=
  xB (f_X3_popReference C) fun v2 C1 =>
  if w32 198 ≤ w32 x1 then (
    some (Sum.inr (), C1))
  else (
    xB (f_X3_popReference C1) fun v4 C3 =>
    some (Sum.inr (), C3))
def f_X3_branches (x1 : Int) (C : CW) : Option ((Nat ⊕ Unit) × CW) :=
  if w32 x1 = w32 167 then (
    some (Sum.inr (), C))
  else (
    if w32 198 ≤ w32 x1 then (
      f_X3_branches_b22 x1 C)
    else (
      if w32 x1 < w32 165 then (
        xB (f_X3_pop_2 1 C) fun v6 C5 =>
        if w32 x1 < w32 159 then (
          some (Sum.inr (), C5))
        else (
          xB (f_X3_pop_2 1 C5) fun v8 C7 =>
          some (Sum.inr (), C7)))
      else (
        f_X3_branches_b22 x1 C)))
def f_X3_returns_b23 (s1 : Int) (C : CW) : Option ((Nat ⊕ Unit) × CW) :=
  xB (f_X3_need s1 6 C) fun _ C1 =>
  some (Sum.inr (), C1)
def f_X3_returns_b98 (s1 : Int) (C : CW) : Option ((Nat ⊕ Unit) × CW) :=
  xB (f_X3_need s1 6 C) fun _ C10 =>
  some (Sum.inr (), C10)
def f_X3_returns_b97 (C : CW) : Option ((Nat ⊕ Unit) × CW) :=
  f_X3_returns_b98 0 C
def f_X3_returns_b63 (s0 : Int) (C : CW) : Option ((Nat ⊕ Unit) × CW) :=
  rd (cR C 204 7) fun v2 =>
  dr v2 fun q3 => gdB (hK C q3 == 7) <| rd (hI C q3 1) fun v4 =>
  if w32 v4 = 0 then (
    f_X3_returns_b97 C)
  else (
    rd (cR C 204 7) fun v5 =>
    dr v5 fun q6 => gdB (hK C q6 == 7) <| rd (hI C q6 1) fun v7 =>
    cB (f_X2_fits s0 v7 C) fun v9 C8 =>
    if w32 v9 = 0 then (
      f_X3_returns_b97 C8)
    else (
      f_X3_returns_b98 1 C8))
def f_X3_returns (x1 : Int) (C : CW) : Option ((Nat ⊕ Unit) × CW) :=
  if w32 x1 = w32 177 then (
    rd (cR C 204 7) fun v17 =>
    dr v17 fun q18 => gdB (hK C q18 == 7) <| rd (hI C q18 1) fun v19 =>
    if w32 v19 = 0 then (
      f_X3_returns_b23 1 C)
    else (
      f_X3_returns_b23 0 C))
  else (
    if w32 x1 = w32 172 then (
      xB (f_X3_pop_2 1 C) fun v16 C15 =>
      f_X3_returns_b63 v16 C15)
    else (
      if w32 x1 = w32 173 then (
        xB (f_X3_pop_2 2 C) fun v14 C13 =>
        f_X3_returns_b63 v14 C13)
      else (
        xB (f_X3_popReference C) fun v12 C11 =>
        f_X3_returns_b63 v12 C11)))
def f_X3_field_b56 (x2 : Option Nat) (C : CW) : Option ((Nat ⊕ Unit) × CW) :=
  dr x2 fun q9 => gdB (hK C q9 == 8) <| rd (hI C q9 2) fun v10 =>
  xB (f_X3_push v10 C) fun _ C11 =>
  some (Sum.inr (), C11)
def f_X3_field_b42 (x1 : Int) (x2 : Option Nat) (C : CW) : Option ((Nat ⊕ Unit) × CW) :=
  if w32 x1 = w32 178 then (
    f_X3_field_b56 x2 C)
  else (
    if w32 x1 = w32 180 then (
      f_X3_field_b56 x2 C)
    else (
      some (Sum.inr (), C)))
def f_X3_field_b23 (x1 : Int) (x2 : Option Nat) (C : CW) : Option ((Nat ⊕ Unit) × CW) :=
  if w32 x1 ≤ w32 179 then (
    f_X3_field_b42 x1 x2 C)
  else (
    dr x2 fun q5 => gdB (hK C q5 == 8) <| rd (hI C q5 1) fun v6 =>
    xB (f_X3_pop_2 (32 + v6) C) fun v8 C7 =>
    f_X3_field_b42 x1 x2 C7)
def f_X3_field_b14 (x1 : Int) (x2 : Option Nat) (C : CW) : Option ((Nat ⊕ Unit) × CW) :=
  dr x2 fun q1 => gdB (hK C q1 == 8) <| rd (hI C q1 2) fun v2 =>
  xB (f_X3_pop_2 v2 C) fun v4 C3 =>
  f_X3_field_b23 x1 x2 C3
def f_X3_field (x1 : Int) (x2 : Option Nat) (C : CW) : Option ((Nat ⊕ Unit) × CW) :=
  if w32 x1 = w32 179 then (
    f_X3_field_b14 x1 x2 C)
  else (
    if w32 x1 = w32 181 then (
      f_X3_field_b14 x1 x2 C)
    else (
      f_X3_field_b23 x1 x2 C))
def f_X4_become_b25 (k2 : Option Nat → Int → Int → Int → CW → Option (Unit × CW)) (x0 : Option Nat) (x1 : Int) (x2 : Int) (x3 : Int) (C : CW) : Option (Unit × CW) :=
  k2 x0 x1 x2 (x3 + 1) C
def f_X4_become_b58 (k33 : Option Nat → Int → Int → Int → CW → Option (Unit × CW)) (x0 : Option Nat) (x1 : Int) (x2 : Int) (x3 : Int) (C : CW) : Option (Unit × CW) :=
  k33 x0 x1 x2 (x3 + 1) C
def f_X4_become_s33 (k33 : Option Nat → Int → Int → Int → CW → Option (Unit × CW)) (x0 : Option Nat) (x1 : Int) (x2 : Int) (x3 : Int) (C : CW) : Option (Unit × CW) :=
  dr x0 fun q9 => gdB (hK C q9 == 6) <| rd (hI C q9 2) fun v10 =>
  if w32 v10 ≤ w32 x3 then (
    some ((), C))
  else (
    dr x0 fun q11 => gdB (hK C q11 == 6) <| rd (hR C q11 1) fun v12 =>
    dr v12 fun q14 => gdB (hK C q14 == 64) <| ax x3 (hL C q14) fun j => rd (hI C q14 j) fun v13 =>
    if w32 v13 = w32 x1 then (
      dr x0 fun q15 => gdB (hK C q15 == 6) <| rd (hR C q15 1) fun v16 =>
      dr v16 fun q18 => gdB (hK C q18 == 64) <| ax x3 (hL C q18) fun j => rd (hsI C q18 j x2) fun C17 =>
      f_X4_become_b58 k33 x0 x1 x2 x3 C17)
    else (
      f_X4_become_b58 k33 x0 x1 x2 x3 C))
def f_X4_become_b33 : Nat → Option Nat → Int → Int → Int → CW → Option (Unit × CW)
  | 0 => fun _ _ _ _ _ => none
  | n + 1 => fun x0 x1 x2 x3 C => f_X4_become_s33 (f_X4_become_b33 n) x0 x1 x2 x3 C
def f_X4_become_s2 (k2 : Option Nat → Int → Int → Int → CW → Option (Unit × CW)) (x0 : Option Nat) (x1 : Int) (x2 : Int) (x3 : Int) (C : CW) : Option (Unit × CW) :=
  if w32 12 ≤ w32 x3 then (
    f_X4_become_b33 FU x0 x1 x2 0 C)
  else (
    dr x0 fun q1 => gdB (hK C q1 == 6) <| rd (hR C q1 0) fun v2 =>
    dr v2 fun q4 => gdB (hK C q4 == 64) <| ax x3 (hL C q4) fun j => rd (hI C q4 j) fun v3 =>
    if w32 v3 = w32 x1 then (
      dr x0 fun q5 => gdB (hK C q5 == 6) <| rd (hR C q5 0) fun v6 =>
      dr v6 fun q8 => gdB (hK C q8 == 64) <| ax x3 (hL C q8) fun j => rd (hsI C q8 j x2) fun C7 =>
      f_X4_become_b25 k2 x0 x1 x2 x3 C7)
    else (
      f_X4_become_b25 k2 x0 x1 x2 x3 C))
def f_X4_become_b2 : Nat → Option Nat → Int → Int → Int → CW → Option (Unit × CW)
  | 0 => fun _ _ _ _ _ => none
  | n + 1 => fun x0 x1 x2 x3 C => f_X4_become_s2 (f_X4_become_b2 n) x0 x1 x2 x3 C
def f_X4_become (x0 : Nat) (x1 : Int) (x2 : Int) (C : CW) : Option (Unit × CW) :=
  f_X4_become_b2 FU (some x0) x1 x2 0 C
def f_X3_begin_b36 (x1 : Int) (x2 : Int) (s1 : Int) (C : CW) : Option ((Nat ⊕ Unit) × CW) :=
  xB (f_X3_need s1 6 C) fun _ C1 =>
  dr (some (hB C1 + 8)) fun q3 => gdB (hK C1 q3 == 6) <| cB (f_X4_become q3 x2 (32 + x1) C1) fun _ C2 =>
  some (Sum.inr (), C2)
def f_X3_begin_b35 (x1 : Int) (x2 : Int) (C : CW) : Option ((Nat ⊕ Unit) × CW) :=
  f_X3_begin_b36 x1 x2 0 C
def f_X3_begin (x1 : Int) (C : CW) : Option ((Nat ⊕ Unit) × CW) :=
  xB (f_X3_pop C) fun v5 C4 =>
  if w32 v5 < w32 1000 then (
    f_X3_begin_b35 x1 v5 C4)
  else (
    rd (cR C4 204 7) fun v6 =>
    dr v6 fun q9 => gdB (hK C4 q9 == 7) <| cB (f_X8_at q9 ((v5 - 1000) + 1) C4) fun v8 C7 =>
    if w32 v8 = w32 x1 then (
      f_X3_begin_b36 x1 v5 1 C7)
    else (
      f_X3_begin_b35 x1 v5 C7))
def f_X3_call_s8 (k8 : Option Nat → Int → CW → Option ((Nat ⊕ Unit) × CW)) (x1 : Option Nat) (x2 : Int) (C : CW) : Option ((Nat ⊕ Unit) × CW) :=
  if w32 x2 < 0 then (
    dr x1 fun q1 => gdB (hK C q1 == 7) <| rd (hI C q1 1) fun v2 =>
    if w32 v2 = 0 then (
      some (Sum.inr (), C))
    else (
      dr x1 fun q3 => gdB (hK C q3 == 7) <| rd (hI C q3 1) fun v4 =>
      xB (f_X3_push v4 C) fun _ C5 =>
      some (Sum.inr (), C5)))
  else (
    dr x1 fun q6 => gdB (hK C q6 == 7) <| rd (hR C q6 0) fun v7 =>
    dr v7 fun q9 => gdB (hK C q9 == 64) <| ax x2 (hL C q9) fun j => rd (hI C q9 j) fun v8 =>
    xB (f_X3_pop_2 v8 C) fun v11 C10 =>
    k8 x1 (x2 + (-1)) C10)
def f_X3_call_b8 : Nat → Option Nat → Int → CW → Option ((Nat ⊕ Unit) × CW)
  | 0 => fun _ _ _ => none
  | n + 1 => fun x1 x2 C => f_X3_call_s8 (f_X3_call_b8 n) x1 x2 C
def f_X3_call (x1 : Option Nat) (C : CW) : Option ((Nat ⊕ Unit) × CW) :=
  dr x1 fun q12 => gdB (hK C q12 == 7) <| rd (hR C q12 0) fun v13 =>
  dr v13 fun q15 => gdB (Nat.ble 64 (hK C q15)) <| rd (hL C q15 : Int) fun v14 =>
  rd (v14 - 1) fun v16 =>
  f_X3_call_b8 FU x1 v16 C
def f_X3_raw_b41 (k11 : Int → Int → CW → Option ((Nat ⊕ Unit) × CW)) (x1 : Int) (x2 : Int) (s1 : Int) (C : CW) : Option ((Nat ⊕ Unit) × CW) :=
  xB (f_X3_need s1 6 C) fun _ C10 =>
  k11 x1 (x2 + 1) C10
def f_X3_raw_s11 (k11 : Int → Int → CW → Option ((Nat ⊕ Unit) × CW)) (x1 : Int) (x2 : Int) (C : CW) : Option ((Nat ⊕ Unit) × CW) :=
  dr (some (hB C + 8)) fun q1 => gdB (hK C q1 == 6) <| rd (hI C q1 2) fun v2 =>
  if w32 v2 ≤ w32 x2 then (
    dr (some (hB C + 8)) fun q4 => gdB (hK C q4 == 6) <| cB (f_X4_become q4 x1 0 C) fun _ C3 =>
    xB (f_X3_push x1 C3) fun _ C5 =>
    some (Sum.inr (), C5))
  else (
    dr (some (hB C + 8)) fun q6 => gdB (hK C q6 == 6) <| rd (hR C q6 1) fun v7 =>
    dr v7 fun q9 => gdB (hK C q9 == 64) <| ax x2 (hL C q9) fun j => rd (hI C q9 j) fun v8 =>
    if w32 v8 = w32 x1 then (
      f_X3_raw_b41 k11 x1 x2 0 C)
    else (
      f_X3_raw_b41 k11 x1 x2 1 C))
def f_X3_raw_b11 : Nat → Int → Int → CW → Option ((Nat ⊕ Unit) × CW)
  | 0 => fun _ _ _ => none
  | n + 1 => fun x1 x2 C => f_X3_raw_s11 (f_X3_raw_b11 n) x1 x2 C
def f_X3_raw (C : CW) : Option ((Nat ⊕ Unit) × CW) :=
  rd (cI C 204 8) fun v11 =>
  rd (1000 + v11) fun v12 =>
  f_X3_raw_b11 FU v12 0 C
def f_X3_objects_b117 (s1 : Int) (C : CW) : Option ((Nat ⊕ Unit) × CW) :=
  xB (f_X3_push s1 C) fun _ C3 =>
  some (Sum.inr (), C3)
def f_X3_objects_b85 (x1 : Int) (x2 : Int) (C : CW) : Option ((Nat ⊕ Unit) × CW) :=
  xB (f_X3_pop_2 1 C) fun v2 C1 =>
  if w32 x1 = w32 189 then (
    f_X3_objects_b117 (64 + x2) C1)
  else (
    if w32 x2 = w32 10 then (
      f_X3_objects_b117 3 C1)
    else (
      f_X3_objects_b117 4 C1))
def f_X3_objects_b146 (s1 : Int) (C : CW) : Option ((Nat ⊕ Unit) × CW) :=
  xB (f_X3_need s1 6 C) fun _ C4 =>
  xB (f_X3_push 1 C4) fun _ C5 =>
  some (Sum.inr (), C5)
def f_X3_objects_b141 (C : CW) : Option ((Nat ⊕ Unit) × CW) :=
  f_X3_objects_b146 1 C
def f_X3_objects_b190 (s1 : Int) (C : CW) : Option ((Nat ⊕ Unit) × CW) :=
  xB (f_X3_push s1 C) fun _ C8 =>
  some (Sum.inr (), C8)
def f_X3_objects_b169 (x1 : Int) (x2 : Int) (C : CW) : Option ((Nat ⊕ Unit) × CW) :=
  xB (f_X3_popReference C) fun v7 C6 =>
  if w32 x1 = w32 192 then (
    f_X3_objects_b190 (32 + x2) C6)
  else (
    f_X3_objects_b190 1 C6)
def f_X3_objects (x1 : Int) (x2 : Int) (C : CW) : Option ((Nat ⊕ Unit) × CW) :=
  sw (w32 x1) 183 [
     (
      xB (f_X3_begin x2 C) fun _ C9 =>
      some (Sum.inr (), C9)),
     (
      dr (some (hB C + 5)) fun q12 => gdB (hK C q12 == 15) <| cB (f_J2_get q12 x2 C) fun v11 C10 =>
      gdB (okN v11 (fun q => hK C10 q == 7)) <|
      xB (f_X3_call v11 C10) fun _ C13 =>
      some (Sum.inr (), C13)),
     (
      f_X3_objects_b169 x1 x2 C),
     (
      f_X3_objects_b169 x1 x2 C),
     (
      xB (f_X3_raw C) fun _ C14 =>
      some (Sum.inr (), C14)),
     (
      f_X3_objects_b85 x1 x2 C),
     (
      f_X3_objects_b85 x1 x2 C),
     (
      xB (f_X3_pop C) fun v16 C15 =>
      if w32 v16 = w32 5 then (
        f_X3_objects_b141 C15)
      else (
        cB (f_X2_isArray v16 C15) fun v18 C17 =>
        if w32 v18 = 0 then (
          f_X3_objects_b146 0 C17)
        else (
          f_X3_objects_b141 C17))),
     (
      xB (f_X3_pop_2 33 C) fun v20 C19 =>
      some (Sum.inr (), C19))
    ] (
    f_X3_objects_b169 x1 x2 C)
def f_X3_step_b37 (s1 : Int) (C : CW) : Option ((Nat ⊕ Unit) × CW) :=
  xB (f_X3_push s1 C) fun _ C1 =>
  some (Sum.inr (), C1)
def f_X3_step_b32 (C : CW) : Option ((Nat ⊕ Unit) × CW) :=
  f_X3_step_b37 2 C
def f_X3_step_b76 (x1 : Int) (C : CW) : Option ((Nat ⊕ Unit) × CW) :=
  xB (f_X3_arrays x1 C) fun _ C2 =>
  some (Sum.inr (), C2)
def f_X3_step_b131 (s1 : Int) (C : CW) : Option ((Nat ⊕ Unit) × CW) :=
  xB (f_X3_compute s1 C) fun _ C12 =>
  some (Sum.inr (), C12)
def f_X3_step_b166 (x1 : Int) (C : CW) : Option ((Nat ⊕ Unit) × CW) :=
  xB (f_X3_branches x1 C) fun _ C13 =>
  some (Sum.inr (), C13)
def f_X3_step_b84 (x1 : Int) (x2 : Int) (C : CW) : Option ((Nat ⊕ Unit) × CW) :=
  if w32 58 < w32 x1 then (
    if w32 95 < w32 x1 then (
      if w32 109 < w32 x1 then (
        if w32 148 < w32 x1 then (
          if w32 x1 ≤ w32 167 then (
            f_X3_step_b166 x1 C)
          else (
            if w32 x1 < w32 198 then (
              if w32 177 < w32 x1 then (
                if w32 181 < w32 x1 then (
                  xB (f_X3_objects x1 x2 C) fun _ C3 =>
                  some (Sum.inr (), C3))
                else (
                  dr (some (hB C + 4)) fun q6 => gdB (hK C q6 == 15) <| cB (f_J2_get q6 x2 C) fun v5 C4 =>
                  gdB (okN v5 (fun q => hK C4 q == 8)) <|
                  xB (f_X3_field x1 v5 C4) fun _ C7 =>
                  some (Sum.inr (), C7)))
              else (
                xB (f_X3_returns x1 C) fun _ C8 =>
                some (Sum.inr (), C8)))
            else (
              f_X3_step_b166 x1 C)))
        else (
          xB (f_X3_numbers x1 C) fun _ C9 =>
          some (Sum.inr (), C9)))
      else (
        gdB (w32 4 != 0) <|
        if w32 (iRem x1 4) = 0 then (
          f_X3_step_b131 1 C)
        else (
          f_X3_step_b131 2 C)))
    else (
      xB (f_X3_stackOps x1 C) fun _ C10 =>
      some (Sum.inr (), C10)))
  else (
    xB (f_X3_store x2 x1 C) fun _ C11 =>
    some (Sum.inr (), C11))
def f_X3_step (x1 : Int) (x2 : Int) (C : CW) : Option ((Nat ⊕ Unit) × CW) :=
  if w32 18 ≤ w32 x1 then (
    if w32 25 < w32 x1 then (
      if w32 x1 ≤ w32 50 then (
        f_X3_step_b76 x1 C)
      else (
        if w32 x1 < w32 79 then (
          f_X3_step_b84 x1 x2 C)
        else (
          if w32 83 < w32 x1 then (
            f_X3_step_b84 x1 x2 C)
          else (
            f_X3_step_b76 x1 C))))
    else (
      xB (f_X3_load x2 x1 C) fun _ C14 =>
      some (Sum.inr (), C14)))
  else (
    if w32 x1 ≤ 0 then (
      some (Sum.inr (), C))
    else (
      if w32 x1 = w32 1 then (
        f_X3_step_b37 5 C)
      else (
        if w32 x1 = w32 9 then (
          f_X3_step_b32 C)
        else (
          if w32 x1 = w32 10 then (
            f_X3_step_b32 C)
          else (
            f_X3_step_b37 1 C)))))
def f_X1_isLast_b21 (x0 : Int) (C : CW) : Option (Int × CW) :=
  if w32 x0 = w32 191 then (
    some (1, C))
  else (
    some (0, C))
def f_X1_isLast (x0 : Int) (C : CW) : Option (Int × CW) :=
  if w32 x0 = w32 167 then (
    some (1, C))
  else (
    if w32 x0 < w32 172 then (
      f_X1_isLast_b21 x0 C)
    else (
      if w32 x0 ≤ w32 177 then (
        some (1, C))
      else (
        f_X1_isLast_b21 x0 C)))
def f_X9_covers (x0 : Nat) (x1 : Int) (C : CW) : Option (Int × CW) :=
  dr (some x0) fun q1 => gdB (hK C q1 == 9) <| rd (hI C q1 0) fun v2 =>
  if w32 x1 < w32 v2 then (
    some (0, C))
  else (
    dr (some x0) fun q3 => gdB (hK C q3 == 9) <| rd (hI C q3 1) fun v4 =>
    if w32 v4 ≤ w32 x1 then (
      some (0, C))
    else (
      some (1, C)))
def f_X4_empty (x0 : Nat) (C : CW) : Option (Unit × CW) :=
  dr (some x0) fun q2 => gdB (hK C q2 == 6) <| rd (hsI C q2 2 0) fun C1 =>
  dr (some x0) fun q4 => gdB (hK C1 q4 == 6) <| rd (hsI C1 q4 3 0) fun C3 =>
  some ((), C3)
def f_X9_caught (x0 : Nat) (C : CW) : Option (Int × CW) :=
  dr (some x0) fun q1 => gdB (hK C q1 == 9) <| rd (hI C q1 3) fun v2 =>
  if w32 v2 = w32 (-1) then (
    some (1, C))
  else (
    dr (some x0) fun q3 => gdB (hK C q3 == 9) <| rd (hI C q3 3) fun v4 =>
    some (v4, C))
def f_X3_handle (x1 : Option Nat) (x2 : Option Nat) (C : CW) : Option ((Nat ⊕ Unit) × CW) :=
  dr (some (hB C + 15)) fun q2 => gdB (hK C q2 == 6) <| cB (f_X4_copy q2 x2 C) fun _ C1 =>
  dr (some (hB C1 + 15)) fun q4 => gdB (hK C1 q4 == 6) <| cB (f_X4_empty q4 C1) fun _ C3 =>
  dr (some (hB C3 + 15)) fun q5 => gdB (hK C3 q5 == 6) <| rd (hR C3 q5 1) fun v6 =>
  dr x1 fun q9 => gdB (hK C3 q9 == 9) <| cB (f_X9_caught q9 C3) fun v8 C7 =>
  dr v6 fun q11 => gdB (hK C7 q11 == 64) <| ax 0 (hL C7 q11) fun j => rd (hsI C7 q11 j (32 + v8)) fun C10 =>
  dr (some (hB C10 + 15)) fun q13 => gdB (hK C10 q13 == 6) <| rd (hsI C10 q13 2 1) fun C12 =>
  dr (some (hB C12 + 15)) fun q15 => gdB (hK C12 q15 == 6) <| rd (hsI C12 q15 3 1) fun C14 =>
  dr x1 fun q16 => gdB (hK C14 q16 == 9) <| rd (hI C14 q16 2) fun v17 =>
  xB (f_X3_give v17 (some (hB C14 + 15)) C14) fun _ C18 =>
  some (Sum.inr (), C18)
def f_X3_giveHandlers_b115 (k2 : Option Nat → Int → CW → Option ((Nat ⊕ Unit) × CW)) (x1 : Option Nat) (x2 : Int) (C : CW) : Option ((Nat ⊕ Unit) × CW) :=
  k2 x1 (x2 + 1) C
def f_X3_giveHandlers_b106 (k2 : Option Nat → Int → CW → Option ((Nat ⊕ Unit) × CW)) (x1 : Option Nat) (x2 : Int) (x3 : Option Nat) (C : CW) : Option ((Nat ⊕ Unit) × CW) :=
  xB (f_X3_handle x3 (some (hB C + 8)) C) fun _ C27 =>
  f_X3_giveHandlers_b115 k2 x1 x2 C27
def f_X3_giveHandlers_b61 (k2 : Option Nat → Int → CW → Option ((Nat ⊕ Unit) × CW)) (x1 : Option Nat) (x2 : Int) (x3 : Option Nat) (s1 : Int) (C : CW) : Option ((Nat ⊕ Unit) × CW) :=
  xB (f_X3_need s1 7 C) fun _ C20 =>
  xB (f_X3_handle x3 x1 C20) fun _ C21 =>
  rd (cR C21 204 7) fun v22 =>
  rd (cI C21 204 8) fun v23 =>
  dr v22 fun q26 => gdB (hK C21 q26 == 7) <| cB (f_X8_at q26 v23 C21) fun v25 C24 =>
  if w32 v25 = w32 54 then (
    f_X3_giveHandlers_b106 k2 x1 x2 x3 C24)
  else (
    if w32 v25 = w32 55 then (
      f_X3_giveHandlers_b106 k2 x1 x2 x3 C24)
    else (
      if w32 v25 = w32 58 then (
        f_X3_giveHandlers_b106 k2 x1 x2 x3 C24)
      else (
        f_X3_giveHandlers_b115 k2 x1 x2 C24)))
def f_X3_giveHandlers_s2 (k2 : Option Nat → Int → CW → Option ((Nat ⊕ Unit) × CW)) (x1 : Option Nat) (x2 : Int) (C : CW) : Option ((Nat ⊕ Unit) × CW) :=
  rd (cR C 204 7) fun v1 =>
  dr v1 fun q2 => gdB (hK C q2 == 7) <| rd (hR C q2 5) fun v3 =>
  dr v3 fun q6 => gdB (hK C q6 == 15) <| cB (f_J2_size q6 C) fun v5 C4 =>
  if w32 v5 ≤ w32 x2 then (
    some (Sum.inr (), C4))
  else (
    rd (cR C4 204 7) fun v7 =>
    dr v7 fun q8 => gdB (hK C4 q8 == 7) <| rd (hR C4 q8 5) fun v9 =>
    dr v9 fun q12 => gdB (hK C4 q12 == 15) <| cB (f_J2_get q12 x2 C4) fun v11 C10 =>
    gdB (okN v11 (fun q => hK C10 q == 9)) <|
    rd (cI C10 204 8) fun v13 =>
    dr v11 fun q16 => gdB (hK C10 q16 == 9) <| cB (f_X9_covers q16 v13 C10) fun v15 C14 =>
    if w32 v15 = 0 then (
      f_X3_giveHandlers_b115 k2 x1 x2 C14)
    else (
      rd (cR C14 204 7) fun v17 =>
      dr v17 fun q18 => gdB (hK C14 q18 == 7) <| rd (hI C14 q18 3) fun v19 =>
      if w32 v19 ≤ 0 then (
        f_X3_giveHandlers_b61 k2 x1 x2 v11 0 C14)
      else (
        f_X3_giveHandlers_b61 k2 x1 x2 v11 1 C14)))
def f_X3_giveHandlers_b2 : Nat → Option Nat → Int → CW → Option ((Nat ⊕ Unit) × CW)
  | 0 => fun _ _ _ => none
  | n + 1 => fun x1 x2 C => f_X3_giveHandlers_s2 (f_X3_giveHandlers_b2 n) x1 x2 C
def f_X3_giveHandlers (x1 : Option Nat) (C : CW) : Option ((Nat ⊕ Unit) × CW) :=
  f_X3_giveHandlers_b2 FU x1 0 C
def f_X3_look_b135 (x1 : Int) (C : CW) : Option ((Nat ⊕ Unit) × CW) :=
  cB (f_X1_isBranch x1 C) fun v17 C16 =>
  if w32 v17 = 0 then (
    some (Sum.inr (), C16))
  else (
    rd (cR C16 204 7) fun v18 =>
    rd (cI C16 204 8) fun v19 =>
    dr v18 fun q22 => gdB (hK C16 q22 == 7) <| cB (f_X8_target q22 v19 C16) fun v21 C20 =>
    xB (f_X3_give v21 (some (hB C20 + 8)) C20) fun _ C23 =>
    some (Sum.inr (), C23))
def f_X3_look_b106 (x1 : Int) (x3 : Int) (s1 : Int) (C : CW) : Option ((Nat ⊕ Unit) × CW) :=
  xB (f_X3_need s1 8 C) fun _ C11 =>
  xB (f_X3_giveHandlers (some (hB C11 + 11)) C11) fun _ C12 =>
  cB (f_X1_isLast x1 C12) fun v14 C13 =>
  if w32 v14 = 0 then (
    xB (f_X3_give x3 (some (hB C13 + 8)) C13) fun _ C15 =>
    f_X3_look_b135 x1 C15)
  else (
    f_X3_look_b135 x1 C13)
def f_X3_look_b101 (x1 : Int) (x3 : Int) (C : CW) : Option ((Nat ⊕ Unit) × CW) :=
  f_X3_look_b106 x1 x3 1 C
def f_X3_look_b71 (x1 : Int) (x2 : Int) (s1 : Int) (s2 : Int) (C : CW) : Option ((Nat ⊕ Unit) × CW) :=
  xB (f_X3_step s1 s2 C) fun _ C1 =>
  rd (cI C1 204 8) fun v2 =>
  rd (v2 + x2) fun v3 =>
  cB (f_X1_isLast x1 C1) fun v5 C4 =>
  if w32 v5 = 0 then (
    rd (cR C4 204 7) fun v6 =>
    dr v6 fun q7 => gdB (hK C4 q7 == 7) <| rd (hR C4 q7 2) fun v8 =>
    dr v8 fun q10 => gdB (Nat.ble 64 (hK C4 q10)) <| rd (hL C4 q10 : Int) fun v9 =>
    if w32 v9 ≤ w32 v3 then (
      f_X3_look_b106 x1 v3 0 C4)
    else (
      f_X3_look_b101 x1 v3 C4))
  else (
    f_X3_look_b101 x1 v3 C4)
def f_X3_look (C : CW) : Option ((Nat ⊕ Unit) × CW) :=
  rd (cR C 204 7) fun v24 =>
  dr v24 fun q25 => gdB (hK C q25 == 7) <| rd (hR C q25 10) fun v26 =>
  rd (cI C 204 8) fun v27 =>
  dr v26 fun q29 => gdB (hK C q29 == 64 + 5) <| ax v27 (hL C q29) fun j => rd (hR C q29 j) fun v28 =>
  dr (some (hB C + 11)) fun q31 => gdB (hK C q31 == 6) <| cB (f_X4_copy q31 v28 C) fun _ C30 =>
  dr (some (hB C30 + 8)) fun q33 => gdB (hK C30 q33 == 6) <| cB (f_X4_copy q33 (some (hB C30 + 11)) C30) fun _ C32 =>
  rd (cR C32 204 7) fun v34 =>
  rd (cI C32 204 8) fun v35 =>
  dr v34 fun q38 => gdB (hK C32 q38 == 7) <| cB (f_X8_at q38 v35 C32) fun v37 C36 =>
  cB (f_X1_sizeOf v37 C36) fun v40 C39 =>
  if w32 v40 = w32 2 then (
    rd (cR C39 204 7) fun v41 =>
    rd (cI C39 204 8) fun v42 =>
    dr v41 fun q45 => gdB (hK C39 q45 == 7) <| cB (f_X8_at q45 (v42 + 1) C39) fun v44 C43 =>
    f_X3_look_b71 v37 v40 v37 v44 C43)
  else (
    f_X3_look_b71 v37 v40 v37 0 C39)
def f_X3_run_b84 (k36 : Option Nat → Int → Int → CW → Option ((Nat ⊕ Unit) × CW)) (x2 : Option Nat) (x4 : Int) (s0 : Int) (s1 : Int) (C : CW) : Option ((Nat ⊕ Unit) × CW) :=
  rd (s0 + s1) fun v18 =>
  k36 x2 v18 (x4 + 1) C
def f_X3_run_s129 (k129 : CW → Option ((Nat ⊕ Unit) × CW)) (C : CW) : Option ((Nat ⊕ Unit) × CW) :=
  rd (cI C 204 8) fun v24 =>
  if w32 v24 = w32 (-1) then (
    some (Sum.inr (), C))
  else (
    xB (f_X3_look C) fun _ C25 =>
    cB (f_X3_next C25) fun v27 C26 =>
    rd (csI C26 204 8 v27) fun C28 =>
    k129 C28)
def f_X3_run_b129 : Nat → CW → Option ((Nat ⊕ Unit) × CW)
  | 0 => fun _ => none
  | n + 1 => fun C => f_X3_run_s129 (f_X3_run_b129 n) C
def f_X3_run_s95 (k95 : Option Nat → Int → CW → Option ((Nat ⊕ Unit) × CW)) (x2 : Option Nat) (x4 : Int) (C : CW) : Option ((Nat ⊕ Unit) × CW) :=
  if w32 2 ≤ w32 x4 then (
    xB (f_X3_give 0 x2 C) fun _ C19 =>
    cB (f_X3_next C19) fun v21 C20 =>
    rd (csI C20 204 8 v21) fun C22 =>
    f_X3_run_b129 FU C22)
  else (
    ax x4 2 fun j => rd (csJ C 206 j 0) fun C23 =>
    k95 x2 (x4 + 1) C23)
def f_X3_run_b95 : Nat → Option Nat → Int → CW → Option ((Nat ⊕ Unit) × CW)
  | 0 => fun _ _ _ => none
  | n + 1 => fun x2 x4 C => f_X3_run_s95 (f_X3_run_b95 n) x2 x4 C
def f_X3_run_s36 (k36 : Option Nat → Int → Int → CW → Option ((Nat ⊕ Unit) × CW)) (x2 : Option Nat) (x3 : Int) (x4 : Int) (C : CW) : Option ((Nat ⊕ Unit) × CW) :=
  rd (cR C 204 7) fun v1 =>
  dr v1 fun q2 => gdB (hK C q2 == 7) <| rd (hR C q2 0) fun v3 =>
  dr v3 fun q5 => gdB (Nat.ble 64 (hK C q5)) <| rd (hL C q5 : Int) fun v4 =>
  if w32 v4 ≤ w32 x4 then (
    f_X3_run_b95 FU x2 0 C)
  else (
    rd (cR C 204 7) fun v6 =>
    dr v6 fun q7 => gdB (hK C q7 == 7) <| rd (hR C q7 0) fun v8 =>
    dr v8 fun q10 => gdB (hK C q10 == 64) <| ax x4 (hL C q10) fun j => rd (hI C q10 j) fun v9 =>
    dr x2 fun q12 => gdB (hK C q12 == 6) <| cB (f_X4_store q12 x3 v9 C) fun _ C11 =>
    rd (cR C11 204 7) fun v13 =>
    dr v13 fun q14 => gdB (hK C11 q14 == 7) <| rd (hR C11 q14 0) fun v15 =>
    dr v15 fun q17 => gdB (hK C11 q17 == 64) <| ax x4 (hL C11 q17) fun j => rd (hI C11 q17 j) fun v16 =>
    if w32 v16 = w32 2 then (
      f_X3_run_b84 k36 x2 x4 x3 2 C11)
    else (
      f_X3_run_b84 k36 x2 x4 x3 1 C11))
def f_X3_run_b36 : Nat → Option Nat → Int → Int → CW → Option ((Nat ⊕ Unit) × CW)
  | 0 => fun _ _ _ _ => none
  | n + 1 => fun x2 x3 x4 C => f_X3_run_s36 (f_X3_run_b36 n) x2 x3 x4 C
def f_X3_run (x1 : Option Nat) (C : CW) : Option ((Nat ⊕ Unit) × CW) :=
  xB (f_X3_form x1 C) fun _ C29 =>
  rd (cR C29 204 7) fun v30 =>
  rd (cR C29 204 7) fun v31 =>
  dr v31 fun q32 => gdB (hK C29 q32 == 7) <| rd (hR C29 q32 2) fun v33 =>
  dr v33 fun q35 => gdB (Nat.ble 64 (hK C29 q35)) <| rd (hL C29 q35 : Int) fun v34 =>
  gdB (decide (0 ≤ w32 v34)) <| al C29 (w32 v34).toNat fun q36 => rd (hNew C29 (64 + 5) (w32 v34).toNat (w32 v34).toNat) fun C37 =>
  dr v30 fun q39 => gdB (hK C37 q39 == 7) <| rd (hsR C37 q39 10 (some q36)) fun C38 =>
  al C38 4 fun q40 => rd (hNew C38 6 0 4) fun C41 =>
  dr (some q40) fun q43 => cB (f_X4_init q43 C41) fun _ C42 =>
  f_X3_run_b36 FU (some q40) 0 0 C42
def f_X3_isDead (x1 : Int) (C : CW) : Option (Int × CW) :=
  ax x1 121 fun j => rd (cI C 205 j) fun v1 =>
  if w32 v1 = 0 then (
    some (0, C))
  else (
    rd (cR C 204 7) fun v2 =>
    dr v2 fun q3 => gdB (hK C q3 == 7) <| rd (hR C q3 10) fun v4 =>
    dr v4 fun q6 => gdB (hK C q6 == 64 + 5) <| ax x1 (hL C q6) fun j => rd (hR C q6 j) fun v5 =>
    (match v5 with
    | none => (
      some (1, C))
    | some q7 => (
      some (0, C))))
def f_X3_endOf_b35 (k2 : Int → CW → Option (Int × CW)) (x2 : Int) (C : CW) : Option (Int × CW) :=
  k2 (x2 + 1) C
def f_X3_endOf_s2 (k2 : Int → CW → Option (Int × CW)) (x2 : Int) (C : CW) : Option (Int × CW) :=
  rd (cR C 204 7) fun v1 =>
  dr v1 fun q2 => gdB (hK C q2 == 7) <| rd (hR C q2 2) fun v3 =>
  dr v3 fun q5 => gdB (Nat.ble 64 (hK C q5)) <| rd (hL C q5 : Int) fun v4 =>
  if w32 v4 ≤ w32 x2 then (
    some (x2, C))
  else (
    ax x2 121 fun j => rd (cI C 205 j) fun v6 =>
    if w32 v6 = 0 then (
      f_X3_endOf_b35 k2 x2 C)
    else (
      rd (cR C 204 7) fun v7 =>
      dr v7 fun q8 => gdB (hK C q8 == 7) <| rd (hR C q8 10) fun v9 =>
      dr v9 fun q11 => gdB (hK C q11 == 64 + 5) <| ax x2 (hL C q11) fun j => rd (hR C q11 j) fun v10 =>
      (match v10 with
      | none => (
        f_X3_endOf_b35 k2 x2 C)
      | some q12 => (
        some (x2, C)))))
def f_X3_endOf_b2 : Nat → Int → CW → Option (Int × CW)
  | 0 => fun _ _ => none
  | n + 1 => fun x2 C => f_X3_endOf_s2 (f_X3_endOf_b2 n) x2 C
def f_X3_endOf (x1 : Int) (C : CW) : Option (Int × CW) :=
  f_X3_endOf_b2 FU x1 C
def f_X3_cut_b143 (k11 : Int → Int → Option Nat → Int → CW → Option ((Nat ⊕ Unit) × CW)) (x1 : Int) (x2 : Int) (x3 : Option Nat) (x4 : Int) (C : CW) : Option ((Nat ⊕ Unit) × CW) :=
  k11 x1 x2 x3 (x4 + 1) C
def f_X3_cut_b104 (k11 : Int → Int → Option Nat → Int → CW → Option ((Nat ⊕ Unit) × CW)) (x1 : Int) (x2 : Int) (x3 : Option Nat) (x4 : Int) (x5 : Option Nat) (x7 : Int) (C : CW) : Option ((Nat ⊕ Unit) × CW) :=
  dr x5 fun q39 => gdB (hK C q39 == 9) <| rd (hI C q39 1) fun v40 =>
  if w32 v40 ≤ w32 x7 then (
    f_X3_cut_b143 k11 x1 x2 x3 x4 C)
  else (
    al C 4 fun q41 => rd (hNew C 9 0 4) fun C42 =>
    dr x5 fun q43 => gdB (hK C42 q43 == 9) <| rd (hI C42 q43 1) fun v44 =>
    dr x5 fun q45 => gdB (hK C42 q45 == 9) <| rd (hI C42 q45 2) fun v46 =>
    dr x5 fun q47 => gdB (hK C42 q47 == 9) <| rd (hI C42 q47 3) fun v48 =>
    dr (some q41) fun q50 => cB (f_X9_init q50 x7 v44 v46 v48 C42) fun _ C49 =>
    dr x3 fun q53 => gdB (hK C49 q53 == 15) <| cB (f_J2_add q53 (some q41) C49) fun v52 C51 =>
    f_X3_cut_b143 k11 x1 x2 x3 x4 C51)
def f_X3_cut_b163 (x1 : Int) (x3 : Option Nat) (s0 : Int) (C : CW) : Option ((Nat ⊕ Unit) × CW) :=
  xB (f_X1_hold s0 10 x1 C) fun _ C54 =>
  rd (cR C54 204 7) fun v55 =>
  dr v55 fun q57 => gdB (hK C54 q57 == 7) <| rd (hsR C54 q57 5 x3) fun C56 =>
  some (Sum.inr (), C56)
def f_X3_cut_s11 (k11 : Int → Int → Option Nat → Int → CW → Option ((Nat ⊕ Unit) × CW)) (x1 : Int) (x2 : Int) (x3 : Option Nat) (x4 : Int) (C : CW) : Option ((Nat ⊕ Unit) × CW) :=
  rd (cR C 204 7) fun v1 =>
  dr v1 fun q2 => gdB (hK C q2 == 7) <| rd (hR C q2 5) fun v3 =>
  dr v3 fun q6 => gdB (hK C q6 == 15) <| cB (f_J2_size q6 C) fun v5 C4 =>
  if w32 v5 ≤ w32 x4 then (
    dr x3 fun q9 => gdB (hK C4 q9 == 15) <| cB (f_J2_size q9 C4) fun v8 C7 =>
    if w32 12 < w32 v8 then (
      f_X3_cut_b163 x1 x3 0 C7)
    else (
      f_X3_cut_b163 x1 x3 1 C7))
  else (
    rd (cR C4 204 7) fun v10 =>
    dr v10 fun q11 => gdB (hK C4 q11 == 7) <| rd (hR C4 q11 5) fun v12 =>
    dr v12 fun q15 => gdB (hK C4 q15 == 15) <| cB (f_J2_get q15 x4 C4) fun v14 C13 =>
    gdB (okN v14 (fun q => hK C13 q == 9)) <|
    dr v14 fun q16 => gdB (hK C13 q16 == 9) <| rd (hI C13 q16 1) fun v17 =>
    cB (f_J9_min v17 x1 C13) fun v19 C18 =>
    dr v14 fun q20 => gdB (hK C18 q20 == 9) <| rd (hI C18 q20 0) fun v21 =>
    cB (f_J9_max v21 x2 C18) fun v23 C22 =>
    dr v14 fun q24 => gdB (hK C22 q24 == 9) <| rd (hI C22 q24 0) fun v25 =>
    if w32 v19 ≤ w32 v25 then (
      f_X3_cut_b104 k11 x1 x2 x3 x4 v14 v23 C22)
    else (
      al C22 4 fun q26 => rd (hNew C22 9 0 4) fun C27 =>
      dr v14 fun q28 => gdB (hK C27 q28 == 9) <| rd (hI C27 q28 0) fun v29 =>
      dr v14 fun q30 => gdB (hK C27 q30 == 9) <| rd (hI C27 q30 2) fun v31 =>
      dr v14 fun q32 => gdB (hK C27 q32 == 9) <| rd (hI C27 q32 3) fun v33 =>
      dr (some q26) fun q35 => cB (f_X9_init q35 v29 v19 v31 v33 C27) fun _ C34 =>
      dr x3 fun q38 => gdB (hK C34 q38 == 15) <| cB (f_J2_add q38 (some q26) C34) fun v37 C36 =>
      f_X3_cut_b104 k11 x1 x2 x3 x4 v14 v23 C36))
def f_X3_cut_b11 : Nat → Int → Int → Option Nat → Int → CW → Option ((Nat ⊕ Unit) × CW)
  | 0 => fun _ _ _ _ _ => none
  | n + 1 => fun x1 x2 x3 x4 C => f_X3_cut_s11 (f_X3_cut_b11 n) x1 x2 x3 x4 C
def f_X3_cut (x1 : Int) (x2 : Int) (C : CW) : Option ((Nat ⊕ Unit) × CW) :=
  al C 3 fun q58 => rd (hNew C 15 0 3) fun C59 =>
  dr (some q58) fun q61 => cB (f_J2_init q61 C59) fun _ C60 =>
  f_X3_cut_b11 FU x1 x2 (some q58) 0 C60
def f_X3_bury_b101 (k41 : Option Nat → Int → Int → CW → Option ((Nat ⊕ Unit) × CW)) (k75 : Option Nat → Int → Int → Int → CW → Option ((Nat ⊕ Unit) × CW)) (x1 : Option Nat) (x3 : Int) (x4 : Int) (x5 : Int) (s0 : Option Nat) (s1 : Int) (s2 : Int) (C : CW) : Option ((Nat ⊕ Unit) × CW) :=
  dr s0 fun q31 => gdB (hK C q31 == 67) <| ax s1 (hL C q31) fun j => rd (hsI C q31 j (i2b (i2b s2))) fun C30 =>
  ax x5 121 fun j => rd (csI C30 205 j (iAnd 0 1)) fun C32 =>
  k75 x1 x3 x4 (x5 + 1) C32
def f_X3_bury_b131 (k41 : Option Nat → Int → Int → CW → Option ((Nat ⊕ Unit) × CW)) (x1 : Option Nat) (x2 : Int) (x3 : Int) (C : CW) : Option ((Nat ⊕ Unit) × CW) :=
  k41 x1 x2 (x3 + 1) C
def f_X3_bury_s75 (k41 : Option Nat → Int → Int → CW → Option ((Nat ⊕ Unit) × CW)) (k75 : Option Nat → Int → Int → Int → CW → Option ((Nat ⊕ Unit) × CW)) (x1 : Option Nat) (x3 : Int) (x4 : Int) (x5 : Int) (C : CW) : Option ((Nat ⊕ Unit) × CW) :=
  if w32 x4 ≤ w32 x5 then (
    ax x3 121 fun j => rd (csI C 207 j (iAnd 1 1)) fun C28 =>
    rd (x4 - 1) fun v29 =>
    f_X3_bury_b131 k41 x1 1 v29 C28)
  else (
    if w32 x5 = w32 (x4 - 1) then (
      f_X3_bury_b101 k41 k75 x1 x3 x4 x5 x1 x5 191 C)
    else (
      f_X3_bury_b101 k41 k75 x1 x3 x4 x5 x1 x5 0 C))
def f_X3_bury_b75 (k41 : Option Nat → Int → Int → CW → Option ((Nat ⊕ Unit) × CW)) : Nat → Option Nat → Int → Int → Int → CW → Option ((Nat ⊕ Unit) × CW)
  | 0 => fun _ _ _ _ _ => none
  | n + 1 => fun x1 x3 x4 x5 C => f_X3_bury_s75 k41 (f_X3_bury_b75 k41 n) x1 x3 x4 x5 C
def f_X3_bury_s41 (k41 : Option Nat → Int → Int → CW → Option ((Nat ⊕ Unit) × CW)) (x1 : Option Nat) (x2 : Int) (x3 : Int) (C : CW) : Option ((Nat ⊕ Unit) × CW) :=
  dr x1 fun q11 => gdB (Nat.ble 64 (hK C q11)) <| rd (hL C q11 : Int) fun v10 =>
  if w32 v10 ≤ w32 x3 then (
    rd (cR C 204 7) fun v12 =>
    dr v12 fun q14 => gdB (hK C q14 == 7) <| rd (hsR C q14 2 x1) fun C13 =>
    if w32 x2 = 0 then (
      some (Sum.inr (), C13))
    else (
      rd (cR C13 204 7) fun v15 =>
      rd (cR C13 204 7) fun v16 =>
      dr v16 fun q17 => gdB (hK C13 q17 == 7) <| rd (hI C13 q17 3) fun v18 =>
      cB (f_J9_max 1 v18 C13) fun v20 C19 =>
      dr v15 fun q22 => gdB (hK C19 q22 == 7) <| rd (hsI C19 q22 3 v20) fun C21 =>
      some (Sum.inr (), C21)))
  else (
    cB (f_X3_isDead x3 C) fun v24 C23 =>
    if w32 v24 = 0 then (
      f_X3_bury_b131 k41 x1 x2 x3 C23)
    else (
      cB (f_X3_endOf x3 C23) fun v26 C25 =>
      xB (f_X3_cut x3 v26 C25) fun _ C27 =>
      f_X3_bury_b75 k41 FU x1 x3 v26 x3 C27))
def f_X3_bury_b41 : Nat → Option Nat → Int → Int → CW → Option ((Nat ⊕ Unit) × CW)
  | 0 => fun _ _ _ _ => none
  | n + 1 => fun x1 x2 x3 C => f_X3_bury_s41 (f_X3_bury_b41 n) x1 x2 x3 C
def f_X3_bury_s13 (k13 : Option Nat → Int → CW → Option ((Nat ⊕ Unit) × CW)) (x1 : Option Nat) (x2 : Int) (C : CW) : Option ((Nat ⊕ Unit) × CW) :=
  dr x1 fun q2 => gdB (Nat.ble 64 (hK C q2)) <| rd (hL C q2 : Int) fun v1 =>
  if w32 v1 ≤ w32 x2 then (
    f_X3_bury_b41 FU x1 0 0 C)
  else (
    rd (cR C 204 7) fun v3 =>
    dr v3 fun q4 => gdB (hK C q4 == 7) <| rd (hR C q4 2) fun v5 =>
    dr v5 fun q7 => gdB (hK C q7 == 67) <| ax x2 (hL C q7) fun j => rd (hI C q7 j) fun v6 =>
    dr x1 fun q9 => gdB (hK C q9 == 67) <| ax x2 (hL C q9) fun j => rd (hsI C q9 j (i2b v6)) fun C8 =>
    k13 x1 (x2 + 1) C8)
def f_X3_bury_b13 : Nat → Option Nat → Int → CW → Option ((Nat ⊕ Unit) × CW)
  | 0 => fun _ _ _ => none
  | n + 1 => fun x1 x2 C => f_X3_bury_s13 (f_X3_bury_b13 n) x1 x2 C
def f_X3_bury (C : CW) : Option ((Nat ⊕ Unit) × CW) :=
  rd (cR C 204 7) fun v33 =>
  dr v33 fun q34 => gdB (hK C q34 == 7) <| rd (hR C q34 2) fun v35 =>
  dr v35 fun q37 => gdB (Nat.ble 64 (hK C q37)) <| rd (hL C q37 : Int) fun v36 =>
  gdB (decide (0 ≤ w32 v36)) <| al C (w32 v36).toNat fun q38 => rd (hNew C (64 + 3) (w32 v36).toNat (w32 v36).toNat) fun C39 =>
  f_X3_bury_b13 FU (some q38) 0 C39
def f_X3_isPutOut_b30 (x2 : Int) (C : CW) : Option (Int × CW) :=
  if w32 x2 < 0 then (
    some (0, C))
  else (
    ax x2 121 fun j => rd (cI C 207 j) fun v3 =>
    if w32 v3 = 0 then (
      some (0, C))
    else (
      some (1, C)))
def f_X3_isPutOut_s2 (k2 : Int → CW → Option (Int × CW)) (x2 : Int) (C : CW) : Option (Int × CW) :=
  if w32 x2 < 0 then (
    f_X3_isPutOut_b30 x2 C)
  else (
    ax x2 121 fun j => rd (cI C 205 j) fun v1 =>
    if w32 v1 = 0 then (
      ax x2 121 fun j => rd (cI C 207 j) fun v2 =>
      if w32 v2 = 0 then (
        k2 (x2 + (-1)) C)
      else (
        f_X3_isPutOut_b30 x2 C))
    else (
      f_X3_isPutOut_b30 x2 C))
def f_X3_isPutOut_b2 : Nat → Int → CW → Option (Int × CW)
  | 0 => fun _ _ => none
  | n + 1 => fun x2 C => f_X3_isPutOut_s2 (f_X3_isPutOut_b2 n) x2 C
def f_X3_isPutOut (x1 : Int) (C : CW) : Option (Int × CW) :=
  f_X3_isPutOut_b2 FU x1 C
def f_X3_mark_b118 (k28 : Int → CW → Option (Unit × CW)) (x1 : Int) (C : CW) : Option (Unit × CW) :=
  k28 (x1 + 1) C
def f_X3_mark_b82 (k28 : Int → CW → Option (Unit × CW)) (x1 : Int) (x2 : Int) (C : CW) : Option (Unit × CW) :=
  cB (f_X1_isLast x2 C) fun v21 C20 =>
  if w32 v21 = 0 then (
    f_X3_mark_b118 k28 x1 C20)
  else (
    cB (f_X1_sizeOf x2 C20) fun v23 C22 =>
    rd (cR C22 204 7) fun v24 =>
    dr v24 fun q25 => gdB (hK C22 q25 == 7) <| rd (hR C22 q25 2) fun v26 =>
    dr v26 fun q28 => gdB (Nat.ble 64 (hK C22 q28)) <| rd (hL C22 q28 : Int) fun v27 =>
    if w32 v27 ≤ w32 (x1 + v23) then (
      f_X3_mark_b118 k28 x1 C22)
    else (
      cB (f_X1_sizeOf x2 C22) fun v30 C29 =>
      ax (x1 + v30) 121 fun j => rd (csI C29 208 j (iAnd 1 1)) fun C31 =>
      f_X3_mark_b118 k28 x1 C31))
def f_X3_mark_b232 (k171 : Int → CW → Option (Unit × CW)) (x1 : Int) (C : CW) : Option (Unit × CW) :=
  k171 (x1 + 1) C
def f_X3_mark_s171 (k171 : Int → CW → Option (Unit × CW)) (x1 : Int) (C : CW) : Option (Unit × CW) :=
  rd (cR C 204 7) fun v47 =>
  dr v47 fun q48 => gdB (hK C q48 == 7) <| rd (hR C q48 2) fun v49 =>
  dr v49 fun q51 => gdB (Nat.ble 64 (hK C q51)) <| rd (hL C q51 : Int) fun v50 =>
  if w32 v50 ≤ w32 x1 then (
    some ((), C))
  else (
    ax x1 121 fun j => rd (cI C 205 j) fun v52 =>
    if w32 v52 = 0 then (
      f_X3_mark_b232 k171 x1 C)
    else (
      rd (cR C 204 7) fun v53 =>
      dr v53 fun q54 => gdB (hK C q54 == 7) <| rd (hR C q54 10) fun v55 =>
      dr v55 fun q57 => gdB (hK C q57 == 64 + 5) <| ax x1 (hL C q57) fun j => rd (hR C q57 j) fun v56 =>
      (match v56 with
      | none => (
        f_X3_mark_b232 k171 x1 C)
      | some q58 => (
        ax (x1 - 1) 121 fun j => rd (cI C 205 j) fun v59 =>
        if w32 v59 = 0 then (
          cB (f_X3_isPutOut (x1 - 1) C) fun v61 C60 =>
          if w32 v61 = 0 then (
            f_X3_mark_b232 k171 x1 C60)
          else (
            ax x1 121 fun j => rd (csI C60 208 j (iAnd 1 1)) fun C62 =>
            f_X3_mark_b232 k171 x1 C62))
        else (
          f_X3_mark_b232 k171 x1 C)))))
def f_X3_mark_b171 : Nat → Int → CW → Option (Unit × CW)
  | 0 => fun _ _ => none
  | n + 1 => fun x1 C => f_X3_mark_s171 (f_X3_mark_b171 n) x1 C
def f_X3_mark_s126 (k126 : Int → CW → Option (Unit × CW)) (x1 : Int) (C : CW) : Option (Unit × CW) :=
  rd (cR C 204 7) fun v32 =>
  dr v32 fun q33 => gdB (hK C q33 == 7) <| rd (hR C q33 5) fun v34 =>
  dr v34 fun q37 => gdB (hK C q37 == 15) <| cB (f_J2_size q37 C) fun v36 C35 =>
  if w32 v36 ≤ w32 x1 then (
    f_X3_mark_b171 FU 1 C35)
  else (
    rd (cR C35 204 7) fun v38 =>
    dr v38 fun q39 => gdB (hK C35 q39 == 7) <| rd (hR C35 q39 5) fun v40 =>
    dr v40 fun q43 => gdB (hK C35 q43 == 15) <| cB (f_J2_get q43 x1 C35) fun v42 C41 =>
    gdB (okN v42 (fun q => hK C41 q == 9)) <|
    dr v42 fun q44 => gdB (hK C41 q44 == 9) <| rd (hI C41 q44 2) fun v45 =>
    ax v45 121 fun j => rd (csI C41 208 j (iAnd 1 1)) fun C46 =>
    k126 (x1 + 1) C46)
def f_X3_mark_b126 : Nat → Int → CW → Option (Unit × CW)
  | 0 => fun _ _ => none
  | n + 1 => fun x1 C => f_X3_mark_s126 (f_X3_mark_b126 n) x1 C
def f_X3_mark_s28 (k28 : Int → CW → Option (Unit × CW)) (x1 : Int) (C : CW) : Option (Unit × CW) :=
  rd (cR C 204 7) fun v3 =>
  dr v3 fun q4 => gdB (hK C q4 == 7) <| rd (hR C q4 2) fun v5 =>
  dr v5 fun q7 => gdB (Nat.ble 64 (hK C q7)) <| rd (hL C q7 : Int) fun v6 =>
  if w32 v6 ≤ w32 x1 then (
    f_X3_mark_b126 FU 0 C)
  else (
    ax x1 121 fun j => rd (cI C 205 j) fun v8 =>
    if w32 v8 = 0 then (
      f_X3_mark_b118 k28 x1 C)
    else (
      rd (cR C 204 7) fun v9 =>
      dr v9 fun q12 => gdB (hK C q12 == 7) <| cB (f_X8_at q12 x1 C) fun v11 C10 =>
      cB (f_X1_isBranch v11 C10) fun v14 C13 =>
      if w32 v14 = 0 then (
        f_X3_mark_b82 k28 x1 v11 C13)
      else (
        rd (cR C13 204 7) fun v15 =>
        dr v15 fun q18 => gdB (hK C13 q18 == 7) <| cB (f_X8_target q18 x1 C13) fun v17 C16 =>
        ax v17 121 fun j => rd (csI C16 208 j (iAnd 1 1)) fun C19 =>
        f_X3_mark_b82 k28 x1 v11 C19)))
def f_X3_mark_b28 : Nat → Int → CW → Option (Unit × CW)
  | 0 => fun _ _ => none
  | n + 1 => fun x1 C => f_X3_mark_s28 (f_X3_mark_b28 n) x1 C
def f_X3_mark_s2 (k2 : Int → CW → Option (Unit × CW)) (x1 : Int) (C : CW) : Option (Unit × CW) :=
  if w32 120 < w32 x1 then (
    f_X3_mark_b28 FU 0 C)
  else (
    ax x1 121 fun j => rd (cI C 207 j) fun v1 =>
    ax x1 121 fun j => rd (csI C 208 j (iAnd v1 1)) fun C2 =>
    k2 (x1 + 1) C2)
def f_X3_mark_b2 : Nat → Int → CW → Option (Unit × CW)
  | 0 => fun _ _ => none
  | n + 1 => fun x1 C => f_X3_mark_s2 (f_X3_mark_b2 n) x1 C
def f_X3_mark (C : CW) : Option (Unit × CW) :=
  f_X3_mark_b2 FU 0 C
def f_X5_begin_s26 (k26 : Option Nat → Int → CW → Option (Unit × CW)) (x1 : Option Nat) (x2 : Int) (C : CW) : Option (Unit × CW) :=
  rd (cI C 209 5) fun v1 =>
  if w32 v1 ≤ w32 x2 then (
    some ((), C))
  else (
    dr x1 fun q2 => gdB (hK C q2 == 7) <| rd (hR C q2 0) fun v3 =>
    dr v3 fun q5 => gdB (hK C q5 == 64) <| ax x2 (hL C q5) fun j => rd (hI C q5 j) fun v4 =>
    ax x2 12 fun j => rd (csI C 211 j v4) fun C6 =>
    k26 x1 (x2 + 1) C6)
def f_X5_begin_b26 : Nat → Option Nat → Int → CW → Option (Unit × CW)
  | 0 => fun _ _ _ => none
  | n + 1 => fun x1 x2 C => f_X5_begin_s26 (f_X5_begin_b26 n) x1 x2 C
def f_X5_begin (x1 : Option Nat) (C : CW) : Option (Unit × CW) :=
  rd (csI C 209 3 0) fun C7 =>
  rd (csI C7 209 4 0) fun C8 =>
  rd (csI C8 209 6 (-1)) fun C9 =>
  dr x1 fun q10 => gdB (hK C9 q10 == 7) <| rd (hR C9 q10 0) fun v11 =>
  dr v11 fun q13 => gdB (Nat.ble 64 (hK C9 q13)) <| rd (hL C9 q13 : Int) fun v12 =>
  rd (csI C9 209 5 v12) fun C14 =>
  f_X5_begin_b26 FU x1 0 C14
def f_X5_take_b71 (k9 : Option Nat → Int → Int → CW → Option (Unit × CW)) (x1 : Option Nat) (x2 : Int) (x3 : Int) (C : CW) : Option (Unit × CW) :=
  k9 x1 x2 (x3 + 1) C
def f_X5_take_b58 (k9 : Option Nat → Int → Int → CW → Option (Unit × CW)) (x1 : Option Nat) (x2 : Int) (x3 : Int) (C : CW) : Option (Unit × CW) :=
  dr x1 fun q17 => gdB (hK C q17 == 6) <| rd (hR C q17 0) fun v18 =>
  dr v18 fun q20 => gdB (hK C q20 == 64) <| ax x3 (hL C q20) fun j => rd (hI C q20 j) fun v19 =>
  if w32 v19 = w32 2 then (
    f_X5_take_b71 k9 x1 x2 (x3 + 1) C)
  else (
    f_X5_take_b71 k9 x1 x2 x3 C)
def f_X5_take_s9 (k9 : Option Nat → Int → Int → CW → Option (Unit × CW)) (x1 : Option Nat) (x2 : Int) (x3 : Int) (C : CW) : Option (Unit × CW) :=
  (match x1 with
  | none => (
    rd (csI C 209 7 x2) fun C2 =>
    some ((), C2))
  | some q1 => (
    if w32 12 ≤ w32 x3 then (
      rd (csI C 209 7 x2) fun C3 =>
      some ((), C3))
    else (
      rd (cI C 209 7) fun v4 =>
      dr x1 fun q5 => gdB (hK C q5 == 6) <| rd (hR C q5 0) fun v6 =>
      dr v6 fun q8 => gdB (hK C q8 == 64) <| ax x3 (hL C q8) fun j => rd (hI C q8 j) fun v7 =>
      ax v4 12 fun j => rd (csI C 212 j v7) fun C9 =>
      rd (cI C9 209 7) fun v10 =>
      rd (csI C9 209 7 (v10 + 1)) fun C11 =>
      dr x1 fun q12 => gdB (hK C11 q12 == 6) <| rd (hR C11 q12 0) fun v13 =>
      dr v13 fun q15 => gdB (hK C11 q15 == 64) <| ax x3 (hL C11 q15) fun j => rd (hI C11 q15 j) fun v14 =>
      if w32 v14 = 0 then (
        f_X5_take_b58 k9 x1 x2 x3 C11)
      else (
        rd (cI C11 209 7) fun v16 =>
        f_X5_take_b58 k9 x1 v16 x3 C11))))
def f_X5_take_b9 : Nat → Option Nat → Int → Int → CW → Option (Unit × CW)
  | 0 => fun _ _ _ _ => none
  | n + 1 => fun x1 x2 x3 C => f_X5_take_s9 (f_X5_take_b9 n) x1 x2 x3 C
def f_X5_take (x1 : Option Nat) (C : CW) : Option (Unit × CW) :=
  rd (csI C 209 7 0) fun C21 =>
  f_X5_take_b9 FU x1 0 0 C21
def f_X5_alike_s2 (k2 : Int → CW → Option (Int × CW)) (x1 : Int) (C : CW) : Option (Int × CW) :=
  rd (cI C 209 7) fun v1 =>
  if w32 v1 ≤ w32 x1 then (
    some (x1, C))
  else (
    rd (cI C 209 5) fun v2 =>
    if w32 v2 ≤ w32 x1 then (
      some (x1, C))
    else (
      ax x1 12 fun j => rd (cI C 212 j) fun v3 =>
      ax x1 12 fun j => rd (cI C 211 j) fun v4 =>
      if w32 v3 = w32 v4 then (
        k2 (x1 + 1) C)
      else (
        some (x1, C))))
def f_X5_alike_b2 : Nat → Int → CW → Option (Int × CW)
  | 0 => fun _ _ => none
  | n + 1 => fun x1 C => f_X5_alike_s2 (f_X5_alike_b2 n) x1 C
def f_X5_alike (C : CW) : Option (Int × CW) :=
  f_X5_alike_b2 FU 0 C
def f_X5_one (x1 : Int) (C : CW) : Option (Unit × CW) :=
  rd (cI C 209 3) fun v1 =>
  ax v1 9600 fun j => rd (csI C 210 j x1) fun C2 =>
  rd (cI C2 209 3) fun v3 =>
  rd (csI C2 209 3 (v3 + 1)) fun C4 =>
  some ((), C4)
def f_X5_two (x1 : Int) (C : CW) : Option (Unit × CW) :=
  cB (f_X5_one (iShr x1 8) C) fun _ C1 =>
  cB (f_X5_one (iAnd x1 255) C1) fun _ C2 =>
  some ((), C2)
def f_X5_type_b39 (x1 : Int) (C : CW) : Option (Unit × CW) :=
  cB (f_X5_one x1 C) fun _ C1 =>
  some ((), C1)
def f_X5_type_b119 (s1 : Int) (C : CW) : Option (Unit × CW) :=
  cB (f_X5_one s1 C) fun _ C3 =>
  some ((), C3)
def f_X5_type_b88 (x1 : Int) (s1 : Int) (C : CW) : Option (Unit × CW) :=
  cB (f_X5_one s1 C) fun _ C2 =>
  if w32 32 ≤ w32 x1 then (
    if w32 64 ≤ w32 x1 then (
      f_X5_type_b119 (x1 - 64) C2)
    else (
      f_X5_type_b119 (x1 - 32) C2))
  else (
    f_X5_type_b119 x1 C2)
def f_X5_type (x1 : Int) (C : CW) : Option (Unit × CW) :=
  if w32 x1 < w32 1000 then (
    if w32 x1 = 0 then (
      f_X5_type_b39 x1 C)
    else (
      if w32 x1 = w32 1 then (
        f_X5_type_b39 x1 C)
      else (
        if w32 x1 = w32 5 then (
          f_X5_type_b39 x1 C)
        else (
          if w32 x1 = w32 2 then (
            cB (f_X5_one 4 C) fun _ C5 =>
            some ((), C5))
          else (
            cB (f_X5_one 7 C) fun _ C4 =>
            if w32 32 ≤ w32 x1 then (
              if w32 64 ≤ w32 x1 then (
                f_X5_type_b88 x1 1 C4)
              else (
                f_X5_type_b88 x1 0 C4))
            else (
              f_X5_type_b88 x1 2 C4))))))
  else (
    cB (f_X5_one 8 C) fun _ C6 =>
    cB (f_X5_two (x1 - 1000) C6) fun _ C7 =>
    some ((), C7))
def f_X5_full_s74 (k74 : Option Nat → Int → CW → Option (Unit × CW)) (x2 : Option Nat) (x3 : Int) (C : CW) : Option (Unit × CW) :=
  (match x2 with
  | none => (
    some ((), C))
  | some q10 => (
    dr x2 fun q11 => gdB (hK C q11 == 6) <| rd (hI C q11 2) fun v12 =>
    if w32 v12 ≤ w32 x3 then (
      some ((), C))
    else (
      dr x2 fun q13 => gdB (hK C q13 == 6) <| rd (hR C q13 1) fun v14 =>
      dr v14 fun q16 => gdB (hK C q16 == 64) <| ax x3 (hL C q16) fun j => rd (hI C q16 j) fun v15 =>
      cB (f_X5_type v15 C) fun _ C17 =>
      k74 x2 (x3 + 1) C17)))
def f_X5_full_b74 : Nat → Option Nat → Int → CW → Option (Unit × CW)
  | 0 => fun _ _ _ => none
  | n + 1 => fun x2 x3 C => f_X5_full_s74 (f_X5_full_b74 n) x2 x3 C
def f_X5_full_b72 (x2 : Option Nat) (C : CW) : Option (Unit × CW) :=
  f_X5_full_b74 FU x2 0 C
def f_X5_full_b59 (x2 : Option Nat) (s1 : Int) (C : CW) : Option (Unit × CW) :=
  cB (f_X5_two s1 C) fun _ C7 =>
  (match x2 with
  | none => (
    cB (f_X5_type 33 C7) fun _ C9 =>
    f_X5_full_b72 x2 C9)
  | some q8 => (
    f_X5_full_b72 x2 C7))
def f_X5_full_s22 (k22 : Option Nat → Int → CW → Option (Unit × CW)) (x2 : Option Nat) (x3 : Int) (C : CW) : Option (Unit × CW) :=
  rd (cI C 209 7) fun v1 =>
  if w32 v1 ≤ w32 x3 then (
    (match x2 with
    | none => (
      f_X5_full_b59 x2 1 C)
    | some q2 => (
      dr x2 fun q3 => gdB (hK C q3 == 6) <| rd (hI C q3 2) fun v4 =>
      f_X5_full_b59 x2 v4 C)))
  else (
    ax x3 12 fun j => rd (cI C 212 j) fun v5 =>
    cB (f_X5_type v5 C) fun _ C6 =>
    k22 x2 (x3 + 1) C6)
def f_X5_full_b22 : Nat → Option Nat → Int → CW → Option (Unit × CW)
  | 0 => fun _ _ _ => none
  | n + 1 => fun x2 x3 C => f_X5_full_s22 (f_X5_full_b22 n) x2 x3 C
def f_X5_full (x1 : Int) (x2 : Option Nat) (C : CW) : Option (Unit × CW) :=
  cB (f_X5_one 255 C) fun _ C18 =>
  cB (f_X5_two x1 C18) fun _ C19 =>
  rd (cI C19 209 7) fun v20 =>
  cB (f_X5_two v20 C19) fun _ C21 =>
  f_X5_full_b22 FU x2 0 C21
def f_X5_add_s288 (k288 : Int → CW → Option (Unit × CW)) (x7 : Int) (C : CW) : Option (Unit × CW) :=
  rd (cI C 209 7) fun v30 =>
  if w32 v30 ≤ w32 x7 then (
    some ((), C))
  else (
    ax x7 12 fun j => rd (cI C 212 j) fun v31 =>
    ax x7 12 fun j => rd (csI C 211 j v31) fun C32 =>
    k288 (x7 + 1) C32)
def f_X5_add_b288 : Nat → Int → CW → Option (Unit × CW)
  | 0 => fun _ _ => none
  | n + 1 => fun x7 C => f_X5_add_s288 (f_X5_add_b288 n) x7 C
def f_X5_add_b277 (C : CW) : Option (Unit × CW) :=
  rd (cI C 209 7) fun v28 =>
  rd (csI C 209 5 v28) fun C29 =>
  f_X5_add_b288 FU 0 C29
def f_X5_add_b107 (x3 : Int) (C : CW) : Option (Unit × CW) :=
  if w32 64 ≤ w32 x3 then (
    cB (f_X5_two x3 C) fun _ C11 =>
    f_X5_add_b277 C11)
  else (
    cB (f_X5_one x3 C) fun _ C12 =>
    f_X5_add_b277 C12)
def f_X5_add_b192 (s1 : Int) (C : CW) : Option (Unit × CW) :=
  cB (f_X5_type s1 C) fun _ C20 =>
  f_X5_add_b277 C20
def f_X5_add_b176 (x2 : Option Nat) (C : CW) : Option (Unit × CW) :=
  (match x2 with
  | none => (
    f_X5_add_b192 33 C)
  | some q15 => (
    dr x2 fun q16 => gdB (hK C q16 == 6) <| rd (hR C q16 1) fun v17 =>
    dr v17 fun q19 => gdB (hK C q19 == 64) <| ax 0 (hL C q19) fun j => rd (hI C q19 j) fun v18 =>
    f_X5_add_b192 v18 C))
def f_X5_add_b162 (x2 : Option Nat) (x3 : Int) (s1 : Int) (C : CW) : Option (Unit × CW) :=
  cB (f_X5_one s1 C) fun _ C13 =>
  if w32 x3 < w32 64 then (
    f_X5_add_b176 x2 C13)
  else (
    cB (f_X5_two x3 C13) fun _ C14 =>
    f_X5_add_b176 x2 C14)
def f_X5_add_s242 (k242 : Int → CW → Option (Unit × CW)) (x7 : Int) (C : CW) : Option (Unit × CW) :=
  rd (cI C 209 7) fun v24 =>
  if w32 v24 ≤ w32 x7 then (
    f_X5_add_b277 C)
  else (
    ax x7 12 fun j => rd (cI C 212 j) fun v25 =>
    cB (f_X5_type v25 C) fun _ C26 =>
    k242 (x7 + 1) C26)
def f_X5_add_b242 : Nat → Int → CW → Option (Unit × CW)
  | 0 => fun _ _ => none
  | n + 1 => fun x7 C => f_X5_add_s242 (f_X5_add_b242 n) x7 C
def f_X5_add_b271 (x2 : Option Nat) (x3 : Int) (C : CW) : Option (Unit × CW) :=
  cB (f_X5_full x3 x2 C) fun _ C27 =>
  f_X5_add_b277 C27
def f_X5_add_b198 (x2 : Option Nat) (x3 : Int) (x4 : Int) (x5 : Int) (x6 : Int) (C : CW) : Option (Unit × CW) :=
  if w32 x6 = 0 then (
    f_X5_add_b271 x2 x3 C)
  else (
    if w32 x4 = 0 then (
      if w32 x5 < w32 (-3) then (
        f_X5_add_b271 x2 x3 C)
      else (
        if w32 3 < w32 x5 then (
          f_X5_add_b271 x2 x3 C)
        else (
          cB (f_X5_one (251 + x5) C) fun _ C21 =>
          cB (f_X5_two x3 C21) fun _ C22 =>
          rd (cI C22 209 5) fun v23 =>
          f_X5_add_b242 FU v23 C22)))
    else (
      f_X5_add_b271 x2 x3 C))
def f_X5_add_b129 (x2 : Option Nat) (x3 : Int) (x4 : Int) (x5 : Int) (x6 : Int) (C : CW) : Option (Unit × CW) :=
  if w32 x6 = 0 then (
    f_X5_add_b198 x2 x3 x4 x5 x6 C)
  else (
    if w32 x5 = 0 then (
      if w32 x4 = w32 1 then (
        if w32 64 ≤ w32 x3 then (
          f_X5_add_b162 x2 x3 247 C)
        else (
          f_X5_add_b162 x2 x3 (64 + x3) C))
      else (
        f_X5_add_b198 x2 x3 x4 x5 x6 C))
    else (
      f_X5_add_b198 x2 x3 x4 x5 x6 C))
def f_X5_add_b77 (x2 : Option Nat) (x3 : Int) (x4 : Int) (x5 : Int) (s0 : Int) (C : CW) : Option (Unit × CW) :=
  if w32 s0 = 0 then (
    f_X5_add_b129 x2 x3 x4 x5 s0 C)
  else (
    if w32 x5 = 0 then (
      if w32 x4 = 0 then (
        if w32 x3 < w32 64 then (
          f_X5_add_b107 x3 C)
        else (
          cB (f_X5_one 251 C) fun _ C10 =>
          f_X5_add_b107 x3 C10))
      else (
        f_X5_add_b129 x2 x3 x4 x5 s0 C))
    else (
      f_X5_add_b129 x2 x3 x4 x5 s0 C))
def f_X5_add_b41 (x2 : Option Nat) (x3 : Int) (s0 : Int) (C : CW) : Option (Unit × CW) :=
  rd (cI C 209 7) fun v1 =>
  rd (cI C 209 5) fun v2 =>
  rd (v1 - v2) fun v3 =>
  cB (f_X5_alike C) fun v5 C4 =>
  rd (cI C4 209 7) fun v6 =>
  rd (cI C4 209 5) fun v7 =>
  cB (f_J9_min v6 v7 C4) fun v9 C8 =>
  if w32 v5 = w32 v9 then (
    f_X5_add_b77 x2 x3 s0 v3 1 C8)
  else (
    f_X5_add_b77 x2 x3 s0 v3 0 C8)
def f_X5_add (x1 : Int) (x2 : Option Nat) (C : CW) : Option (Unit × CW) :=
  rd (cI C 209 6) fun v33 =>
  rd ((x1 - v33) - 1) fun v34 =>
  rd (csI C 209 6 x1) fun C35 =>
  rd (cI C35 209 4) fun v36 =>
  rd (csI C35 209 4 (v36 + 1)) fun C37 =>
  cB (f_X5_take x2 C37) fun _ C38 =>
  (match x2 with
  | none => (
    f_X5_add_b41 x2 v34 1 C38)
  | some q39 => (
    dr x2 fun q40 => gdB (hK C38 q40 == 6) <| rd (hI C38 q40 2) fun v41 =>
    f_X5_add_b41 x2 v34 v41 C38))
def f_X5_bytes_s9 (k9 : Option Nat → Int → CW → Option (Option Nat × CW)) (x1 : Option Nat) (x2 : Int) (C : CW) : Option (Option Nat × CW) :=
  rd (cI C 209 3) fun v1 =>
  if w32 v1 ≤ w32 x2 then (
    some (x1, C))
  else (
    ax x2 9600 fun j => rd (cI C 210 j) fun v2 =>
    dr x1 fun q4 => gdB (hK C q4 == 67) <| ax x2 (hL C q4) fun j => rd (hsI C q4 j (i2b (i2b v2))) fun C3 =>
    k9 x1 (x2 + 1) C3)
def f_X5_bytes_b9 : Nat → Option Nat → Int → CW → Option (Option Nat × CW)
  | 0 => fun _ _ _ => none
  | n + 1 => fun x1 x2 C => f_X5_bytes_s9 (f_X5_bytes_b9 n) x1 x2 C
def f_X5_bytes (C : CW) : Option (Option Nat × CW) :=
  rd (cI C 209 3) fun v5 =>
  gdB (decide (0 ≤ w32 v5)) <| al C (w32 v5).toNat fun q6 => rd (hNew C (64 + 3) (w32 v5).toNat (w32 v5).toNat) fun C7 =>
  f_X5_bytes_b9 FU (some q6) 0 C7
def f_X3_frame_b87 (k39 : Int → CW → Option ((Nat ⊕ Unit) × CW)) (x2 : Int) (C : CW) : Option ((Nat ⊕ Unit) × CW) :=
  k39 (x2 + 1) C
def f_X3_frame_b84 (k39 : Int → CW → Option ((Nat ⊕ Unit) × CW)) (x2 : Int) (s1 : Int) (s2 : Option Nat) (C : CW) : Option ((Nat ⊕ Unit) × CW) :=
  cB (f_X5_add s1 s2 C) fun _ C27 =>
  f_X3_frame_b87 k39 x2 C27
def f_X3_frame_s39 (k39 : Int → CW → Option ((Nat ⊕ Unit) × CW)) (x2 : Int) (C : CW) : Option ((Nat ⊕ Unit) × CW) :=
  rd (cR C 204 7) fun v6 =>
  dr v6 fun q7 => gdB (hK C q7 == 7) <| rd (hR C q7 2) fun v8 =>
  dr v8 fun q10 => gdB (Nat.ble 64 (hK C q10)) <| rd (hL C q10 : Int) fun v9 =>
  if w32 v9 ≤ w32 x2 then (
    rd (cR C 204 7) fun v11 =>
    cB (f_X5_bytes C) fun v13 C12 =>
    dr v11 fun q15 => gdB (hK C12 q15 == 7) <| rd (hsR C12 q15 11 v13) fun C14 =>
    rd (cR C14 204 7) fun v16 =>
    rd (cI C14 209 4) fun v17 =>
    dr v16 fun q19 => gdB (hK C14 q19 == 7) <| rd (hsI C14 q19 9 v17) fun C18 =>
    some (Sum.inr (), C18))
  else (
    ax x2 121 fun j => rd (cI C 208 j) fun v20 =>
    if w32 v20 = 0 then (
      f_X3_frame_b87 k39 x2 C)
    else (
      ax x2 121 fun j => rd (cI C 207 j) fun v21 =>
      if w32 v21 = 0 then (
        rd (cR C 204 7) fun v22 =>
        dr v22 fun q23 => gdB (hK C q23 == 7) <| rd (hR C q23 10) fun v24 =>
        dr v24 fun q26 => gdB (hK C q26 == 64 + 5) <| ax x2 (hL C q26) fun j => rd (hR C q26 j) fun v25 =>
        f_X3_frame_b84 k39 x2 x2 v25 C)
      else (
        f_X3_frame_b84 k39 x2 x2 none C)))
def f_X3_frame_b39 : Nat → Int → CW → Option ((Nat ⊕ Unit) × CW)
  | 0 => fun _ _ => none
  | n + 1 => fun x2 C => f_X3_frame_s39 (f_X3_frame_b39 n) x2 C
def f_X3_frame_s2 (k2 : Int → CW → Option ((Nat ⊕ Unit) × CW)) (x2 : Int) (C : CW) : Option ((Nat ⊕ Unit) × CW) :=
  if w32 120 < w32 x2 then (
    xB (f_X3_bury C) fun _ C1 =>
    cB (f_X3_mark C1) fun _ C2 =>
    rd (cR C2 204 7) fun v3 =>
    cB (f_X5_begin v3 C2) fun _ C4 =>
    f_X3_frame_b39 FU 0 C4)
  else (
    ax x2 121 fun j => rd (csI C 207 j (iAnd 0 1)) fun C5 =>
    k2 (x2 + 1) C5)
def f_X3_frame_b2 : Nat → Int → CW → Option ((Nat ⊕ Unit) × CW)
  | 0 => fun _ _ => none
  | n + 1 => fun x2 C => f_X3_frame_s2 (f_X3_frame_b2 n) x2 C
def f_X3_frame (C : CW) : Option ((Nat ⊕ Unit) × CW) :=
  f_X3_frame_b2 FU 0 C
def f_X1_verifies_b21 (x1 : Option Nat) (s0 : Option Nat) (C : CW) : Option (Int × CW) :=
  dr s0 fun q1 => gdB (hK C q1 == 13) <| rd (hI C q1 6) fun v2 =>
  dr x1 fun q4 => gdB (hK C q4 == 7) <| rd (hsI C q4 7 v2) fun C3 =>
  dr s0 fun q5 => gdB (hK C3 q5 == 13) <| rd (hI C3 q5 7) fun v6 =>
  dr x1 fun q8 => gdB (hK C3 q8 == 7) <| rd (hsI C3 q8 8 v6) fun C7 =>
  some (0, C7)
def f_X1_verifies (x1 : Option Nat) (C : CW) : Option (Int × CW) :=
  xH (f_X3_run x1 C) (fun q10 C11 =>
  if hK C11 q10 = 13 then (
    f_X1_verifies_b21 x1 (some q10) C11)
  else
  none
  ) fun _ C9 =>
  xH (f_X3_frame C9) (fun q13 C14 =>
  if hK C14 q13 = 13 then (
    f_X1_verifies_b21 x1 (some q13) C14)
  else
  none
  ) fun _ C12 =>
  some (1, C12)
def f_J15_init (x0 : Nat) (C : CW) : Option (Unit × CW) :=
  dr (some x0) fun q2 => cB (f_J5_init q2 C) fun _ C1 =>
  some ((), C1)
def f_X1_verify_b37 (x2 : Option Nat) (s0 : Int) (C : CW) : Option ((Nat ⊕ Int) × CW) :=
  xB (f_X1_need s0 C) fun _ C4 =>
  dr x2 fun q6 => gdB (hK C4 q6 == 7) <| gdB (isZ 1) <| rd (hsI C4 q6 6 1) fun C5 =>
  dr x2 fun q7 => gdB (hK C5 q7 == 7) <| rd (hR C5 q7 5) fun v8 =>
  cB (f_X1_verifies x2 C5) fun v10 C9 =>
  if w32 v10 = 0 then (
    dr x2 fun q12 => gdB (hK C9 q12 == 7) <| rd (hsR C9 q12 5 v8) fun C11 =>
    al C11 6 fun q13 => rd (hNew C11 18 0 6) fun C14 =>
    dr (some q13) fun q16 => cB (f_J15_init q16 C14) fun _ C15 =>
    dr (some q13) fun q17 => some (Sum.inl q17, C15))
  else (
    dr x2 fun q18 => gdB (hK C9 q18 == 7) <| rd (hI C9 q18 9) fun v19 =>
    some (Sum.inr v19, C9))
def f_X1_verify_b22 (x2 : Option Nat) (s0 : Int) (C : CW) : Option ((Nat ⊕ Int) × CW) :=
  xB (f_X1_allow s0 C) fun _ C1 =>
  dr x2 fun q2 => gdB (hK C1 q2 == 7) <| rd (hI C1 q2 6) fun v3 =>
  if w32 v3 = 0 then (
    f_X1_verify_b37 x2 1 C1)
  else (
    f_X1_verify_b37 x2 0 C1)
def f_X1_verify_b21 (x2 : Option Nat) (C : CW) : Option ((Nat ⊕ Int) × CW) :=
  f_X1_verify_b22 x2 0 C
def f_X1_verify (x1 : Int) (C : CW) : Option ((Nat ⊕ Int) × CW) :=
  cB (f_X1_methodAt x1 C) fun v21 C20 =>
  (match v21 with
  | none => (
    f_X1_verify_b21 v21 C20)
  | some q22 => (
    dr v21 fun q23 => gdB (hK C20 q23 == 7) <| rd (hR C20 q23 2) fun v24 =>
    (match v24 with
    | none => (
      f_X1_verify_b21 v21 C20)
    | some q25 => (
      f_X1_verify_b22 v21 1 C20))))
def f_J16_init_2 (x0 : Nat) (C : CW) : Option (Unit × CW) :=
  dr (some x0) fun q2 => cB (f_J5_init q2 C) fun _ C1 =>
  some ((), C1)
def f_X1_there (x0 : Int) (C : CW) : Option ((Nat ⊕ Unit) × CW) :=
  if w32 x0 = 0 then (
    al C 6 fun q1 => rd (hNew C 19 0 6) fun C2 =>
    dr (some q1) fun q4 => cB (f_J16_init_2 q4 C2) fun _ C3 =>
    dr (some q1) fun q5 => some (Sum.inl q5, C3))
  else (
    some (Sum.inr (), C))
def f_X1_about_b25 (x2 : Int) (x3 : Option Nat) (s0 : Int) (C : CW) : Option ((Nat ⊕ Int) × CW) :=
  xB (f_X1_there s0 C) fun _ C1 =>
  sw (w32 x2) 0 [
     (
      dr x3 fun q4 => gdB (hK C1 q4 == 7) <| rd (hI C1 q4 7) fun v5 =>
      some (Sum.inr v5, C1)),
     (
      dr x3 fun q6 => gdB (hK C1 q6 == 7) <| rd (hI C1 q6 8) fun v7 =>
      some (Sum.inr v7, C1)),
     (
      dr x3 fun q8 => gdB (hK C1 q8 == 7) <| rd (hI C1 q8 6) fun v9 =>
      if w32 v9 = 0 then (
        some (Sum.inr 0, C1))
      else (
        some (Sum.inr 1, C1))),
     (
      dr x3 fun q10 => gdB (hK C1 q10 == 7) <| rd (hR C1 q10 2) fun v11 =>
      (match v11 with
      | none => (
        some (Sum.inr 0, C1))
      | some q12 => (
        dr x3 fun q13 => gdB (hK C1 q13 == 7) <| rd (hR C1 q13 2) fun v14 =>
        dr v14 fun q16 => gdB (Nat.ble 64 (hK C1 q16)) <| rd (hL C1 q16 : Int) fun v15 =>
        some (Sum.inr v15, C1)))),
     (
      dr x3 fun q17 => gdB (hK C1 q17 == 7) <| rd (hR C1 q17 11) fun v18 =>
      dr v18 fun q20 => gdB (Nat.ble 64 (hK C1 q20)) <| rd (hL C1 q20 : Int) fun v19 =>
      some (Sum.inr v19, C1)),
     (
      dr x3 fun q21 => gdB (hK C1 q21 == 7) <| rd (hR C1 q21 5) fun v22 =>
      dr v22 fun q25 => gdB (hK C1 q25 == 15) <| cB (f_J2_size q25 C1) fun v24 C23 =>
      some (Sum.inr v24, C23)),
     (
      dr x3 fun q26 => gdB (hK C1 q26 == 7) <| rd (hI C1 q26 3) fun v27 =>
      some (Sum.inr v27, C1)),
     (
      dr x3 fun q28 => gdB (hK C1 q28 == 7) <| rd (hI C1 q28 4) fun v29 =>
      some (Sum.inr v29, C1))
    ] (
    dr x3 fun q2 => gdB (hK C1 q2 == 7) <| rd (hI C1 q2 9) fun v3 =>
    some (Sum.inr v3, C1))
def f_X1_about_b24 (x2 : Int) (x3 : Option Nat) (C : CW) : Option ((Nat ⊕ Int) × CW) :=
  f_X1_about_b25 x2 x3 0 C
def f_X1_about (x1 : Int) (x2 : Int) (C : CW) : Option ((Nat ⊕ Int) × CW) :=
  cB (f_X1_methodAt x1 C) fun v31 C30 =>
  (match v31 with
  | none => (
    f_X1_about_b24 x2 v31 C30)
  | some q32 => (
    if w32 x2 < 0 then (
      f_X1_about_b24 x2 v31 C30)
    else (
      if w32 9 ≤ w32 x2 then (
        f_X1_about_b24 x2 v31 C30)
      else (
        f_X1_about_b25 x2 v31 1 C30))))
def f_X1_codeAt_b35 (x2 : Int) (x3 : Option Nat) (s0 : Int) (C : CW) : Option ((Nat ⊕ Int) × CW) :=
  xB (f_X1_there s0 C) fun _ C1 =>
  dr x3 fun q4 => gdB (hK C1 q4 == 7) <| cB (f_X8_at q4 x2 C1) fun v3 C2 =>
  some (Sum.inr v3, C2)
def f_X1_codeAt_b34 (x2 : Int) (x3 : Option Nat) (C : CW) : Option ((Nat ⊕ Int) × CW) :=
  f_X1_codeAt_b35 x2 x3 0 C
def f_X1_codeAt (x1 : Int) (x2 : Int) (C : CW) : Option ((Nat ⊕ Int) × CW) :=
  cB (f_X1_methodAt x1 C) fun v6 C5 =>
  (match v6 with
  | none => (
    f_X1_codeAt_b34 x2 v6 C5)
  | some q7 => (
    dr v6 fun q8 => gdB (hK C5 q8 == 7) <| rd (hR C5 q8 2) fun v9 =>
    (match v9 with
    | none => (
      f_X1_codeAt_b34 x2 v6 C5)
    | some q10 => (
      if w32 x2 < 0 then (
        f_X1_codeAt_b34 x2 v6 C5)
      else (
        dr v6 fun q11 => gdB (hK C5 q11 == 7) <| rd (hR C5 q11 2) fun v12 =>
        dr v12 fun q14 => gdB (Nat.ble 64 (hK C5 q14)) <| rd (hL C5 q14 : Int) fun v13 =>
        if w32 v13 ≤ w32 x2 then (
          f_X1_codeAt_b34 x2 v6 C5)
        else (
          f_X1_codeAt_b35 x2 v6 1 C5))))))
def f_X1_frameAt_b28 (x2 : Int) (x3 : Option Nat) (s0 : Int) (C : CW) : Option ((Nat ⊕ Int) × CW) :=
  xB (f_X1_there s0 C) fun _ C1 =>
  dr x3 fun q2 => gdB (hK C1 q2 == 7) <| rd (hR C1 q2 11) fun v3 =>
  dr v3 fun q5 => gdB (hK C1 q5 == 67) <| ax x2 (hL C1 q5) fun j => rd (hI C1 q5 j) fun v4 =>
  some (Sum.inr (iAnd v4 255), C1)
def f_X1_frameAt_b27 (x2 : Int) (x3 : Option Nat) (C : CW) : Option ((Nat ⊕ Int) × CW) :=
  f_X1_frameAt_b28 x2 x3 0 C
def f_X1_frameAt (x1 : Int) (x2 : Int) (C : CW) : Option ((Nat ⊕ Int) × CW) :=
  cB (f_X1_methodAt x1 C) fun v7 C6 =>
  (match v7 with
  | none => (
    f_X1_frameAt_b27 x2 v7 C6)
  | some q8 => (
    if w32 x2 < 0 then (
      f_X1_frameAt_b27 x2 v7 C6)
    else (
      dr v7 fun q9 => gdB (hK C6 q9 == 7) <| rd (hR C6 q9 11) fun v10 =>
      dr v10 fun q12 => gdB (Nat.ble 64 (hK C6 q12)) <| rd (hL C6 q12 : Int) fun v11 =>
      if w32 v11 ≤ w32 x2 then (
        f_X1_frameAt_b27 x2 v7 C6)
      else (
        f_X1_frameAt_b28 x2 v7 1 C6))))
def f_X1_handlerAt_b42 (x2 : Int) (x3 : Int) (x4 : Option Nat) (s0 : Int) (C : CW) : Option ((Nat ⊕ Int) × CW) :=
  xB (f_X1_there s0 C) fun _ C1 =>
  dr x4 fun q2 => gdB (hK C1 q2 == 7) <| rd (hR C1 q2 5) fun v3 =>
  dr v3 fun q6 => gdB (hK C1 q6 == 15) <| cB (f_J2_get q6 x2 C1) fun v5 C4 =>
  gdB (okN v5 (fun q => hK C4 q == 9)) <|
  if w32 x3 = 0 then (
    dr v5 fun q13 => gdB (hK C4 q13 == 9) <| rd (hI C4 q13 0) fun v14 =>
    some (Sum.inr v14, C4))
  else (
    if w32 x3 = w32 1 then (
      dr v5 fun q11 => gdB (hK C4 q11 == 9) <| rd (hI C4 q11 1) fun v12 =>
      some (Sum.inr v12, C4))
    else (
      if w32 x3 = w32 2 then (
        dr v5 fun q9 => gdB (hK C4 q9 == 9) <| rd (hI C4 q9 2) fun v10 =>
        some (Sum.inr v10, C4))
      else (
        dr v5 fun q7 => gdB (hK C4 q7 == 9) <| rd (hI C4 q7 3) fun v8 =>
        some (Sum.inr v8, C4))))
def f_X1_handlerAt_b41 (x2 : Int) (x3 : Int) (x4 : Option Nat) (C : CW) : Option ((Nat ⊕ Int) × CW) :=
  f_X1_handlerAt_b42 x2 x3 x4 0 C
def f_X1_handlerAt (x1 : Int) (x2 : Int) (x3 : Int) (C : CW) : Option ((Nat ⊕ Int) × CW) :=
  cB (f_X1_methodAt x1 C) fun v16 C15 =>
  (match v16 with
  | none => (
    f_X1_handlerAt_b41 x2 x3 v16 C15)
  | some q17 => (
    if w32 x2 < 0 then (
      f_X1_handlerAt_b41 x2 x3 v16 C15)
    else (
      dr v16 fun q18 => gdB (hK C15 q18 == 7) <| rd (hR C15 q18 5) fun v19 =>
      dr v19 fun q22 => gdB (hK C15 q22 == 15) <| cB (f_J2_size q22 C15) fun v21 C20 =>
      if w32 v21 ≤ w32 x2 then (
        f_X1_handlerAt_b41 x2 x3 v16 C20)
      else (
        if w32 x3 < 0 then (
          f_X1_handlerAt_b41 x2 x3 v16 C20)
        else (
          if w32 4 ≤ w32 x3 then (
            f_X1_handlerAt_b41 x2 x3 v16 C20)
          else (
            f_X1_handlerAt_b42 x2 x3 v16 1 C20))))))
def f_X8_isSound (x0 : Nat) (C : CW) : Option (Int × CW) :=
  dr (some x0) fun q1 => gdB (hK C q1 == 7) <| rd (hI C q1 6) fun v2 =>
  if w32 v2 = 0 then (
    some (0, C))
  else (
    dr (some x0) fun q3 => gdB (hK C q3 == 7) <| rd (hI C q3 7) fun v4 =>
    if w32 v4 = 0 then (
      some (1, C))
    else (
      some (0, C)))
def f_X1_typeAt_b97 (x3 : Int) (x5 : Option Nat) (s0 : Int) (C : CW) : Option ((Nat ⊕ Int) × CW) :=
  xB (f_X1_there s0 C) fun _ C10 =>
  if w32 100 ≤ w32 x3 then (
    dr x5 fun q11 => gdB (hK C10 q11 == 6) <| rd (hR C10 q11 1) fun v12 =>
    dr v12 fun q14 => gdB (hK C10 q14 == 64) <| ax (x3 - 100) (hL C10 q14) fun j => rd (hI C10 q14 j) fun v13 =>
    some (Sum.inr v13, C10))
  else (
    dr x5 fun q15 => gdB (hK C10 q15 == 6) <| rd (hR C10 q15 0) fun v16 =>
    dr v16 fun q18 => gdB (hK C10 q18 == 64) <| ax x3 (hL C10 q18) fun j => rd (hI C10 q18 j) fun v17 =>
    some (Sum.inr v17, C10))
def f_X1_typeAt_b92 (x3 : Int) (x5 : Option Nat) (C : CW) : Option ((Nat ⊕ Int) × CW) :=
  f_X1_typeAt_b97 x3 x5 1 C
def f_X1_typeAt_b96 (x3 : Int) (x5 : Option Nat) (C : CW) : Option ((Nat ⊕ Int) × CW) :=
  f_X1_typeAt_b97 x3 x5 0 C
def f_X1_typeAt_b74 (x3 : Int) (x5 : Option Nat) (C : CW) : Option ((Nat ⊕ Int) × CW) :=
  if w32 x3 < w32 100 then (
    f_X1_typeAt_b96 x3 x5 C)
  else (
    dr x5 fun q8 => gdB (hK C q8 == 6) <| rd (hI C q8 2) fun v9 =>
    if w32 v9 ≤ w32 (x3 - 100) then (
      f_X1_typeAt_b96 x3 x5 C)
    else (
      f_X1_typeAt_b92 x3 x5 C))
def f_X1_typeAt_b49 (x2 : Int) (x3 : Int) (x4 : Option Nat) (s0 : Int) (C : CW) : Option ((Nat ⊕ Int) × CW) :=
  xB (f_X1_there s0 C) fun _ C1 =>
  dr x4 fun q2 => gdB (hK C1 q2 == 7) <| rd (hR C1 q2 10) fun v3 =>
  dr v3 fun q5 => gdB (hK C1 q5 == 64 + 5) <| ax x2 (hL C1 q5) fun j => rd (hR C1 q5 j) fun v4 =>
  if w32 x3 < 0 then (
    f_X1_typeAt_b74 x3 v4 C1)
  else (
    dr x4 fun q6 => gdB (hK C1 q6 == 7) <| rd (hI C1 q6 4) fun v7 =>
    if w32 x3 < w32 v7 then (
      f_X1_typeAt_b92 x3 v4 C1)
    else (
      f_X1_typeAt_b74 x3 v4 C1))
def f_X1_typeAt_b48 (x2 : Int) (x3 : Int) (x4 : Option Nat) (C : CW) : Option ((Nat ⊕ Int) × CW) :=
  f_X1_typeAt_b49 x2 x3 x4 0 C
def f_X1_typeAt (x1 : Int) (x2 : Int) (x3 : Int) (C : CW) : Option ((Nat ⊕ Int) × CW) :=
  cB (f_X1_methodAt x1 C) fun v20 C19 =>
  (match v20 with
  | none => (
    f_X1_typeAt_b48 x2 x3 v20 C19)
  | some q21 => (
    dr v20 fun q24 => gdB (hK C19 q24 == 7) <| cB (f_X8_isSound q24 C19) fun v23 C22 =>
    if w32 v23 = 0 then (
      f_X1_typeAt_b48 x2 x3 v20 C22)
    else (
      if w32 x2 < 0 then (
        f_X1_typeAt_b48 x2 x3 v20 C22)
      else (
        dr v20 fun q25 => gdB (hK C22 q25 == 7) <| rd (hR C22 q25 2) fun v26 =>
        dr v26 fun q28 => gdB (Nat.ble 64 (hK C22 q28)) <| rd (hL C22 q28 : Int) fun v27 =>
        if w32 v27 ≤ w32 x2 then (
          f_X1_typeAt_b48 x2 x3 v20 C22)
        else (
          dr v20 fun q29 => gdB (hK C22 q29 == 7) <| rd (hR C22 q29 10) fun v30 =>
          dr v30 fun q32 => gdB (hK C22 q32 == 64 + 5) <| ax x2 (hL C22 q32) fun j => rd (hR C22 q32 j) fun v31 =>
          (match v31 with
          | none => (
            f_X1_typeAt_b48 x2 x3 v20 C22)
          | some q33 => (
            f_X1_typeAt_b49 x2 x3 v20 1 C22)))))))
def f_X1_takesNumbers_s2 (k2 : Option Nat → Int → CW → Option (Int × CW)) (x0 : Option Nat) (x1 : Int) (C : CW) : Option (Int × CW) :=
  dr x0 fun q1 => gdB (hK C q1 == 7) <| rd (hR C q1 0) fun v2 =>
  dr v2 fun q4 => gdB (Nat.ble 64 (hK C q4)) <| rd (hL C q4 : Int) fun v3 =>
  if w32 v3 ≤ w32 x1 then (
    some (1, C))
  else (
    dr x0 fun q5 => gdB (hK C q5 == 7) <| rd (hR C q5 0) fun v6 =>
    dr v6 fun q8 => gdB (hK C q8 == 64) <| ax x1 (hL C q8) fun j => rd (hI C q8 j) fun v7 =>
    if w32 v7 ≤ w32 2 then (
      k2 x0 (x1 + 1) C)
    else (
      some (0, C)))
def f_X1_takesNumbers_b2 : Nat → Option Nat → Int → CW → Option (Int × CW)
  | 0 => fun _ _ _ => none
  | n + 1 => fun x0 x1 C => f_X1_takesNumbers_s2 (f_X1_takesNumbers_b2 n) x0 x1 C
def f_X1_takesNumbers (x0 : Option Nat) (C : CW) : Option (Int × CW) :=
  f_X1_takesNumbers_b2 FU x0 0 C
def f_J2_fastRemove_b34 (x0 : Option Nat) (x1 : Option Nat) (x3 : Int) (C : CW) : Option (Unit × CW) :=
  dr x0 fun q2 => gdB (hK C q2 == 15) <| rd (hsI C q2 2 x3) fun C1 =>
  dr x1 fun q4 => gdB (hK C1 q4 == 64 + 4 && okN none (fun w => okE 4 (hK C1 w))) <| ax x3 (hL C1 q4) fun j => rd (hsR C1 q4 j none) fun C3 =>
  some ((), C3)
def f_J2_fastRemove (x0 : Nat) (x1 : Option Nat) (x2 : Int) (C : CW) : Option (Unit × CW) :=
  dr (some x0) fun q5 => gdB (hK C q5 == 15) <| rd (hI C q5 0) fun v6 =>
  dr (some x0) fun q8 => gdB (hK C q8 == 15) <| rd (hsI C q8 0 (v6 + 1)) fun C7 =>
  dr (some x0) fun q9 => gdB (hK C7 q9 == 15) <| rd (hI C7 q9 2) fun v10 =>
  rd (v10 - 1) fun v11 =>
  if w32 (v10 - 1) ≤ w32 x2 then (
    f_J2_fastRemove_b34 (some x0) x1 v11 C7)
  else (
    hCp C7 x1 (x2 + 1) x1 x2 (v11 - x2) fun C12 =>
    f_J2_fastRemove_b34 (some x0) x1 v11 C12)
def f_J2_remove (x0 : Nat) (x1 : Int) (C : CW) : Option (Option Nat × CW) :=
  dr (some x0) fun q1 => gdB (hK C q1 == 15) <| rd (hI C q1 2) fun v2 =>
  cB (f_J11_checkIndex x1 v2 C) fun v4 C3 =>
  dr (some x0) fun q5 => gdB (hK C3 q5 == 15) <| rd (hR C3 q5 1) fun v6 =>
  dr v6 fun q8 => gdB (hK C3 q8 == 64 + 4) <| ax x1 (hL C3 q8) fun j => rd (hR C3 q8 j) fun v7 =>
  dr (some x0) fun q10 => gdB (hK C3 q10 == 15) <| cB (f_J2_fastRemove q10 v6 x1 C3) fun _ C9 =>
  some (v7, C9)
def f_X1_isClosed_b131 (k19 : Option Nat → Option Nat → CW → Option (Int × CW)) (k54 : Option Nat → Option Nat → Option Nat → Int → CW → Option (Int × CW)) (x2 : Option Nat) (x3 : Option Nat) (x4 : Option Nat) (x5 : Int) (C : CW) : Option (Int × CW) :=
  dr x4 fun q41 => gdB (hK C q41 == 7) <| cB (f_X8_at q41 x5 C) fun v40 C39 =>
  cB (f_X1_sizeOf v40 C39) fun v43 C42 =>
  rd (x5 + v43) fun v44 =>
  k54 x2 x3 x4 v44 C42
def f_X1_isClosed_s54 (k19 : Option Nat → Option Nat → CW → Option (Int × CW)) (k54 : Option Nat → Option Nat → Option Nat → Int → CW → Option (Int × CW)) (x2 : Option Nat) (x3 : Option Nat) (x4 : Option Nat) (x5 : Int) (C : CW) : Option (Int × CW) :=
  dr x4 fun q13 => gdB (hK C q13 == 7) <| rd (hR C q13 2) fun v14 =>
  dr v14 fun q16 => gdB (Nat.ble 64 (hK C q16)) <| rd (hL C q16 : Int) fun v15 =>
  if w32 v15 ≤ w32 x5 then (
    k19 x2 x3 C)
  else (
    dr x4 fun q19 => gdB (hK C q19 == 7) <| cB (f_X8_at q19 x5 C) fun v18 C17 =>
    if w32 v18 = w32 184 then (
      dr x4 fun q22 => gdB (hK C17 q22 == 7) <| cB (f_X8_at q22 (x5 + 1) C17) fun v21 C20 =>
      dr x2 fun q24 => gdB (hK C20 q24 == 66) <| ax v21 (hL C20 q24) fun j => rd (hI C20 q24 j) fun v23 =>
      if w32 v23 = 0 then (
        dr x4 fun q27 => gdB (hK C20 q27 == 7) <| cB (f_X8_at q27 (x5 + 1) C20) fun v26 C25 =>
        dr x2 fun q29 => gdB (hK C25 q29 == 66) <| ax v26 (hL C25 q29) fun j => rd (hsI C25 q29 j (iAnd 1 1)) fun C28 =>
        dr x4 fun q32 => gdB (hK C28 q32 == 7) <| cB (f_X8_at q32 (x5 + 1) C28) fun v31 C30 =>
        dr (some (hB C28 + 5)) fun q35 => gdB (hK C30 q35 == 15) <| cB (f_J2_get q35 v31 C30) fun v34 C33 =>
        gdB (okN v34 (fun q => hK C33 q == 7)) <|
        dr x3 fun q38 => gdB (hK C33 q38 == 15) <| cB (f_J2_add q38 v34 C33) fun v37 C36 =>
        f_X1_isClosed_b131 k19 k54 x2 x3 x4 x5 C36)
      else (
        f_X1_isClosed_b131 k19 k54 x2 x3 x4 x5 C20))
    else (
      f_X1_isClosed_b131 k19 k54 x2 x3 x4 x5 C17))
def f_X1_isClosed_b54 (k19 : Option Nat → Option Nat → CW → Option (Int × CW)) : Nat → Option Nat → Option Nat → Option Nat → Int → CW → Option (Int × CW)
  | 0 => fun _ _ _ _ _ => none
  | n + 1 => fun x2 x3 x4 x5 C => f_X1_isClosed_s54 k19 (f_X1_isClosed_b54 k19 n) x2 x3 x4 x5 C
def f_X1_isClosed_s19 (k19 : Option Nat → Option Nat → CW → Option (Int × CW)) (x2 : Option Nat) (x3 : Option Nat) (C : CW) : Option (Int × CW) :=
  dr x3 fun q3 => gdB (hK C q3 == 15) <| cB (f_J2_size q3 C) fun v2 C1 =>
  if w32 v2 ≤ 0 then (
    some (1, C1))
  else (
    dr x3 fun q6 => gdB (hK C1 q6 == 15) <| cB (f_J2_size q6 C1) fun v5 C4 =>
    dr x3 fun q9 => gdB (hK C4 q9 == 15) <| cB (f_J2_remove q9 (v5 - 1) C4) fun v8 C7 =>
    gdB (okN v8 (fun q => hK C7 q == 7)) <|
    dr v8 fun q12 => gdB (hK C7 q12 == 7) <| cB (f_X8_isSound q12 C7) fun v11 C10 =>
    if w32 v11 = 0 then (
      some (0, C10))
    else (
      f_X1_isClosed_b54 k19 FU x2 x3 v8 0 C10))
def f_X1_isClosed_b19 : Nat → Option Nat → Option Nat → CW → Option (Int × CW)
  | 0 => fun _ _ _ => none
  | n + 1 => fun x2 x3 C => f_X1_isClosed_s19 (f_X1_isClosed_b19 n) x2 x3 C
def f_X1_isClosed (x1 : Option Nat) (C : CW) : Option (Int × CW) :=
  gdB (decide (0 ≤ w32 8)) <| al C (w32 8).toNat fun q45 => rd (hNew C (64 + 2) (w32 8).toNat (w32 8).toNat) fun C46 =>
  al C46 3 fun q47 => rd (hNew C46 15 0 3) fun C48 =>
  dr (some q47) fun q50 => cB (f_J2_init q50 C48) fun _ C49 =>
  dr (some q47) fun q53 => gdB (hK C49 q53 == 15) <| cB (f_J2_add q53 x1 C49) fun v52 C51 =>
  f_X1_isClosed_b19 FU (some q45) (some q47) C51
def f_X11_init (x0 : Nat) (x2 : Option Nat) (x3 : Option Nat) (C : CW) : Option (Unit × CW) :=
  al C 3 fun q1 => rd (hNew C 15 0 3) fun C2 =>
  dr (some q1) fun q4 => cB (f_J2_init q4 C2) fun _ C3 =>
  dr (some x0) fun q6 => gdB (hK C3 q6 == 12) <| rd (hsR C3 q6 3 (some q1)) fun C5 =>
  al C5 3 fun q7 => rd (hNew C5 15 0 3) fun C8 =>
  dr (some q7) fun q10 => cB (f_J2_init q10 C8) fun _ C9 =>
  dr (some x0) fun q12 => gdB (hK C9 q12 == 12) <| rd (hsR C9 q12 4 (some q7)) fun C11 =>
  gdB (decide (0 ≤ w32 24)) <| al C11 (w32 24).toNat fun q13 => rd (hNew C11 (64 + 6) (w32 24).toNat (w32 24).toNat) fun C14 =>
  dr (some x0) fun q16 => gdB (hK C14 q16 == 12) <| rd (hsR C14 q16 5 (some q13)) fun C15 =>
  gdB (decide (0 ≤ w32 16)) <| al C15 (w32 16).toNat fun q17 => rd (hNew C15 (64 + 1) (w32 16).toNat (w32 16).toNat) fun C18 =>
  dr (some x0) fun q20 => gdB (hK C18 q20 == 12) <| rd (hsR C18 q20 6 (some q17)) fun C19 =>
  dr (some x0) fun q22 => gdB (hK C19 q22 == 12) <| rd (hsR C19 q22 0 (some (hB C19 + 1))) fun C21 =>
  dr (some x0) fun q24 => gdB (hK C21 q24 == 12) <| rd (hsR C21 q24 1 x2) fun C23 =>
  dr (some x0) fun q26 => gdB (hK C23 q26 == 12) <| rd (hsR C23 q26 2 x3) fun C25 =>
  some ((), C25)
def f_X11_isNumber (x0 : Int) (C : CW) : Option (Int × CW) :=
  if w32 x0 = w32 1 then (
    some (1, C))
  else (
    if w32 x0 = w32 2 then (
      some (1, C))
    else (
      some (0, C)))
def f_X12_init (x0 : Nat) (x1 : Int) (x2 : Int) (C : CW) : Option (Unit × CW) :=
  dr (some x0) fun q2 => cB (f_J5_init q2 C) fun _ C1 =>
  dr (some x0) fun q4 => gdB (hK C1 q4 == 14) <| rd (hsI C1 q4 6 x1) fun C3 =>
  dr (some x0) fun q6 => gdB (hK C3 q6 == 14) <| rd (hsI C3 q6 7 x2) fun C5 =>
  some ((), C5)
def f_X13_init (x0 : Nat) (C : CW) : Option (Unit × CW) :=
  gdB (decide (0 ≤ w32 12)) <| al C (w32 12).toNat fun q1 => rd (hNew C (64 + 1) (w32 12).toNat (w32 12).toNat) fun C2 =>
  dr (some x0) fun q4 => gdB (hK C2 q4 == 11) <| rd (hsR C2 q4 1 (some q1)) fun C3 =>
  gdB (decide (0 ≤ w32 24)) <| al C3 (w32 24).toNat fun q5 => rd (hNew C3 (64 + 1) (w32 24).toNat (w32 24).toNat) fun C6 =>
  dr (some x0) fun q8 => gdB (hK C6 q8 == 11) <| rd (hsR C6 q8 2 (some q5)) fun C7 =>
  gdB (decide (0 ≤ w32 24)) <| al C7 (w32 24).toNat fun q9 => rd (hNew C7 (64 + 2) (w32 24).toNat (w32 24).toNat) fun C10 =>
  dr (some x0) fun q12 => gdB (hK C10 q12 == 11) <| rd (hsR C10 q12 3 (some q9)) fun C11 =>
  some ((), C11)
def f_X13_begin_s17 (k17 : Option Nat → Int → CW → Option (Unit × CW)) (x0 : Option Nat) (x2 : Int) (C : CW) : Option (Unit × CW) :=
  if w32 12 ≤ w32 x2 then (
    some ((), C))
  else (
    dr x0 fun q1 => gdB (hK C q1 == 11) <| rd (hR C q1 1) fun v2 =>
    dr v2 fun q4 => gdB (hK C q4 == 65) <| ax x2 (hL C q4) fun j => rd (hsJ C q4 j 0) fun C3 =>
    k17 x0 (x2 + 1) C3)
def f_X13_begin_b17 : Nat → Option Nat → Int → CW → Option (Unit × CW)
  | 0 => fun _ _ _ => none
  | n + 1 => fun x0 x2 C => f_X13_begin_s17 (f_X13_begin_b17 n) x0 x2 C
def f_X13_begin (x0 : Nat) (x1 : Option Nat) (C : CW) : Option (Unit × CW) :=
  dr (some x0) fun q6 => gdB (hK C q6 == 11) <| rd (hsR C q6 0 x1) fun C5 =>
  dr (some x0) fun q8 => gdB (hK C5 q8 == 11) <| rd (hsI C5 q8 4 0) fun C7 =>
  dr (some x0) fun q10 => gdB (hK C7 q10 == 11) <| rd (hsI C7 q10 5 0) fun C9 =>
  f_X13_begin_b17 FU (some x0) 0 C9
def f_X11_pop (x0 : Nat) (C : CW) : Option (Int × CW) :=
  dr (some x0) fun q1 => gdB (hK C q1 == 12) <| rd (hR C q1 7) fun v2 =>
  dr v2 fun q3 => gdB (hK C q3 == 11) <| rd (hI C q3 5) fun v4 =>
  dr v2 fun q6 => gdB (hK C q6 == 11) <| rd (hsI C q6 5 (v4 - 1)) fun C5 =>
  dr (some x0) fun q7 => gdB (hK C5 q7 == 12) <| rd (hR C5 q7 7) fun v8 =>
  dr v8 fun q9 => gdB (hK C5 q9 == 11) <| rd (hR C5 q9 2) fun v10 =>
  dr (some x0) fun q11 => gdB (hK C5 q11 == 12) <| rd (hR C5 q11 7) fun v12 =>
  dr v12 fun q13 => gdB (hK C5 q13 == 11) <| rd (hI C5 q13 5) fun v14 =>
  dr v10 fun q16 => gdB (hK C5 q16 == 65) <| ax v14 (hL C5 q16) fun j => rd (hJ C5 q16 j) fun v15 =>
  some (v15, C5)
def f_X11_enter_b123 (k79 : Option Nat → Option Nat → Option Nat → Int → Int → CW → Option ((Nat ⊕ Unit) × CW)) (x0 : Option Nat) (x1 : Option Nat) (x3 : Option Nat) (x4 : Int) (x5 : Int) (C : CW) : Option ((Nat ⊕ Unit) × CW) :=
  k79 x0 x1 x3 x4 (x5 + (-1)) C
def f_X11_enter_b102 (k79 : Option Nat → Option Nat → Option Nat → Int → Int → CW → Option ((Nat ⊕ Unit) × CW)) (x0 : Option Nat) (x1 : Option Nat) (x3 : Option Nat) (x5 : Int) (s0 : Int) (s1 : Int) (C : CW) : Option ((Nat ⊕ Unit) × CW) :=
  rd (s0 - s1) fun v26 =>
  dr x0 fun q27 => gdB (hK C q27 == 12) <| rd (hR C q27 7) fun v28 =>
  (match v28 with
  | none => (
    f_X11_enter_b123 k79 x0 x1 x3 v26 x5 C)
  | some q29 => (
    dr x3 fun q30 => gdB (hK C q30 == 11) <| rd (hR C q30 1) fun v31 =>
    dr x0 fun q34 => gdB (hK C q34 == 12) <| cB (f_X11_pop q34 C) fun v33 C32 =>
    dr v31 fun q36 => gdB (hK C32 q36 == 65) <| ax v26 (hL C32 q36) fun j => rd (hsJ C32 q36 j v33) fun C35 =>
    f_X11_enter_b123 k79 x0 x1 x3 v26 x5 C35))
def f_X11_enter_s79 (k79 : Option Nat → Option Nat → Option Nat → Int → Int → CW → Option ((Nat ⊕ Unit) × CW)) (x0 : Option Nat) (x1 : Option Nat) (x3 : Option Nat) (x4 : Int) (x5 : Int) (C : CW) : Option ((Nat ⊕ Unit) × CW) :=
  if w32 x5 < 0 then (
    dr x0 fun q15 => gdB (hK C q15 == 12) <| rd (hR C q15 4) fun v16 =>
    dr v16 fun q19 => gdB (hK C q19 == 15) <| cB (f_J2_add q19 x3 C) fun v18 C17 =>
    dr x0 fun q21 => gdB (hK C17 q21 == 12) <| rd (hsR C17 q21 7 x3) fun C20 =>
    some (Sum.inr (), C20))
  else (
    dr x1 fun q22 => gdB (hK C q22 == 7) <| rd (hR C q22 0) fun v23 =>
    dr v23 fun q25 => gdB (hK C q25 == 64) <| ax x5 (hL C q25) fun j => rd (hI C q25 j) fun v24 =>
    if w32 v24 = w32 2 then (
      f_X11_enter_b102 k79 x0 x1 x3 x5 x4 2 C)
    else (
      f_X11_enter_b102 k79 x0 x1 x3 x5 x4 1 C))
def f_X11_enter_b79 : Nat → Option Nat → Option Nat → Option Nat → Int → Int → CW → Option ((Nat ⊕ Unit) × CW)
  | 0 => fun _ _ _ _ _ _ => none
  | n + 1 => fun x0 x1 x3 x4 x5 C => f_X11_enter_s79 (f_X11_enter_b79 n) x0 x1 x3 x4 x5 C
def f_X11_enter_b52 (x0 : Option Nat) (x1 : Option Nat) (x2 : Int) (C : CW) : Option ((Nat ⊕ Unit) × CW) :=
  dr x0 fun q1 => gdB (hK C q1 == 12) <| rd (hR C q1 5) fun v2 =>
  dr v2 fun q4 => gdB (hK C q4 == 64 + 6) <| ax x2 (hL C q4) fun j => rd (hR C q4 j) fun v3 =>
  dr v3 fun q6 => gdB (hK C q6 == 11) <| cB (f_X13_begin q6 x1 C) fun _ C5 =>
  dr x1 fun q9 => gdB (hK C5 q9 == 7) <| cB (f_X8_words q9 C5) fun v8 C7 =>
  dr x1 fun q10 => gdB (hK C7 q10 == 7) <| rd (hR C7 q10 0) fun v11 =>
  dr v11 fun q13 => gdB (Nat.ble 64 (hK C7 q13)) <| rd (hL C7 q13 : Int) fun v12 =>
  rd (v12 - 1) fun v14 =>
  f_X11_enter_b79 FU x0 x1 v3 v8 v14 C7
def f_X11_enter (x0 : Nat) (x1 : Option Nat) (C : CW) : Option ((Nat ⊕ Unit) × CW) :=
  dr (some x0) fun q37 => gdB (hK C q37 == 12) <| rd (hR C q37 4) fun v38 =>
  dr v38 fun q41 => gdB (hK C q41 == 15) <| cB (f_J2_size q41 C) fun v40 C39 =>
  if w32 v40 = w32 24 then (
    al C39 8 fun q60 => rd (hNew C39 14 0 8) fun C61 =>
    dr (some q60) fun q63 => cB (f_X12_init q63 3 (-1) C61) fun _ C62 =>
    dr (some q60) fun q64 => some (Sum.inl q64, C62))
  else (
    dr (some x0) fun q42 => gdB (hK C39 q42 == 12) <| rd (hR C39 q42 4) fun v43 =>
    dr v43 fun q46 => gdB (hK C39 q46 == 15) <| cB (f_J2_size q46 C39) fun v45 C44 =>
    dr (some x0) fun q47 => gdB (hK C44 q47 == 12) <| rd (hR C44 q47 5) fun v48 =>
    dr v48 fun q50 => gdB (hK C44 q50 == 64 + 6) <| ax v45 (hL C44 q50) fun j => rd (hR C44 q50 j) fun v49 =>
    (match v49 with
    | none => (
      dr (some x0) fun q52 => gdB (hK C44 q52 == 12) <| rd (hR C44 q52 5) fun v53 =>
      al C44 6 fun q54 => rd (hNew C44 11 0 6) fun C55 =>
      dr (some q54) fun q57 => cB (f_X13_init q57 C55) fun _ C56 =>
      dr v53 fun q59 => gdB (hK C56 q59 == 64 + 6 && okN (some q54) (fun w => okE 6 (hK C56 w))) <| ax v45 (hL C56 q59) fun j => rd (hsR C56 q59 j (some q54)) fun C58 =>
      f_X11_enter_b52 (some x0) x1 v45 C58)
    | some q51 => (
      f_X11_enter_b52 (some x0) x1 v45 C44)))
def f_X11_push_2 (x0 : Nat) (x1 : Int) (x3 : Int) (C : CW) : Option (Unit × CW) :=
  dr (some x0) fun q1 => gdB (hK C q1 == 12) <| rd (hR C q1 7) fun v2 =>
  dr v2 fun q3 => gdB (hK C q3 == 11) <| rd (hR C q3 2) fun v4 =>
  dr (some x0) fun q5 => gdB (hK C q5 == 12) <| rd (hR C q5 7) fun v6 =>
  dr v6 fun q7 => gdB (hK C q7 == 11) <| rd (hI C q7 5) fun v8 =>
  dr v4 fun q10 => gdB (hK C q10 == 65) <| ax v8 (hL C q10) fun j => rd (hsJ C q10 j x1) fun C9 =>
  dr (some x0) fun q11 => gdB (hK C9 q11 == 12) <| rd (hR C9 q11 7) fun v12 =>
  dr v12 fun q13 => gdB (hK C9 q13 == 11) <| rd (hR C9 q13 3) fun v14 =>
  dr (some x0) fun q15 => gdB (hK C9 q15 == 12) <| rd (hR C9 q15 7) fun v16 =>
  dr v16 fun q17 => gdB (hK C9 q17 == 11) <| rd (hI C9 q17 5) fun v18 =>
  dr v14 fun q20 => gdB (hK C9 q20 == 66) <| ax v18 (hL C9 q20) fun j => rd (hsI C9 q20 j (iAnd x3 1)) fun C19 =>
  dr (some x0) fun q21 => gdB (hK C19 q21 == 12) <| rd (hR C19 q21 7) fun v22 =>
  dr v22 fun q23 => gdB (hK C19 q23 == 11) <| rd (hI C19 q23 5) fun v24 =>
  dr v22 fun q26 => gdB (hK C19 q26 == 11) <| rd (hsI C19 q26 5 (v24 + 1)) fun C25 =>
  some ((), C25)
def f_X11_push (x0 : Nat) (x1 : Int) (C : CW) : Option (Unit × CW) :=
  dr (some x0) fun q2 => gdB (hK C q2 == 12) <| cB (f_X11_push_2 q2 x1 0 C) fun _ C1 =>
  some ((), C1)
def f_X11_go (x0 : Nat) (x1 : Int) (C : CW) : Option (Unit × CW) :=
  dr (some x0) fun q1 => gdB (hK C q1 == 12) <| rd (hR C q1 7) fun v2 =>
  dr v2 fun q3 => gdB (hK C q3 == 11) <| rd (hI C q3 4) fun v4 =>
  dr v2 fun q6 => gdB (hK C q6 == 11) <| rd (hsI C q6 4 (v4 + x1)) fun C5 =>
  some ((), C5)
def f_X11_constants_b111 (x0 : Option Nat) (x1 : Int) (C : CW) : Option (Unit × CW) :=
  cB (f_X1_sizeOf x1 C) fun v6 C5 =>
  dr x0 fun q8 => gdB (hK C5 q8 == 12) <| cB (f_X11_go q8 v6 C5) fun _ C7 =>
  some ((), C7)
def f_X11_constants_b75 (x0 : Option Nat) (x1 : Int) (C : CW) : Option (Unit × CW) :=
  dr x0 fun q2 => gdB (hK C q2 == 12) <| cB (f_X11_push_2 q2 (w32 (x1 - 9)) 1 C) fun _ C1 =>
  f_X11_constants_b111 x0 x1 C1
def f_X11_constants_b108 (x0 : Option Nat) (x1 : Int) (s0 : Option Nat) (s1 : Int) (C : CW) : Option (Unit × CW) :=
  dr s0 fun q4 => gdB (hK C q4 == 12) <| cB (f_X11_push q4 s1 C) fun _ C3 =>
  f_X11_constants_b111 x0 x1 C3
def f_X11_constants (x0 : Nat) (x1 : Int) (C : CW) : Option (Unit × CW) :=
  dr (some x0) fun q9 => gdB (hK C q9 == 12) <| rd (hR C q9 7) fun v10 =>
  dr v10 fun q11 => gdB (hK C q11 == 11) <| rd (hI C q11 4) fun v12 =>
  if w32 x1 = w32 16 then (
    dr (some x0) fun q22 => gdB (hK C q22 == 12) <| rd (hR C q22 7) fun v23 =>
    dr v23 fun q24 => gdB (hK C q24 == 11) <| rd (hR C q24 0) fun v25 =>
    dr v25 fun q28 => gdB (hK C q28 == 7) <| cB (f_X8_at q28 (v12 + 1) C) fun v27 C26 =>
    dr (some x0) fun q30 => gdB (hK C26 q30 == 12) <| cB (f_X11_push q30 (w32 (i2b v27)) C26) fun _ C29 =>
    f_X11_constants_b111 (some x0) x1 C29)
  else (
    if w32 x1 = w32 17 then (
      dr (some x0) fun q13 => gdB (hK C q13 == 12) <| rd (hR C q13 7) fun v14 =>
      dr v14 fun q15 => gdB (hK C q15 == 11) <| rd (hR C q15 0) fun v16 =>
      dr v16 fun q19 => gdB (hK C q19 == 7) <| cB (f_X8_two q19 (v12 + 1) C) fun v18 C17 =>
      dr (some x0) fun q21 => gdB (hK C17 q21 == 12) <| cB (f_X11_push q21 (w32 v18) C17) fun _ C20 =>
      f_X11_constants_b111 (some x0) x1 C20)
    else (
      if w32 x1 = w32 9 then (
        f_X11_constants_b75 (some x0) x1 C)
      else (
        if w32 x1 = w32 10 then (
          f_X11_constants_b75 (some x0) x1 C)
        else (
          if w32 x1 ≤ 0 then (
            f_X11_constants_b111 (some x0) x1 C)
          else (
            if w32 x1 = w32 1 then (
              f_X11_constants_b108 (some x0) x1 (some x0) (-1) C)
            else (
              f_X11_constants_b108 (some x0) x1 (some x0) (w32 (x1 - 3)) C))))))
def f_X11_popInt (x0 : Nat) (C : CW) : Option (Int × CW) :=
  dr (some x0) fun q3 => gdB (hK C q3 == 12) <| cB (f_X11_pop q3 C) fun v2 C1 =>
  some (v2, C1)
def f_X14_init (x0 : Nat) (x1 : Int) (x2 : Int) (C : CW) : Option (Unit × CW) :=
  dr (some x0) fun q2 => gdB (hK C q2 == 10) <| rd (hsI C q2 0 x1) fun C1 =>
  gdB (decide (0 ≤ w32 x2)) <| al C1 (w32 x2).toNat fun q3 => rd (hNew C1 (64 + 1) (w32 x2).toNat (w32 x2).toNat) fun C4 =>
  dr (some x0) fun q6 => gdB (hK C4 q6 == 10) <| rd (hsR C4 q6 1 (some q3)) fun C5 =>
  some ((), C5)
def f_X11_make (x0 : Nat) (x1 : Int) (x2 : Int) (C : CW) : Option ((Nat ⊕ Int) × CW) :=
  dr (some x0) fun q1 => gdB (hK C q1 == 12) <| rd (hR C q1 3) fun v2 =>
  dr v2 fun q5 => gdB (hK C q5 == 15) <| cB (f_J2_size q5 C) fun v4 C3 =>
  if w32 v4 = w32 150 then (
    al C3 8 fun q20 => rd (hNew C3 14 0 8) fun C21 =>
    dr (some q20) fun q23 => cB (f_X12_init q23 4 (-1) C21) fun _ C22 =>
    dr (some q20) fun q24 => some (Sum.inl q24, C22))
  else (
    dr (some x0) fun q6 => gdB (hK C3 q6 == 12) <| rd (hR C3 q6 3) fun v7 =>
    al C3 2 fun q8 => rd (hNew C3 10 0 2) fun C9 =>
    dr (some q8) fun q11 => cB (f_X14_init q11 x1 x2 C9) fun _ C10 =>
    dr v7 fun q14 => gdB (hK C10 q14 == 15) <| cB (f_J2_add q14 (some q8) C10) fun v13 C12 =>
    dr (some x0) fun q15 => gdB (hK C12 q15 == 12) <| rd (hR C12 q15 3) fun v16 =>
    dr v16 fun q19 => gdB (hK C12 q19 == 15) <| cB (f_J2_size q19 C12) fun v18 C17 =>
    some (Sum.inr (v18 - 1), C17))
def f_X11_object_b72 (k29 : Option Nat → Int → Option Nat → Int → CW → Option ((Nat ⊕ Int) × CW)) (x0 : Option Nat) (x2 : Int) (x3 : Option Nat) (x4 : Int) (s0 : Option Nat) (s1 : Int) (s2 : Int) (C : CW) : Option ((Nat ⊕ Int) × CW) :=
  dr s0 fun q16 => gdB (hK C q16 == 65) <| ax s1 (hL C q16) fun j => rd (hsJ C q16 j s2) fun C15 =>
  k29 x0 x2 x3 (x4 + 1) C15
def f_X11_object_s29 (k29 : Option Nat → Int → Option Nat → Int → CW → Option ((Nat ⊕ Int) × CW)) (x0 : Option Nat) (x2 : Int) (x3 : Option Nat) (x4 : Int) (C : CW) : Option ((Nat ⊕ Int) × CW) :=
  dr x0 fun q1 => gdB (hK C q1 == 12) <| rd (hR C q1 1) fun v2 =>
  dr v2 fun q5 => gdB (hK C q5 == 15) <| cB (f_J2_size q5 C) fun v4 C3 =>
  if w32 v4 ≤ w32 x4 then (
    some (Sum.inr x2, C3))
  else (
    dr x0 fun q6 => gdB (hK C3 q6 == 12) <| rd (hR C3 q6 1) fun v7 =>
    dr v7 fun q10 => gdB (hK C3 q10 == 15) <| cB (f_J2_get q10 x4 C3) fun v9 C8 =>
    gdB (okN v9 (fun q => hK C8 q == 8)) <|
    dr v9 fun q11 => gdB (hK C8 q11 == 8) <| rd (hI C8 q11 2) fun v12 =>
    cB (f_X11_isNumber v12 C8) fun v14 C13 =>
    if w32 v14 = 0 then (
      f_X11_object_b72 k29 x0 x2 x3 x4 x3 x4 (-1) C13)
    else (
      f_X11_object_b72 k29 x0 x2 x3 x4 x3 x4 0 C13))
def f_X11_object_b29 : Nat → Option Nat → Int → Option Nat → Int → CW → Option ((Nat ⊕ Int) × CW)
  | 0 => fun _ _ _ _ _ => none
  | n + 1 => fun x0 x2 x3 x4 C => f_X11_object_s29 (f_X11_object_b29 n) x0 x2 x3 x4 C
def f_X11_object (x0 : Nat) (x1 : Int) (C : CW) : Option ((Nat ⊕ Int) × CW) :=
  dr (some x0) fun q19 => gdB (hK C q19 == 12) <| xB (f_X11_make q19 (32 + x1) 16 C) fun v18 C17 =>
  dr (some x0) fun q20 => gdB (hK C17 q20 == 12) <| rd (hR C17 q20 3) fun v21 =>
  dr v21 fun q24 => gdB (hK C17 q24 == 15) <| cB (f_J2_get q24 v18 C17) fun v23 C22 =>
  gdB (okN v23 (fun q => hK C22 q == 10)) <|
  dr v23 fun q25 => gdB (hK C22 q25 == 10) <| rd (hR C22 q25 1) fun v26 =>
  f_X11_object_b29 FU (some x0) v18 v26 0 C22
def f_X11_raise_b124 (k18 : Option Nat → Int → Int → CW → Option ((Nat ⊕ Unit) × CW)) (k27 : Option Nat → Int → Int → Int → CW → Option ((Nat ⊕ Unit) × CW)) (x0 : Option Nat) (x1 : Int) (x2 : Int) (x3 : Int) (C : CW) : Option ((Nat ⊕ Unit) × CW) :=
  k27 x0 x1 x2 (x3 + 1) C
def f_X11_raise_b181 (k18 : Option Nat → Int → Int → CW → Option ((Nat ⊕ Unit) × CW)) (x0 : Option Nat) (x1 : Int) (x2 : Int) (s0 : Option Nat) (s1 : Option Nat) (C : CW) : Option ((Nat ⊕ Unit) × CW) :=
  dr s0 fun q78 => gdB (hK C q78 == 12) <| rd (hsR C q78 7 s1) fun C77 =>
  k18 x0 x1 x2 C77
def f_X11_raise_s27 (k18 : Option Nat → Int → Int → CW → Option ((Nat ⊕ Unit) × CW)) (k27 : Option Nat → Int → Int → Int → CW → Option ((Nat ⊕ Unit) × CW)) (x0 : Option Nat) (x1 : Int) (x2 : Int) (x3 : Int) (C : CW) : Option ((Nat ⊕ Unit) × CW) :=
  dr x0 fun q9 => gdB (hK C q9 == 12) <| rd (hR C q9 7) fun v10 =>
  dr v10 fun q11 => gdB (hK C q11 == 11) <| rd (hR C q11 0) fun v12 =>
  dr v12 fun q13 => gdB (hK C q13 == 7) <| rd (hR C q13 5) fun v14 =>
  dr v14 fun q17 => gdB (hK C q17 == 15) <| cB (f_J2_size q17 C) fun v16 C15 =>
  if w32 v16 ≤ w32 x3 then (
    dr x0 fun q18 => gdB (hK C15 q18 == 12) <| rd (hR C15 q18 4) fun v19 =>
    dr x0 fun q20 => gdB (hK C15 q20 == 12) <| rd (hR C15 q20 4) fun v21 =>
    dr v21 fun q24 => gdB (hK C15 q24 == 15) <| cB (f_J2_size q24 C15) fun v23 C22 =>
    dr v19 fun q27 => gdB (hK C22 q27 == 15) <| cB (f_J2_remove q27 (v23 - 1) C22) fun v26 C25 =>
    dr x0 fun q28 => gdB (hK C25 q28 == 12) <| rd (hR C25 q28 4) fun v29 =>
    dr v29 fun q32 => gdB (hK C25 q32 == 15) <| cB (f_J2_size q32 C25) fun v31 C30 =>
    if w32 v31 = 0 then (
      f_X11_raise_b181 k18 x0 x1 x2 x0 none C30)
    else (
      dr x0 fun q33 => gdB (hK C30 q33 == 12) <| rd (hR C30 q33 4) fun v34 =>
      dr x0 fun q35 => gdB (hK C30 q35 == 12) <| rd (hR C30 q35 4) fun v36 =>
      dr v36 fun q39 => gdB (hK C30 q39 == 15) <| cB (f_J2_size q39 C30) fun v38 C37 =>
      dr v34 fun q42 => gdB (hK C37 q42 == 15) <| cB (f_J2_get q42 (v38 - 1) C37) fun v41 C40 =>
      gdB (okN v41 (fun q => hK C40 q == 11)) <|
      f_X11_raise_b181 k18 x0 x1 x2 x0 v41 C40))
  else (
    dr x0 fun q43 => gdB (hK C15 q43 == 12) <| rd (hR C15 q43 7) fun v44 =>
    dr v44 fun q45 => gdB (hK C15 q45 == 11) <| rd (hR C15 q45 0) fun v46 =>
    dr v46 fun q47 => gdB (hK C15 q47 == 7) <| rd (hR C15 q47 5) fun v48 =>
    dr v48 fun q51 => gdB (hK C15 q51 == 15) <| cB (f_J2_get q51 x3 C15) fun v50 C49 =>
    gdB (okN v50 (fun q => hK C49 q == 9)) <|
    dr x0 fun q52 => gdB (hK C49 q52 == 12) <| rd (hR C49 q52 7) fun v53 =>
    dr v53 fun q54 => gdB (hK C49 q54 == 11) <| rd (hI C49 q54 4) fun v55 =>
    dr v50 fun q58 => gdB (hK C49 q58 == 9) <| cB (f_X9_covers q58 v55 C49) fun v57 C56 =>
    if w32 v57 = 0 then (
      f_X11_raise_b124 k18 k27 x0 x1 x2 x3 C56)
    else (
      dr x0 fun q59 => gdB (hK C56 q59 == 12) <| gdB (hR C56 q59 0 == some (hB C56 + 1)) <|
      dr v50 fun q62 => gdB (hK C56 q62 == 9) <| cB (f_X9_caught q62 C56) fun v61 C60 =>
      cB (f_X2_subs x2 v61 C60) fun v64 C63 =>
      if w32 v64 = 0 then (
        f_X11_raise_b124 k18 k27 x0 x1 x2 x3 C63)
      else (
        dr x0 fun q65 => gdB (hK C63 q65 == 12) <| rd (hR C63 q65 7) fun v66 =>
        dr v66 fun q68 => gdB (hK C63 q68 == 11) <| rd (hsI C63 q68 5 0) fun C67 =>
        dr x0 fun q70 => gdB (hK C67 q70 == 12) <| cB (f_X11_push q70 (w32 x1) C67) fun _ C69 =>
        dr x0 fun q71 => gdB (hK C69 q71 == 12) <| rd (hR C69 q71 7) fun v72 =>
        dr v50 fun q73 => gdB (hK C69 q73 == 9) <| rd (hI C69 q73 2) fun v74 =>
        dr v72 fun q76 => gdB (hK C69 q76 == 11) <| rd (hsI C69 q76 4 v74) fun C75 =>
        some (Sum.inr (), C75))))
def f_X11_raise_b27 (k18 : Option Nat → Int → Int → CW → Option ((Nat ⊕ Unit) × CW)) : Nat → Option Nat → Int → Int → Int → CW → Option ((Nat ⊕ Unit) × CW)
  | 0 => fun _ _ _ _ _ => none
  | n + 1 => fun x0 x1 x2 x3 C => f_X11_raise_s27 k18 (f_X11_raise_b27 k18 n) x0 x1 x2 x3 C
def f_X11_raise_s18 (k18 : Option Nat → Int → Int → CW → Option ((Nat ⊕ Unit) × CW)) (x0 : Option Nat) (x1 : Int) (x2 : Int) (C : CW) : Option ((Nat ⊕ Unit) × CW) :=
  dr x0 fun q1 => gdB (hK C q1 == 12) <| rd (hR C q1 7) fun v2 =>
  (match v2 with
  | none => (
    al C 8 fun q4 => rd (hNew C 14 0 8) fun C5 =>
    dr (some q4) fun q7 => cB (f_X12_init q7 1 x2 C5) fun _ C6 =>
    dr (some q4) fun q8 => some (Sum.inl q8, C6))
  | some q3 => (
    f_X11_raise_b27 k18 FU x0 x1 x2 0 C))
def f_X11_raise_b18 : Nat → Option Nat → Int → Int → CW → Option ((Nat ⊕ Unit) × CW)
  | 0 => fun _ _ _ _ => none
  | n + 1 => fun x0 x1 x2 C => f_X11_raise_s18 (f_X11_raise_b18 n) x0 x1 x2 C
def f_X11_raise (x0 : Nat) (x1 : Int) (C : CW) : Option ((Nat ⊕ Unit) × CW) :=
  dr (some x0) fun q79 => gdB (hK C q79 == 12) <| rd (hR C q79 3) fun v80 =>
  dr v80 fun q83 => gdB (hK C q83 == 15) <| cB (f_J2_get q83 x1 C) fun v82 C81 =>
  gdB (okN v82 (fun q => hK C81 q == 10)) <|
  dr v82 fun q84 => gdB (hK C81 q84 == 10) <| rd (hI C81 q84 0) fun v85 =>
  rd (v85 - 32) fun v86 =>
  f_X11_raise_b18 FU (some x0) x1 v86 C81
def f_X11_may (x0 : Nat) (x1 : Int) (C : CW) : Option ((Nat ⊕ Int) × CW) :=
  if w32 x1 = 0 then (
    dr (some x0) fun q3 => gdB (hK C q3 == 12) <| xB (f_X11_object q3 1 C) fun v2 C1 =>
    dr (some x0) fun q5 => gdB (hK C1 q5 == 12) <| xB (f_X11_raise q5 v2 C1) fun _ C4 =>
    gdB (isZ x1) (some (Sum.inr x1, C4)))
  else (
    gdB (isZ x1) (some (Sum.inr x1, C)))
def f_X11_arrays_b195 (x0 : Option Nat) (C : CW) : Option ((Nat ⊕ Unit) × CW) :=
  dr x0 fun q53 => gdB (hK C q53 == 12) <| cB (f_X11_go q53 1 C) fun _ C52 =>
  some (Sum.inr (), C52)
def f_X11_arrays_b119 (x0 : Option Nat) (s0 : Option Nat) (s1 : Int) (s2 : Int) (C : CW) : Option ((Nat ⊕ Unit) × CW) :=
  dr s0 fun q44 => gdB (hK C q44 == 12) <| cB (f_X11_push_2 q44 s1 s2 C) fun _ C43 =>
  f_X11_arrays_b195 x0 C43
def f_X11_arrays_b179 (x0 : Option Nat) (x3 : Int) (x5 : Int) (x7 : Option Nat) (s0 : Option Nat) (s1 : Int) (C : CW) : Option ((Nat ⊕ Unit) × CW) :=
  dr s0 fun q47 => gdB (hK C q47 == 12) <| xB (f_X11_may q47 s1 C) fun v46 C45 =>
  if w32 v46 = 0 then (
    some (Sum.inr (), C45))
  else (
    dr x7 fun q48 => gdB (hK C45 q48 == 10) <| rd (hR C45 q48 1) fun v49 =>
    dr v49 fun q51 => gdB (hK C45 q51 == 65) <| ax x5 (hL C45 q51) fun j => rd (hsJ C45 q51 j x3) fun C50 =>
    f_X11_arrays_b195 x0 C50)
def f_X11_arrays_b174 (x0 : Option Nat) (x3 : Int) (x5 : Int) (x7 : Option Nat) (s0 : Option Nat) (C : CW) : Option ((Nat ⊕ Unit) × CW) :=
  f_X11_arrays_b179 x0 x3 x5 x7 s0 1 C
def f_X11_arrays_b74 (x0 : Option Nat) (x1 : Int) (x2 : Int) (x3 : Int) (x5 : Int) (x6 : Int) (s0 : Option Nat) (s1 : Int) (C : CW) : Option ((Nat ⊕ Unit) × CW) :=
  dr s0 fun q21 => gdB (hK C q21 == 12) <| xB (f_X11_may q21 s1 C) fun v20 C19 =>
  if w32 v20 = 0 then (
    some (Sum.inr (), C19))
  else (
    dr x0 fun q22 => gdB (hK C19 q22 == 12) <| rd (hR C19 q22 3) fun v23 =>
    dr v23 fun q26 => gdB (hK C19 q26 == 15) <| cB (f_J2_get q26 x6 C19) fun v25 C24 =>
    gdB (okN v25 (fun q => hK C24 q == 10)) <|
    if w32 x2 = 0 then (
      dr v25 fun q39 => gdB (hK C24 q39 == 10) <| rd (hR C24 q39 1) fun v40 =>
      dr v40 fun q42 => gdB (hK C24 q42 == 65) <| ax x5 (hL C24 q42) fun j => rd (hJ C24 q42 j) fun v41 =>
      if w32 x1 = w32 47 then (
        f_X11_arrays_b119 x0 x0 v41 1 C24)
      else (
        f_X11_arrays_b119 x0 x0 v41 0 C24))
    else (
      if w32 x1 = w32 83 then (
        if w32 (jCmp x3 0) < 0 then (
          f_X11_arrays_b174 x0 x3 x5 v25 x0 C24)
        else (
          dr x0 fun q27 => gdB (hK C24 q27 == 12) <| gdB (hR C24 q27 0 == some (hB C24 + 1)) <|
          dr x0 fun q28 => gdB (hK C24 q28 == 12) <| rd (hR C24 q28 3) fun v29 =>
          dr v29 fun q32 => gdB (hK C24 q32 == 15) <| cB (f_J2_get q32 x3 C24) fun v31 C30 =>
          gdB (okN v31 (fun q => hK C30 q == 10)) <|
          dr v31 fun q33 => gdB (hK C30 q33 == 10) <| rd (hI C30 q33 0) fun v34 =>
          dr v25 fun q35 => gdB (hK C30 q35 == 10) <| rd (hI C30 q35 0) fun v36 =>
          cB (f_X2_fits v34 ((v36 - 64) + 32) C30) fun v38 C37 =>
          if w32 v38 = 0 then (
            f_X11_arrays_b179 x0 x3 x5 v25 x0 0 C37)
          else (
            f_X11_arrays_b174 x0 x3 x5 v25 x0 C37)))
      else (
        f_X11_arrays_b174 x0 x3 x5 v25 x0 C24)))
def f_X11_arrays_b73 (x0 : Option Nat) (x1 : Int) (x2 : Int) (x3 : Int) (x5 : Int) (x6 : Int) (s0 : Option Nat) (C : CW) : Option ((Nat ⊕ Unit) × CW) :=
  f_X11_arrays_b74 x0 x1 x2 x3 x5 x6 s0 0 C
def f_X11_arrays_b24 (x0 : Option Nat) (x1 : Int) (x2 : Int) (s0 : Int) (C : CW) : Option ((Nat ⊕ Unit) × CW) :=
  dr x0 fun q6 => gdB (hK C q6 == 12) <| cB (f_X11_popInt q6 C) fun v5 C4 =>
  dr x0 fun q9 => gdB (hK C4 q9 == 12) <| cB (f_X11_popInt q9 C4) fun v8 C7 =>
  if w32 v8 < 0 then (
    f_X11_arrays_b73 x0 x1 x2 s0 v5 v8 x0 C7)
  else (
    if w32 v5 < 0 then (
      f_X11_arrays_b73 x0 x1 x2 s0 v5 v8 x0 C7)
    else (
      dr x0 fun q10 => gdB (hK C7 q10 == 12) <| rd (hR C7 q10 3) fun v11 =>
      dr v11 fun q14 => gdB (hK C7 q14 == 15) <| cB (f_J2_get q14 v8 C7) fun v13 C12 =>
      gdB (okN v13 (fun q => hK C12 q == 10)) <|
      dr v13 fun q15 => gdB (hK C12 q15 == 10) <| rd (hR C12 q15 1) fun v16 =>
      dr v16 fun q18 => gdB (Nat.ble 64 (hK C12 q18)) <| rd (hL C12 q18 : Int) fun v17 =>
      if w32 v17 ≤ w32 v5 then (
        f_X11_arrays_b73 x0 x1 x2 s0 v5 v8 x0 C12)
      else (
        f_X11_arrays_b74 x0 x1 x2 s0 v5 v8 x0 1 C12)))
def f_X11_arrays_b11 (x0 : Option Nat) (x1 : Int) (s0 : Int) (C : CW) : Option ((Nat ⊕ Unit) × CW) :=
  if w32 s0 = 0 then (
    f_X11_arrays_b24 x0 x1 s0 0 C)
  else (
    dr x0 fun q3 => gdB (hK C q3 == 12) <| cB (f_X11_pop q3 C) fun v2 C1 =>
    f_X11_arrays_b24 x0 x1 s0 v2 C1)
def f_X11_arrays (x0 : Nat) (x1 : Int) (C : CW) : Option ((Nat ⊕ Unit) × CW) :=
  if w32 x1 < w32 79 then (
    f_X11_arrays_b11 (some x0) x1 0 C)
  else (
    f_X11_arrays_b11 (some x0) x1 1 C)
def f_X11_two_b60 (k40 : Option Nat → Int → Int → Int → Int → Int → CW → Option (Unit × CW)) (x0 : Option Nat) (x1 : Int) (x2 : Int) (x3 : Int) (x5 : Int) (x7 : Int) (C : CW) : Option (Unit × CW) :=
  dr x0 fun q4 => gdB (hK C q4 == 12) <| cB (f_X11_push_2 q4 x3 x2 C) fun _ C3 =>
  k40 x0 x1 x2 x3 x5 (x7 + 1) C3
def f_X11_two_s40 (k40 : Option Nat → Int → Int → Int → Int → Int → CW → Option (Unit × CW)) (x0 : Option Nat) (x1 : Int) (x2 : Int) (x3 : Int) (x5 : Int) (x7 : Int) (C : CW) : Option (Unit × CW) :=
  if w32 2 ≤ w32 x7 then (
    some ((), C))
  else (
    if w32 x1 = 0 then (
      some ((), C))
    else (
      if w32 x2 = 0 then (
        dr x0 fun q2 => gdB (hK C q2 == 12) <| cB (f_X11_push q2 x5 C) fun _ C1 =>
        f_X11_two_b60 k40 x0 x1 x2 x3 x5 x7 C1)
      else (
        f_X11_two_b60 k40 x0 x1 x2 x3 x5 x7 C)))
def f_X11_two_b40 : Nat → Option Nat → Int → Int → Int → Int → Int → CW → Option (Unit × CW)
  | 0 => fun _ _ _ _ _ _ _ => none
  | n + 1 => fun x0 x1 x2 x3 x5 x7 C => f_X11_two_s40 (f_X11_two_b40 n) x0 x1 x2 x3 x5 x7 C
def f_X11_two_b35 (x0 : Option Nat) (x1 : Int) (x2 : Int) (x3 : Int) (s0 : Int) (C : CW) : Option (Unit × CW) :=
  f_X11_two_b40 FU x0 x1 x2 x3 s0 0 C
def f_X11_two (x0 : Nat) (x1 : Int) (C : CW) : Option (Unit × CW) :=
  dr (some x0) fun q5 => gdB (hK C q5 == 12) <| rd (hR C q5 7) fun v6 =>
  dr v6 fun q7 => gdB (hK C q7 == 11) <| rd (hR C q7 3) fun v8 =>
  dr (some x0) fun q9 => gdB (hK C q9 == 12) <| rd (hR C q9 7) fun v10 =>
  dr v10 fun q11 => gdB (hK C q11 == 11) <| rd (hI C q11 5) fun v12 =>
  dr v8 fun q14 => gdB (hK C q14 == 66) <| ax (v12 - 1) (hL C q14) fun j => rd (hI C q14 j) fun v13 =>
  dr (some x0) fun q17 => gdB (hK C q17 == 12) <| cB (f_X11_pop q17 C) fun v16 C15 =>
  if w32 v13 = 0 then (
    dr (some x0) fun q20 => gdB (hK C15 q20 == 12) <| cB (f_X11_pop q20 C15) fun v19 C18 =>
    f_X11_two_b35 (some x0) x1 v13 v16 v19 C18)
  else (
    f_X11_two_b35 (some x0) x1 v13 v16 0 C15)
def f_X11_stackOps_b88 (x0 : Option Nat) (C : CW) : Option (Unit × CW) :=
  dr x0 fun q4 => gdB (hK C q4 == 12) <| cB (f_X11_go q4 1 C) fun _ C3 =>
  some ((), C3)
def f_X11_stackOps_b24 (x0 : Option Nat) (s0 : Option Nat) (s1 : Int) (C : CW) : Option (Unit × CW) :=
  dr s0 fun q2 => gdB (hK C q2 == 12) <| cB (f_X11_two q2 s1 C) fun _ C1 =>
  f_X11_stackOps_b88 x0 C1
def f_X11_stackOps_b12 (x0 : Option Nat) (x1 : Int) (C : CW) : Option (Unit × CW) :=
  if w32 x1 = w32 92 then (
    f_X11_stackOps_b24 x0 x0 1 C)
  else (
    f_X11_stackOps_b24 x0 x0 0 C)
def f_X11_stackOps (x0 : Nat) (x1 : Int) (C : CW) : Option (Unit × CW) :=
  if w32 x1 = w32 88 then (
    f_X11_stackOps_b12 (some x0) x1 C)
  else (
    if w32 x1 = w32 92 then (
      f_X11_stackOps_b12 (some x0) x1 C)
    else (
      dr (some x0) fun q7 => gdB (hK C q7 == 12) <| cB (f_X11_pop q7 C) fun v6 C5 =>
      if w32 x1 = w32 89 then (
        dr (some x0) fun q18 => gdB (hK C5 q18 == 12) <| cB (f_X11_push q18 v6 C5) fun _ C17 =>
        dr (some x0) fun q20 => gdB (hK C17 q20 == 12) <| cB (f_X11_push q20 v6 C17) fun _ C19 =>
        f_X11_stackOps_b88 (some x0) C19)
      else (
        if w32 x1 = w32 87 then (
          f_X11_stackOps_b88 (some x0) C5)
        else (
          dr (some x0) fun q10 => gdB (hK C5 q10 == 12) <| cB (f_X11_pop q10 C5) fun v9 C8 =>
          dr (some x0) fun q12 => gdB (hK C8 q12 == 12) <| cB (f_X11_push q12 v6 C8) fun _ C11 =>
          dr (some x0) fun q14 => gdB (hK C11 q14 == 12) <| cB (f_X11_push q14 v9 C11) fun _ C13 =>
          if w32 x1 = w32 90 then (
            dr (some x0) fun q16 => gdB (hK C13 q16 == 12) <| cB (f_X11_push q16 v6 C13) fun _ C15 =>
            f_X11_stackOps_b88 (some x0) C15)
          else (
            f_X11_stackOps_b88 (some x0) C13)))))
def f_X11_compute_b115 (x0 : Option Nat) (x2 : Int) (s0 : Option Nat) (s1 : Int) (C : CW) : Option ((Nat ⊕ Unit) × CW) :=
  dr s0 fun q12 => gdB (hK C q12 == 12) <| cB (f_X11_push_2 q12 s1 x2 C) fun _ C11 =>
  dr x0 fun q14 => gdB (hK C11 q14 == 12) <| cB (f_X11_go q14 1 C11) fun _ C13 =>
  some (Sum.inr (), C13)
def f_X11_compute_b99 (x0 : Option Nat) (x2 : Int) (s0 : Int) (C : CW) : Option ((Nat ⊕ Unit) × CW) :=
  if w32 x2 = 0 then (
    f_X11_compute_b115 x0 x2 x0 (w32 s0) C)
  else (
    f_X11_compute_b115 x0 x2 x0 s0 C)
def f_X11_compute_b50 (x0 : Option Nat) (x2 : Int) (x3 : Int) (x5 : Int) (x7 : Int) (s0 : Option Nat) (s1 : Int) (C : CW) : Option ((Nat ⊕ Unit) × CW) :=
  dr s0 fun q10 => gdB (hK C q10 == 12) <| xB (f_X11_may q10 s1 C) fun v9 C8 =>
  if w32 v9 = 0 then (
    some (Sum.inr (), C8))
  else (
    if w32 x7 = 0 then (
      f_X11_compute_b99 x0 x2 (x5 + x3) C8)
    else (
      if w32 x7 = w32 1 then (
        f_X11_compute_b99 x0 x2 (x5 - x3) C8)
      else (
        if w32 x7 = w32 2 then (
          f_X11_compute_b99 x0 x2 (x5 * x3) C8)
        else (
          gdB (w64 x3 != 0) <|
          f_X11_compute_b99 x0 x2 (jDiv x5 x3) C8))))
def f_X11_compute_b45 (x0 : Option Nat) (x2 : Int) (x3 : Int) (x5 : Int) (x7 : Int) (s0 : Option Nat) (C : CW) : Option ((Nat ⊕ Unit) × CW) :=
  f_X11_compute_b50 x0 x2 x3 x5 x7 s0 1 C
def f_X11_compute_b12 (x0 : Option Nat) (x1 : Int) (s0 : Int) (C : CW) : Option ((Nat ⊕ Unit) × CW) :=
  dr x0 fun q3 => gdB (hK C q3 == 12) <| cB (f_X11_pop q3 C) fun v2 C1 =>
  dr x0 fun q6 => gdB (hK C1 q6 == 12) <| cB (f_X11_pop q6 C1) fun v5 C4 =>
  gdB (w32 4 != 0) <|
  rd (iDiv (x1 - 96) 4) fun v7 =>
  if w32 v7 < w32 3 then (
    f_X11_compute_b45 x0 s0 v2 v5 v7 x0 C4)
  else (
    if w32 (jCmp v2 0) = 0 then (
      f_X11_compute_b50 x0 s0 v2 v5 v7 x0 0 C4)
    else (
      f_X11_compute_b45 x0 s0 v2 v5 v7 x0 C4))
def f_X11_compute (x0 : Nat) (x1 : Int) (C : CW) : Option ((Nat ⊕ Unit) × CW) :=
  gdB (w32 4 != 0) <|
  if w32 (iRem x1 4) = w32 1 then (
    f_X11_compute_b12 (some x0) x1 1 C)
  else (
    f_X11_compute_b12 (some x0) x1 0 C)
def f_X11_numbers_b179 (x0 : Option Nat) (x1 : Int) (C : CW) : Option (Unit × CW) :=
  cB (f_X1_sizeOf x1 C) fun v6 C5 =>
  dr x0 fun q8 => gdB (hK C5 q8 == 12) <| cB (f_X11_go q8 v6 C5) fun _ C7 =>
  some ((), C7)
def f_X11_numbers_b135 (x0 : Option Nat) (x1 : Int) (s0 : Option Nat) (s1 : Int) (C : CW) : Option (Unit × CW) :=
  dr s0 fun q2 => gdB (hK C q2 == 12) <| cB (f_X11_push q2 s1 C) fun _ C1 =>
  f_X11_numbers_b179 x0 x1 C1
def f_X11_numbers_b176 (x0 : Option Nat) (x1 : Int) (s0 : Option Nat) (s1 : Int) (s2 : Int) (C : CW) : Option (Unit × CW) :=
  dr s0 fun q4 => gdB (hK C q4 == 12) <| cB (f_X11_push_2 q4 s1 s2 C) fun _ C3 =>
  f_X11_numbers_b179 x0 x1 C3
def f_X11_numbers_b164 (x0 : Option Nat) (x1 : Int) (s0 : Option Nat) (s1 : Int) (C : CW) : Option (Unit × CW) :=
  if w32 x1 = w32 133 then (
    f_X11_numbers_b176 x0 x1 s0 s1 1 C)
  else (
    f_X11_numbers_b176 x0 x1 s0 s1 0 C)
def f_X11_numbers (x0 : Nat) (x1 : Int) (C : CW) : Option (Unit × CW) :=
  dr (some x0) fun q9 => gdB (hK C q9 == 12) <| rd (hR C q9 7) fun v10 =>
  dr v10 fun q11 => gdB (hK C q11 == 11) <| rd (hR C q11 0) fun v12 =>
  dr (some x0) fun q13 => gdB (hK C q13 == 12) <| rd (hR C q13 7) fun v14 =>
  dr v14 fun q15 => gdB (hK C q15 == 11) <| rd (hI C q15 4) fun v16 =>
  if w32 x1 = w32 132 then (
    dr v12 fun q28 => gdB (hK C q28 == 7) <| cB (f_X8_at q28 (v16 + 1) C) fun v27 C26 =>
    dr (some x0) fun q29 => gdB (hK C26 q29 == 12) <| rd (hR C26 q29 7) fun v30 =>
    dr v30 fun q31 => gdB (hK C26 q31 == 11) <| rd (hR C26 q31 1) fun v32 =>
    dr (some x0) fun q33 => gdB (hK C26 q33 == 12) <| rd (hR C26 q33 7) fun v34 =>
    dr v34 fun q35 => gdB (hK C26 q35 == 11) <| rd (hR C26 q35 1) fun v36 =>
    dr v36 fun q38 => gdB (hK C26 q38 == 65) <| ax v27 (hL C26 q38) fun j => rd (hJ C26 q38 j) fun v37 =>
    dr v12 fun q41 => gdB (hK C26 q41 == 7) <| cB (f_X8_at q41 (v16 + 2) C26) fun v40 C39 =>
    dr v32 fun q43 => gdB (hK C39 q43 == 65) <| ax v27 (hL C39 q43) fun j => rd (hsJ C39 q43 j (w32 (v37 + (i2b v40)))) fun C42 =>
    dr (some x0) fun q44 => gdB (hK C42 q44 == 12) <| rd (hR C42 q44 7) fun v45 =>
    dr v45 fun q46 => gdB (hK C42 q46 == 11) <| rd (hR C42 q46 1) fun v47 =>
    dr (some x0) fun q48 => gdB (hK C42 q48 == 12) <| rd (hR C42 q48 7) fun v49 =>
    dr v49 fun q50 => gdB (hK C42 q50 == 11) <| rd (hR C42 q50 1) fun v51 =>
    dr v51 fun q53 => gdB (hK C42 q53 == 65) <| ax v27 (hL C42 q53) fun j => rd (hJ C42 q53 j) fun v52 =>
    dr v47 fun q55 => gdB (hK C42 q55 == 65) <| ax v27 (hL C42 q55) fun j => rd (hsJ C42 q55 j (w32 v52)) fun C54 =>
    f_X11_numbers_b179 (some x0) x1 C54)
  else (
    if w32 x1 = w32 148 then (
      dr (some x0) fun q22 => gdB (hK C q22 == 12) <| cB (f_X11_pop q22 C) fun v21 C20 =>
      dr (some x0) fun q25 => gdB (hK C20 q25 == 12) <| cB (f_X11_pop q25 C20) fun v24 C23 =>
      if 0 ≤ w32 (jCmp v24 v21) then (
        if w32 (jCmp v24 v21) ≤ 0 then (
          f_X11_numbers_b135 (some x0) x1 (some x0) 0 C23)
        else (
          f_X11_numbers_b135 (some x0) x1 (some x0) 1 C23))
      else (
        f_X11_numbers_b135 (some x0) x1 (some x0) (-1) C23))
    else (
      dr (some x0) fun q19 => gdB (hK C q19 == 12) <| cB (f_X11_pop q19 C) fun v18 C17 =>
      if w32 x1 = w32 133 then (
        f_X11_numbers_b164 (some x0) x1 (some x0) v18 C17)
      else (
        f_X11_numbers_b164 (some x0) x1 (some x0) (w32 v18) C17)))
def f_X11_holds (x0 : Int) (x1 : Int) (x3 : Int) (C : CW) : Option (Int × CW) :=
  if w32 x0 = 0 then (
    if w32 (jCmp x1 x3) = 0 then (
      some (1, C))
    else (
      some (0, C)))
  else (
    if w32 x0 = w32 1 then (
      if w32 (jCmp x1 x3) = 0 then (
        some (0, C))
      else (
        some (1, C)))
    else (
      if w32 x0 = w32 2 then (
        if 0 ≤ w32 (jCmp x1 x3) then (
          some (0, C))
        else (
          some (1, C)))
      else (
        if w32 x0 = w32 3 then (
          if w32 (jCmp x1 x3) < 0 then (
            some (0, C))
          else (
            some (1, C)))
        else (
          if w32 x0 = w32 4 then (
            if w32 (jCmp x1 x3) ≤ 0 then (
              some (0, C))
            else (
              some (1, C)))
          else (
            if 0 < w32 (jCmp x1 x3) then (
              some (0, C))
            else (
              some (1, C)))))))
def f_X11_branches_b112 (x0 : Option Nat) (x2 : Int) (C : CW) : Option (Unit × CW) :=
  dr x0 fun q6 => gdB (hK C q6 == 12) <| rd (hR C q6 7) fun v7 =>
  if w32 x2 = 0 then (
    dr x0 fun q8 => gdB (hK C q8 == 12) <| rd (hR C q8 7) fun v9 =>
    dr v9 fun q10 => gdB (hK C q10 == 11) <| rd (hI C q10 4) fun v11 =>
    dr v7 fun q13 => gdB (hK C q13 == 11) <| rd (hsI C q13 4 (v11 + 3)) fun C12 =>
    some ((), C12))
  else (
    dr x0 fun q14 => gdB (hK C q14 == 12) <| rd (hR C q14 7) fun v15 =>
    dr v15 fun q16 => gdB (hK C q16 == 11) <| rd (hR C q16 0) fun v17 =>
    dr x0 fun q18 => gdB (hK C q18 == 12) <| rd (hR C q18 7) fun v19 =>
    dr v19 fun q20 => gdB (hK C q20 == 11) <| rd (hI C q20 4) fun v21 =>
    dr v17 fun q24 => gdB (hK C q24 == 7) <| cB (f_X8_target q24 v21 C) fun v23 C22 =>
    dr v7 fun q26 => gdB (hK C22 q26 == 11) <| rd (hsI C22 q26 4 v23) fun C25 =>
    some ((), C25))
def f_X11_branches_b58 (x0 : Option Nat) (x3 : Int) (s0 : Int) (C : CW) : Option (Unit × CW) :=
  dr x0 fun q3 => gdB (hK C q3 == 12) <| cB (f_X11_pop q3 C) fun v2 C1 =>
  cB (f_X11_holds s0 v2 x3 C1) fun v5 C4 =>
  f_X11_branches_b112 x0 v5 C4
def f_X11_branches_b111 (x0 : Option Nat) (s0 : Int) (C : CW) : Option (Unit × CW) :=
  f_X11_branches_b112 x0 s0 C
def f_X11_branches_b103 (x0 : Option Nat) (s0 : Int) (s1 : Int) (C : CW) : Option (Unit × CW) :=
  if w32 s0 = w32 s1 then (
    f_X11_branches_b111 x0 1 C)
  else (
    f_X11_branches_b111 x0 0 C)
def f_X11_branches_b91 (x0 : Option Nat) (x1 : Int) (s0 : Int) (C : CW) : Option (Unit × CW) :=
  if w32 x1 = w32 198 then (
    f_X11_branches_b103 x0 s0 1 C)
  else (
    f_X11_branches_b103 x0 s0 0 C)
def f_X11_branches (x0 : Nat) (x1 : Int) (C : CW) : Option (Unit × CW) :=
  if w32 159 ≤ w32 x1 then (
    if w32 167 ≤ w32 x1 then (
      if w32 x1 ≤ w32 167 then (
        f_X11_branches_b112 (some x0) 1 C)
      else (
        dr (some x0) fun q29 => gdB (hK C q29 == 12) <| cB (f_X11_pop q29 C) fun v28 C27 =>
        if 0 ≤ w32 (jCmp v28 0) then (
          f_X11_branches_b91 (some x0) x1 0 C27)
        else (
          f_X11_branches_b91 (some x0) x1 1 C27)))
    else (
      dr (some x0) fun q32 => gdB (hK C q32 == 12) <| cB (f_X11_pop q32 C) fun v31 C30 =>
      if w32 165 ≤ w32 x1 then (
        f_X11_branches_b58 (some x0) v31 (x1 - 165) C30)
      else (
        f_X11_branches_b58 (some x0) v31 (x1 - 159) C30)))
  else (
    dr (some x0) fun q35 => gdB (hK C q35 == 12) <| cB (f_X11_pop q35 C) fun v34 C33 =>
    cB (f_X11_holds (x1 - 153) v34 0 C33) fun v37 C36 =>
    f_X11_branches_b112 (some x0) v37 C36)
def f_X11_leave_b101 (s0 : Option Nat) (s1 : Int) (s2 : Int) (C : CW) : Option (Unit × CW) :=
  dr s0 fun q13 => gdB (hK C q13 == 12) <| cB (f_X11_push_2 q13 s1 s2 C) fun _ C12 =>
  some ((), C12)
def f_X11_leave_b61 (x0 : Option Nat) (x1 : Int) (x3 : Int) (s0 : Option Nat) (s1 : Option Nat) (C : CW) : Option (Unit × CW) :=
  dr s0 fun q2 => gdB (hK C q2 == 12) <| rd (hsR C q2 7 s1) fun C1 =>
  dr x0 fun q3 => gdB (hK C1 q3 == 12) <| rd (hR C1 q3 7) fun v4 =>
  (match v4 with
  | none => (
    some ((), C1))
  | some q5 => (
    dr x0 fun q6 => gdB (hK C1 q6 == 12) <| rd (hR C1 q6 7) fun v7 =>
    dr v7 fun q8 => gdB (hK C1 q8 == 11) <| rd (hI C1 q8 4) fun v9 =>
    dr v7 fun q11 => gdB (hK C1 q11 == 11) <| rd (hsI C1 q11 4 (v9 + 2)) fun C10 =>
    if w32 x3 = 0 then (
      some ((), C10))
    else (
      if w32 x3 = w32 2 then (
        f_X11_leave_b101 x0 x1 1 C10)
      else (
        f_X11_leave_b101 x0 x1 0 C10))))
def f_X11_leave (x0 : Nat) (x1 : Int) (x3 : Int) (C : CW) : Option (Unit × CW) :=
  dr (some x0) fun q14 => gdB (hK C q14 == 12) <| rd (hR C q14 4) fun v15 =>
  dr (some x0) fun q16 => gdB (hK C q16 == 12) <| rd (hR C q16 4) fun v17 =>
  dr v17 fun q20 => gdB (hK C q20 == 15) <| cB (f_J2_size q20 C) fun v19 C18 =>
  dr v15 fun q23 => gdB (hK C18 q23 == 15) <| cB (f_J2_remove q23 (v19 - 1) C18) fun v22 C21 =>
  dr (some x0) fun q25 => gdB (hK C21 q25 == 12) <| rd (hsJ C21 q25 10 x1) fun C24 =>
  dr (some x0) fun q27 => gdB (hK C24 q27 == 12) <| rd (hsI C24 q27 9 x3) fun C26 =>
  dr (some x0) fun q28 => gdB (hK C26 q28 == 12) <| rd (hR C26 q28 4) fun v29 =>
  dr v29 fun q32 => gdB (hK C26 q32 == 15) <| cB (f_J2_size q32 C26) fun v31 C30 =>
  if w32 v31 = 0 then (
    f_X11_leave_b61 (some x0) x1 x3 (some x0) none C30)
  else (
    dr (some x0) fun q33 => gdB (hK C30 q33 == 12) <| rd (hR C30 q33 4) fun v34 =>
    dr (some x0) fun q35 => gdB (hK C30 q35 == 12) <| rd (hR C30 q35 4) fun v36 =>
    dr v36 fun q39 => gdB (hK C30 q39 == 15) <| cB (f_J2_size q39 C30) fun v38 C37 =>
    dr v34 fun q42 => gdB (hK C37 q42 == 15) <| cB (f_J2_get q42 (v38 - 1) C37) fun v41 C40 =>
    gdB (okN v41 (fun q => hK C40 q == 11)) <|
    f_X11_leave_b61 (some x0) x1 x3 (some x0) v41 C40)
def f_X11_field_b128 (x0 : Option Nat) (C : CW) : Option ((Nat ⊕ Unit) × CW) :=
  dr x0 fun q32 => gdB (hK C q32 == 12) <| cB (f_X11_go q32 2 C) fun _ C31 =>
  some (Sum.inr (), C31)
def f_X11_field_b125 (x0 : Option Nat) (s0 : Option Nat) (s1 : Int) (s2 : Int) (C : CW) : Option ((Nat ⊕ Unit) × CW) :=
  dr s0 fun q30 => gdB (hK C q30 == 12) <| cB (f_X11_push_2 q30 s1 s2 C) fun _ C29 =>
  f_X11_field_b128 x0 C29
def f_X11_field_b88 (x0 : Option Nat) (x2 : Option Nat) (x3 : Int) (x4 : Int) (x6 : Option Nat) (C : CW) : Option ((Nat ⊕ Unit) × CW) :=
  if w32 x3 = 0 then (
    dr x2 fun q19 => gdB (hK C q19 == 8) <| rd (hI C q19 0) fun v20 =>
    dr x6 fun q22 => gdB (hK C q22 == 65) <| ax v20 (hL C q22) fun j => rd (hJ C q22 j) fun v21 =>
    dr x2 fun q23 => gdB (hK C q23 == 8) <| rd (hI C q23 2) fun v24 =>
    if w32 v24 = w32 2 then (
      f_X11_field_b125 x0 x0 v21 1 C)
    else (
      f_X11_field_b125 x0 x0 v21 0 C))
  else (
    dr x2 fun q25 => gdB (hK C q25 == 8) <| rd (hI C q25 0) fun v26 =>
    dr x6 fun q28 => gdB (hK C q28 == 65) <| ax v26 (hL C q28) fun j => rd (hsJ C q28 j x4) fun C27 =>
    f_X11_field_b128 x0 C27)
def f_X11_field_b64 (x0 : Option Nat) (x2 : Option Nat) (x3 : Int) (x4 : Int) (x7 : Int) (s0 : Option Nat) (s1 : Int) (C : CW) : Option ((Nat ⊕ Unit) × CW) :=
  dr s0 fun q11 => gdB (hK C q11 == 12) <| xB (f_X11_may q11 s1 C) fun v10 C9 =>
  if w32 v10 = 0 then (
    some (Sum.inr (), C9))
  else (
    dr x0 fun q12 => gdB (hK C9 q12 == 12) <| rd (hR C9 q12 3) fun v13 =>
    dr v13 fun q16 => gdB (hK C9 q16 == 15) <| cB (f_J2_get q16 x7 C9) fun v15 C14 =>
    gdB (okN v15 (fun q => hK C14 q == 10)) <|
    dr v15 fun q17 => gdB (hK C14 q17 == 10) <| rd (hR C14 q17 1) fun v18 =>
    f_X11_field_b88 x0 x2 x3 x4 v18 C14)
def f_X11_field_b32 (x0 : Option Nat) (x1 : Int) (x2 : Option Nat) (x3 : Int) (s0 : Int) (C : CW) : Option ((Nat ⊕ Unit) × CW) :=
  dr x0 fun q4 => gdB (hK C q4 == 12) <| rd (hR C q4 6) fun v5 =>
  if w32 x1 ≤ w32 179 then (
    f_X11_field_b88 x0 x2 x3 s0 v5 C)
  else (
    dr x0 fun q8 => gdB (hK C q8 == 12) <| cB (f_X11_popInt q8 C) fun v7 C6 =>
    if w32 v7 < 0 then (
      f_X11_field_b64 x0 x2 x3 s0 v7 x0 0 C6)
    else (
      f_X11_field_b64 x0 x2 x3 s0 v7 x0 1 C6))
def f_X11_field_b19 (x0 : Option Nat) (x1 : Int) (x2 : Option Nat) (s0 : Int) (C : CW) : Option ((Nat ⊕ Unit) × CW) :=
  if w32 s0 = 0 then (
    f_X11_field_b32 x0 x1 x2 s0 0 C)
  else (
    dr x0 fun q3 => gdB (hK C q3 == 12) <| cB (f_X11_pop q3 C) fun v2 C1 =>
    f_X11_field_b32 x0 x1 x2 s0 v2 C1)
def f_X11_field_b14 (x0 : Option Nat) (x1 : Int) (x2 : Option Nat) (C : CW) : Option ((Nat ⊕ Unit) × CW) :=
  f_X11_field_b19 x0 x1 x2 1 C
def f_X11_field (x0 : Nat) (x1 : Int) (x2 : Option Nat) (C : CW) : Option ((Nat ⊕ Unit) × CW) :=
  if w32 x1 = w32 179 then (
    f_X11_field_b14 (some x0) x1 x2 C)
  else (
    if w32 x1 = w32 181 then (
      f_X11_field_b14 (some x0) x1 x2 C)
    else (
      f_X11_field_b19 (some x0) x1 x2 0 C))
def f_X11_array_s29 (k29 : Int → Int → Option Nat → Int → CW → Option ((Nat ⊕ Int) × CW)) (x1 : Int) (x4 : Int) (x5 : Option Nat) (x6 : Int) (C : CW) : Option ((Nat ⊕ Int) × CW) :=
  dr x5 fun q2 => gdB (Nat.ble 64 (hK C q2)) <| rd (hL C q2 : Int) fun v1 =>
  if w32 v1 ≤ w32 x6 then (
    some (Sum.inr x4, C))
  else (
    if w32 x1 < w32 64 then (
      some (Sum.inr x4, C))
    else (
      dr x5 fun q4 => gdB (hK C q4 == 65) <| ax x6 (hL C q4) fun j => rd (hsJ C q4 j (-1)) fun C3 =>
      k29 x1 x4 x5 (x6 + 1) C3))
def f_X11_array_b29 : Nat → Int → Int → Option Nat → Int → CW → Option ((Nat ⊕ Int) × CW)
  | 0 => fun _ _ _ _ _ => none
  | n + 1 => fun x1 x4 x5 x6 C => f_X11_array_s29 (f_X11_array_b29 n) x1 x4 x5 x6 C
def f_X11_array (x0 : Nat) (x1 : Int) (x2 : Int) (C : CW) : Option ((Nat ⊕ Int) × CW) :=
  dr (some x0) fun q7 => gdB (hK C q7 == 12) <| xB (f_X11_make q7 x1 x2 C) fun v6 C5 =>
  dr (some x0) fun q8 => gdB (hK C5 q8 == 12) <| rd (hR C5 q8 3) fun v9 =>
  dr v9 fun q12 => gdB (hK C5 q12 == 15) <| cB (f_J2_get q12 v6 C5) fun v11 C10 =>
  gdB (okN v11 (fun q => hK C10 q == 10)) <|
  dr v11 fun q13 => gdB (hK C10 q13 == 10) <| rd (hR C10 q13 1) fun v14 =>
  f_X11_array_b29 FU x1 v6 v14 0 C10
def f_X11_news_b99 (x0 : Option Nat) (C : CW) : Option ((Nat ⊕ Unit) × CW) :=
  dr x0 fun q10 => gdB (hK C q10 == 12) <| cB (f_X11_go q10 2 C) fun _ C9 =>
  some (Sum.inr (), C9)
def f_X11_news_b90 (x0 : Option Nat) (x3 : Int) (s0 : Option Nat) (s1 : Option Nat) (s2 : Int) (C : CW) : Option ((Nat ⊕ Unit) × CW) :=
  dr s1 fun q6 => gdB (hK C q6 == 12) <| xB (f_X11_array q6 s2 (w32 x3) C) fun v5 C4 =>
  dr s0 fun q8 => gdB (hK C4 q8 == 12) <| cB (f_X11_push q8 (w32 v5) C4) fun _ C7 =>
  f_X11_news_b99 x0 C7
def f_X11_news_b56 (x0 : Option Nat) (x1 : Int) (x2 : Int) (x3 : Int) (s0 : Option Nat) (s1 : Int) (C : CW) : Option ((Nat ⊕ Unit) × CW) :=
  dr s0 fun q3 => gdB (hK C q3 == 12) <| xB (f_X11_may q3 s1 C) fun v2 C1 =>
  if w32 v2 = 0 then (
    some (Sum.inr (), C1))
  else (
    if w32 x1 = w32 189 then (
      f_X11_news_b90 x0 x3 x0 x0 (64 + x2) C1)
    else (
      if w32 x2 = w32 10 then (
        f_X11_news_b90 x0 x3 x0 x0 3 C1)
      else (
        f_X11_news_b90 x0 x3 x0 x0 4 C1)))
def f_X11_news_b55 (x0 : Option Nat) (x1 : Int) (x2 : Int) (x3 : Int) (s0 : Option Nat) (C : CW) : Option ((Nat ⊕ Unit) × CW) :=
  f_X11_news_b56 x0 x1 x2 x3 s0 0 C
def f_X11_news (x0 : Nat) (x1 : Int) (x2 : Int) (C : CW) : Option ((Nat ⊕ Unit) × CW) :=
  if w32 x1 = w32 187 then (
    dr (some x0) fun q19 => gdB (hK C q19 == 12) <| xB (f_X11_object q19 x2 C) fun v18 C17 =>
    dr (some x0) fun q21 => gdB (hK C17 q21 == 12) <| cB (f_X11_push q21 (w32 v18) C17) fun _ C20 =>
    f_X11_news_b99 (some x0) C20)
  else (
    if w32 x1 = w32 183 then (
      dr (some x0) fun q16 => gdB (hK C q16 == 12) <| cB (f_X11_pop q16 C) fun v15 C14 =>
      f_X11_news_b99 (some x0) C14)
    else (
      dr (some x0) fun q13 => gdB (hK C q13 == 12) <| cB (f_X11_popInt q13 C) fun v12 C11 =>
      if w32 v12 < 0 then (
        f_X11_news_b55 (some x0) x1 x2 v12 (some x0) C11)
      else (
        if w32 24 < w32 v12 then (
          f_X11_news_b55 (some x0) x1 x2 v12 (some x0) C11)
        else (
          f_X11_news_b56 (some x0) x1 x2 v12 (some x0) 1 C11))))
def f_X11_objects_b22 (x0 : Option Nat) (x3 : Int) (s0 : Option Nat) (s1 : Int) (C : CW) : Option ((Nat ⊕ Unit) × CW) :=
  dr s0 fun q3 => gdB (hK C q3 == 12) <| xB (f_X11_may q3 s1 C) fun v2 C1 =>
  if w32 v2 = 0 then (
    some (Sum.inr (), C1))
  else (
    dr x0 fun q4 => gdB (hK C1 q4 == 12) <| rd (hR C1 q4 3) fun v5 =>
    dr v5 fun q8 => gdB (hK C1 q8 == 15) <| cB (f_J2_get q8 x3 C1) fun v7 C6 =>
    gdB (okN v7 (fun q => hK C6 q == 10)) <|
    dr v7 fun q9 => gdB (hK C6 q9 == 10) <| rd (hR C6 q9 1) fun v10 =>
    dr v10 fun q12 => gdB (Nat.ble 64 (hK C6 q12)) <| rd (hL C6 q12 : Int) fun v11 =>
    dr x0 fun q14 => gdB (hK C6 q14 == 12) <| cB (f_X11_push q14 (w32 v11) C6) fun _ C13 =>
    dr x0 fun q16 => gdB (hK C13 q16 == 12) <| cB (f_X11_go q16 1 C13) fun _ C15 =>
    some (Sum.inr (), C15))
def f_X11_objects_b74 (x0 : Option Nat) (x3 : Int) (s0 : Option Nat) (s1 : Int) (C : CW) : Option ((Nat ⊕ Unit) × CW) :=
  dr s0 fun q19 => gdB (hK C q19 == 12) <| xB (f_X11_may q19 s1 C) fun v18 C17 =>
  if w32 v18 = 0 then (
    some (Sum.inr (), C17))
  else (
    dr x0 fun q21 => gdB (hK C17 q21 == 12) <| xB (f_X11_raise q21 x3 C17) fun _ C20 =>
    some (Sum.inr (), C20))
def f_X11_objects_b179 (x0 : Option Nat) (s0 : Option Nat) (s1 : Int) (C : CW) : Option ((Nat ⊕ Unit) × CW) :=
  dr s0 fun q26 => gdB (hK C q26 == 12) <| cB (f_X11_push q26 s1 C) fun _ C25 =>
  dr x0 fun q28 => gdB (hK C25 q28 == 12) <| cB (f_X11_go q28 2 C25) fun _ C27 =>
  some (Sum.inr (), C27)
def f_X11_objects_b156 (x0 : Option Nat) (x1 : Int) (x3 : Int) (x4 : Int) (C : CW) : Option ((Nat ⊕ Unit) × CW) :=
  if w32 x1 = w32 192 then (
    f_X11_objects_b179 x0 x0 (w32 x3) C)
  else (
    if w32 x4 = 0 then (
      f_X11_objects_b179 x0 x0 0 C)
    else (
      f_X11_objects_b179 x0 x0 1 C))
def f_X11_objects_b149 (x0 : Option Nat) (x1 : Int) (x3 : Int) (x4 : Int) (s0 : Option Nat) (s1 : Int) (C : CW) : Option ((Nat ⊕ Unit) × CW) :=
  dr s0 fun q24 => gdB (hK C q24 == 12) <| xB (f_X11_may q24 s1 C) fun v23 C22 =>
  if w32 v23 = 0 then (
    some (Sum.inr (), C22))
  else (
    f_X11_objects_b156 x0 x1 x3 x4 C22)
def f_X11_objects_b144 (x0 : Option Nat) (x1 : Int) (x3 : Int) (x4 : Int) (s0 : Option Nat) (C : CW) : Option ((Nat ⊕ Unit) × CW) :=
  f_X11_objects_b149 x0 x1 x3 x4 s0 1 C
def f_X11_objects_b125 (x0 : Option Nat) (x1 : Int) (x3 : Int) (s0 : Int) (C : CW) : Option ((Nat ⊕ Unit) × CW) :=
  if w32 x1 = w32 192 then (
    if w32 x3 < 0 then (
      f_X11_objects_b144 x0 x1 x3 s0 x0 C)
    else (
      if w32 s0 = 0 then (
        f_X11_objects_b149 x0 x1 x3 s0 x0 0 C)
      else (
        f_X11_objects_b144 x0 x1 x3 s0 x0 C)))
  else (
    f_X11_objects_b156 x0 x1 x3 s0 C)
def f_X11_objects_b124 (x0 : Option Nat) (x1 : Int) (x3 : Int) (C : CW) : Option ((Nat ⊕ Unit) × CW) :=
  f_X11_objects_b125 x0 x1 x3 0 C
def f_X11_objects (x0 : Nat) (x1 : Int) (x2 : Int) (C : CW) : Option ((Nat ⊕ Unit) × CW) :=
  dr (some x0) fun q31 => gdB (hK C q31 == 12) <| cB (f_X11_popInt q31 C) fun v30 C29 =>
  if w32 x1 = w32 190 then (
    if w32 v30 < 0 then (
      f_X11_objects_b22 (some x0) v30 (some x0) 0 C29)
    else (
      f_X11_objects_b22 (some x0) v30 (some x0) 1 C29))
  else (
    if w32 x1 = w32 191 then (
      if w32 v30 < 0 then (
        f_X11_objects_b74 (some x0) v30 (some x0) 0 C29)
      else (
        f_X11_objects_b74 (some x0) v30 (some x0) 1 C29))
    else (
      if w32 v30 < 0 then (
        f_X11_objects_b124 (some x0) x1 v30 C29)
      else (
        dr (some x0) fun q32 => gdB (hK C29 q32 == 12) <| gdB (hR C29 q32 0 == some (hB C29 + 1)) <|
        dr (some x0) fun q33 => gdB (hK C29 q33 == 12) <| rd (hR C29 q33 3) fun v34 =>
        dr v34 fun q37 => gdB (hK C29 q37 == 15) <| cB (f_J2_get q37 v30 C29) fun v36 C35 =>
        gdB (okN v36 (fun q => hK C35 q == 10)) <|
        dr v36 fun q38 => gdB (hK C35 q38 == 10) <| rd (hI C35 q38 0) fun v39 =>
        cB (f_X2_fits v39 (32 + x2) C35) fun v41 C40 =>
        if w32 v41 = 0 then (
          f_X11_objects_b124 (some x0) x1 v30 C40)
        else (
          f_X11_objects_b125 (some x0) x1 v30 1 C40))))
def f_X11_step_b87 (x0 : Option Nat) (s0 : Option Nat) (s1 : Int) (s2 : Int) (C : CW) : Option ((Nat ⊕ Unit) × CW) :=
  dr s0 fun q10 => gdB (hK C q10 == 12) <| cB (f_X11_push_2 q10 s1 s2 C) fun _ C9 =>
  dr x0 fun q12 => gdB (hK C9 q12 == 12) <| cB (f_X11_go q12 2 C9) fun _ C11 =>
  some (Sum.inr (), C11)
def f_X11_step_b116 (x0 : Option Nat) (x2 : Int) (C : CW) : Option ((Nat ⊕ Unit) × CW) :=
  dr x0 fun q14 => gdB (hK C q14 == 12) <| xB (f_X11_arrays q14 x2 C) fun _ C13 =>
  some (Sum.inr (), C13)
def f_X11_step_b208 (x0 : Option Nat) (x2 : Int) (C : CW) : Option ((Nat ⊕ Unit) × CW) :=
  dr x0 fun q54 => gdB (hK C q54 == 12) <| cB (f_X11_branches q54 x2 C) fun _ C53 =>
  some (Sum.inr (), C53)
def f_X11_step_b239 (x1 : Option Nat) (s0 : Option Nat) (s1 : Int) (C : CW) : Option ((Nat ⊕ Unit) × CW) :=
  dr x1 fun q55 => gdB (hK C q55 == 7) <| rd (hI C q55 1) fun v56 =>
  dr s0 fun q58 => gdB (hK C q58 == 12) <| cB (f_X11_leave q58 s1 v56 C) fun _ C57 =>
  some (Sum.inr (), C57)
def f_X11_step_b124 (x0 : Option Nat) (x1 : Option Nat) (x2 : Int) (x3 : Int) (C : CW) : Option ((Nat ⊕ Unit) × CW) :=
  if w32 58 < w32 x2 then (
    if w32 95 < w32 x2 then (
      if w32 109 < w32 x2 then (
        if w32 148 < w32 x2 then (
          if w32 x2 ≤ w32 167 then (
            f_X11_step_b208 x0 x2 C)
          else (
            if w32 x2 < w32 198 then (
              if w32 177 < w32 x2 then (
                if w32 181 < w32 x2 then (
                  if w32 x2 = w32 184 then (
                    dr x0 fun q19 => gdB (hK C q19 == 12) <| rd (hR C q19 2) fun v20 =>
                    dr v20 fun q23 => gdB (hK C q23 == 15) <| cB (f_J2_get q23 x3 C) fun v22 C21 =>
                    gdB (okN v22 (fun q => hK C21 q == 7)) <|
                    dr x0 fun q25 => gdB (hK C21 q25 == 12) <| xB (f_X11_enter q25 v22 C21) fun _ C24 =>
                    some (Sum.inr (), C24))
                  else (
                    if w32 190 ≤ w32 x2 then (
                      dr x0 fun q16 => gdB (hK C q16 == 12) <| xB (f_X11_objects q16 x2 x3 C) fun _ C15 =>
                      some (Sum.inr (), C15))
                    else (
                      dr x0 fun q18 => gdB (hK C q18 == 12) <| xB (f_X11_news q18 x2 x3 C) fun _ C17 =>
                      some (Sum.inr (), C17))))
                else (
                  dr x0 fun q26 => gdB (hK C q26 == 12) <| rd (hR C q26 1) fun v27 =>
                  dr v27 fun q30 => gdB (hK C q30 == 15) <| cB (f_J2_get q30 x3 C) fun v29 C28 =>
                  gdB (okN v29 (fun q => hK C28 q == 8)) <|
                  dr x0 fun q32 => gdB (hK C28 q32 == 12) <| xB (f_X11_field q32 x2 v29 C28) fun _ C31 =>
                  some (Sum.inr (), C31)))
              else (
                if w32 x2 = w32 177 then (
                  f_X11_step_b239 x1 x0 0 C)
                else (
                  dr x0 fun q35 => gdB (hK C q35 == 12) <| cB (f_X11_pop q35 C) fun v34 C33 =>
                  f_X11_step_b239 x1 x0 v34 C33)))
            else (
              f_X11_step_b208 x0 x2 C)))
        else (
          dr x0 fun q37 => gdB (hK C q37 == 12) <| cB (f_X11_numbers q37 x2 C) fun _ C36 =>
          some (Sum.inr (), C36)))
      else (
        dr x0 fun q39 => gdB (hK C q39 == 12) <| xB (f_X11_compute q39 x2 C) fun _ C38 =>
        some (Sum.inr (), C38)))
    else (
      dr x0 fun q41 => gdB (hK C q41 == 12) <| cB (f_X11_stackOps q41 x2 C) fun _ C40 =>
      some (Sum.inr (), C40)))
  else (
    dr x0 fun q42 => gdB (hK C q42 == 12) <| rd (hR C q42 7) fun v43 =>
    dr v43 fun q44 => gdB (hK C q44 == 11) <| rd (hR C q44 1) fun v45 =>
    dr x0 fun q48 => gdB (hK C q48 == 12) <| cB (f_X11_pop q48 C) fun v47 C46 =>
    dr v45 fun q50 => gdB (hK C46 q50 == 65) <| ax x3 (hL C46 q50) fun j => rd (hsJ C46 q50 j v47) fun C49 =>
    dr x0 fun q52 => gdB (hK C49 q52 == 12) <| cB (f_X11_go q52 2 C49) fun _ C51 =>
    some (Sum.inr (), C51))
def f_X11_step_b45 (x0 : Option Nat) (x1 : Option Nat) (x2 : Int) (s0 : Int) (C : CW) : Option ((Nat ⊕ Unit) × CW) :=
  if w32 18 ≤ w32 x2 then (
    if w32 25 < w32 x2 then (
      if w32 x2 ≤ w32 50 then (
        f_X11_step_b116 x0 x2 C)
      else (
        if w32 x2 < w32 79 then (
          f_X11_step_b124 x0 x1 x2 s0 C)
        else (
          if w32 83 < w32 x2 then (
            f_X11_step_b124 x0 x1 x2 s0 C)
          else (
            f_X11_step_b116 x0 x2 C))))
    else (
      dr x0 fun q1 => gdB (hK C q1 == 12) <| rd (hR C q1 7) fun v2 =>
      dr v2 fun q3 => gdB (hK C q3 == 11) <| rd (hR C q3 1) fun v4 =>
      dr v4 fun q6 => gdB (hK C q6 == 65) <| ax s0 (hL C q6) fun j => rd (hJ C q6 j) fun v5 =>
      if w32 x2 = w32 22 then (
        f_X11_step_b87 x0 x0 v5 1 C)
      else (
        f_X11_step_b87 x0 x0 v5 0 C)))
  else (
    dr x0 fun q8 => gdB (hK C q8 == 12) <| cB (f_X11_constants q8 x2 C) fun _ C7 =>
    some (Sum.inr (), C7))
def f_X11_step (x0 : Nat) (C : CW) : Option ((Nat ⊕ Unit) × CW) :=
  dr (some x0) fun q59 => gdB (hK C q59 == 12) <| rd (hR C q59 7) fun v60 =>
  dr v60 fun q61 => gdB (hK C q61 == 11) <| rd (hR C q61 0) fun v62 =>
  dr (some x0) fun q63 => gdB (hK C q63 == 12) <| rd (hR C q63 7) fun v64 =>
  dr v64 fun q65 => gdB (hK C q65 == 11) <| rd (hI C q65 4) fun v66 =>
  dr v62 fun q69 => gdB (hK C q69 == 7) <| cB (f_X8_at q69 v66 C) fun v68 C67 =>
  cB (f_X1_sizeOf v68 C67) fun v71 C70 =>
  if w32 v71 = w32 2 then (
    dr (some x0) fun q72 => gdB (hK C70 q72 == 12) <| rd (hR C70 q72 7) fun v73 =>
    dr v73 fun q74 => gdB (hK C70 q74 == 11) <| rd (hI C70 q74 4) fun v75 =>
    dr v62 fun q78 => gdB (hK C70 q78 == 7) <| cB (f_X8_at q78 (v75 + 1) C70) fun v77 C76 =>
    f_X11_step_b45 (some x0) v62 v68 v77 C76)
  else (
    f_X11_step_b45 (some x0) v62 v68 0 C70)
def f_X11_told (x0 : Nat) (C : CW) : Option (Int × CW) :=
  dr (some x0) fun q1 => gdB (hK C q1 == 12) <| rd (hI C q1 9) fun v2 =>
  if w32 v2 = 0 then (
    dr (some x0) fun q3 => gdB (hK C q3 == 12) <| rd (hJ C q3 10) fun v4 =>
    some (v4, C))
  else (
    dr (some x0) fun q5 => gdB (hK C q5 == 12) <| rd (hI C q5 9) fun v6 =>
    cB (f_X11_isNumber v6 C) fun v8 C7 =>
    if w32 v8 = 0 then (
      dr (some x0) fun q9 => gdB (hK C7 q9 == 12) <| rd (hJ C7 q9 10) fun v10 =>
      if 0 ≤ w32 (jCmp v10 0) then (
        dr (some x0) fun q11 => gdB (hK C7 q11 == 12) <| rd (hR C7 q11 3) fun v12 =>
        dr (some x0) fun q13 => gdB (hK C7 q13 == 12) <| rd (hJ C7 q13 10) fun v14 =>
        dr v12 fun q17 => gdB (hK C7 q17 == 15) <| cB (f_J2_get q17 v14 C7) fun v16 C15 =>
        gdB (okN v16 (fun q => hK C15 q == 10)) <|
        dr v16 fun q18 => gdB (hK C15 q18 == 10) <| rd (hI C15 q18 0) fun v19 =>
        cB (f_X2_isObject v19 C15) fun v21 C20 =>
        if w32 v21 = 0 then (
          some (32, C20))
        else (
          dr (some x0) fun q22 => gdB (hK C20 q22 == 12) <| rd (hR C20 q22 3) fun v23 =>
          dr (some x0) fun q24 => gdB (hK C20 q24 == 12) <| rd (hJ C20 q24 10) fun v25 =>
          dr v23 fun q28 => gdB (hK C20 q28 == 15) <| cB (f_J2_get q28 v25 C20) fun v27 C26 =>
          gdB (okN v27 (fun q => hK C26 q == 10)) <|
          dr v27 fun q29 => gdB (hK C26 q29 == 10) <| rd (hI C26 q29 0) fun v30 =>
          some ((w32 (v30 - 32)), C26)))
      else (
        some ((-1), C7)))
    else (
      dr (some x0) fun q31 => gdB (hK C7 q31 == 12) <| rd (hJ C7 q31 10) fun v32 =>
      some (v32, C7)))
def f_X11_run_b56 (k3 : Option Nat → Option Nat → Int → Int → Int → Int → CW → Option ((Nat ⊕ Int) × CW)) (x0 : Option Nat) (x1 : Option Nat) (x2 : Int) (x4 : Int) (x6 : Int) (x7 : Int) (s0 : Option Nat) (s1 : Int) (s2 : Int) (C : CW) : Option ((Nat ⊕ Int) × CW) :=
  dr s0 fun q20 => gdB (hK C q20 == 65) <| ax s1 (hL C q20) fun j => rd (hsJ C q20 j s2) fun C19 =>
  k3 x0 x1 x2 x4 x6 (x7 + 1) C19
def f_X11_run_b55 (k3 : Option Nat → Option Nat → Int → Int → Int → Int → CW → Option ((Nat ⊕ Int) × CW)) (x0 : Option Nat) (x1 : Option Nat) (x2 : Int) (x4 : Int) (x6 : Int) (x7 : Int) (s0 : Option Nat) (s1 : Int) (C : CW) : Option ((Nat ⊕ Int) × CW) :=
  f_X11_run_b56 k3 x0 x1 x2 x4 x6 x7 s0 s1 0 C
def f_X11_run_b155 (k74 : Option Nat → Option Nat → Int → Int → Int → Int → Int → CW → Option ((Nat ⊕ Int) × CW)) (x0 : Option Nat) (x1 : Option Nat) (x2 : Int) (x4 : Int) (x6 : Int) (x8 : Int) (s0 : Int) (s1 : Int) (C : CW) : Option ((Nat ⊕ Int) × CW) :=
  rd (s0 + s1) fun v39 =>
  k74 x0 x1 x2 x4 x6 v39 (x8 + 1) C
def f_X11_run_b136 (k74 : Option Nat → Option Nat → Int → Int → Int → Int → Int → CW → Option ((Nat ⊕ Int) × CW)) (x0 : Option Nat) (x1 : Option Nat) (x2 : Int) (x4 : Int) (x6 : Int) (x7 : Int) (x8 : Int) (s0 : Option Nat) (s1 : Int) (s2 : Int) (C : CW) : Option ((Nat ⊕ Int) × CW) :=
  dr s0 fun q34 => gdB (hK C q34 == 65) <| ax s1 (hL C q34) fun j => rd (hsJ C q34 j s2) fun C33 =>
  dr x1 fun q35 => gdB (hK C33 q35 == 7) <| rd (hR C33 q35 0) fun v36 =>
  dr v36 fun q38 => gdB (hK C33 q38 == 64) <| ax x8 (hL C33 q38) fun j => rd (hI C33 q38 j) fun v37 =>
  if w32 v37 = w32 2 then (
    f_X11_run_b155 k74 x0 x1 x2 x4 x6 x8 x7 2 C33)
  else (
    f_X11_run_b155 k74 x0 x1 x2 x4 x6 x8 x7 1 C33)
def f_X11_run_b105 (k74 : Option Nat → Option Nat → Int → Int → Int → Int → Int → CW → Option ((Nat ⊕ Int) × CW)) (x0 : Option Nat) (x1 : Option Nat) (x2 : Int) (x4 : Int) (x6 : Int) (x7 : Int) (x8 : Int) (s0 : Int) (C : CW) : Option ((Nat ⊕ Int) × CW) :=
  dr x0 fun q25 => gdB (hK C q25 == 12) <| rd (hR C q25 7) fun v26 =>
  dr v26 fun q27 => gdB (hK C q27 == 11) <| rd (hR C q27 1) fun v28 =>
  dr x1 fun q29 => gdB (hK C q29 == 7) <| rd (hR C q29 0) fun v30 =>
  dr v30 fun q32 => gdB (hK C q32 == 64) <| ax x8 (hL C q32) fun j => rd (hI C q32 j) fun v31 =>
  if w32 v31 = w32 2 then (
    f_X11_run_b136 k74 x0 x1 x2 x4 x6 x7 x8 v28 x7 s0 C)
  else (
    f_X11_run_b136 k74 x0 x1 x2 x4 x6 x7 x8 v28 x7 (w32 s0) C)
def f_X11_run_s164 (k164 : Option Nat → Int → CW → Option ((Nat ⊕ Int) × CW)) (x0 : Option Nat) (x6 : Int) (C : CW) : Option ((Nat ⊕ Int) × CW) :=
  dr x0 fun q40 => gdB (hK C q40 == 12) <| rd (hR C q40 7) fun v41 =>
  (match v41 with
  | none => (
    dr x0 fun q45 => gdB (hK C q45 == 12) <| cB (f_X11_told q45 C) fun v44 C43 =>
    some (Sum.inr v44, C43))
  | some q42 => (
    dr x0 fun q46 => gdB (hK C q46 == 12) <| rd (hI C q46 8) fun v47 =>
    if w32 v47 = w32 x6 then (
      al C 8 fun q54 => rd (hNew C 14 0 8) fun C55 =>
      dr (some q54) fun q57 => cB (f_X12_init q57 2 (-1) C55) fun _ C56 =>
      dr (some q54) fun q58 => some (Sum.inl q58, C56))
    else (
      dr x0 fun q48 => gdB (hK C q48 == 12) <| rd (hI C q48 8) fun v49 =>
      dr x0 fun q51 => gdB (hK C q51 == 12) <| rd (hsI C q51 8 (v49 + 1)) fun C50 =>
      dr x0 fun q53 => gdB (hK C50 q53 == 12) <| xB (f_X11_step q53 C50) fun _ C52 =>
      k164 x0 x6 C52)))
def f_X11_run_b164 : Nat → Option Nat → Int → CW → Option ((Nat ⊕ Int) × CW)
  | 0 => fun _ _ _ => none
  | n + 1 => fun x0 x6 C => f_X11_run_s164 (f_X11_run_b164 n) x0 x6 C
def f_X11_run_s74 (k74 : Option Nat → Option Nat → Int → Int → Int → Int → Int → CW → Option ((Nat ⊕ Int) × CW)) (x0 : Option Nat) (x1 : Option Nat) (x2 : Int) (x4 : Int) (x6 : Int) (x7 : Int) (x8 : Int) (C : CW) : Option ((Nat ⊕ Int) × CW) :=
  dr x1 fun q21 => gdB (hK C q21 == 7) <| rd (hR C q21 0) fun v22 =>
  dr v22 fun q24 => gdB (Nat.ble 64 (hK C q24)) <| rd (hL C q24 : Int) fun v23 =>
  if w32 v23 ≤ w32 x8 then (
    f_X11_run_b164 FU x0 x6 C)
  else (
    if w32 x8 = 0 then (
      f_X11_run_b105 k74 x0 x1 x2 x4 x6 x7 x8 x2 C)
    else (
      if w32 x8 = w32 1 then (
        f_X11_run_b105 k74 x0 x1 x2 x4 x6 x7 x8 x4 C)
      else (
        f_X11_run_b105 k74 x0 x1 x2 x4 x6 x7 x8 0 C)))
def f_X11_run_b74 : Nat → Option Nat → Option Nat → Int → Int → Int → Int → Int → CW → Option ((Nat ⊕ Int) × CW)
  | 0 => fun _ _ _ _ _ _ _ _ => none
  | n + 1 => fun x0 x1 x2 x4 x6 x7 x8 C => f_X11_run_s74 (f_X11_run_b74 n) x0 x1 x2 x4 x6 x7 x8 C
def f_X11_run_s3 (k3 : Option Nat → Option Nat → Int → Int → Int → Int → CW → Option ((Nat ⊕ Int) × CW)) (x0 : Option Nat) (x1 : Option Nat) (x2 : Int) (x4 : Int) (x6 : Int) (x7 : Int) (C : CW) : Option ((Nat ⊕ Int) × CW) :=
  if w32 16 ≤ w32 x7 then (
    dr x0 fun q2 => gdB (hK C q2 == 12) <| xB (f_X11_enter q2 x1 C) fun _ C1 =>
    f_X11_run_b74 FU x0 x1 x2 x4 x6 0 0 C1)
  else (
    dr x0 fun q3 => gdB (hK C q3 == 12) <| rd (hR C q3 6) fun v4 =>
    dr x0 fun q5 => gdB (hK C q5 == 12) <| rd (hR C q5 1) fun v6 =>
    dr v6 fun q9 => gdB (hK C q9 == 15) <| cB (f_J2_size q9 C) fun v8 C7 =>
    if w32 v8 ≤ w32 x7 then (
      f_X11_run_b55 k3 x0 x1 x2 x4 x6 x7 v4 x7 C7)
    else (
      dr x0 fun q10 => gdB (hK C7 q10 == 12) <| rd (hR C7 q10 1) fun v11 =>
      dr v11 fun q14 => gdB (hK C7 q14 == 15) <| cB (f_J2_get q14 x7 C7) fun v13 C12 =>
      gdB (okN v13 (fun q => hK C12 q == 8)) <|
      dr v13 fun q15 => gdB (hK C12 q15 == 8) <| rd (hI C12 q15 2) fun v16 =>
      cB (f_X11_isNumber v16 C12) fun v18 C17 =>
      if w32 v18 = 0 then (
        f_X11_run_b56 k3 x0 x1 x2 x4 x6 x7 v4 x7 (-1) C17)
      else (
        f_X11_run_b55 k3 x0 x1 x2 x4 x6 x7 v4 x7 C17)))
def f_X11_run_b3 : Nat → Option Nat → Option Nat → Int → Int → Int → Int → CW → Option ((Nat ⊕ Int) × CW)
  | 0 => fun _ _ _ _ _ _ _ => none
  | n + 1 => fun x0 x1 x2 x4 x6 x7 C => f_X11_run_s3 (f_X11_run_b3 n) x0 x1 x2 x4 x6 x7 C
def f_X11_run (x0 : Nat) (x1 : Option Nat) (x2 : Int) (x4 : Int) (x6 : Int) (C : CW) : Option ((Nat ⊕ Int) × CW) :=
  f_X11_run_b3 FU (some x0) x1 x2 x4 x6 0 C
def f_X1_tries_b48 (x1 : Option Nat) (x8 : Int) (C : CW) : Option (Int × CW) :=
  gdB (isZ 1) <| rd (csI C 200 7 1) fun C1 =>
  dr x1 fun q2 => gdB (hK C1 q2 == 12) <| rd (hI C1 q2 8) fun v3 =>
  rd (csI C1 200 9 v3) fun C4 =>
  dr x1 fun q5 => gdB (hK C4 q5 == 12) <| rd (hR C4 q5 3) fun v6 =>
  dr v6 fun q9 => gdB (hK C4 q9 == 15) <| cB (f_J2_size q9 C4) fun v8 C7 =>
  rd (csI C7 200 11 v8) fun C10 =>
  some (x8, C10)
def f_X1_tries (x1 : Option Nat) (x2 : Option Nat) (x3 : Int) (x5 : Int) (x7 : Int) (C : CW) : Option (Int × CW) :=
  rd (csI C 200 8 0) fun C11 =>
  rd (csI C11 200 10 (-1)) fun C12 =>
  dr x1 fun q23 => gdB (hK C12 q23 == 12) <| xH (f_X11_run q23 x2 x3 x5 x7 C12) (fun q15 C16 =>
  if hK C16 q15 = 14 then (
    dr (some q15) fun q17 => gdB (hK C16 q17 == 14) <| rd (hI C16 q17 6) fun v18 =>
    rd (csI C16 200 8 v18) fun C19 =>
    dr (some q15) fun q20 => gdB (hK C19 q20 == 14) <| rd (hI C19 q20 7) fun v21 =>
    rd (csI C19 200 10 v21) fun C22 =>
    f_X1_tries_b48 x1 0 C22)
  else
  none
  ) fun v14 C13 =>
  f_X1_tries_b48 x1 v14 C13
def f_X1_run_b46 (x2 : Int) (x4 : Int) (x6 : Int) (x7 : Option Nat) (s0 : Int) (C : CW) : Option ((Nat ⊕ Int) × CW) :=
  xB (f_X1_allow s0 C) fun _ C1 =>
  cB (f_X1_isClosed x7 C1) fun v3 C2 =>
  xB (f_X1_need v3 C2) fun _ C4 =>
  al C4 11 fun q5 => rd (hNew C4 12 0 11) fun C6 =>
  dr (some q5) fun q8 => cB (f_X11_init q8 (some (hB C6 + 4)) (some (hB C6 + 5)) C6) fun _ C7 =>
  cB (f_X1_tries (some q5) x7 x2 x4 x6 C7) fun v10 C9 =>
  rd (cI C9 200 8) fun v11 =>
  if w32 v11 = 0 then (
    some (Sum.inr v10, C9))
  else (
    al C9 6 fun q12 => rd (hNew C9 18 0 6) fun C13 =>
    dr (some q12) fun q15 => cB (f_J15_init q15 C13) fun _ C14 =>
    dr (some q12) fun q16 => some (Sum.inl q16, C14))
def f_X1_run_b45 (x2 : Int) (x4 : Int) (x6 : Int) (x7 : Option Nat) (C : CW) : Option ((Nat ⊕ Int) × CW) :=
  f_X1_run_b46 x2 x4 x6 x7 0 C
def f_X1_run (x1 : Int) (x2 : Int) (x4 : Int) (x6 : Int) (C : CW) : Option ((Nat ⊕ Int) × CW) :=
  cB (f_X1_methodAt x1 C) fun v18 C17 =>
  (match v18 with
  | none => (
    f_X1_run_b45 x2 x4 x6 v18 C17)
  | some q19 => (
    dr v18 fun q22 => gdB (hK C17 q22 == 7) <| cB (f_X8_isSound q22 C17) fun v21 C20 =>
    if w32 v21 = 0 then (
      f_X1_run_b45 x2 x4 x6 v18 C20)
    else (
      cB (f_X1_takesNumbers v18 C20) fun v24 C23 =>
      if w32 v24 = 0 then (
        f_X1_run_b45 x2 x4 x6 v18 C23)
      else (
        if w32 x6 ≤ 0 then (
          f_X1_run_b45 x2 x4 x6 v18 C23)
        else (
          if w32 20000 < w32 x6 then (
            f_X1_run_b45 x2 x4 x6 v18 C23)
          else (
            f_X1_run_b46 x2 x4 x6 v18 1 C23))))))
