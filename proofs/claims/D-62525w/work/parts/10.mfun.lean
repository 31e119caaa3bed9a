/-! the model's methods, decompiled (written by wip/gen/genm.py) -/
def f_X6_thrown (M : MW) : Option (Int × MW) :=
  rd (mI M 0 0) fun v1 =>
  some (v1, M)
def f_X6_isClass (x1 : Int) (M : MW) : Option (Int × MW) :=
  if w32 x1 < 0 then (
    some (0, M))
  else (
    rd (mI M 0 1) fun v1 =>
    if w32 v1 ≤ w32 x1 then (
      some (0, M))
    else (
      some (1, M)))
def f_X6_fails (x1 : Int) (M : MW) : Option (Int × MW) :=
  rd (msI M 0 0 x1) fun M1 =>
  some (0, M1)
def f_X6_cls_b33 (M : MW) : Option (Int × MW) :=
  mB (f_X6_fails 1 M) fun v3 M2 =>
  some (v3, M2)
def f_X6_cls_b76 (x2 : Int) (s1 : Int) (s2 : Int) (M : MW) : Option (Int × MW) :=
  ax s1 16 fun j => rd (msI M 1 j s2) fun M9 =>
  rd (mI M9 0 1) fun v10 =>
  ax v10 16 fun j => rd (msI M9 2 j (iAnd x2 1)) fun M11 =>
  rd (mI M11 0 1) fun v12 =>
  rd (msI M11 0 1 (v12 + 1)) fun M13 =>
  rd (mI M13 0 1) fun v14 =>
  some ((v14 - 1), M13)
def f_X6_cls_b39 (x1 : Int) (x2 : Int) (M : MW) : Option (Int × MW) :=
  rd (mI M 0 1) fun v4 =>
  if w32 v4 = w32 16 then (
    mB (f_X6_fails 2 M) fun v8 M7 =>
    some (v8, M7))
  else (
    rd (msI M 0 0 0) fun M5 =>
    rd (mI M5 0 1) fun v6 =>
    if w32 x2 = 0 then (
      f_X6_cls_b76 x2 v6 x1 M5)
    else (
      f_X6_cls_b76 x2 v6 0 M5))
def f_X6_cls_b29 (x1 : Int) (x2 : Int) (s1 : Int) (M : MW) : Option (Int × MW) :=
  ax s1 16 fun j => rd (mI M 2 j) fun v1 =>
  if w32 v1 = 0 then (
    f_X6_cls_b39 x1 x2 M)
  else (
    f_X6_cls_b33 M)
def f_X6_cls (x1 : Int) (x2 : Int) (M : MW) : Option (Int × MW) :=
  if w32 x2 = 0 then (
    mB (f_X6_isClass x1 M) fun v16 M15 =>
    if w32 v16 = 0 then (
      f_X6_cls_b33 M15)
    else (
      mB (f_X6_isClass x1 M15) fun v18 M17 =>
      if w32 v18 = 0 then (
        f_X6_cls_b29 x1 x2 0 M17)
      else (
        f_X6_cls_b29 x1 x2 x1 M17)))
  else (
    f_X6_cls_b39 x1 x2 M)
def f_X6_isType_b27 (x1 : Int) (M : MW) : Option (Int × MW) :=
  if w32 x1 < w32 64 then (
    some (0, M))
  else (
    rd (mI M 0 1) fun v2 =>
    if w32 (64 + v2) ≤ w32 x1 then (
      some (0, M))
    else (
      some (1, M)))
def f_X6_isType_b10 (x1 : Int) (M : MW) : Option (Int × MW) :=
  if w32 x1 < w32 32 then (
    f_X6_isType_b27 x1 M)
  else (
    rd (mI M 0 1) fun v1 =>
    if w32 x1 < w32 (32 + v1) then (
      some (1, M))
    else (
      f_X6_isType_b27 x1 M))
def f_X6_isType (x1 : Int) (M : MW) : Option (Int × MW) :=
  if w32 x1 < w32 1 then (
    f_X6_isType_b10 x1 M)
  else (
    if w32 x1 ≤ w32 4 then (
      some (1, M))
    else (
      f_X6_isType_b10 x1 M))
def f_X6_field_b33 (M : MW) : Option (Int × MW) :=
  mB (f_X6_fails 1 M) fun v2 M1 =>
  some (v2, M1)
def f_X6_field_b39 (x1 : Int) (x2 : Int) (x3 : Int) (M : MW) : Option (Int × MW) :=
  rd (mI M 0 4) fun v3 =>
  if w32 v3 = w32 16 then (
    mB (f_X6_fails 2 M) fun v15 M14 =>
    some (v15, M14))
  else (
    rd (msI M 0 0 0) fun M4 =>
    rd (mI M4 0 4) fun v5 =>
    ax v5 16 fun j => rd (msI M4 3 j x1) fun M6 =>
    rd (mI M6 0 4) fun v7 =>
    ax v7 16 fun j => rd (msI M6 4 j x2) fun M8 =>
    rd (mI M8 0 4) fun v9 =>
    ax v9 16 fun j => rd (msI M8 5 j (iAnd x3 1)) fun M10 =>
    rd (mI M10 0 4) fun v11 =>
    rd (msI M10 0 4 (v11 + 1)) fun M12 =>
    rd (mI M12 0 4) fun v13 =>
    some ((v13 - 1), M12))
def f_X6_field (x1 : Int) (x2 : Int) (x3 : Int) (M : MW) : Option (Int × MW) :=
  mB (f_X6_isClass x1 M) fun v17 M16 =>
  if w32 v17 = 0 then (
    f_X6_field_b33 M16)
  else (
    mB (f_X6_isType x2 M16) fun v19 M18 =>
    if w32 v19 = 0 then (
      f_X6_field_b33 M18)
    else (
      if w32 x3 = 0 then (
        if w32 x1 = 0 then (
          f_X6_field_b33 M18)
        else (
          ax x1 16 fun j => rd (mI M18 2 j) fun v20 =>
          if w32 v20 = 0 then (
            f_X6_field_b39 x1 x2 x3 M18)
          else (
            f_X6_field_b33 M18)))
      else (
        f_X6_field_b39 x1 x2 x3 M18)))
def f_X6_method_b66 (k21 : Int → Int → Int → Int → MW → Option (Int × MW)) (x1 : Int) (x2 : Int) (x3 : Int) (s0 : Int) (M : MW) : Option (Int × MW) :=
  k21 x1 x2 (x3 + 1) s0 M
def f_X6_method_b65 (k21 : Int → Int → Int → Int → MW → Option (Int × MW)) (x1 : Int) (x2 : Int) (x3 : Int) (M : MW) : Option (Int × MW) :=
  f_X6_method_b66 k21 x1 x2 x3 0 M
def f_X6_method_s108 (k108 : Int → Int → Int → Int → MW → Option (Int × MW)) (x1 : Int) (x2 : Int) (x3 : Int) (x5 : Int) (M : MW) : Option (Int × MW) :=
  if w32 x3 ≤ w32 x5 then (
    rd (mI M 0 8) fun v9 =>
    ax v9 8 fun j => rd (msI M 7 j x3) fun M10 =>
    rd (mI M10 0 8) fun v11 =>
    ax v11 8 fun j => rd (msI M10 8 j x2) fun M12 =>
    rd (mI M12 0 8) fun v13 =>
    rd (msI M12 0 8 (v13 + 1)) fun M14 =>
    rd (mI M14 0 8) fun v15 =>
    some ((v15 - 1), M14))
  else (
    rd (mI M 0 8) fun v16 =>
    ax ((4 * v16) + x5) 32 fun j => rd (msI M 6 j (iAnd (iShr x1 (8 * x5)) 255)) fun M17 =>
    k108 x1 x2 x3 (x5 + 1) M17)
def f_X6_method_b108 : Nat → Int → Int → Int → Int → MW → Option (Int × MW)
  | 0 => fun _ _ _ _ _ => none
  | n + 1 => fun x1 x2 x3 x5 M => f_X6_method_s108 (f_X6_method_b108 n) x1 x2 x3 x5 M
def f_X6_method_b74 (x1 : Int) (x2 : Int) (x3 : Int) (x4 : Int) (M : MW) : Option (Int × MW) :=
  if w32 x4 = 0 then (
    mB (f_X6_fails 1 M) fun v8 M7 =>
    some (v8, M7))
  else (
    rd (mI M 0 8) fun v3 =>
    if w32 v3 = w32 8 then (
      mB (f_X6_fails 2 M) fun v6 M5 =>
      some (v6, M5))
    else (
      rd (msI M 0 0 0) fun M4 =>
      f_X6_method_b108 FU x1 x2 x3 0 M4))
def f_X6_method_s21 (k21 : Int → Int → Int → Int → MW → Option (Int × MW)) (x1 : Int) (x2 : Int) (x3 : Int) (x4 : Int) (M : MW) : Option (Int × MW) :=
  if w32 4 ≤ w32 x3 then (
    f_X6_method_b74 x1 x2 x3 x4 M)
  else (
    if w32 (iAnd (iShr x1 (8 * x3)) 255) = 0 then (
      f_X6_method_b74 x1 x2 x3 x4 M)
    else (
      if w32 x4 = 0 then (
        f_X6_method_b65 k21 x1 x2 x3 M)
      else (
        mB (f_X6_isType (iAnd (iShr x1 (8 * x3)) 255) M) fun v2 M1 =>
        if w32 v2 = 0 then (
          f_X6_method_b65 k21 x1 x2 x3 M1)
        else (
          f_X6_method_b66 k21 x1 x2 x3 1 M1))))
def f_X6_method_b21 : Nat → Int → Int → Int → Int → MW → Option (Int × MW)
  | 0 => fun _ _ _ _ _ => none
  | n + 1 => fun x1 x2 x3 x4 M => f_X6_method_s21 (f_X6_method_b21 n) x1 x2 x3 x4 M
def f_X6_method_b19 (x1 : Int) (x2 : Int) (x3 : Int) (s0 : Int) (M : MW) : Option (Int × MW) :=
  f_X6_method_b21 FU x1 x2 x3 s0 M
def f_X6_method_b14 (x1 : Int) (x2 : Int) (x3 : Int) (M : MW) : Option (Int × MW) :=
  f_X6_method_b19 x1 x2 x3 1 M
def f_X6_method (x1 : Int) (x2 : Int) (M : MW) : Option (Int × MW) :=
  if w32 x2 = 0 then (
    f_X6_method_b14 x1 x2 0 M)
  else (
    mB (f_X6_isType x2 M) fun v19 M18 =>
    if w32 v19 = 0 then (
      f_X6_method_b19 x1 x2 0 0 M18)
    else (
      f_X6_method_b14 x1 x2 0 M18))
def f_X6_feed_s22 (k22 : Int → Int → MW → Option (Int × MW)) (x1 : Int) (x2 : Int) (M : MW) : Option (Int × MW) :=
  if w32 x2 < 0 then (
    some (1, M))
  else (
    rd (mI M 0 24) fun v1 =>
    ax v1 400 fun j => rd (msI M 21 j (iAnd (iShr x1 x2) 255)) fun M2 =>
    rd (mI M2 0 24) fun v3 =>
    rd (msI M2 0 24 (v3 + 1)) fun M4 =>
    k22 x1 (x2 + (-8)) M4)
def f_X6_feed_b22 : Nat → Int → Int → MW → Option (Int × MW)
  | 0 => fun _ _ _ => none
  | n + 1 => fun x1 x2 M => f_X6_feed_s22 (f_X6_feed_b22 n) x1 x2 M
def f_X6_feed (x1 : Int) (M : MW) : Option (Int × MW) :=
  rd (msI M 0 0 0) fun M5 =>
  rd (mI M5 0 24) fun v6 =>
  if w32 (v6 + 4) ≤ w32 400 then (
    f_X6_feed_b22 FU x1 24 M5)
  else (
    some (0, M5))
def f_X6_isMethod (x1 : Int) (M : MW) : Option (Int × MW) :=
  if w32 x1 < 0 then (
    some (0, M))
  else (
    rd (mI M 0 8) fun v1 =>
    if w32 v1 ≤ w32 x1 then (
      some (0, M))
    else (
      some (1, M)))
def f_X6_argumentLocals_b34 (k4 : Int → Int → Int → MW → Option (Int × MW)) (x1 : Int) (x3 : Int) (s0 : Int) (s1 : Int) (M : MW) : Option (Int × MW) :=
  rd (s0 + s1) fun v3 =>
  k4 x1 v3 (x3 + 1) M
def f_X6_argumentLocals_s4 (k4 : Int → Int → Int → MW → Option (Int × MW)) (x1 : Int) (x2 : Int) (x3 : Int) (M : MW) : Option (Int × MW) :=
  ax x1 8 fun j => rd (mI M 7 j) fun v1 =>
  if w32 v1 ≤ w32 x3 then (
    some (x2, M))
  else (
    ax ((4 * x1) + x3) 32 fun j => rd (mI M 6 j) fun v2 =>
    if w32 v2 = w32 2 then (
      f_X6_argumentLocals_b34 k4 x1 x3 x2 2 M)
    else (
      f_X6_argumentLocals_b34 k4 x1 x3 x2 1 M))
def f_X6_argumentLocals_b4 : Nat → Int → Int → Int → MW → Option (Int × MW)
  | 0 => fun _ _ _ _ => none
  | n + 1 => fun x1 x2 x3 M => f_X6_argumentLocals_s4 (f_X6_argumentLocals_b4 n) x1 x2 x3 M
def f_X6_argumentLocals (x1 : Int) (M : MW) : Option (Int × MW) :=
  f_X6_argumentLocals_b4 FU x1 0 0 M
def f_X6_code_s123 (k123 : Int → Int → Int → Int → Int → MW → Option (Unit × MW)) (x1 : Int) (x2 : Int) (x3 : Int) (x4 : Int) (x7 : Int) (M : MW) : Option (Unit × MW) :=
  if w32 x2 ≤ w32 x7 then (
    ax x1 8 fun j => rd (msI M 11 j x3) fun M7 =>
    ax x1 8 fun j => rd (msI M7 12 j x4) fun M8 =>
    some ((), M8))
  else (
    ax x7 400 fun j => rd (mI M 21 j) fun v9 =>
    ax ((120 * x1) + x7) 960 fun j => rd (msI M 10 j v9) fun M10 =>
    k123 x1 x2 x3 x4 (x7 + 1) M10)
def f_X6_code_b123 : Nat → Int → Int → Int → Int → Int → MW → Option (Unit × MW)
  | 0 => fun _ _ _ _ _ _ => none
  | n + 1 => fun x1 x2 x3 x4 x7 M => f_X6_code_s123 (f_X6_code_b123 n) x1 x2 x3 x4 x7 M
def f_X6_code_b102 (x1 : Int) (x2 : Int) (x3 : Int) (x4 : Int) (s1 : Int) (M : MW) : Option (Unit × MW) :=
  rd (msI M 0 0 s1) fun M4 =>
  rd (mI M4 0 0) fun v5 =>
  if w32 v5 ≤ 0 then (
    ax x1 8 fun j => rd (msI M4 9 j x2) fun M6 =>
    f_X6_code_b123 FU x1 x2 x3 x4 0 M6)
  else (
    some ((), M4))
def f_X6_code_b84 (x1 : Int) (x2 : Int) (x3 : Int) (x4 : Int) (M : MW) : Option (Unit × MW) :=
  f_X6_code_b102 x1 x2 x3 x4 1 M
def f_X6_code_b78 (x1 : Int) (x2 : Int) (x3 : Int) (x4 : Int) (s1 : Int) (s3 : Int) (M : MW) : Option (Unit × MW) :=
  mB (f_X6_argumentLocals s3 M) fun v2 M1 =>
  if w32 v2 ≤ w32 s1 then (
    ax x1 8 fun j => rd (mI M1 9 j) fun v3 =>
    if w32 v3 ≤ 0 then (
      f_X6_code_b102 x1 x2 x3 x4 0 M1)
    else (
      f_X6_code_b102 x1 x2 x3 x4 2 M1))
  else (
    f_X6_code_b84 x1 x2 x3 x4 M1)
def f_X6_code_b57 (x1 : Int) (x2 : Int) (x3 : Int) (x4 : Int) (s0 : Int) (M : MW) : Option (Unit × MW) :=
  if w32 s0 = 0 then (
    f_X6_code_b84 x1 x2 x3 x4 M)
  else (
    if w32 s0 = 0 then (
      f_X6_code_b78 x1 x2 x3 x4 x4 0 M)
    else (
      f_X6_code_b78 x1 x2 x3 x4 x4 x1 M))
def f_X6_code_b56 (x1 : Int) (x2 : Int) (x3 : Int) (x4 : Int) (M : MW) : Option (Unit × MW) :=
  f_X6_code_b57 x1 x2 x3 x4 0 M
def f_X6_code (x1 : Int) (x2 : Int) (x3 : Int) (x4 : Int) (M : MW) : Option (Unit × MW) :=
  rd (mI M 0 24) fun v11 =>
  rd (msI M 0 24 0) fun M12 =>
  mB (f_X6_isMethod x1 M12) fun v14 M13 =>
  if w32 v14 = 0 then (
    f_X6_code_b56 x1 x2 x3 x4 M13)
  else (
    if w32 x2 ≤ 0 then (
      f_X6_code_b56 x1 x2 x3 x4 M13)
    else (
      if w32 120 < w32 x2 then (
        f_X6_code_b56 x1 x2 x3 x4 M13)
      else (
        if w32 v11 < w32 x2 then (
          f_X6_code_b56 x1 x2 x3 x4 M13)
        else (
          if w32 x3 < 0 then (
            f_X6_code_b56 x1 x2 x3 x4 M13)
          else (
            if w32 13 ≤ w32 x3 then (
              f_X6_code_b56 x1 x2 x3 x4 M13)
            else (
              if w32 13 ≤ w32 x4 then (
                f_X6_code_b56 x1 x2 x3 x4 M13)
              else (
                f_X6_code_b57 x1 x2 x3 x4 1 M13)))))))
def f_X6_subs_b21 (x2 : Int) (x3 : Int) (M : MW) : Option (Int × MW) :=
  if w32 x3 = w32 x2 then (
    some (1, M))
  else (
    some (0, M))
def f_X6_subs_s2 (k2 : Int → Int → MW → Option (Int × MW)) (x2 : Int) (x3 : Int) (M : MW) : Option (Int × MW) :=
  if w32 x3 = w32 x2 then (
    f_X6_subs_b21 x2 x3 M)
  else (
    if w32 x3 = 0 then (
      f_X6_subs_b21 x2 x3 M)
    else (
      ax x3 16 fun j => rd (mI M 1 j) fun v1 =>
      k2 x2 v1 M))
def f_X6_subs_b2 : Nat → Int → Int → MW → Option (Int × MW)
  | 0 => fun _ _ _ => none
  | n + 1 => fun x2 x3 M => f_X6_subs_s2 (f_X6_subs_b2 n) x2 x3 M
def f_X6_subs (x1 : Int) (x2 : Int) (M : MW) : Option (Int × MW) :=
  f_X6_subs_b2 FU x2 x1 M
def f_X6_handler_b98 (M : MW) : Option (Int × MW) :=
  mB (f_X6_fails 1 M) fun v7 M6 =>
  some (v7, M6)
def f_X6_handler_b124 (M : MW) : Option (Int × MW) :=
  mB (f_X6_fails 2 M) fun v21 M20 =>
  some (v21, M20)
def f_X6_handler_b104 (x1 : Int) (x2 : Int) (x3 : Int) (x4 : Int) (x5 : Int) (M : MW) : Option (Int × MW) :=
  ax x1 8 fun j => rd (mI M 18 j) fun v8 =>
  if w32 v8 = 0 then (
    ax x1 8 fun j => rd (mI M 13 j) fun v9 =>
    if w32 v9 = w32 6 then (
      f_X6_handler_b124 M)
    else (
      rd (msI M 0 0 0) fun M10 =>
      ax x1 8 fun j => rd (mI M10 13 j) fun v11 =>
      rd ((16 * x1) + v11) fun v12 =>
      ax v12 128 fun j => rd (msI M10 14 j x2) fun M13 =>
      ax v12 128 fun j => rd (msI M13 15 j x3) fun M14 =>
      ax v12 128 fun j => rd (msI M14 16 j x4) fun M15 =>
      ax v12 128 fun j => rd (msI M15 17 j x5) fun M16 =>
      ax x1 8 fun j => rd (mI M16 13 j) fun v17 =>
      ax x1 8 fun j => rd (msI M16 13 j (v17 + 1)) fun M18 =>
      ax x1 8 fun j => rd (mI M18 13 j) fun v19 =>
      some ((v19 - 1), M18)))
  else (
    f_X6_handler_b124 M)
def f_X6_handler_b66 (x1 : Int) (x2 : Int) (x3 : Int) (x4 : Int) (x5 : Int) (s0 : Int) (M : MW) : Option (Int × MW) :=
  if w32 s0 = 0 then (
    f_X6_handler_b98 M)
  else (
    if w32 x5 = w32 (-1) then (
      f_X6_handler_b104 x1 x2 x3 x4 x5 M)
    else (
      mB (f_X6_isClass x5 M) fun v3 M2 =>
      if w32 v3 = 0 then (
        f_X6_handler_b98 M2)
      else (
        mB (f_X6_subs x5 1 M2) fun v5 M4 =>
        if w32 v5 = 0 then (
          f_X6_handler_b98 M4)
        else (
          f_X6_handler_b104 x1 x2 x3 x4 x5 M4))))
def f_X6_handler_b65 (x1 : Int) (x2 : Int) (x3 : Int) (x4 : Int) (x5 : Int) (M : MW) : Option (Int × MW) :=
  f_X6_handler_b66 x1 x2 x3 x4 x5 0 M
def f_X6_handler_b25 (x1 : Int) (x2 : Int) (x3 : Int) (x4 : Int) (x5 : Int) (s1 : Int) (M : MW) : Option (Int × MW) :=
  ax s1 8 fun j => rd (mI M 9 j) fun v1 =>
  if w32 v1 ≤ 0 then (
    f_X6_handler_b65 x1 x2 x3 x4 x5 M)
  else (
    if w32 x2 < 0 then (
      f_X6_handler_b65 x1 x2 x3 x4 x5 M)
    else (
      if w32 120 < w32 x2 then (
        f_X6_handler_b65 x1 x2 x3 x4 x5 M)
      else (
        if w32 x3 < 0 then (
          f_X6_handler_b65 x1 x2 x3 x4 x5 M)
        else (
          if w32 120 < w32 x3 then (
            f_X6_handler_b65 x1 x2 x3 x4 x5 M)
          else (
            if w32 x4 < 0 then (
              f_X6_handler_b65 x1 x2 x3 x4 x5 M)
            else (
              if w32 120 < w32 x4 then (
                f_X6_handler_b65 x1 x2 x3 x4 x5 M)
              else (
                f_X6_handler_b66 x1 x2 x3 x4 x5 1 M)))))))
def f_X6_handler (x1 : Int) (x2 : Int) (x3 : Int) (x4 : Int) (x5 : Int) (M : MW) : Option (Int × MW) :=
  mB (f_X6_isMethod x1 M) fun v23 M22 =>
  if w32 v23 = 0 then (
    f_X6_handler_b65 x1 x2 x3 x4 x5 M22)
  else (
    mB (f_X6_isMethod x1 M22) fun v25 M24 =>
    if w32 v25 = 0 then (
      f_X6_handler_b25 x1 x2 x3 x4 x5 0 M24)
    else (
      f_X6_handler_b25 x1 x2 x3 x4 x5 x1 M24))
def f_X6_at (x1 : Int) (x2 : Int) (M : MW) : Option (Int × MW) :=
  ax ((120 * x1) + x2) 960 fun j => rd (mI M 10 j) fun v1 =>
  some (v1, M)
def f_X6_in (x0 : Int) (x1 : Int) (x2 : Int) (M : MW) : Option (Int × MW) :=
  if w32 x0 < w32 x1 then (
    some (0, M))
  else (
    if w32 x2 < w32 x0 then (
      some (0, M))
    else (
      some (1, M)))
def f_X6_length_b322 (s0 : Int) (M : MW) : Option (Int × MW) :=
  if w32 s0 = 0 then (
    some (0, M))
  else (
    some (1, M))
def f_X6_length_b317 (M : MW) : Option (Int × MW) :=
  f_X6_length_b322 1 M
def f_X6_length_b208 (x0 : Int) (s0 : Int) (M : MW) : Option (Int × MW) :=
  if w32 s0 = 0 then (
    mB (f_X6_in x0 96 97 M) fun v2 M1 =>
    if w32 v2 = 0 then (
      mB (f_X6_in x0 100 101 M1) fun v4 M3 =>
      if w32 v4 = 0 then (
        mB (f_X6_in x0 104 105 M3) fun v6 M5 =>
        if w32 v6 = 0 then (
          mB (f_X6_in x0 108 109 M5) fun v8 M7 =>
          if w32 v8 = 0 then (
            if w32 x0 = w32 133 then (
              f_X6_length_b317 M7)
            else (
              if w32 x0 = w32 136 then (
                f_X6_length_b317 M7)
              else (
                if w32 x0 = w32 148 then (
                  f_X6_length_b317 M7)
                else (
                  mB (f_X6_in x0 172 173 M7) fun v10 M9 =>
                  if w32 v10 = 0 then (
                    mB (f_X6_in x0 176 177 M9) fun v12 M11 =>
                    if w32 v12 = 0 then (
                      mB (f_X6_in x0 190 191 M11) fun v14 M13 =>
                      if w32 v14 = 0 then (
                        f_X6_length_b322 0 M13)
                      else (
                        f_X6_length_b317 M13))
                    else (
                      f_X6_length_b317 M11))
                  else (
                    f_X6_length_b317 M9)))))
          else (
            f_X6_length_b317 M7))
        else (
          f_X6_length_b317 M5))
      else (
        f_X6_length_b317 M3))
    else (
      f_X6_length_b317 M1))
  else (
    f_X6_length_b317 M)
def f_X6_length_b203 (x0 : Int) (M : MW) : Option (Int × MW) :=
  f_X6_length_b208 x0 1 M
def f_X6_length (x0 : Int) (M : MW) : Option (Int × MW) :=
  if w32 x0 = w32 16 then (
    some (2, M))
  else (
    mB (f_X6_in x0 21 22 M) fun v16 M15 =>
    if w32 v16 = 0 then (
      if w32 x0 = w32 25 then (
        some (2, M15))
      else (
        mB (f_X6_in x0 54 55 M15) fun v18 M17 =>
        if w32 v18 = 0 then (
          if w32 x0 = w32 58 then (
            some (2, M17))
          else (
            mB (f_X6_in x0 178 181 M17) fun v20 M19 =>
            if w32 v20 = 0 then (
              if w32 x0 = w32 183 then (
                some (2, M19))
              else (
                if w32 x0 = w32 184 then (
                  some (2, M19))
                else (
                  mB (f_X6_in x0 187 189 M19) fun v22 M21 =>
                  if w32 v22 = 0 then (
                    mB (f_X6_in x0 192 193 M21) fun v24 M23 =>
                    if w32 v24 = 0 then (
                      if w32 x0 = w32 17 then (
                        some (3, M23))
                      else (
                        if w32 x0 = w32 132 then (
                          some (3, M23))
                        else (
                          mB (f_X6_in x0 153 167 M23) fun v26 M25 =>
                          if w32 v26 = 0 then (
                            mB (f_X6_in x0 198 199 M25) fun v28 M27 =>
                            if w32 v28 = 0 then (
                              mB (f_X6_in x0 0 10 M27) fun v30 M29 =>
                              if w32 v30 = 0 then (
                                mB (f_X6_in x0 46 47 M29) fun v32 M31 =>
                                if w32 v32 = 0 then (
                                  if w32 x0 = w32 50 then (
                                    f_X6_length_b203 x0 M31)
                                  else (
                                    mB (f_X6_in x0 79 80 M31) fun v34 M33 =>
                                    if w32 v34 = 0 then (
                                      if w32 x0 = w32 83 then (
                                        f_X6_length_b203 x0 M33)
                                      else (
                                        mB (f_X6_in x0 87 90 M33) fun v36 M35 =>
                                        if w32 v36 = 0 then (
                                          if w32 x0 = w32 92 then (
                                            f_X6_length_b203 x0 M35)
                                          else (
                                            if w32 x0 = w32 95 then (
                                              f_X6_length_b203 x0 M35)
                                            else (
                                              f_X6_length_b208 x0 0 M35)))
                                        else (
                                          f_X6_length_b203 x0 M35)))
                                    else (
                                      f_X6_length_b203 x0 M33)))
                                else (
                                  f_X6_length_b203 x0 M31))
                              else (
                                f_X6_length_b203 x0 M29))
                            else (
                              some (3, M27)))
                          else (
                            some (3, M25)))))
                    else (
                      some (2, M23)))
                  else (
                    some (2, M21)))))
            else (
              some (2, M19))))
        else (
          some (2, M17))))
    else (
      some (2, M15)))
def f_X6_wrong_b305 (x3 : Int) (x5 : Int) (M : MW) : Option (Int × MW) :=
  if w32 x3 = w32 188 then (
    if w32 x5 = w32 10 then (
      some (0, M))
    else (
      if w32 x5 = w32 11 then (
        some (0, M))
      else (
        some (3, M))))
  else (
    some (0, M))
def f_X6_wrong_b299 (x3 : Int) (x5 : Int) (s1 : Int) (M : MW) : Option (Int × MW) :=
  ax s1 8 fun j => rd (mI M 9 j) fun v20 =>
  if w32 v20 = 0 then (
    some (3, M))
  else (
    f_X6_wrong_b305 x3 x5 M)
def f_X6_wrong_b264 (x3 : Int) (x5 : Int) (M : MW) : Option (Int × MW) :=
  if w32 x3 = w32 184 then (
    rd (mI M 0 8) fun v18 =>
    if w32 v18 ≤ w32 x5 then (
      some (3, M))
    else (
      rd (mI M 0 8) fun v19 =>
      if w32 v19 ≤ w32 x5 then (
        f_X6_wrong_b299 x3 x5 0 M)
      else (
        f_X6_wrong_b299 x3 x5 x5 M)))
  else (
    f_X6_wrong_b305 x3 x5 M)
def f_X6_wrong_b253 (x3 : Int) (x5 : Int) (M : MW) : Option (Int × MW) :=
  mB (f_X6_isClass x5 M) fun v17 M16 =>
  if w32 v17 = 0 then (
    some (3, M16))
  else (
    f_X6_wrong_b264 x3 x5 M16)
def f_X6_wrong_b232 (x3 : Int) (x5 : Int) (M : MW) : Option (Int × MW) :=
  if w32 x3 = w32 189 then (
    f_X6_wrong_b253 x3 x5 M)
  else (
    if w32 x3 = w32 192 then (
      f_X6_wrong_b253 x3 x5 M)
    else (
      if w32 x3 = w32 193 then (
        f_X6_wrong_b253 x3 x5 M)
      else (
        f_X6_wrong_b264 x3 x5 M)))
def f_X6_wrong_b226 (x3 : Int) (x5 : Int) (s1 : Int) (M : MW) : Option (Int × MW) :=
  ax s1 16 fun j => rd (mI M 2 j) fun v15 =>
  if w32 v15 = 0 then (
    f_X6_wrong_b232 x3 x5 M)
  else (
    some (3, M))
def f_X6_wrong_b198 (x3 : Int) (x5 : Int) (M : MW) : Option (Int × MW) :=
  mB (f_X6_isClass x5 M) fun v12 M11 =>
  if w32 v12 = 0 then (
    some (3, M11))
  else (
    mB (f_X6_isClass x5 M11) fun v14 M13 =>
    if w32 v14 = 0 then (
      f_X6_wrong_b226 x3 x5 0 M13)
    else (
      f_X6_wrong_b226 x3 x5 x5 M13))
def f_X6_wrong_b184 (x3 : Int) (x5 : Int) (M : MW) : Option (Int × MW) :=
  if w32 x3 = w32 183 then (
    f_X6_wrong_b198 x3 x5 M)
  else (
    if w32 x3 = w32 187 then (
      f_X6_wrong_b198 x3 x5 M)
    else (
      f_X6_wrong_b232 x3 x5 M))
def f_X6_wrong_b179 (x3 : Int) (x5 : Int) (s0 : Int) (s1 : Int) (M : MW) : Option (Int × MW) :=
  if w32 s0 = w32 s1 then (
    f_X6_wrong_b184 x3 x5 M)
  else (
    some (3, M))
def f_X6_wrong_b166 (x3 : Int) (x5 : Int) (s1 : Int) (M : MW) : Option (Int × MW) :=
  ax s1 16 fun j => rd (mI M 5 j) fun v10 =>
  if w32 180 ≤ w32 x3 then (
    f_X6_wrong_b179 x3 x5 v10 0 M)
  else (
    f_X6_wrong_b179 x3 x5 v10 1 M)
def f_X6_wrong_b125 (x3 : Int) (x5 : Int) (M : MW) : Option (Int × MW) :=
  mB (f_X6_in x3 178 181 M) fun v7 M6 =>
  if w32 v7 = 0 then (
    f_X6_wrong_b184 x3 x5 M6)
  else (
    rd (mI M6 0 4) fun v8 =>
    if w32 v8 ≤ w32 x5 then (
      some (3, M6))
    else (
      rd (mI M6 0 4) fun v9 =>
      if w32 v9 ≤ w32 x5 then (
        f_X6_wrong_b166 x3 x5 0 M6)
      else (
        f_X6_wrong_b166 x3 x5 x5 M6)))
def f_X6_wrong_b113 (x1 : Int) (x3 : Int) (x5 : Int) (s0 : Int) (s1 : Int) (M : MW) : Option (Int × MW) :=
  ax x1 8 fun j => rd (mI M 12 j) fun v5 =>
  if w32 (s0 + s1) < w32 v5 then (
    f_X6_wrong_b125 x3 x5 M)
  else (
    some (2, M))
def f_X6_wrong_b101 (x1 : Int) (x3 : Int) (x5 : Int) (x6 : Int) (M : MW) : Option (Int × MW) :=
  if w32 x6 = 0 then (
    f_X6_wrong_b113 x1 x3 x5 x5 0 M)
  else (
    f_X6_wrong_b113 x1 x3 x5 x5 1 M)
def f_X6_wrong_b70 (x1 : Int) (x3 : Int) (x5 : Int) (s0 : Int) (M : MW) : Option (Int × MW) :=
  mB (f_X6_in x3 21 25 M) fun v2 M1 =>
  if w32 v2 = 0 then (
    mB (f_X6_in x3 54 58 M1) fun v4 M3 =>
    if w32 v4 = 0 then (
      if w32 x3 = w32 132 then (
        f_X6_wrong_b101 x1 x3 x5 s0 M3)
      else (
        f_X6_wrong_b125 x3 x5 M3))
    else (
      f_X6_wrong_b101 x1 x3 x5 s0 M3))
  else (
    f_X6_wrong_b101 x1 x3 x5 s0 M1)
def f_X6_wrong_b65 (x1 : Int) (x3 : Int) (x5 : Int) (M : MW) : Option (Int × MW) :=
  f_X6_wrong_b70 x1 x3 x5 1 M
def f_X6_wrong_b51 (x1 : Int) (x3 : Int) (s0 : Int) (M : MW) : Option (Int × MW) :=
  if w32 x3 = w32 22 then (
    f_X6_wrong_b65 x1 x3 s0 M)
  else (
    if w32 x3 = w32 55 then (
      f_X6_wrong_b65 x1 x3 s0 M)
    else (
      f_X6_wrong_b70 x1 x3 s0 0 M))
def f_X6_wrong (x1 : Int) (x2 : Int) (M : MW) : Option (Int × MW) :=
  mB (f_X6_at x1 x2 M) fun v22 M21 =>
  mB (f_X6_length v22 M21) fun v24 M23 =>
  if w32 v24 = 0 then (
    some (1, M23))
  else (
    ax x1 8 fun j => rd (mI M23 9 j) fun v25 =>
    if w32 (x2 + v24) ≤ w32 v25 then (
      if w32 v24 ≤ w32 1 then (
        f_X6_wrong_b51 x1 v22 0 M23)
      else (
        mB (f_X6_at x1 (x2 + 1) M23) fun v27 M26 =>
        f_X6_wrong_b51 x1 v22 v27 M26))
    else (
      some (1, M23)))
def f_X6_faulty (x1 : Int) (x2 : Int) (M : MW) : Option (Int × MW) :=
  rd (msI M 0 35 x1) fun M1 =>
  rd (msI M1 0 36 x2) fun M2 =>
  some (0, M2)
def f_X6_branches (x0 : Int) (M : MW) : Option (Int × MW) :=
  mB (f_X6_in x0 153 167 M) fun v2 M1 =>
  if w32 v2 = 0 then (
    mB (f_X6_in x0 198 199 M1) fun v4 M3 =>
    if w32 v4 = 0 then (
      some (0, M3))
    else (
      some (1, M3)))
  else (
    some (1, M1))
def f_X6_target (x1 : Int) (x2 : Int) (M : MW) : Option (Int × MW) :=
  mB (f_X6_at x1 (x2 + 1) M) fun v2 M1 =>
  mB (f_X6_at x1 (x2 + 2) M1) fun v4 M3 =>
  some ((x2 + (i2s (iOr (iShl v2 8) v4))), M3)
def f_X6_isBeginning_b41 (s1 : Int) (s2 : Int) (M : MW) : Option (Int × MW) :=
  ax (s1 + s2) 960 fun j => rd (mI M 22 j) fun v1 =>
  if w32 v1 = 0 then (
    some (0, M))
  else (
    some (1, M))
def f_X6_isBeginning_b40 (s1 : Int) (M : MW) : Option (Int × MW) :=
  f_X6_isBeginning_b41 s1 0 M
def f_X6_isBeginning (x1 : Int) (x2 : Int) (M : MW) : Option (Int × MW) :=
  if w32 x2 < 0 then (
    some (0, M))
  else (
    ax x1 8 fun j => rd (mI M 9 j) fun v2 =>
    if w32 v2 ≤ w32 x2 then (
      some (0, M))
    else (
      if w32 x2 < 0 then (
        f_X6_isBeginning_b40 (120 * x1) M)
      else (
        ax x1 8 fun j => rd (mI M 9 j) fun v3 =>
        if w32 v3 ≤ w32 x2 then (
          f_X6_isBeginning_b40 (120 * x1) M)
        else (
          f_X6_isBeginning_b41 (120 * x1) x2 M))))
def f_X6_isFormed_b102 (k59 : Int → Int → MW → Option (Int × MW)) (x1 : Int) (x2 : Int) (M : MW) : Option (Int × MW) :=
  mB (f_X6_at x1 x2 M) fun v25 M24 =>
  mB (f_X6_length v25 M24) fun v27 M26 =>
  rd (x2 + v27) fun v28 =>
  k59 x1 v28 M26
def f_X6_isFormed_b219 (x1 : Int) (x2 : Int) (M : MW) : Option (Int × MW) :=
  mB (f_X6_faulty 5 (x2 - (16 * x1)) M) fun v44 M43 =>
  gdB (isZ v44) (some (v44, M43))
def f_X6_isFormed_b171 (k122 : Int → Int → MW → Option (Int × MW)) (x1 : Int) (x2 : Int) (s0 : Int) (M : MW) : Option (Int × MW) :=
  ax x2 128 fun j => rd (mI M 14 j) fun v35 =>
  ax x2 128 fun j => rd (mI M 15 j) fun v36 =>
  if w32 v36 ≤ w32 v35 then (
    f_X6_isFormed_b219 x1 x2 M)
  else (
    ax x2 128 fun j => rd (mI M 14 j) fun v37 =>
    mB (f_X6_isBeginning x1 v37 M) fun v39 M38 =>
    if w32 v39 = 0 then (
      f_X6_isFormed_b219 x1 x2 M38)
    else (
      ax x2 128 fun j => rd (mI M38 16 j) fun v40 =>
      mB (f_X6_isBeginning x1 v40 M38) fun v42 M41 =>
      if w32 v42 = 0 then (
        f_X6_isFormed_b219 x1 x2 M41)
      else (
        if w32 s0 = 0 then (
          f_X6_isFormed_b219 x1 x2 M41)
        else (
          k122 x1 (x2 + 1) M41))))
def f_X6_isFormed_b166 (k122 : Int → Int → MW → Option (Int × MW)) (x1 : Int) (x2 : Int) (M : MW) : Option (Int × MW) :=
  f_X6_isFormed_b171 k122 x1 x2 1 M
def f_X6_isFormed_s122 (k122 : Int → Int → MW → Option (Int × MW)) (x1 : Int) (x2 : Int) (M : MW) : Option (Int × MW) :=
  ax x1 8 fun j => rd (mI M 13 j) fun v29 =>
  if w32 ((16 * x1) + v29) ≤ w32 x2 then (
    some (1, M))
  else (
    ax x2 128 fun j => rd (mI M 15 j) fun v30 =>
    mB (f_X6_isBeginning x1 v30 M) fun v32 M31 =>
    if w32 v32 = 0 then (
      ax x2 128 fun j => rd (mI M31 15 j) fun v33 =>
      ax x1 8 fun j => rd (mI M31 9 j) fun v34 =>
      if w32 v33 = w32 v34 then (
        f_X6_isFormed_b166 k122 x1 x2 M31)
      else (
        f_X6_isFormed_b171 k122 x1 x2 0 M31))
    else (
      f_X6_isFormed_b166 k122 x1 x2 M31))
def f_X6_isFormed_b122 : Nat → Int → Int → MW → Option (Int × MW)
  | 0 => fun _ _ _ => none
  | n + 1 => fun x1 x2 M => f_X6_isFormed_s122 (f_X6_isFormed_b122 n) x1 x2 M
def f_X6_isFormed_s59 (k59 : Int → Int → MW → Option (Int × MW)) (x1 : Int) (x2 : Int) (M : MW) : Option (Int × MW) :=
  ax x1 8 fun j => rd (mI M 9 j) fun v12 =>
  if w32 v12 ≤ w32 x2 then (
    rd (16 * x1) fun v13 =>
    f_X6_isFormed_b122 FU x1 v13 M)
  else (
    mB (f_X6_at x1 x2 M) fun v15 M14 =>
    mB (f_X6_branches v15 M14) fun v17 M16 =>
    if w32 v17 = 0 then (
      f_X6_isFormed_b102 k59 x1 x2 M16)
    else (
      mB (f_X6_target x1 x2 M16) fun v19 M18 =>
      mB (f_X6_isBeginning x1 v19 M18) fun v21 M20 =>
      if w32 v21 = 0 then (
        mB (f_X6_faulty 4 x2 M20) fun v23 M22 =>
        gdB (isZ v23) (some (v23, M22)))
      else (
        f_X6_isFormed_b102 k59 x1 x2 M20)))
def f_X6_isFormed_b59 : Nat → Int → Int → MW → Option (Int × MW)
  | 0 => fun _ _ _ => none
  | n + 1 => fun x1 x2 M => f_X6_isFormed_s59 (f_X6_isFormed_b59 n) x1 x2 M
def f_X6_isFormed_s2 (k2 : Int → Int → MW → Option (Int × MW)) (x1 : Int) (x2 : Int) (M : MW) : Option (Int × MW) :=
  ax x1 8 fun j => rd (mI M 9 j) fun v1 =>
  if w32 v1 ≤ w32 x2 then (
    f_X6_isFormed_b59 FU x1 0 M)
  else (
    mB (f_X6_wrong x1 x2 M) fun v3 M2 =>
    if w32 v3 ≤ 0 then (
      ax ((120 * x1) + x2) 960 fun j => rd (msI M2 22 j (iAnd 1 1)) fun M4 =>
      mB (f_X6_at x1 x2 M4) fun v6 M5 =>
      mB (f_X6_length v6 M5) fun v8 M7 =>
      rd (x2 + v8) fun v9 =>
      k2 x1 v9 M7)
    else (
      mB (f_X6_faulty v3 x2 M2) fun v11 M10 =>
      gdB (isZ v11) (some (v11, M10))))
def f_X6_isFormed_b2 : Nat → Int → Int → MW → Option (Int × MW)
  | 0 => fun _ _ _ => none
  | n + 1 => fun x1 x2 M => f_X6_isFormed_s2 (f_X6_isFormed_b2 n) x1 x2 M
def f_X6_isFormed (x1 : Int) (M : MW) : Option (Int × MW) :=
  f_X6_isFormed_b2 FU x1 0 M
def f_X6_isThing (x0 : Int) (M : MW) : Option (Int × MW) :=
  if w32 x0 = w32 3 then (
    some (1, M))
  else (
    if w32 x0 = w32 4 then (
      some (1, M))
    else (
      if w32 x0 < w32 32 then (
        some (0, M))
      else (
        if w32 1000 ≤ w32 x0 then (
          some (0, M))
        else (
          some (1, M)))))
def f_X6_isObject (x0 : Int) (M : MW) : Option (Int × MW) :=
  if w32 x0 < w32 32 then (
    some (0, M))
  else (
    if w32 64 ≤ w32 x0 then (
      some (0, M))
    else (
      some (1, M)))
def f_X6_nearest_s2 (k2 : Int → Int → MW → Option (Int × MW)) (x2 : Int) (x3 : Int) (M : MW) : Option (Int × MW) :=
  mB (f_X6_subs x2 x3 M) fun v2 M1 =>
  if w32 v2 = 0 then (
    ax x3 16 fun j => rd (mI M1 1 j) fun v3 =>
    k2 x2 v3 M1)
  else (
    some (x3, M1))
def f_X6_nearest_b2 : Nat → Int → Int → MW → Option (Int × MW)
  | 0 => fun _ _ _ => none
  | n + 1 => fun x2 x3 M => f_X6_nearest_s2 (f_X6_nearest_b2 n) x2 x3 M
def f_X6_nearest (x1 : Int) (x2 : Int) (M : MW) : Option (Int × MW) :=
  f_X6_nearest_b2 FU x2 x1 M
def f_X6_isRow (x0 : Int) (M : MW) : Option (Int × MW) :=
  if w32 x0 < w32 64 then (
    some (0, M))
  else (
    if w32 1000 ≤ w32 x0 then (
      some (0, M))
    else (
      some (1, M)))
def f_X6_merge_b81 (x1 : Int) (x2 : Int) (M : MW) : Option (Int × MW) :=
  mB (f_X6_isRow x1 M) fun v14 M13 =>
  if w32 v14 = 0 then (
    some (32, M13))
  else (
    mB (f_X6_isRow x2 M13) fun v16 M15 =>
    if w32 v16 = 0 then (
      some (32, M15))
    else (
      mB (f_X6_nearest (x1 - 64) (x2 - 64) M15) fun v18 M17 =>
      some ((64 + v18), M17)))
def f_X6_merge_b35 (x1 : Int) (x2 : Int) (M : MW) : Option (Int × MW) :=
  mB (f_X6_isThing x1 M) fun v4 M3 =>
  if w32 v4 = 0 then (
    some (0, M3))
  else (
    mB (f_X6_isThing x2 M3) fun v6 M5 =>
    if w32 v6 = 0 then (
      some (0, M5))
    else (
      mB (f_X6_isObject x1 M5) fun v8 M7 =>
      if w32 v8 = 0 then (
        f_X6_merge_b81 x1 x2 M7)
      else (
        mB (f_X6_isObject x2 M7) fun v10 M9 =>
        if w32 v10 = 0 then (
          f_X6_merge_b81 x1 x2 M9)
        else (
          mB (f_X6_nearest (x1 - 32) (x2 - 32) M9) fun v12 M11 =>
          some ((32 + v12), M11)))))
def f_X6_merge_b21 (x1 : Int) (x2 : Int) (M : MW) : Option (Int × MW) :=
  if w32 x2 = w32 5 then (
    mB (f_X6_isThing x1 M) fun v2 M1 =>
    if w32 v2 = 0 then (
      f_X6_merge_b35 x1 x2 M1)
    else (
      some (x1, M1)))
  else (
    f_X6_merge_b35 x1 x2 M)
def f_X6_merge (x1 : Int) (x2 : Int) (M : MW) : Option (Int × MW) :=
  if w32 x1 = w32 x2 then (
    some (x1, M))
  else (
    if w32 x1 = w32 5 then (
      mB (f_X6_isThing x2 M) fun v20 M19 =>
      if w32 v20 = 0 then (
        f_X6_merge_b21 x1 x2 M19)
      else (
        some (x2, M19)))
    else (
      f_X6_merge_b21 x1 x2 M))
def f_X6_give_s76 (k76 : Int → Int → Int → MW → Option (Int × MW)) (x1 : Int) (x2 : Int) (x4 : Int) (M : MW) : Option (Int × MW) :=
  rd (mI M 0 43) fun v3 =>
  if w32 v3 ≤ w32 x4 then (
    ax x1 120 fun j => rd (msI M 26 j (iAnd 1 1)) fun M4 =>
    some (1, M4))
  else (
    ax x4 20 fun j => rd (mI M 33 j) fun v5 =>
    ax ((12 * x2) + x4) 11520 fun j => rd (msI M 25 j v5) fun M6 =>
    k76 x1 x2 (x4 + 1) M6)
def f_X6_give_b76 : Nat → Int → Int → Int → MW → Option (Int × MW)
  | 0 => fun _ _ _ _ => none
  | n + 1 => fun x1 x2 x4 M => f_X6_give_s76 (f_X6_give_b76 n) x1 x2 x4 M
def f_X6_give_s42 (k42 : Int → Int → Int → Int → MW → Option (Int × MW)) (x1 : Int) (x2 : Int) (x3 : Int) (x4 : Int) (M : MW) : Option (Int × MW) :=
  if w32 x3 ≤ w32 x4 then (
    f_X6_give_b76 FU x1 x2 0 M)
  else (
    ax x4 12 fun j => rd (mI M 32 j) fun v1 =>
    ax ((12 * x2) + x4) 11520 fun j => rd (msI M 24 j v1) fun M2 =>
    k42 x1 x2 x3 (x4 + 1) M2)
def f_X6_give_b42 : Nat → Int → Int → Int → Int → MW → Option (Int × MW)
  | 0 => fun _ _ _ _ _ => none
  | n + 1 => fun x1 x2 x3 x4 M => f_X6_give_s42 (f_X6_give_b42 n) x1 x2 x3 x4 M
def f_X6_give_b220 (k146 : Int → Int → Int → Int → Int → MW → Option (Int × MW)) (x1 : Int) (x2 : Int) (x3 : Int) (x5 : Int) (x6 : Int) (s0 : Int) (M : MW) : Option (Int × MW) :=
  ax ((12 * x2) + x5) 11520 fun j => rd (msI M 25 j x6) fun M15 =>
  k146 x1 x2 x3 s0 (x5 + 1) M15
def f_X6_give_b215 (k146 : Int → Int → Int → Int → Int → MW → Option (Int × MW)) (x1 : Int) (x2 : Int) (x3 : Int) (x5 : Int) (x6 : Int) (M : MW) : Option (Int × MW) :=
  f_X6_give_b220 k146 x1 x2 x3 x5 x6 1 M
def f_X6_give_b303 (k245 : Int → Int → Int → Int → Int → MW → Option (Int × MW)) (x1 : Int) (x2 : Int) (x3 : Int) (x5 : Int) (x6 : Int) (s0 : Int) (M : MW) : Option (Int × MW) :=
  ax ((12 * x2) + x5) 11520 fun j => rd (msI M 24 j x6) fun M23 =>
  k245 x1 x2 x3 s0 (x5 + 1) M23
def f_X6_give_b298 (k245 : Int → Int → Int → Int → Int → MW → Option (Int × MW)) (x1 : Int) (x2 : Int) (x3 : Int) (x5 : Int) (x6 : Int) (M : MW) : Option (Int × MW) :=
  f_X6_give_b303 k245 x1 x2 x3 x5 x6 1 M
def f_X6_give_b344 (s1 : Int) (M : MW) : Option (Int × MW) :=
  ax s1 120 fun j => rd (msI M 26 j (iAnd 1 1)) fun M24 =>
  some (1, M24)
def f_X6_give_s245 (k245 : Int → Int → Int → Int → Int → MW → Option (Int × MW)) (x1 : Int) (x2 : Int) (x3 : Int) (x4 : Int) (x5 : Int) (M : MW) : Option (Int × MW) :=
  if w32 x3 ≤ w32 x5 then (
    ax x1 120 fun j => rd (mI M 26 j) fun v16 =>
    if w32 v16 = 0 then (
      if w32 x4 = 0 then (
        ax x1 120 fun j => rd (msI M 26 j (iAnd 0 1)) fun M17 =>
        some (1, M17))
      else (
        f_X6_give_b344 x1 M))
    else (
      f_X6_give_b344 x1 M))
  else (
    ax ((12 * x2) + x5) 11520 fun j => rd (mI M 24 j) fun v18 =>
    ax x5 12 fun j => rd (mI M 32 j) fun v19 =>
    mB (f_X6_merge v18 v19 M) fun v21 M20 =>
    if w32 x4 = 0 then (
      ax ((12 * x2) + x5) 11520 fun j => rd (mI M20 24 j) fun v22 =>
      if w32 v21 = w32 v22 then (
        f_X6_give_b303 k245 x1 x2 x3 x5 v21 0 M20)
      else (
        f_X6_give_b298 k245 x1 x2 x3 x5 v21 M20))
    else (
      f_X6_give_b298 k245 x1 x2 x3 x5 v21 M20))
def f_X6_give_b245 : Nat → Int → Int → Int → Int → Int → MW → Option (Int × MW)
  | 0 => fun _ _ _ _ _ _ => none
  | n + 1 => fun x1 x2 x3 x4 x5 M => f_X6_give_s245 (f_X6_give_b245 n) x1 x2 x3 x4 x5 M
def f_X6_give_s146 (k146 : Int → Int → Int → Int → Int → MW → Option (Int × MW)) (x1 : Int) (x2 : Int) (x3 : Int) (x4 : Int) (x5 : Int) (M : MW) : Option (Int × MW) :=
  rd (mI M 0 43) fun v7 =>
  if w32 v7 ≤ w32 x5 then (
    f_X6_give_b245 FU x1 x2 x3 x4 0 M)
  else (
    ax ((12 * x2) + x5) 11520 fun j => rd (mI M 25 j) fun v8 =>
    ax x5 20 fun j => rd (mI M 33 j) fun v9 =>
    mB (f_X6_merge v8 v9 M) fun v11 M10 =>
    if w32 v11 = 0 then (
      mB (f_X6_faulty 9 x1 M10) fun v14 M13 =>
      gdB (isZ v14) (some (v14, M13)))
    else (
      if w32 x4 = 0 then (
        ax ((12 * x2) + x5) 11520 fun j => rd (mI M10 25 j) fun v12 =>
        if w32 v11 = w32 v12 then (
          f_X6_give_b220 k146 x1 x2 x3 x5 v11 0 M10)
        else (
          f_X6_give_b215 k146 x1 x2 x3 x5 v11 M10))
      else (
        f_X6_give_b215 k146 x1 x2 x3 x5 v11 M10)))
def f_X6_give_b146 : Nat → Int → Int → Int → Int → Int → MW → Option (Int × MW)
  | 0 => fun _ _ _ _ _ _ => none
  | n + 1 => fun x1 x2 x3 x4 x5 M => f_X6_give_s146 (f_X6_give_b146 n) x1 x2 x3 x4 x5 M
def f_X6_give (x1 : Int) (M : MW) : Option (Int × MW) :=
  rd (mI M 0 33) fun v25 =>
  rd ((120 * v25) + x1) fun v26 =>
  rd (mI M 0 33) fun v27 =>
  ax v27 8 fun j => rd (mI M 12 j) fun v28 =>
  ax v26 960 fun j => rd (mI M 23 j) fun v29 =>
  if 0 ≤ w32 v29 then (
    ax v26 960 fun j => rd (mI M 23 j) fun v30 =>
    rd (mI M 0 43) fun v31 =>
    if w32 v30 = w32 v31 then (
      f_X6_give_b146 FU x1 v26 v28 0 0 M)
    else (
      mB (f_X6_faulty 9 x1 M) fun v33 M32 =>
      gdB (isZ v33) (some (v33, M32))))
  else (
    rd (mI M 0 43) fun v34 =>
    ax v26 960 fun j => rd (msI M 23 j v34) fun M35 =>
    f_X6_give_b42 FU x1 v26 v28 0 M35)
def f_X6_words_b28 (k4 : Int → Int → MW → Option (Int × MW)) (x2 : Int) (s0 : Int) (s1 : Int) (M : MW) : Option (Int × MW) :=
  rd (s0 + s1) fun v3 =>
  k4 v3 (x2 + 1) M
def f_X6_words_s4 (k4 : Int → Int → MW → Option (Int × MW)) (x1 : Int) (x2 : Int) (M : MW) : Option (Int × MW) :=
  rd (mI M 0 40) fun v1 =>
  if w32 v1 ≤ w32 x2 then (
    some (x1, M))
  else (
    ax x2 20 fun j => rd (mI M 31 j) fun v2 =>
    if w32 v2 = w32 2 then (
      f_X6_words_b28 k4 x2 x1 2 M)
    else (
      f_X6_words_b28 k4 x2 x1 1 M))
def f_X6_words_b4 : Nat → Int → Int → MW → Option (Int × MW)
  | 0 => fun _ _ _ => none
  | n + 1 => fun x1 x2 M => f_X6_words_s4 (f_X6_words_b4 n) x1 x2 M
def f_X6_words (M : MW) : Option (Int × MW) :=
  f_X6_words_b4 FU 0 0 M
def f_X6_miss (x1 : Int) (M : MW) : Option (Unit × MW) :=
  rd (mI M 0 35) fun v1 =>
  if w32 v1 = 0 then (
    rd (msI M 0 35 x1) fun M4 =>
    some ((), M4))
  else (
    rd (mI M 0 35) fun v2 =>
    rd (msI M 0 35 v2) fun M3 =>
    some ((), M3))
def f_X6_push (x1 : Int) (M : MW) : Option (Unit × MW) :=
  rd (mI M 0 35) fun v1 =>
  if w32 v1 ≤ 0 then (
    rd (mI M 0 40) fun v2 =>
    ax v2 20 fun j => rd (msI M 31 j x1) fun M3 =>
    rd (mI M3 0 40) fun v4 =>
    rd (msI M3 0 40 (v4 + 1)) fun M5 =>
    mB (f_X6_words M5) fun v7 M6 =>
    rd (mI M6 0 33) fun v8 =>
    ax v8 8 fun j => rd (mI M6 11 j) fun v9 =>
    if w32 v7 ≤ w32 v9 then (
      some ((), M6))
    else (
      mB (f_X6_miss 7 M6) fun _ M10 =>
      some ((), M10)))
  else (
    some ((), M))
def f_X6_isReference (x0 : Int) (M : MW) : Option (Int × MW) :=
  if w32 x0 = w32 5 then (
    some (1, M))
  else (
    mB (f_X6_isThing x0 M) fun v2 M1 =>
    if w32 v2 = 0 then (
      some (0, M1))
    else (
      some (1, M1)))
def f_X6_load_b77 (x3 : Int) (M : MW) : Option (Unit × MW) :=
  mB (f_X6_push x3 M) fun _ M2 =>
  some ((), M2)
def f_X6_load_b64 (x3 : Int) (s0 : Int) (M : MW) : Option (Unit × MW) :=
  if w32 s0 = 0 then (
    mB (f_X6_miss 6 M) fun _ M1 =>
    f_X6_load_b77 x3 M1)
  else (
    f_X6_load_b77 x3 M)
def f_X6_load_b59 (x3 : Int) (M : MW) : Option (Unit × MW) :=
  f_X6_load_b64 x3 1 M
def f_X6_load (x1 : Int) (x2 : Int) (M : MW) : Option (Unit × MW) :=
  ax x2 13 fun j => rd (mI M 29 j) fun v3 =>
  if w32 x1 = w32 21 then (
    if w32 v3 = w32 1 then (
      f_X6_load_b64 v3 1 M)
    else (
      f_X6_load_b64 v3 0 M))
  else (
    if w32 x1 = w32 22 then (
      if w32 v3 = w32 2 then (
        f_X6_load_b64 v3 1 M)
      else (
        f_X6_load_b64 v3 0 M))
    else (
      mB (f_X6_isReference v3 M) fun v5 M4 =>
      if w32 v5 = 0 then (
        if w32 v3 < w32 1000 then (
          f_X6_load_b64 v3 0 M4)
        else (
          f_X6_load_b59 v3 M4))
      else (
        f_X6_load_b59 v3 M4)))
def f_X6_pop (M : MW) : Option (Int × MW) :=
  rd (mI M 0 40) fun v1 =>
  if w32 v1 = 0 then (
    mB (f_X6_miss 6 M) fun _ M6 =>
    some (0, M6))
  else (
    rd (mI M 0 40) fun v2 =>
    rd (msI M 0 40 (v2 - 1)) fun M3 =>
    rd (mI M3 0 40) fun v4 =>
    ax v4 20 fun j => rd (mI M3 31 j) fun v5 =>
    some (v5, M3))
def f_X6_put_b33 (x1 : Int) (x2 : Int) (M : MW) : Option (Unit × MW) :=
  ax x1 13 fun j => rd (msI M 29 j x2) fun M1 =>
  if w32 x2 = w32 2 then (
    ax (x1 + 1) 13 fun j => rd (msI M1 29 j 0) fun M2 =>
    some ((), M2))
  else (
    some ((), M1))
def f_X6_put (x1 : Int) (x2 : Int) (M : MW) : Option (Unit × MW) :=
  rd (mI M 0 35) fun v3 =>
  if w32 v3 ≤ 0 then (
    if w32 x1 ≤ 0 then (
      f_X6_put_b33 x1 x2 M)
    else (
      ax (x1 - 1) 13 fun j => rd (mI M 29 j) fun v4 =>
      if w32 v4 = w32 2 then (
        ax (x1 - 1) 13 fun j => rd (msI M 29 j 0) fun M5 =>
        f_X6_put_b33 x1 x2 M5)
      else (
        f_X6_put_b33 x1 x2 M)))
  else (
    some ((), M))
def f_X6_store_b75 (x2 : Int) (x3 : Int) (M : MW) : Option (Unit × MW) :=
  mB (f_X6_put x2 x3 M) fun _ M2 =>
  some ((), M2)
def f_X6_store_b62 (x2 : Int) (x3 : Int) (s0 : Int) (M : MW) : Option (Unit × MW) :=
  if w32 s0 = 0 then (
    mB (f_X6_miss 6 M) fun _ M1 =>
    f_X6_store_b75 x2 x3 M1)
  else (
    f_X6_store_b75 x2 x3 M)
def f_X6_store_b57 (x2 : Int) (x3 : Int) (M : MW) : Option (Unit × MW) :=
  f_X6_store_b62 x2 x3 1 M
def f_X6_store (x1 : Int) (x2 : Int) (M : MW) : Option (Unit × MW) :=
  mB (f_X6_pop M) fun v4 M3 =>
  if w32 x1 = w32 54 then (
    if w32 v4 = w32 1 then (
      f_X6_store_b62 x2 v4 1 M3)
    else (
      f_X6_store_b62 x2 v4 0 M3))
  else (
    if w32 x1 = w32 55 then (
      if w32 v4 = w32 2 then (
        f_X6_store_b62 x2 v4 1 M3)
      else (
        f_X6_store_b62 x2 v4 0 M3))
    else (
      mB (f_X6_isReference v4 M3) fun v6 M5 =>
      if w32 v6 = 0 then (
        if w32 v4 < w32 1000 then (
          f_X6_store_b62 x2 v4 0 M5)
        else (
          f_X6_store_b57 x2 v4 M5))
      else (
        f_X6_store_b57 x2 v4 M5)))
def f_X6_popReference (M : MW) : Option (Int × MW) :=
  mB (f_X6_pop M) fun v2 M1 =>
  rd (mI M1 0 35) fun v3 =>
  if w32 v3 = 0 then (
    mB (f_X6_isReference v2 M1) fun v5 M4 =>
    if w32 v5 = 0 then (
      mB (f_X6_miss 6 M4) fun _ M6 =>
      some (v2, M6))
    else (
      some (v2, M4)))
  else (
    some (v2, M1))
def f_X6_goesIntoObject (x1 : Int) (x2 : Int) (M : MW) : Option (Int × MW) :=
  ax x2 16 fun j => rd (mI M 2 j) fun v1 =>
  if w32 v1 = 0 then (
    if w32 x2 = 0 then (
      some (1, M))
    else (
      mB (f_X6_subs x1 x2 M) fun v3 M2 =>
      if w32 v3 = 0 then (
        some (0, M2))
      else (
        some (1, M2))))
  else (
    some (1, M))
def f_X6_goesInto_b81 (x1 : Int) (x2 : Int) (M : MW) : Option (Int × MW) :=
  mB (f_X6_isRow x1 M) fun v2 M1 =>
  if w32 v2 = 0 then (
    some (0, M1))
  else (
    mB (f_X6_isRow x2 M1) fun v4 M3 =>
    if w32 v4 = 0 then (
      some (0, M3))
    else (
      mB (f_X6_goesIntoObject (x1 - 64) (x2 - 64) M3) fun v6 M5 =>
      if w32 v6 = 0 then (
        some (0, M5))
      else (
        some (1, M5))))
def f_X6_goesInto (x1 : Int) (x2 : Int) (M : MW) : Option (Int × MW) :=
  if w32 x2 = 0 then (
    some (1, M))
  else (
    if w32 x1 = w32 x2 then (
      some (1, M))
    else (
      if w32 x1 = w32 5 then (
        mB (f_X6_isThing x2 M) fun v17 M16 =>
        gdB (isZ v17) (some (v17, M16)))
      else (
        mB (f_X6_isObject x2 M) fun v8 M7 =>
        if w32 v8 = 0 then (
          f_X6_goesInto_b81 x1 x2 M7)
        else (
          mB (f_X6_isThing x1 M7) fun v10 M9 =>
          if w32 v10 = 0 then (
            f_X6_goesInto_b81 x1 x2 M9)
          else (
            ax (x2 - 32) 16 fun j => rd (mI M9 2 j) fun v11 =>
            if w32 v11 = 0 then (
              if w32 x2 = w32 32 then (
                some (1, M9))
              else (
                mB (f_X6_isObject x1 M9) fun v13 M12 =>
                if w32 v13 = 0 then (
                  some (0, M12))
                else (
                  mB (f_X6_subs (x1 - 32) (x2 - 32) M12) fun v15 M14 =>
                  if w32 v15 = 0 then (
                    some (0, M14))
                  else (
                    some (1, M14)))))
            else (
              some (1, M9)))))))
def f_X6_want (x1 : Int) (M : MW) : Option (Unit × MW) :=
  mB (f_X6_pop M) fun v2 M1 =>
  rd (mI M1 0 35) fun v3 =>
  if w32 v3 = 0 then (
    mB (f_X6_goesInto v2 x1 M1) fun v5 M4 =>
    if w32 v5 = 0 then (
      mB (f_X6_miss 6 M4) fun _ M6 =>
      some ((), M6))
    else (
      some ((), M4)))
  else (
    some ((), M1))
def f_X6_popArray_b47 (x2 : Int) (s0 : Int) (M : MW) : Option (Int × MW) :=
  rd (mI M 0 35) fun v1 =>
  if w32 v1 = 0 then (
    if w32 s0 = 0 then (
      mB (f_X6_miss 6 M) fun _ M2 =>
      some (x2, M2))
    else (
      some (x2, M)))
  else (
    some (x2, M))
def f_X6_popArray_b42 (x2 : Int) (M : MW) : Option (Int × MW) :=
  f_X6_popArray_b47 x2 1 M
def f_X6_popArray_b46 (x2 : Int) (M : MW) : Option (Int × MW) :=
  f_X6_popArray_b47 x2 0 M
def f_X6_popArray (x1 : Int) (M : MW) : Option (Int × MW) :=
  mB (f_X6_pop M) fun v4 M3 =>
  if w32 v4 = w32 5 then (
    f_X6_popArray_b42 v4 M3)
  else (
    if w32 x1 = 0 then (
      if w32 v4 = w32 3 then (
        f_X6_popArray_b42 v4 M3)
      else (
        f_X6_popArray_b46 v4 M3))
    else (
      if w32 x1 = w32 1 then (
        if w32 v4 = w32 4 then (
          f_X6_popArray_b42 v4 M3)
        else (
          f_X6_popArray_b46 v4 M3))
      else (
        mB (f_X6_isRow v4 M3) fun v6 M5 =>
        if w32 v6 = 0 then (
          f_X6_popArray_b46 v4 M5)
        else (
          f_X6_popArray_b42 v4 M5))))
def f_X6_arrays_b117 (s1 : Int) (M : MW) : Option (Unit × MW) :=
  mB (f_X6_push s1 M) fun _ M7 =>
  some ((), M7)
def f_X6_arrays_b66 (x1 : Int) (x2 : Int) (M : MW) : Option (Unit × MW) :=
  mB (f_X6_want 1 M) fun _ M4 =>
  mB (f_X6_popArray x2 M4) fun v6 M5 =>
  if w32 79 ≤ w32 x1 then (
    some ((), M5))
  else (
    if w32 x2 = 0 then (
      f_X6_arrays_b117 1 M5)
    else (
      if w32 x2 = w32 1 then (
        f_X6_arrays_b117 2 M5)
      else (
        if w32 v6 = w32 5 then (
          f_X6_arrays_b117 5 M5)
        else (
          f_X6_arrays_b117 ((32 + v6) - 64) M5))))
def f_X6_arrays_b63 (x1 : Int) (x2 : Int) (s1 : Int) (M : MW) : Option (Unit × MW) :=
  mB (f_X6_want s1 M) fun _ M3 =>
  f_X6_arrays_b66 x1 x2 M3
def f_X6_arrays_b33 (x1 : Int) (s0 : Int) (M : MW) : Option (Unit × MW) :=
  if w32 x1 ≤ w32 78 then (
    f_X6_arrays_b66 x1 s0 M)
  else (
    if w32 s0 = w32 2 then (
      mB (f_X6_popReference M) fun v2 M1 =>
      f_X6_arrays_b66 x1 s0 M1)
    else (
      if w32 s0 = 0 then (
        f_X6_arrays_b63 x1 s0 1 M)
      else (
        f_X6_arrays_b63 x1 s0 2 M)))
def f_X6_arrays_b12 (x1 : Int) (M : MW) : Option (Unit × MW) :=
  f_X6_arrays_b33 x1 0 M
def f_X6_arrays_b28 (x1 : Int) (M : MW) : Option (Unit × MW) :=
  f_X6_arrays_b33 x1 1 M
def f_X6_arrays (x1 : Int) (M : MW) : Option (Unit × MW) :=
  if w32 x1 = w32 46 then (
    f_X6_arrays_b12 x1 M)
  else (
    if w32 x1 = w32 79 then (
      f_X6_arrays_b12 x1 M)
    else (
      if w32 x1 = w32 47 then (
        f_X6_arrays_b28 x1 M)
      else (
        if w32 x1 = w32 80 then (
          f_X6_arrays_b28 x1 M)
        else (
          f_X6_arrays_b33 x1 2 M))))
def f_X6_popOne (M : MW) : Option (Int × MW) :=
  mB (f_X6_pop M) fun v2 M1 =>
  rd (mI M1 0 35) fun v3 =>
  if w32 v3 = 0 then (
    if w32 v2 = w32 2 then (
      mB (f_X6_miss 6 M1) fun _ M4 =>
      some (v2, M4))
    else (
      some (v2, M1)))
  else (
    some (v2, M1))
def f_X6_shuffle_b154 (x2 : Int) (M : MW) : Option (Unit × MW) :=
  mB (f_X6_push x2 M) fun _ M11 =>
  some ((), M11)
def f_X6_shuffle_b132 (x1 : Int) (x2 : Int) (x3 : Int) (M : MW) : Option (Unit × MW) :=
  mB (f_X6_push x2 M) fun _ M9 =>
  mB (f_X6_push x3 M9) fun _ M10 =>
  if w32 x1 = w32 90 then (
    f_X6_shuffle_b154 x2 M10)
  else (
    if w32 x1 = w32 92 then (
      f_X6_shuffle_b154 x2 M10)
    else (
      some ((), M10)))
def f_X6_shuffle_b109 (x1 : Int) (x2 : Int) (M : MW) : Option (Unit × MW) :=
  mB (f_X6_popOne M) fun v7 M6 =>
  if w32 x1 = w32 88 then (
    some ((), M6))
  else (
    if w32 x1 = w32 92 then (
      mB (f_X6_push v7 M6) fun _ M8 =>
      f_X6_shuffle_b132 x1 x2 v7 M8)
    else (
      f_X6_shuffle_b132 x1 x2 v7 M6))
def f_X6_shuffle_b98 (x1 : Int) (x2 : Int) (M : MW) : Option (Unit × MW) :=
  if w32 x2 = w32 2 then (
    mB (f_X6_miss 6 M) fun _ M5 =>
    f_X6_shuffle_b109 x1 x2 M5)
  else (
    f_X6_shuffle_b109 x1 x2 M)
def f_X6_shuffle_b92 (x1 : Int) (x2 : Int) (M : MW) : Option (Unit × MW) :=
  if w32 x2 = w32 2 then (
    some ((), M))
  else (
    f_X6_shuffle_b98 x1 x2 M)
def f_X6_shuffle_b68 (x1 : Int) (x2 : Int) (M : MW) : Option (Unit × MW) :=
  if w32 x1 = w32 87 then (
    some ((), M))
  else (
    if w32 x1 = w32 89 then (
      some ((), M))
    else (
      if w32 x1 = w32 88 then (
        f_X6_shuffle_b92 x1 x2 M)
      else (
        if w32 x1 = w32 92 then (
          f_X6_shuffle_b92 x1 x2 M)
        else (
          f_X6_shuffle_b98 x1 x2 M))))
def f_X6_shuffle_b63 (x1 : Int) (x2 : Int) (M : MW) : Option (Unit × MW) :=
  mB (f_X6_push x2 M) fun _ M4 =>
  f_X6_shuffle_b68 x1 x2 M4
def f_X6_shuffle_b46 (x1 : Int) (x2 : Int) (M : MW) : Option (Unit × MW) :=
  if w32 x1 = w32 89 then (
    f_X6_shuffle_b63 x1 x2 M)
  else (
    if w32 x1 = w32 92 then (
      if w32 x2 = w32 2 then (
        f_X6_shuffle_b63 x1 x2 M)
      else (
        f_X6_shuffle_b68 x1 x2 M))
    else (
      f_X6_shuffle_b68 x1 x2 M))
def f_X6_shuffle_b41 (x1 : Int) (x2 : Int) (M : MW) : Option (Unit × MW) :=
  mB (f_X6_push x2 M) fun _ M3 =>
  f_X6_shuffle_b46 x1 x2 M3
def f_X6_shuffle_b23 (x1 : Int) (s0 : Int) (M : MW) : Option (Unit × MW) :=
  if w32 x1 = w32 89 then (
    f_X6_shuffle_b41 x1 s0 M)
  else (
    if w32 x1 = w32 92 then (
      if w32 s0 = w32 2 then (
        f_X6_shuffle_b41 x1 s0 M)
      else (
        f_X6_shuffle_b46 x1 s0 M))
    else (
      f_X6_shuffle_b46 x1 s0 M))
def f_X6_shuffle_b12 (x1 : Int) (M : MW) : Option (Unit × MW) :=
  mB (f_X6_popOne M) fun v2 M1 =>
  f_X6_shuffle_b23 x1 v2 M1
def f_X6_shuffle (x1 : Int) (M : MW) : Option (Unit × MW) :=
  if w32 x1 = w32 87 then (
    f_X6_shuffle_b12 x1 M)
  else (
    if w32 x1 = w32 89 then (
      f_X6_shuffle_b12 x1 M)
    else (
      mB (f_X6_pop M) fun v13 M12 =>
      f_X6_shuffle_b23 x1 v13 M12))
def f_X6_reckon_b17 (s0 : Int) (M : MW) : Option (Unit × MW) :=
  mB (f_X6_want s0 M) fun _ M1 =>
  mB (f_X6_want s0 M1) fun _ M2 =>
  mB (f_X6_push s0 M2) fun _ M3 =>
  some ((), M3)
def f_X6_reckon_b129 (s1 : Int) (M : MW) : Option (Unit × MW) :=
  mB (f_X6_push s1 M) fun _ M5 =>
  some ((), M5)
def f_X6_reckon_b113 (x1 : Int) (s1 : Int) (M : MW) : Option (Unit × MW) :=
  mB (f_X6_want s1 M) fun _ M4 =>
  if w32 x1 = w32 133 then (
    f_X6_reckon_b129 2 M4)
  else (
    f_X6_reckon_b129 1 M4)
def f_X6_reckon (x1 : Int) (M : MW) : Option (Unit × MW) :=
  if w32 110 ≤ w32 x1 then (
    if w32 x1 = w32 132 then (
      rd (mI M 0 33) fun v9 =>
      rd (mI M 0 34) fun v10 =>
      mB (f_X6_at v9 (v10 + 1) M) fun v12 M11 =>
      ax v12 13 fun j => rd (mI M11 29 j) fun v13 =>
      if w32 v13 = w32 1 then (
        some ((), M11))
      else (
        mB (f_X6_miss 6 M11) fun _ M14 =>
        some ((), M14)))
    else (
      if w32 x1 = w32 148 then (
        mB (f_X6_want 2 M) fun _ M6 =>
        mB (f_X6_want 2 M6) fun _ M7 =>
        mB (f_X6_push 1 M7) fun _ M8 =>
        some ((), M8))
      else (
        if w32 x1 = w32 133 then (
          f_X6_reckon_b113 x1 1 M)
        else (
          f_X6_reckon_b113 x1 2 M))))
  else (
    if w32 (iAnd x1 1) = 0 then (
      f_X6_reckon_b17 1 M)
    else (
      f_X6_reckon_b17 2 M))
def f_X6_test_b55 (k29 : Int → Int → Int → MW → Option (Unit × MW)) (x1 : Int) (x2 : Int) (x3 : Int) (M : MW) : Option (Unit × MW) :=
  k29 x1 x2 (x3 + 1) M
def f_X6_test_s29 (k29 : Int → Int → Int → MW → Option (Unit × MW)) (x1 : Int) (x2 : Int) (x3 : Int) (M : MW) : Option (Unit × MW) :=
  if w32 x2 ≤ w32 x3 then (
    some ((), M))
  else (
    if w32 165 ≤ w32 x1 then (
      mB (f_X6_popReference M) fun v2 M1 =>
      f_X6_test_b55 k29 x1 x2 x3 M1)
    else (
      mB (f_X6_want 1 M) fun _ M3 =>
      f_X6_test_b55 k29 x1 x2 x3 M3))
def f_X6_test_b29 : Nat → Int → Int → Int → MW → Option (Unit × MW)
  | 0 => fun _ _ _ _ => none
  | n + 1 => fun x1 x2 x3 M => f_X6_test_s29 (f_X6_test_b29 n) x1 x2 x3 M
def f_X6_test_b26 (x1 : Int) (s0 : Int) (M : MW) : Option (Unit × MW) :=
  f_X6_test_b29 FU x1 s0 0 M
def f_X6_test (x1 : Int) (M : MW) : Option (Unit × MW) :=
  if w32 x1 = w32 167 then (
    some ((), M))
  else (
    mB (f_X6_in x1 159 166 M) fun v5 M4 =>
    if w32 v5 = 0 then (
      f_X6_test_b26 x1 1 M4)
    else (
      f_X6_test_b26 x1 2 M4))
def f_X6_leave_b65 (M : MW) : Option (Unit × MW) :=
  mB (f_X6_miss 6 M) fun _ M1 =>
  some ((), M1)
def f_X6_leave_b103 (s0 : Int) (s1 : Int) (M : MW) : Option (Unit × MW) :=
  if w32 s0 = w32 s1 then (
    some ((), M))
  else (
    mB (f_X6_miss 6 M) fun _ M3 =>
    some ((), M3))
def f_X6_leave_b87 (x1 : Int) (x2 : Int) (s1 : Int) (M : MW) : Option (Unit × MW) :=
  mB (f_X6_want s1 M) fun _ M2 =>
  if w32 x1 = w32 172 then (
    f_X6_leave_b103 x2 1 M2)
  else (
    f_X6_leave_b103 x2 2 M2)
def f_X6_leave (x1 : Int) (M : MW) : Option (Unit × MW) :=
  rd (mI M 0 33) fun v4 =>
  ax v4 8 fun j => rd (mI M 8 j) fun v5 =>
  if w32 x1 = w32 177 then (
    if w32 v5 = 0 then (
      some ((), M))
    else (
      mB (f_X6_miss 6 M) fun _ M13 =>
      some ((), M13)))
  else (
    if w32 x1 = w32 176 then (
      mB (f_X6_popReference M) fun v7 M6 =>
      rd (mI M6 0 35) fun v8 =>
      if w32 v8 = 0 then (
        mB (f_X6_isThing v5 M6) fun v10 M9 =>
        if w32 v10 = 0 then (
          f_X6_leave_b65 M9)
        else (
          mB (f_X6_goesInto v7 v5 M9) fun v12 M11 =>
          if w32 v12 = 0 then (
            f_X6_leave_b65 M11)
          else (
            some ((), M11))))
      else (
        some ((), M6)))
    else (
      if w32 x1 = w32 172 then (
        f_X6_leave_b87 x1 v5 1 M)
      else (
        f_X6_leave_b87 x1 v5 2 M)))
def f_X6_fieldOf_b58 (x2 : Int) (M : MW) : Option (Unit × MW) :=
  ax x2 16 fun j => rd (mI M 4 j) fun v5 =>
  mB (f_X6_push v5 M) fun _ M6 =>
  some ((), M6)
def f_X6_fieldOf_b44 (x1 : Int) (x2 : Int) (M : MW) : Option (Unit × MW) :=
  if w32 x1 = w32 178 then (
    f_X6_fieldOf_b58 x2 M)
  else (
    if w32 x1 = w32 180 then (
      f_X6_fieldOf_b58 x2 M)
    else (
      some ((), M)))
def f_X6_fieldOf_b24 (x1 : Int) (x2 : Int) (M : MW) : Option (Unit × MW) :=
  if w32 x1 ≤ w32 179 then (
    f_X6_fieldOf_b44 x1 x2 M)
  else (
    ax x2 16 fun j => rd (mI M 3 j) fun v3 =>
    mB (f_X6_want (32 + v3) M) fun _ M4 =>
    f_X6_fieldOf_b44 x1 x2 M4)
def f_X6_fieldOf_b14 (x1 : Int) (x2 : Int) (M : MW) : Option (Unit × MW) :=
  ax x2 16 fun j => rd (mI M 4 j) fun v1 =>
  mB (f_X6_want v1 M) fun _ M2 =>
  f_X6_fieldOf_b24 x1 x2 M2
def f_X6_fieldOf (x1 : Int) (x2 : Int) (M : MW) : Option (Unit × MW) :=
  if w32 x1 = w32 179 then (
    f_X6_fieldOf_b14 x1 x2 M)
  else (
    if w32 x1 = w32 181 then (
      f_X6_fieldOf_b14 x1 x2 M)
    else (
      f_X6_fieldOf_b24 x1 x2 M))
def f_X6_call_s9 (k9 : Int → Int → MW → Option (Unit × MW)) (x1 : Int) (x2 : Int) (M : MW) : Option (Unit × MW) :=
  if w32 x2 < 0 then (
    ax x1 8 fun j => rd (mI M 8 j) fun v1 =>
    if w32 v1 = 0 then (
      some ((), M))
    else (
      ax x1 8 fun j => rd (mI M 8 j) fun v2 =>
      mB (f_X6_push v2 M) fun _ M3 =>
      some ((), M3)))
  else (
    ax ((4 * x1) + x2) 32 fun j => rd (mI M 6 j) fun v4 =>
    mB (f_X6_want v4 M) fun _ M5 =>
    k9 x1 (x2 + (-1)) M5)
def f_X6_call_b9 : Nat → Int → Int → MW → Option (Unit × MW)
  | 0 => fun _ _ _ => none
  | n + 1 => fun x1 x2 M => f_X6_call_s9 (f_X6_call_b9 n) x1 x2 M
def f_X6_call (x1 : Int) (M : MW) : Option (Unit × MW) :=
  ax x1 8 fun j => rd (mI M 7 j) fun v6 =>
  rd (v6 - 1) fun v7 =>
  f_X6_call_b9 FU x1 v7 M
def f_X6_turn_b47 (k5 : Int → Int → Int → Int → MW → Option (Int × MW)) (x1 : Int) (x2 : Int) (x3 : Int) (x4 : Int) (s1 : Int) (s2 : Int) (M : MW) : Option (Int × MW) :=
  ax s1 13 fun j => rd (msI M 29 j s2) fun M5 =>
  k5 x1 x2 x3 (x4 + 1) M5
def f_X6_turn_b115 (k57 : Int → Int → Int → Int → MW → Option (Int × MW)) (x1 : Int) (x2 : Int) (x3 : Int) (x4 : Int) (s1 : Int) (s2 : Int) (M : MW) : Option (Int × MW) :=
  ax s1 20 fun j => rd (msI M 31 j s2) fun M10 =>
  k57 x1 x2 x3 (x4 + 1) M10
def f_X6_turn_b86 (k57 : Int → Int → Int → Int → MW → Option (Int × MW)) (x1 : Int) (x2 : Int) (x4 : Int) (s0 : Int) (M : MW) : Option (Int × MW) :=
  ax x4 20 fun j => rd (mI M 31 j) fun v8 =>
  if w32 v8 = w32 x1 then (
    f_X6_turn_b115 k57 x1 x2 s0 x4 x4 x2 M)
  else (
    ax x4 20 fun j => rd (mI M 31 j) fun v9 =>
    f_X6_turn_b115 k57 x1 x2 s0 x4 x4 v9 M)
def f_X6_turn_b81 (k57 : Int → Int → Int → Int → MW → Option (Int × MW)) (x1 : Int) (x2 : Int) (x4 : Int) (M : MW) : Option (Int × MW) :=
  f_X6_turn_b86 k57 x1 x2 x4 1 M
def f_X6_turn_s57 (k57 : Int → Int → Int → Int → MW → Option (Int × MW)) (x1 : Int) (x2 : Int) (x3 : Int) (x4 : Int) (M : MW) : Option (Int × MW) :=
  rd (mI M 0 40) fun v6 =>
  if w32 v6 ≤ w32 x4 then (
    gdB (isZ x3) (some (x3, M)))
  else (
    if w32 x3 = 0 then (
      ax x4 20 fun j => rd (mI M 31 j) fun v7 =>
      if w32 v7 = w32 x1 then (
        f_X6_turn_b81 k57 x1 x2 x4 M)
      else (
        f_X6_turn_b86 k57 x1 x2 x4 0 M))
    else (
      f_X6_turn_b81 k57 x1 x2 x4 M))
def f_X6_turn_b57 : Nat → Int → Int → Int → Int → MW → Option (Int × MW)
  | 0 => fun _ _ _ _ _ => none
  | n + 1 => fun x1 x2 x3 x4 M => f_X6_turn_s57 (f_X6_turn_b57 n) x1 x2 x3 x4 M
def f_X6_turn_s5 (k5 : Int → Int → Int → Int → MW → Option (Int × MW)) (x1 : Int) (x2 : Int) (x3 : Int) (x4 : Int) (M : MW) : Option (Int × MW) :=
  rd (mI M 0 33) fun v1 =>
  ax v1 8 fun j => rd (mI M 12 j) fun v2 =>
  if w32 v2 ≤ w32 x4 then (
    f_X6_turn_b57 FU x1 x2 x3 0 M)
  else (
    ax x4 13 fun j => rd (mI M 29 j) fun v3 =>
    if w32 v3 = w32 x1 then (
      f_X6_turn_b47 k5 x1 x2 x3 x4 x4 x2 M)
    else (
      ax x4 13 fun j => rd (mI M 29 j) fun v4 =>
      f_X6_turn_b47 k5 x1 x2 x3 x4 x4 v4 M))
def f_X6_turn_b5 : Nat → Int → Int → Int → Int → MW → Option (Int × MW)
  | 0 => fun _ _ _ _ _ => none
  | n + 1 => fun x1 x2 x3 x4 M => f_X6_turn_s5 (f_X6_turn_b5 n) x1 x2 x3 x4 M
def f_X6_turn (x1 : Int) (x2 : Int) (M : MW) : Option (Int × MW) :=
  f_X6_turn_b5 FU x1 x2 0 0 M
def f_X6_objects_b29 (M : MW) : Option (Unit × MW) :=
  rd (mI M 0 34) fun v1 =>
  mB (f_X6_push (1000 + v1) M) fun _ M2 =>
  some ((), M2)
def f_X6_objects_b108 (x2 : Int) (x3 : Int) (M : MW) : Option (Unit × MW) :=
  rd (mI M 0 35) fun v6 =>
  if w32 v6 = 0 then (
    mB (f_X6_turn x3 (32 + x2) M) fun v8 M7 =>
    if w32 v8 = 0 then (
      some ((), M7))
    else (
      some ((), M7)))
  else (
    some ((), M))
def f_X6_objects_b102 (x2 : Int) (x3 : Int) (M : MW) : Option (Unit × MW) :=
  mB (f_X6_miss 6 M) fun _ M5 =>
  f_X6_objects_b108 x2 x3 M5
def f_X6_objects_b89 (x2 : Int) (x3 : Int) (s1 : Int) (s2 : Int) (M : MW) : Option (Unit × MW) :=
  mB (f_X6_at s1 ((s2 - 1000) + 1) M) fun v4 M3 =>
  if w32 v4 = w32 x2 then (
    f_X6_objects_b108 x2 x3 M3)
  else (
    f_X6_objects_b102 x2 x3 M3)
def f_X6_objects_b182 (s1 : Int) (M : MW) : Option (Unit × MW) :=
  mB (f_X6_push s1 M) fun _ M10 =>
  some ((), M10)
def f_X6_objects_b151 (x1 : Int) (x2 : Int) (M : MW) : Option (Unit × MW) :=
  mB (f_X6_want 1 M) fun _ M9 =>
  if w32 x1 = w32 189 then (
    f_X6_objects_b182 (64 + x2) M9)
  else (
    if w32 x2 = w32 10 then (
      f_X6_objects_b182 3 M9)
    else (
      f_X6_objects_b182 4 M9))
def f_X6_objects_b235 (M : MW) : Option (Unit × MW) :=
  mB (f_X6_push 1 M) fun _ M11 =>
  some ((), M11)
def f_X6_objects_b286 (M : MW) : Option (Unit × MW) :=
  mB (f_X6_miss 6 M) fun _ M12 =>
  some ((), M12)
def f_X6_objects_b316 (s1 : Int) (M : MW) : Option (Unit × MW) :=
  mB (f_X6_push s1 M) fun _ M13 =>
  some ((), M13)
def f_X6_objects (x1 : Int) (x2 : Int) (M : MW) : Option (Unit × MW) :=
  if w32 x1 = w32 187 then (
    rd (mI M 0 34) fun v33 =>
    mB (f_X6_turn (1000 + v33) 0 M) fun v35 M34 =>
    if w32 v35 = 0 then (
      f_X6_objects_b29 M34)
    else (
      mB (f_X6_miss 6 M34) fun _ M36 =>
      f_X6_objects_b29 M36))
  else (
    if w32 x1 = w32 183 then (
      mB (f_X6_pop M) fun v30 M29 =>
      rd (mI M29 0 35) fun v31 =>
      if w32 v31 = 0 then (
        if w32 v30 < w32 1000 then (
          f_X6_objects_b102 x2 v30 M29)
        else (
          rd (mI M29 0 33) fun v32 =>
          if w32 1000 ≤ w32 v30 then (
            f_X6_objects_b89 x2 v30 v32 v30 M29)
          else (
            f_X6_objects_b89 x2 v30 v32 1000 M29)))
      else (
        f_X6_objects_b108 x2 v30 M29))
    else (
      if w32 x1 = w32 188 then (
        f_X6_objects_b151 x1 x2 M)
      else (
        if w32 x1 = w32 189 then (
          f_X6_objects_b151 x1 x2 M)
        else (
          if w32 x1 = w32 190 then (
            mB (f_X6_pop M) fun v24 M23 =>
            rd (mI M23 0 35) fun v25 =>
            if w32 v25 = 0 then (
              if w32 v24 = w32 5 then (
                f_X6_objects_b235 M23)
              else (
                if w32 v24 = w32 3 then (
                  f_X6_objects_b235 M23)
                else (
                  if w32 v24 = w32 4 then (
                    f_X6_objects_b235 M23)
                  else (
                    mB (f_X6_isRow v24 M23) fun v27 M26 =>
                    if w32 v27 = 0 then (
                      mB (f_X6_miss 6 M26) fun _ M28 =>
                      f_X6_objects_b235 M28)
                    else (
                      f_X6_objects_b235 M26)))))
            else (
              f_X6_objects_b235 M23))
          else (
            if w32 x1 = w32 191 then (
              mB (f_X6_pop M) fun v17 M16 =>
              rd (mI M16 0 35) fun v18 =>
              if w32 v18 = 0 then (
                if w32 v17 = w32 5 then (
                  some ((), M16))
                else (
                  mB (f_X6_isObject v17 M16) fun v20 M19 =>
                  if w32 v20 = 0 then (
                    f_X6_objects_b286 M19)
                  else (
                    mB (f_X6_subs (v17 - 32) 1 M19) fun v22 M21 =>
                    if w32 v22 = 0 then (
                      f_X6_objects_b286 M21)
                    else (
                      some ((), M21)))))
              else (
                some ((), M16)))
            else (
              mB (f_X6_popReference M) fun v15 M14 =>
              if w32 x1 = w32 192 then (
                f_X6_objects_b316 (32 + x2) M14)
              else (
                f_X6_objects_b316 1 M14)))))))
def f_X6_simulate_b35 (M : MW) : Option (Unit × MW) :=
  mB (f_X6_push 1 M) fun _ M1 =>
  some ((), M1)
def f_X6_simulate_b55 (M : MW) : Option (Unit × MW) :=
  mB (f_X6_push 2 M) fun _ M2 =>
  some ((), M2)
def f_X6_simulate_b125 (x1 : Int) (M : MW) : Option (Unit × MW) :=
  mB (f_X6_arrays x1 M) fun _ M3 =>
  some ((), M3)
def f_X6_simulate (x1 : Int) (x2 : Int) (M : MW) : Option (Unit × MW) :=
  if w32 x1 = w32 1 then (
    mB (f_X6_push 5 M) fun _ M33 =>
    some ((), M33))
  else (
    mB (f_X6_in x1 2 8 M) fun v5 M4 =>
    if w32 v5 = 0 then (
      if w32 x1 = w32 16 then (
        f_X6_simulate_b35 M4)
      else (
        if w32 x1 = w32 17 then (
          f_X6_simulate_b35 M4)
        else (
          if w32 x1 = w32 9 then (
            f_X6_simulate_b55 M4)
          else (
            if w32 x1 = w32 10 then (
              f_X6_simulate_b55 M4)
            else (
              mB (f_X6_in x1 21 25 M4) fun v7 M6 =>
              if w32 v7 = 0 then (
                mB (f_X6_in x1 54 58 M6) fun v9 M8 =>
                if w32 v9 = 0 then (
                  mB (f_X6_in x1 46 50 M8) fun v11 M10 =>
                  if w32 v11 = 0 then (
                    mB (f_X6_in x1 79 83 M10) fun v13 M12 =>
                    if w32 v13 = 0 then (
                      mB (f_X6_in x1 87 95 M12) fun v15 M14 =>
                      if w32 v15 = 0 then (
                        mB (f_X6_in x1 96 148 M14) fun v17 M16 =>
                        if w32 v17 = 0 then (
                          mB (f_X6_branches x1 M16) fun v19 M18 =>
                          if w32 v19 = 0 then (
                            mB (f_X6_in x1 172 177 M18) fun v21 M20 =>
                            if w32 v21 = 0 then (
                              mB (f_X6_in x1 178 181 M20) fun v23 M22 =>
                              if w32 v23 = 0 then (
                                if w32 x1 = w32 184 then (
                                  mB (f_X6_call x2 M22) fun _ M25 =>
                                  some ((), M25))
                                else (
                                  if w32 x1 ≤ 0 then (
                                    some ((), M22))
                                  else (
                                    mB (f_X6_objects x1 x2 M22) fun _ M24 =>
                                    some ((), M24))))
                              else (
                                mB (f_X6_fieldOf x1 x2 M22) fun _ M26 =>
                                some ((), M26)))
                            else (
                              mB (f_X6_leave x1 M20) fun _ M27 =>
                              some ((), M27)))
                          else (
                            mB (f_X6_test x1 M18) fun _ M28 =>
                            some ((), M28)))
                        else (
                          mB (f_X6_reckon x1 M16) fun _ M29 =>
                          some ((), M29)))
                      else (
                        mB (f_X6_shuffle x1 M14) fun _ M30 =>
                        some ((), M30)))
                    else (
                      f_X6_simulate_b125 x1 M12))
                  else (
                    f_X6_simulate_b125 x1 M10))
                else (
                  mB (f_X6_store x1 x2 M8) fun _ M31 =>
                  some ((), M31)))
              else (
                mB (f_X6_load x1 x2 M6) fun _ M32 =>
                some ((), M32)))))))
    else (
      f_X6_simulate_b35 M4))
def f_X6_stops (x0 : Int) (M : MW) : Option (Int × MW) :=
  if w32 x0 = w32 167 then (
    some (1, M))
  else (
    mB (f_X6_in x0 172 177 M) fun v2 M1 =>
    if w32 v2 = 0 then (
      if w32 x0 = w32 191 then (
        some (1, M1))
      else (
        some (0, M1)))
    else (
      some (1, M1)))
def f_X6_giveLocals_s2 (k2 : Nat → Int → MW → Option (Unit × MW)) (x1 : Nat) (x2 : Int) (M : MW) : Option (Unit × MW) :=
  rd (mI M 0 33) fun v1 =>
  ax v1 8 fun j => rd (mI M 12 j) fun v2 =>
  if w32 v2 ≤ w32 x2 then (
    some ((), M))
  else (
    gdB (Nat.blt x1 200 && sKind x1 == 64) <| ax x2 (sLen x1) fun j => rd (mI M x1 j) fun v3 =>
    ax x2 12 fun j => rd (msI M 32 j v3) fun M4 =>
    k2 x1 (x2 + 1) M4)
def f_X6_giveLocals_b2 : Nat → Nat → Int → MW → Option (Unit × MW)
  | 0 => fun _ _ _ => none
  | n + 1 => fun x1 x2 M => f_X6_giveLocals_s2 (f_X6_giveLocals_b2 n) x1 x2 M
def f_X6_giveLocals (x1 : Nat) (M : MW) : Option (Unit × MW) :=
  f_X6_giveLocals_b2 FU x1 0 M
def f_X6_toHandler_b55 (x1 : Int) (s1 : Int) (s2 : Int) (s3 : Int) (M : MW) : Option (Int × MW) :=
  ax s1 20 fun j => rd (msI M 33 j (s2 + s3)) fun M1 =>
  rd (msI M1 0 43 1) fun M2 =>
  ax x1 128 fun j => rd (mI M2 16 j) fun v3 =>
  mB (f_X6_give v3 M2) fun v5 M4 =>
  gdB (isZ v5) (some (v5, M4))
def f_X6_toHandler (x1 : Int) (x2 : Nat) (M : MW) : Option (Int × MW) :=
  rd (mI M 0 33) fun v6 =>
  ax v6 8 fun j => rd (mI M 11 j) fun v7 =>
  if w32 v7 = 0 then (
    rd (mI M 0 34) fun v11 =>
    mB (f_X6_faulty 7 v11 M) fun v13 M12 =>
    gdB (isZ v13) (some (v13, M12)))
  else (
    mB (f_X6_giveLocals x2 M) fun _ M8 =>
    ax x1 128 fun j => rd (mI M8 17 j) fun v9 =>
    if w32 v9 = w32 (-1) then (
      f_X6_toHandler_b55 x1 0 32 1 M8)
    else (
      ax x1 128 fun j => rd (mI M8 17 j) fun v10 =>
      f_X6_toHandler_b55 x1 0 32 v10 M8))
def f_X6_look_b320 (k231 : Int → Int → Int → Int → Int → MW → Option (Int × MW)) (x1 : Int) (x3 : Int) (x4 : Int) (x5 : Int) (x6 : Int) (M : MW) : Option (Int × MW) :=
  k231 x1 x3 x4 x5 (x6 + 1) M
def f_X6_look_b280 (k231 : Int → Int → Int → Int → Int → MW → Option (Int × MW)) (x1 : Int) (x3 : Int) (x4 : Int) (x5 : Int) (x6 : Int) (s0 : Int) (M : MW) : Option (Int × MW) :=
  if w32 s0 = 0 then (
    f_X6_look_b320 k231 x1 x3 x4 x5 x6 M)
  else (
    mB (f_X6_toHandler x6 30 M) fun v45 M44 =>
    if w32 v45 = 0 then (
      some (0, M44))
    else (
      if w32 x5 = 0 then (
        f_X6_look_b320 k231 x1 x3 x4 x5 x6 M44)
      else (
        mB (f_X6_toHandler x6 29 M44) fun v47 M46 =>
        if w32 v47 = 0 then (
          some (0, M46))
        else (
          f_X6_look_b320 k231 x1 x3 x4 x5 x6 M46))))
def f_X6_look_b279 (k231 : Int → Int → Int → Int → Int → MW → Option (Int × MW)) (x1 : Int) (x3 : Int) (x4 : Int) (x5 : Int) (x6 : Int) (M : MW) : Option (Int × MW) :=
  f_X6_look_b280 k231 x1 x3 x4 x5 x6 0 M
def f_X6_look_b390 (x1 : Int) (x3 : Int) (M : MW) : Option (Int × MW) :=
  mB (f_X6_branches x3 M) fun v56 M55 =>
  if w32 v56 = 0 then (
    some (1, M55))
  else (
    rd (mI M55 0 33) fun v57 =>
    mB (f_X6_target v57 x1 M55) fun v59 M58 =>
    mB (f_X6_give v59 M58) fun v61 M60 =>
    if w32 v61 = 0 then (
      some (0, M60))
    else (
      some (1, M60)))
def f_X6_look_s345 (k345 : Int → Int → Int → Int → MW → Option (Int × MW)) (x1 : Int) (x3 : Int) (x4 : Int) (x6 : Int) (M : MW) : Option (Int × MW) :=
  rd (mI M 0 40) fun v48 =>
  if w32 v48 ≤ w32 x6 then (
    mB (f_X6_stops x3 M) fun v50 M49 =>
    if w32 v50 = 0 then (
      mB (f_X6_give x4 M49) fun v52 M51 =>
      if w32 v52 = 0 then (
        some (0, M51))
      else (
        f_X6_look_b390 x1 x3 M51))
    else (
      f_X6_look_b390 x1 x3 M49))
  else (
    ax x6 20 fun j => rd (mI M 31 j) fun v53 =>
    ax x6 20 fun j => rd (msI M 33 j v53) fun M54 =>
    k345 x1 x3 x4 (x6 + 1) M54)
def f_X6_look_b345 : Nat → Int → Int → Int → Int → MW → Option (Int × MW)
  | 0 => fun _ _ _ _ _ => none
  | n + 1 => fun x1 x3 x4 x6 M => f_X6_look_s345 (f_X6_look_b345 n) x1 x3 x4 x6 M
def f_X6_look_s231 (k231 : Int → Int → Int → Int → Int → MW → Option (Int × MW)) (x1 : Int) (x3 : Int) (x4 : Int) (x5 : Int) (x6 : Int) (M : MW) : Option (Int × MW) :=
  rd (mI M 0 33) fun v36 =>
  rd (mI M 0 33) fun v37 =>
  ax v37 8 fun j => rd (mI M 13 j) fun v38 =>
  if w32 ((16 * v36) + v38) ≤ w32 x6 then (
    mB (f_X6_giveLocals 29 M) fun _ M39 =>
    rd (mI M39 0 40) fun v40 =>
    rd (msI M39 0 43 v40) fun M41 =>
    f_X6_look_b345 FU x1 x3 x4 0 M41)
  else (
    ax x6 128 fun j => rd (mI M 14 j) fun v42 =>
    if w32 x1 < w32 v42 then (
      f_X6_look_b279 k231 x1 x3 x4 x5 x6 M)
    else (
      ax x6 128 fun j => rd (mI M 15 j) fun v43 =>
      if w32 v43 ≤ w32 x1 then (
        f_X6_look_b279 k231 x1 x3 x4 x5 x6 M)
      else (
        f_X6_look_b280 k231 x1 x3 x4 x5 x6 1 M)))
def f_X6_look_b231 : Nat → Int → Int → Int → Int → Int → MW → Option (Int × MW)
  | 0 => fun _ _ _ _ _ _ => none
  | n + 1 => fun x1 x3 x4 x5 x6 M => f_X6_look_s231 (f_X6_look_b231 n) x1 x3 x4 x5 x6 M
def f_X6_look_b195 (x1 : Int) (x3 : Int) (x4 : Int) (M : MW) : Option (Int × MW) :=
  rd (mI M 0 35) fun v28 =>
  if w32 v28 ≤ 0 then (
    mB (f_X6_in x3 54 58 M) fun v30 M29 =>
    rd (mI M29 0 33) fun v31 =>
    rd (16 * v31) fun v32 =>
    f_X6_look_b231 FU x1 x3 x4 v30 v32 M29)
  else (
    rd (mI M 0 35) fun v33 =>
    mB (f_X6_faulty v33 x1 M) fun v35 M34 =>
    gdB (isZ v35) (some (v35, M34)))
def f_X6_look_b158 (x1 : Int) (x3 : Int) (x4 : Int) (s1 : Int) (s2 : Int) (M : MW) : Option (Int × MW) :=
  mB (f_X6_simulate s1 s2 M) fun _ M21 =>
  rd (mI M21 0 35) fun v22 =>
  if w32 v22 = 0 then (
    mB (f_X6_stops x3 M21) fun v24 M23 =>
    if w32 v24 = 0 then (
      rd (mI M23 0 33) fun v25 =>
      ax v25 8 fun j => rd (mI M23 9 j) fun v26 =>
      if w32 x4 = w32 v26 then (
        mB (f_X6_miss 8 M23) fun _ M27 =>
        f_X6_look_b195 x1 x3 x4 M27)
      else (
        f_X6_look_b195 x1 x3 x4 M23))
    else (
      f_X6_look_b195 x1 x3 x4 M23))
  else (
    f_X6_look_b195 x1 x3 x4 M21)
def f_X6_look_s87 (k87 : Int → Int → Int → MW → Option (Int × MW)) (x1 : Int) (x2 : Int) (x3 : Int) (M : MW) : Option (Int × MW) :=
  rd (mI M 0 40) fun v7 =>
  if w32 v7 ≤ w32 x3 then (
    rd (mI M 0 33) fun v8 =>
    mB (f_X6_at v8 x1 M) fun v10 M9 =>
    mB (f_X6_length v10 M9) fun v12 M11 =>
    rd (x1 + v12) fun v13 =>
    mB (f_X6_length v10 M11) fun v15 M14 =>
    if w32 v15 ≤ w32 1 then (
      f_X6_look_b158 x1 v10 v13 v10 0 M14)
    else (
      rd (mI M14 0 33) fun v16 =>
      mB (f_X6_at v16 (x1 + 1) M14) fun v18 M17 =>
      f_X6_look_b158 x1 v10 v13 v10 v18 M17))
  else (
    ax (x2 + x3) 11520 fun j => rd (mI M 25 j) fun v19 =>
    ax x3 20 fun j => rd (msI M 31 j v19) fun M20 =>
    k87 x1 x2 (x3 + 1) M20)
def f_X6_look_b87 : Nat → Int → Int → Int → MW → Option (Int × MW)
  | 0 => fun _ _ _ _ => none
  | n + 1 => fun x1 x2 x3 M => f_X6_look_s87 (f_X6_look_b87 n) x1 x2 x3 M
def f_X6_look_s38 (k38 : Int → Int → Int → MW → Option (Int × MW)) (x1 : Int) (x2 : Int) (x3 : Int) (M : MW) : Option (Int × MW) :=
  rd (mI M 0 33) fun v1 =>
  ax v1 8 fun j => rd (mI M 12 j) fun v2 =>
  if w32 v2 ≤ w32 x3 then (
    f_X6_look_b87 FU x1 x2 0 M)
  else (
    ax (x2 + x3) 11520 fun j => rd (mI M 24 j) fun v3 =>
    ax x3 13 fun j => rd (msI M 29 j v3) fun M4 =>
    ax (x2 + x3) 11520 fun j => rd (mI M4 24 j) fun v5 =>
    ax x3 12 fun j => rd (msI M4 30 j v5) fun M6 =>
    k38 x1 x2 (x3 + 1) M6)
def f_X6_look_b38 : Nat → Int → Int → Int → MW → Option (Int × MW)
  | 0 => fun _ _ _ _ => none
  | n + 1 => fun x1 x2 x3 M => f_X6_look_s38 (f_X6_look_b38 n) x1 x2 x3 M
def f_X6_look (x1 : Int) (M : MW) : Option (Int × MW) :=
  rd (mI M 0 33) fun v62 =>
  rd (12 * ((120 * v62) + x1)) fun v63 =>
  rd (msI M 0 34 x1) fun M64 =>
  rd (mI M64 0 33) fun v65 =>
  ax ((120 * v65) + x1) 960 fun j => rd (mI M64 23 j) fun v66 =>
  rd (msI M64 0 40 v66) fun M67 =>
  f_X6_look_b38 FU x1 v63 0 M67
def f_X6_flows_b114 (k66 : Int → Int → MW → Option (Int × MW)) (x2 : Int) (s0 : Int) (s1 : Int) (M : MW) : Option (Int × MW) :=
  rd (s0 + s1) fun v14 =>
  k66 v14 (x2 + 1) M
def f_X6_flows_s130 (k130 : Int → Int → MW → Option (Int × MW)) (x2 : Int) (x3 : Int) (M : MW) : Option (Int × MW) :=
  if w32 x2 = 0 then (
    gdB (isZ x2) (some (x2, M)))
  else (
    if w32 120 ≤ w32 x3 then (
      gdB (isZ x2) (some (x2, M)))
    else (
      ax x3 120 fun j => rd (mI M 26 j) fun v15 =>
      if w32 v15 = 0 then (
        k130 x2 (x3 + 1) M)
      else (
        ax x3 120 fun j => rd (msI M 26 j (iAnd 0 1)) fun M16 =>
        mB (f_X6_look x3 M16) fun v18 M17 =>
        k130 v18 0 M17)))
def f_X6_flows_b130 : Nat → Int → Int → MW → Option (Int × MW)
  | 0 => fun _ _ _ => none
  | n + 1 => fun x2 x3 M => f_X6_flows_s130 (f_X6_flows_b130 n) x2 x3 M
def f_X6_flows_s66 (k66 : Int → Int → MW → Option (Int × MW)) (x1 : Int) (x2 : Int) (M : MW) : Option (Int × MW) :=
  rd (mI M 0 33) fun v6 =>
  ax v6 8 fun j => rd (mI M 7 j) fun v7 =>
  if w32 v7 ≤ w32 x2 then (
    mB (f_X6_give 0 M) fun v9 M8 =>
    f_X6_flows_b130 FU v9 0 M8)
  else (
    rd (mI M 0 33) fun v10 =>
    ax ((4 * v10) + x2) 32 fun j => rd (mI M 6 j) fun v11 =>
    ax x1 12 fun j => rd (msI M 32 j v11) fun M12 =>
    ax x1 12 fun j => rd (mI M12 32 j) fun v13 =>
    if w32 v13 = w32 2 then (
      f_X6_flows_b114 k66 x2 x1 2 M12)
    else (
      f_X6_flows_b114 k66 x2 x1 1 M12))
def f_X6_flows_b66 : Nat → Int → Int → MW → Option (Int × MW)
  | 0 => fun _ _ _ => none
  | n + 1 => fun x1 x2 M => f_X6_flows_s66 (f_X6_flows_b66 n) x1 x2 M
def f_X6_flows_s43 (k43 : Int → MW → Option (Int × MW)) (x1 : Int) (M : MW) : Option (Int × MW) :=
  if w32 12 ≤ w32 x1 then (
    f_X6_flows_b66 FU 0 0 M)
  else (
    ax x1 12 fun j => rd (msI M 32 j 0) fun M5 =>
    k43 (x1 + 1) M5)
def f_X6_flows_b43 : Nat → Int → MW → Option (Int × MW)
  | 0 => fun _ _ => none
  | n + 1 => fun x1 M => f_X6_flows_s43 (f_X6_flows_b43 n) x1 M
def f_X6_flows_s2 (k2 : Int → MW → Option (Int × MW)) (x1 : Int) (M : MW) : Option (Int × MW) :=
  if w32 120 ≤ w32 x1 then (
    rd (msI M 0 43 0) fun M1 =>
    f_X6_flows_b43 FU 0 M1)
  else (
    rd (mI M 0 33) fun v2 =>
    ax ((120 * v2) + x1) 960 fun j => rd (msI M 23 j (-1)) fun M3 =>
    ax x1 120 fun j => rd (msI M3 26 j (iAnd 0 1)) fun M4 =>
    k2 (x1 + 1) M4)
def f_X6_flows_b2 : Nat → Int → MW → Option (Int × MW)
  | 0 => fun _ _ => none
  | n + 1 => fun x1 M => f_X6_flows_s2 (f_X6_flows_b2 n) x1 M
def f_X6_flows (M : MW) : Option (Int × MW) :=
  f_X6_flows_b2 FU 0 M
def f_X6_addCut (x1 : Int) (x2 : Int) (x3 : Int) (x4 : Int) (M : MW) : Option (Unit × MW) :=
  rd (mI M 0 45) fun v1 =>
  ax v1 40 fun j => rd (msI M 34 j x1) fun M2 =>
  rd (mI M2 0 45) fun v3 =>
  ax v3 40 fun j => rd (msI M2 35 j x2) fun M4 =>
  rd (mI M4 0 45) fun v5 =>
  ax v5 40 fun j => rd (msI M4 36 j x3) fun M6 =>
  rd (mI M6 0 45) fun v7 =>
  ax v7 40 fun j => rd (msI M6 37 j x4) fun M8 =>
  rd (mI M8 0 45) fun v9 =>
  rd (msI M8 0 45 (v9 + 1)) fun M10 =>
  some ((), M10)
def f_X6_isDead (x1 : Int) (M : MW) : Option (Int × MW) :=
  rd (mI M 0 33) fun v1 =>
  mB (f_X6_isBeginning v1 x1 M) fun v3 M2 =>
  if w32 v3 = 0 then (
    some (0, M2))
  else (
    rd (mI M2 0 33) fun v4 =>
    ax ((120 * v4) + x1) 960 fun j => rd (mI M2 23 j) fun v5 =>
    if 0 ≤ w32 v5 then (
      some (0, M2))
    else (
      some (1, M2)))
def f_X6_rowEnd_s2 (k2 : Int → MW → Option (Int × MW)) (x2 : Int) (M : MW) : Option (Int × MW) :=
  rd (mI M 0 33) fun v1 =>
  ax v1 8 fun j => rd (mI M 9 j) fun v2 =>
  if w32 v2 ≤ w32 x2 then (
    some (x2, M))
  else (
    mB (f_X6_isDead x2 M) fun v4 M3 =>
    if w32 v4 = 0 then (
      some (x2, M3))
    else (
      rd (mI M3 0 33) fun v5 =>
      mB (f_X6_at v5 x2 M3) fun v7 M6 =>
      mB (f_X6_length v7 M6) fun v9 M8 =>
      rd (x2 + v9) fun v10 =>
      k2 v10 M8))
def f_X6_rowEnd_b2 : Nat → Int → MW → Option (Int × MW)
  | 0 => fun _ _ => none
  | n + 1 => fun x2 M => f_X6_rowEnd_s2 (f_X6_rowEnd_b2 n) x2 M
def f_X6_rowEnd (x1 : Int) (M : MW) : Option (Int × MW) :=
  f_X6_rowEnd_b2 FU x1 M
def f_X6_cut_b123 (k8 : Int → Int → Int → Int → MW → Option (Unit × MW)) (x1 : Int) (x2 : Int) (x3 : Int) (x4 : Int) (M : MW) : Option (Unit × MW) :=
  k8 x1 x2 x3 (x4 + 1) M
def f_X6_cut_b44 (k8 : Int → Int → Int → Int → MW → Option (Unit × MW)) (x1 : Int) (x2 : Int) (x3 : Int) (x4 : Int) (x5 : Int) (x6 : Int) (M : MW) : Option (Unit × MW) :=
  ax x4 40 fun j => rd (mI M 36 j) fun v6 =>
  ax x4 40 fun j => rd (mI M 37 j) fun v7 =>
  mB (f_X6_addCut x5 x6 v6 v7 M) fun _ M8 =>
  f_X6_cut_b123 k8 x1 x2 x3 x4 M8
def f_X6_cut_b96 (k8 : Int → Int → Int → Int → MW → Option (Unit × MW)) (x1 : Int) (x2 : Int) (x3 : Int) (x4 : Int) (x6 : Int) (M : MW) : Option (Unit × MW) :=
  if w32 x6 ≤ w32 x2 then (
    f_X6_cut_b123 k8 x1 x2 x3 x4 M)
  else (
    ax x4 40 fun j => rd (mI M 36 j) fun v9 =>
    ax x4 40 fun j => rd (mI M 37 j) fun v10 =>
    mB (f_X6_addCut x2 x6 v9 v10 M) fun _ M11 =>
    f_X6_cut_b123 k8 x1 x2 x3 x4 M11)
def f_X6_cut_s132 (k132 : Int → Int → MW → Option (Unit × MW)) (x3 : Int) (x4 : Int) (M : MW) : Option (Unit × MW) :=
  rd (mI M 0 45) fun v12 =>
  if w32 v12 ≤ w32 x4 then (
    rd (mI M 0 45) fun v13 =>
    rd (msI M 0 45 (v13 - x3)) fun M14 =>
    some ((), M14))
  else (
    ax x4 40 fun j => rd (mI M 34 j) fun v15 =>
    ax (x4 - x3) 40 fun j => rd (msI M 34 j v15) fun M16 =>
    ax x4 40 fun j => rd (mI M16 35 j) fun v17 =>
    ax (x4 - x3) 40 fun j => rd (msI M16 35 j v17) fun M18 =>
    ax x4 40 fun j => rd (mI M18 36 j) fun v19 =>
    ax (x4 - x3) 40 fun j => rd (msI M18 36 j v19) fun M20 =>
    ax x4 40 fun j => rd (mI M20 37 j) fun v21 =>
    ax (x4 - x3) 40 fun j => rd (msI M20 37 j v21) fun M22 =>
    k132 x3 (x4 + 1) M22)
def f_X6_cut_b132 : Nat → Int → Int → MW → Option (Unit × MW)
  | 0 => fun _ _ _ => none
  | n + 1 => fun x3 x4 M => f_X6_cut_s132 (f_X6_cut_b132 n) x3 x4 M
def f_X6_cut_s8 (k8 : Int → Int → Int → Int → MW → Option (Unit × MW)) (x1 : Int) (x2 : Int) (x3 : Int) (x4 : Int) (M : MW) : Option (Unit × MW) :=
  if w32 x3 ≤ w32 x4 then (
    f_X6_cut_b132 FU x3 x3 M)
  else (
    ax x4 40 fun j => rd (mI M 34 j) fun v1 =>
    ax x4 40 fun j => rd (mI M 35 j) fun v2 =>
    if w32 v2 ≤ w32 x1 then (
      f_X6_cut_b44 k8 x1 x2 x3 x4 v1 v2 M)
    else (
      if w32 v1 < w32 x2 then (
        if w32 x1 ≤ w32 v1 then (
          f_X6_cut_b96 k8 x1 x2 x3 x4 v2 M)
        else (
          ax x4 40 fun j => rd (mI M 36 j) fun v3 =>
          ax x4 40 fun j => rd (mI M 37 j) fun v4 =>
          mB (f_X6_addCut v1 x1 v3 v4 M) fun _ M5 =>
          f_X6_cut_b96 k8 x1 x2 x3 x4 v2 M5))
      else (
        f_X6_cut_b44 k8 x1 x2 x3 x4 v1 v2 M)))
def f_X6_cut_b8 : Nat → Int → Int → Int → Int → MW → Option (Unit × MW)
  | 0 => fun _ _ _ _ _ => none
  | n + 1 => fun x1 x2 x3 x4 M => f_X6_cut_s8 (f_X6_cut_b8 n) x1 x2 x3 x4 M
def f_X6_cut (x1 : Int) (x2 : Int) (M : MW) : Option (Unit × MW) :=
  rd (mI M 0 45) fun v23 =>
  f_X6_cut_b8 FU x1 x2 v23 0 M
def f_X6_buries_b148 (k70 : Int → MW → Option (Int × MW)) (s0 : Int) (M : MW) : Option (Int × MW) :=
  k70 s0 M
def f_X6_buries_b101 (k70 : Int → MW → Option (Int × MW)) (x1 : Int) (M : MW) : Option (Int × MW) :=
  rd (mI M 0 45) fun v19 =>
  if w32 v19 ≤ w32 12 then (
    mB (f_X6_isDead x1 M) fun v21 M20 =>
    if w32 v21 = 0 then (
      rd (mI M20 0 33) fun v22 =>
      mB (f_X6_at v22 x1 M20) fun v24 M23 =>
      mB (f_X6_length v24 M23) fun v26 M25 =>
      f_X6_buries_b148 k70 (x1 + v26) M25)
    else (
      mB (f_X6_rowEnd x1 M20) fun v28 M27 =>
      f_X6_buries_b148 k70 v28 M27))
  else (
    mB (f_X6_faulty 10 x1 M) fun v30 M29 =>
    gdB (isZ v30) (some (v30, M29)))
def f_X6_buries_b382 (k263 : Int → MW → Option (Int × MW)) (k350 : Int → Int → Int → MW → Option (Int × MW)) (x1 : Int) (x2 : Int) (x3 : Int) (s1 : Int) (s2 : Int) (M : MW) : Option (Int × MW) :=
  ax s1 960 fun j => rd (msI M 10 j s2) fun M59 =>
  k350 x1 x2 (x3 + 1) M59
def f_X6_buries_b440 (k263 : Int → MW → Option (Int × MW)) (s0 : Int) (M : MW) : Option (Int × MW) :=
  k263 s0 M
def f_X6_buries_b417 (k263 : Int → MW → Option (Int × MW)) (x1 : Int) (x2 : Int) (M : MW) : Option (Int × MW) :=
  if w32 x2 ≤ w32 x1 then (
    rd (mI M 0 33) fun v62 =>
    mB (f_X6_at v62 x1 M) fun v64 M63 =>
    mB (f_X6_length v64 M63) fun v66 M65 =>
    f_X6_buries_b440 k263 (x1 + v66) M65)
  else (
    f_X6_buries_b440 k263 x2 M)
def f_X6_buries_s391 (k263 : Int → MW → Option (Int × MW)) (k391 : Int → Int → Int → MW → Option (Int × MW)) (x1 : Int) (x2 : Int) (x3 : Int) (M : MW) : Option (Int × MW) :=
  if w32 x2 ≤ w32 x3 then (
    f_X6_buries_b417 k263 x1 x2 M)
  else (
    rd (mI M 0 33) fun v60 =>
    ax ((120 * v60) + x3) 960 fun j => rd (msI M 22 j (iAnd 0 1)) fun M61 =>
    k391 x1 x2 (x3 + 1) M61)
def f_X6_buries_b391 (k263 : Int → MW → Option (Int × MW)) : Nat → Int → Int → Int → MW → Option (Int × MW)
  | 0 => fun _ _ _ _ => none
  | n + 1 => fun x1 x2 x3 M => f_X6_buries_s391 k263 (f_X6_buries_b391 k263 n) x1 x2 x3 M
def f_X6_buries_s350 (k263 : Int → MW → Option (Int × MW)) (k350 : Int → Int → Int → MW → Option (Int × MW)) (x1 : Int) (x2 : Int) (x3 : Int) (M : MW) : Option (Int × MW) :=
  if w32 x2 ≤ w32 x3 then (
    f_X6_buries_b391 k263 FU x1 x2 x1 M)
  else (
    rd (mI M 0 33) fun v58 =>
    if w32 x3 = w32 (x2 - 1) then (
      f_X6_buries_b382 k263 k350 x1 x2 x3 ((120 * v58) + x3) 191 M)
    else (
      f_X6_buries_b382 k263 k350 x1 x2 x3 ((120 * v58) + x3) 0 M))
def f_X6_buries_b350 (k263 : Int → MW → Option (Int × MW)) : Nat → Int → Int → Int → MW → Option (Int × MW)
  | 0 => fun _ _ _ _ => none
  | n + 1 => fun x1 x2 x3 M => f_X6_buries_s350 k263 (f_X6_buries_b350 k263 n) x1 x2 x3 M
def f_X6_buries_b347 (k263 : Int → MW → Option (Int × MW)) (x1 : Int) (x2 : Int) (s1 : Int) (s2 : Int) (M : MW) : Option (Int × MW) :=
  ax s1 8 fun j => rd (msI M 11 j s2) fun M57 =>
  f_X6_buries_b350 k263 FU x1 x2 x1 M57
def f_X6_buries_b293 (k263 : Int → MW → Option (Int × MW)) (x1 : Int) (s0 : Int) (M : MW) : Option (Int × MW) :=
  if w32 s0 ≤ w32 x1 then (
    f_X6_buries_b417 k263 x1 s0 M)
  else (
    rd (mI M 0 33) fun v50 =>
    ax ((120 * v50) + x1) 960 fun j => rd (msI M 27 j (iAnd 1 1)) fun M51 =>
    rd (mI M51 0 33) fun v52 =>
    rd (mI M51 0 33) fun v53 =>
    ax v53 8 fun j => rd (mI M51 11 j) fun v54 =>
    if w32 v54 = 0 then (
      f_X6_buries_b347 k263 x1 s0 v52 1 M51)
    else (
      rd (mI M51 0 33) fun v55 =>
      ax v55 8 fun j => rd (mI M51 11 j) fun v56 =>
      f_X6_buries_b347 k263 x1 s0 v52 v56 M51))
def f_X6_buries_s263 (k263 : Int → MW → Option (Int × MW)) (x1 : Int) (M : MW) : Option (Int × MW) :=
  rd (mI M 0 33) fun v44 =>
  ax v44 8 fun j => rd (mI M 9 j) fun v45 =>
  if w32 v45 ≤ w32 x1 then (
    some (1, M))
  else (
    mB (f_X6_isDead x1 M) fun v47 M46 =>
    if w32 v47 = 0 then (
      f_X6_buries_b293 k263 x1 x1 M46)
    else (
      mB (f_X6_rowEnd x1 M46) fun v49 M48 =>
      f_X6_buries_b293 k263 x1 v49 M48))
def f_X6_buries_b263 : Nat → Int → MW → Option (Int × MW)
  | 0 => fun _ _ => none
  | n + 1 => fun x1 M => f_X6_buries_s263 (f_X6_buries_b263 n) x1 M
def f_X6_buries_s167 (k167 : Int → MW → Option (Int × MW)) (x1 : Int) (M : MW) : Option (Int × MW) :=
  rd (mI M 0 45) fun v31 =>
  if w32 v31 ≤ w32 x1 then (
    f_X6_buries_b263 FU 0 M)
  else (
    rd (mI M 0 33) fun v32 =>
    ax x1 40 fun j => rd (mI M 34 j) fun v33 =>
    ax ((16 * v32) + x1) 128 fun j => rd (msI M 14 j v33) fun M34 =>
    rd (mI M34 0 33) fun v35 =>
    ax x1 40 fun j => rd (mI M34 35 j) fun v36 =>
    ax ((16 * v35) + x1) 128 fun j => rd (msI M34 15 j v36) fun M37 =>
    rd (mI M37 0 33) fun v38 =>
    ax x1 40 fun j => rd (mI M37 36 j) fun v39 =>
    ax ((16 * v38) + x1) 128 fun j => rd (msI M37 16 j v39) fun M40 =>
    rd (mI M40 0 33) fun v41 =>
    ax x1 40 fun j => rd (mI M40 37 j) fun v42 =>
    ax ((16 * v41) + x1) 128 fun j => rd (msI M40 17 j v42) fun M43 =>
    k167 (x1 + 1) M43)
def f_X6_buries_b167 : Nat → Int → MW → Option (Int × MW)
  | 0 => fun _ _ => none
  | n + 1 => fun x1 M => f_X6_buries_s167 (f_X6_buries_b167 n) x1 M
def f_X6_buries_s70 (k70 : Int → MW → Option (Int × MW)) (x1 : Int) (M : MW) : Option (Int × MW) :=
  rd (mI M 0 33) fun v9 =>
  ax v9 8 fun j => rd (mI M 9 j) fun v10 =>
  if w32 v10 ≤ w32 x1 then (
    rd (mI M 0 33) fun v11 =>
    rd (mI M 0 45) fun v12 =>
    ax v11 8 fun j => rd (msI M 13 j v12) fun M13 =>
    f_X6_buries_b167 FU 0 M13)
  else (
    mB (f_X6_isDead x1 M) fun v15 M14 =>
    if w32 v15 = 0 then (
      f_X6_buries_b101 k70 x1 M14)
    else (
      mB (f_X6_rowEnd x1 M14) fun v17 M16 =>
      mB (f_X6_cut x1 v17 M16) fun _ M18 =>
      f_X6_buries_b101 k70 x1 M18))
def f_X6_buries_b70 : Nat → Int → MW → Option (Int × MW)
  | 0 => fun _ _ => none
  | n + 1 => fun x1 M => f_X6_buries_s70 (f_X6_buries_b70 n) x1 M
def f_X6_buries_s13 (k13 : Int → MW → Option (Int × MW)) (x1 : Int) (M : MW) : Option (Int × MW) :=
  rd (mI M 0 33) fun v1 =>
  rd (mI M 0 33) fun v2 =>
  ax v2 8 fun j => rd (mI M 13 j) fun v3 =>
  if w32 ((16 * v1) + v3) ≤ w32 x1 then (
    f_X6_buries_b70 FU 0 M)
  else (
    ax x1 128 fun j => rd (mI M 14 j) fun v4 =>
    ax x1 128 fun j => rd (mI M 15 j) fun v5 =>
    ax x1 128 fun j => rd (mI M 16 j) fun v6 =>
    ax x1 128 fun j => rd (mI M 17 j) fun v7 =>
    mB (f_X6_addCut v4 v5 v6 v7 M) fun _ M8 =>
    k13 (x1 + 1) M8)
def f_X6_buries_b13 : Nat → Int → MW → Option (Int × MW)
  | 0 => fun _ _ => none
  | n + 1 => fun x1 M => f_X6_buries_s13 (f_X6_buries_b13 n) x1 M
def f_X6_buries (M : MW) : Option (Int × MW) :=
  rd (msI M 0 45 0) fun M67 =>
  rd (mI M67 0 33) fun v68 =>
  rd (16 * v68) fun v69 =>
  f_X6_buries_b13 FU v69 M67
def f_X6_frame (x1 : Int) (M : MW) : Option (Unit × MW) :=
  rd (mI M 0 33) fun v1 =>
  ax ((120 * v1) + x1) 960 fun j => rd (msI M 28 j (iAnd 1 1)) fun M2 =>
  some ((), M2)
def f_X6_findFrames_b120 (k2 : Int → MW → Option (Int × MW)) (x1 : Int) (M : MW) : Option (Int × MW) :=
  k2 (x1 + 1) M
def f_X6_findFrames_b81 (k2 : Int → MW → Option (Int × MW)) (x1 : Int) (x2 : Int) (x3 : Int) (M : MW) : Option (Int × MW) :=
  if w32 x3 = 0 then (
    f_X6_findFrames_b120 k2 x1 M)
  else (
    mB (f_X6_stops x2 M) fun v21 M20 =>
    if w32 v21 = 0 then (
      f_X6_findFrames_b120 k2 x1 M20)
    else (
      mB (f_X6_length x2 M20) fun v23 M22 =>
      rd (mI M22 0 33) fun v24 =>
      ax v24 8 fun j => rd (mI M22 9 j) fun v25 =>
      if w32 v25 ≤ w32 (x1 + v23) then (
        f_X6_findFrames_b120 k2 x1 M22)
      else (
        mB (f_X6_length x2 M22) fun v27 M26 =>
        mB (f_X6_frame (x1 + v27) M26) fun _ M28 =>
        f_X6_findFrames_b120 k2 x1 M28)))
def f_X6_findFrames_b57 (k2 : Int → MW → Option (Int × MW)) (x1 : Int) (x2 : Int) (x3 : Int) (M : MW) : Option (Int × MW) :=
  if w32 x3 = 0 then (
    f_X6_findFrames_b81 k2 x1 x2 x3 M)
  else (
    mB (f_X6_branches x2 M) fun v15 M14 =>
    if w32 v15 = 0 then (
      f_X6_findFrames_b81 k2 x1 x2 x3 M14)
    else (
      rd (mI M14 0 33) fun v16 =>
      mB (f_X6_target v16 x1 M14) fun v18 M17 =>
      mB (f_X6_frame v18 M17) fun _ M19 =>
      f_X6_findFrames_b81 k2 x1 x2 x3 M19))
def f_X6_findFrames_b211 (k175 : Int → Int → MW → Option (Int × MW)) (x2 : Int) (s0 : Int) (s1 : Int) (M : MW) : Option (Int × MW) :=
  rd (s0 + s1) fun v38 =>
  k175 v38 (x2 + 1) M
def f_X6_findFrames_s175 (k175 : Int → Int → MW → Option (Int × MW)) (x1 : Int) (x2 : Int) (M : MW) : Option (Int × MW) :=
  rd (mI M 0 33) fun v34 =>
  ax v34 8 fun j => rd (mI M 9 j) fun v35 =>
  if w32 v35 ≤ w32 x2 then (
    some (x1, M))
  else (
    rd (mI M 0 33) fun v36 =>
    ax ((120 * v36) + x2) 960 fun j => rd (mI M 28 j) fun v37 =>
    if w32 v37 = 0 then (
      f_X6_findFrames_b211 k175 x2 x1 0 M)
    else (
      f_X6_findFrames_b211 k175 x2 x1 1 M))
def f_X6_findFrames_b175 : Nat → Int → Int → MW → Option (Int × MW)
  | 0 => fun _ _ _ => none
  | n + 1 => fun x1 x2 M => f_X6_findFrames_s175 (f_X6_findFrames_b175 n) x1 x2 M
def f_X6_findFrames_s134 (k134 : Int → MW → Option (Int × MW)) (x1 : Int) (M : MW) : Option (Int × MW) :=
  rd (mI M 0 33) fun v29 =>
  rd (mI M 0 33) fun v30 =>
  ax v30 8 fun j => rd (mI M 13 j) fun v31 =>
  if w32 ((16 * v29) + v31) ≤ w32 x1 then (
    f_X6_findFrames_b175 FU 0 0 M)
  else (
    ax x1 128 fun j => rd (mI M 16 j) fun v32 =>
    mB (f_X6_frame v32 M) fun _ M33 =>
    k134 (x1 + 1) M33)
def f_X6_findFrames_b134 : Nat → Int → MW → Option (Int × MW)
  | 0 => fun _ _ => none
  | n + 1 => fun x1 M => f_X6_findFrames_s134 (f_X6_findFrames_b134 n) x1 M
def f_X6_findFrames_s2 (k2 : Int → MW → Option (Int × MW)) (x1 : Int) (M : MW) : Option (Int × MW) :=
  rd (mI M 0 33) fun v1 =>
  ax v1 8 fun j => rd (mI M 9 j) fun v2 =>
  if w32 v2 ≤ w32 x1 then (
    rd (mI M 0 33) fun v3 =>
    rd (16 * v3) fun v4 =>
    f_X6_findFrames_b134 FU v4 M)
  else (
    rd (mI M 0 33) fun v5 =>
    mB (f_X6_at v5 x1 M) fun v7 M6 =>
    rd (mI M6 0 33) fun v8 =>
    mB (f_X6_isBeginning v8 x1 M6) fun v10 M9 =>
    rd (mI M9 0 33) fun v11 =>
    ax ((120 * v11) + x1) 960 fun j => rd (mI M9 27 j) fun v12 =>
    if w32 v12 = 0 then (
      f_X6_findFrames_b57 k2 x1 v7 v10 M9)
    else (
      mB (f_X6_frame x1 M9) fun _ M13 =>
      f_X6_findFrames_b57 k2 x1 v7 v10 M13))
def f_X6_findFrames_b2 : Nat → Int → MW → Option (Int × MW)
  | 0 => fun _ _ => none
  | n + 1 => fun x1 M => f_X6_findFrames_s2 (f_X6_findFrames_b2 n) x1 M
def f_X6_findFrames (M : MW) : Option (Int × MW) :=
  f_X6_findFrames_b2 FU 0 M
def f_X6_verify_b29 (M : MW) : Option (Int × MW) :=
  mB (f_X6_fails 1 M) fun v16 M15 =>
  some (v16, M15)
def f_X6_verify_b99 (x1 : Int) (s0 : Int) (M : MW) : Option (Int × MW) :=
  if w32 s0 = 0 then (
    rd (mI M 0 35) fun v20 =>
    ax x1 8 fun j => rd (msI M 19 j v20) fun M21 =>
    rd (mI M21 0 36) fun v22 =>
    ax x1 8 fun j => rd (msI M21 20 j v22) fun M23 =>
    mB (f_X6_fails 3 M23) fun v25 M24 =>
    some (v25, M24))
  else (
    rd (msI M 0 0 0) fun M17 =>
    mB (f_X6_findFrames M17) fun v19 M18 =>
    some (v19, M18))
def f_X6_verify_b98 (x1 : Int) (M : MW) : Option (Int × MW) :=
  f_X6_verify_b99 x1 0 M
def f_X6_verify_b25 (x1 : Int) (s1 : Int) (M : MW) : Option (Int × MW) :=
  ax s1 8 fun j => rd (mI M 9 j) fun v1 =>
  if w32 v1 = 0 then (
    f_X6_verify_b29 M)
  else (
    ax x1 8 fun j => rd (mI M 18 j) fun v2 =>
    if w32 v2 = 0 then (
      ax x1 8 fun j => rd (msI M 18 j (iAnd 1 1)) fun M3 =>
      rd (msI M3 0 33 x1) fun M4 =>
      rd (msI M4 0 35 0) fun M5 =>
      rd (msI M5 0 36 (-1)) fun M6 =>
      mB (f_X6_isFormed x1 M6) fun v8 M7 =>
      if w32 v8 = 0 then (
        f_X6_verify_b98 x1 M7)
      else (
        mB (f_X6_flows M7) fun v10 M9 =>
        if w32 v10 = 0 then (
          f_X6_verify_b98 x1 M9)
        else (
          mB (f_X6_buries M9) fun v12 M11 =>
          if w32 v12 = 0 then (
            f_X6_verify_b98 x1 M11)
          else (
            f_X6_verify_b99 x1 1 M11))))
    else (
      mB (f_X6_fails 2 M) fun v14 M13 =>
      some (v14, M13)))
def f_X6_verify (x1 : Int) (M : MW) : Option (Int × MW) :=
  mB (f_X6_isMethod x1 M) fun v27 M26 =>
  if w32 v27 = 0 then (
    f_X6_verify_b29 M26)
  else (
    mB (f_X6_isMethod x1 M26) fun v29 M28 =>
    if w32 v29 = 0 then (
      f_X6_verify_b25 x1 0 M28)
    else (
      f_X6_verify_b25 x1 x1 M28))
def f_X6_listLocals_b118 (k21 : Int → Int → Int → Int → Int → MW → Option (Unit × MW)) (x1 : Int) (x2 : Int) (x3 : Int) (x4 : Int) (s0 : Int) (s1 : Int) (M : MW) : Option (Unit × MW) :=
  rd (s0 + s1) fun v13 =>
  k21 x1 x2 x3 x4 (v13 + 1) M
def f_X6_listLocals_b96 (k21 : Int → Int → Int → Int → Int → MW → Option (Unit × MW)) (x1 : Int) (x2 : Int) (x4 : Int) (x5 : Int) (s0 : Int) (M : MW) : Option (Unit × MW) :=
  ax (x4 + x5) 11520 fun j => rd (mI M 24 j) fun v12 =>
  if w32 v12 = w32 2 then (
    f_X6_listLocals_b118 k21 x1 x2 s0 x4 x5 1 M)
  else (
    f_X6_listLocals_b118 k21 x1 x2 s0 x4 x5 0 M)
def f_X6_listLocals_s21 (k21 : Int → Int → Int → Int → Int → MW → Option (Unit × MW)) (x1 : Int) (x2 : Int) (x3 : Int) (x4 : Int) (x5 : Int) (M : MW) : Option (Unit × MW) :=
  ax x1 8 fun j => rd (mI M 12 j) fun v1 =>
  if w32 v1 ≤ w32 x5 then (
    rd (msI M 0 55 x3) fun M2 =>
    some ((), M2))
  else (
    ax ((120 * x1) + x2) 960 fun j => rd (mI M 27 j) fun v3 =>
    if w32 v3 = 0 then (
      rd (mI M 0 55) fun v5 =>
      ax (x4 + x5) 11520 fun j => rd (mI M 24 j) fun v6 =>
      ax v5 12 fun j => rd (msI M 40 j v6) fun M7 =>
      rd (mI M7 0 55) fun v8 =>
      rd (msI M7 0 55 (v8 + 1)) fun M9 =>
      ax (x4 + x5) 11520 fun j => rd (mI M9 24 j) fun v10 =>
      if w32 v10 = 0 then (
        f_X6_listLocals_b96 k21 x1 x2 x4 x5 x3 M9)
      else (
        rd (mI M9 0 55) fun v11 =>
        f_X6_listLocals_b96 k21 x1 x2 x4 x5 v11 M9))
    else (
      rd (msI M 0 55 x3) fun M4 =>
      some ((), M4)))
def f_X6_listLocals_b21 : Nat → Int → Int → Int → Int → Int → MW → Option (Unit × MW)
  | 0 => fun _ _ _ _ _ _ => none
  | n + 1 => fun x1 x2 x3 x4 x5 M => f_X6_listLocals_s21 (f_X6_listLocals_b21 n) x1 x2 x3 x4 x5 M
def f_X6_listLocals (x1 : Int) (x2 : Int) (M : MW) : Option (Unit × MW) :=
  rd (msI M 0 55 0) fun M14 =>
  rd (12 * ((120 * x1) + x2)) fun v15 =>
  f_X6_listLocals_b21 FU x1 x2 0 v15 0 M14
def f_X6_beginAlike_b53 (k24 : Int → Int → Int → MW → Option (Int × MW)) (x1 : Int) (x3 : Int) (s0 : Int) (M : MW) : Option (Int × MW) :=
  k24 x1 s0 (x3 + 1) M
def f_X6_beginAlike_s24 (k24 : Int → Int → Int → MW → Option (Int × MW)) (x1 : Int) (x2 : Int) (x3 : Int) (M : MW) : Option (Int × MW) :=
  if w32 x1 ≤ w32 x3 then (
    gdB (isZ x2) (some (x2, M)))
  else (
    if w32 x2 = 0 then (
      gdB (isZ x2) (some (x2, M)))
    else (
      ax x3 12 fun j => rd (mI M 39 j) fun v1 =>
      ax x3 12 fun j => rd (mI M 40 j) fun v2 =>
      if w32 v1 = w32 v2 then (
        f_X6_beginAlike_b53 k24 x1 x3 1 M)
      else (
        f_X6_beginAlike_b53 k24 x1 x3 0 M)))
def f_X6_beginAlike_b24 : Nat → Int → Int → Int → MW → Option (Int × MW)
  | 0 => fun _ _ _ _ => none
  | n + 1 => fun x1 x2 x3 M => f_X6_beginAlike_s24 (f_X6_beginAlike_b24 n) x1 x2 x3 M
def f_X6_beginAlike_b21 (x1 : Int) (s0 : Int) (M : MW) : Option (Int × MW) :=
  f_X6_beginAlike_b24 FU x1 s0 0 M
def f_X6_beginAlike_b20 (x1 : Int) (M : MW) : Option (Int × MW) :=
  f_X6_beginAlike_b21 x1 0 M
def f_X6_beginAlike (x1 : Int) (M : MW) : Option (Int × MW) :=
  rd (mI M 0 53) fun v3 =>
  if w32 v3 < w32 x1 then (
    f_X6_beginAlike_b20 x1 M)
  else (
    rd (mI M 0 55) fun v4 =>
    if w32 v4 < w32 x1 then (
      f_X6_beginAlike_b20 x1 M)
    else (
      f_X6_beginAlike_b21 x1 1 M))
def f_X6_write (x1 : Int) (M : MW) : Option (Unit × MW) :=
  rd (mI M 0 50) fun v1 =>
  ax v1 12000 fun j => rd (msI M 38 j x1) fun M2 =>
  rd (mI M2 0 50) fun v3 =>
  rd (msI M2 0 50 (v3 + 1)) fun M4 =>
  some ((), M4)
def f_X6_writeTwo (x1 : Int) (M : MW) : Option (Unit × MW) :=
  mB (f_X6_write (iShr x1 8) M) fun _ M1 =>
  mB (f_X6_write (iAnd x1 255) M1) fun _ M2 =>
  some ((), M2)
def f_X6_stackAt (x1 : Int) (x2 : Int) (x3 : Int) (M : MW) : Option (Int × MW) :=
  ax ((120 * x1) + x2) 960 fun j => rd (mI M 27 j) fun v1 =>
  if w32 v1 = 0 then (
    ax ((12 * ((120 * x1) + x2)) + x3) 11520 fun j => rd (mI M 25 j) fun v2 =>
    some (v2, M))
  else (
    some (33, M))
def f_X6_writeType_b124 (s1 : Int) (M : MW) : Option (Unit × MW) :=
  mB (f_X6_write s1 M) fun _ M12 =>
  some ((), M12)
def f_X6_writeType_b91 (x1 : Int) (s1 : Int) (M : MW) : Option (Unit × MW) :=
  mB (f_X6_write s1 M) fun _ M7 =>
  mB (f_X6_isObject x1 M7) fun v9 M8 =>
  if w32 v9 = 0 then (
    mB (f_X6_isRow x1 M8) fun v11 M10 =>
    if w32 v11 = 0 then (
      f_X6_writeType_b124 x1 M10)
    else (
      f_X6_writeType_b124 (x1 - 64) M10))
  else (
    f_X6_writeType_b124 (x1 - 32) M8)
def f_X6_writeType_b63 (x1 : Int) (x2 : Int) (M : MW) : Option (Unit × MW) :=
  if w32 x2 = 0 then (
    some ((), M))
  else (
    mB (f_X6_isObject x1 M) fun v4 M3 =>
    if w32 v4 = 0 then (
      mB (f_X6_isRow x1 M3) fun v6 M5 =>
      if w32 v6 = 0 then (
        f_X6_writeType_b91 x1 2 M5)
      else (
        f_X6_writeType_b91 x1 1 M5))
    else (
      f_X6_writeType_b91 x1 0 M3))
def f_X6_writeType_b44 (x1 : Int) (x2 : Int) (s1 : Int) (M : MW) : Option (Unit × MW) :=
  mB (f_X6_write s1 M) fun _ M1 =>
  if w32 x1 < w32 1000 then (
    f_X6_writeType_b63 x1 x2 M1)
  else (
    mB (f_X6_writeTwo (x1 - 1000) M1) fun _ M2 =>
    f_X6_writeType_b63 x1 x2 M2)
def f_X6_writeType_b20 (x1 : Int) (x2 : Int) (M : MW) : Option (Unit × MW) :=
  f_X6_writeType_b44 x1 x2 x1 M
def f_X6_writeType (x1 : Int) (M : MW) : Option (Unit × MW) :=
  mB (f_X6_isThing x1 M) fun v14 M13 =>
  if w32 x1 = 0 then (
    f_X6_writeType_b20 x1 v14 M13)
  else (
    if w32 x1 = w32 1 then (
      f_X6_writeType_b20 x1 v14 M13)
    else (
      if w32 x1 = w32 5 then (
        f_X6_writeType_b20 x1 v14 M13)
      else (
        if w32 x1 = w32 2 then (
          f_X6_writeType_b44 x1 v14 4 M13)
        else (
          if w32 v14 = 0 then (
            f_X6_writeType_b44 x1 v14 8 M13)
          else (
            f_X6_writeType_b44 x1 v14 7 M13)))))
def f_X6_writeFrame_b131 (x1 : Int) (x2 : Int) (x4 : Int) (M : MW) : Option (Unit × MW) :=
  if w32 x4 = w32 1 then (
    mB (f_X6_stackAt x1 x2 0 M) fun v13 M12 =>
    mB (f_X6_writeType v13 M12) fun _ M14 =>
    some ((), M14))
  else (
    some ((), M))
def f_X6_writeFrame_b120 (x1 : Int) (x2 : Int) (x3 : Int) (x4 : Int) (M : MW) : Option (Unit × MW) :=
  if w32 x3 < w32 64 then (
    f_X6_writeFrame_b131 x1 x2 x4 M)
  else (
    mB (f_X6_writeTwo x3 M) fun _ M11 =>
    f_X6_writeFrame_b131 x1 x2 x4 M11)
def f_X6_writeFrame_b117 (x1 : Int) (x2 : Int) (x3 : Int) (x4 : Int) (s1 : Int) (M : MW) : Option (Unit × MW) :=
  mB (f_X6_write s1 M) fun _ M10 =>
  f_X6_writeFrame_b120 x1 x2 x3 x4 M10
def f_X6_writeFrame_s245 (k245 : Int → MW → Option (Unit × MW)) (x7 : Int) (M : MW) : Option (Unit × MW) :=
  rd (mI M 0 55) fun v26 =>
  if w32 v26 ≤ w32 x7 then (
    some ((), M))
  else (
    ax x7 12 fun j => rd (mI M 40 j) fun v27 =>
    mB (f_X6_writeType v27 M) fun _ M28 =>
    k245 (x7 + 1) M28)
def f_X6_writeFrame_b245 : Nat → Int → MW → Option (Unit × MW)
  | 0 => fun _ _ => none
  | n + 1 => fun x7 M => f_X6_writeFrame_s245 (f_X6_writeFrame_b245 n) x7 M
def f_X6_writeFrame_s332 (k332 : Int → Int → Int → Int → MW → Option (Unit × MW)) (x1 : Int) (x2 : Int) (x4 : Int) (x7 : Int) (M : MW) : Option (Unit × MW) :=
  if w32 x4 ≤ w32 x7 then (
    some ((), M))
  else (
    mB (f_X6_stackAt x1 x2 x7 M) fun v38 M37 =>
    mB (f_X6_writeType v38 M37) fun _ M39 =>
    k332 x1 x2 x4 (x7 + 1) M39)
def f_X6_writeFrame_b332 : Nat → Int → Int → Int → Int → MW → Option (Unit × MW)
  | 0 => fun _ _ _ _ _ => none
  | n + 1 => fun x1 x2 x4 x7 M => f_X6_writeFrame_s332 (f_X6_writeFrame_b332 n) x1 x2 x4 x7 M
def f_X6_writeFrame_s297 (k297 : Int → Int → Int → Int → MW → Option (Unit × MW)) (x1 : Int) (x2 : Int) (x4 : Int) (x7 : Int) (M : MW) : Option (Unit × MW) :=
  rd (mI M 0 55) fun v33 =>
  if w32 v33 ≤ w32 x7 then (
    mB (f_X6_writeTwo x4 M) fun _ M34 =>
    f_X6_writeFrame_b332 FU x1 x2 x4 0 M34)
  else (
    ax x7 12 fun j => rd (mI M 40 j) fun v35 =>
    mB (f_X6_writeType v35 M) fun _ M36 =>
    k297 x1 x2 x4 (x7 + 1) M36)
def f_X6_writeFrame_b297 : Nat → Int → Int → Int → Int → MW → Option (Unit × MW)
  | 0 => fun _ _ _ _ _ => none
  | n + 1 => fun x1 x2 x4 x7 M => f_X6_writeFrame_s297 (f_X6_writeFrame_b297 n) x1 x2 x4 x7 M
def f_X6_writeFrame_b274 (x1 : Int) (x2 : Int) (x3 : Int) (x4 : Int) (M : MW) : Option (Unit × MW) :=
  mB (f_X6_write 255 M) fun _ M29 =>
  mB (f_X6_writeTwo x3 M29) fun _ M30 =>
  rd (mI M30 0 55) fun v31 =>
  mB (f_X6_writeTwo v31 M30) fun _ M32 =>
  f_X6_writeFrame_b297 FU x1 x2 x4 0 M32
def f_X6_writeFrame_b197 (x1 : Int) (x2 : Int) (x3 : Int) (x4 : Int) (x6 : Int) (M : MW) : Option (Unit × MW) :=
  if w32 x4 = 0 then (
    if w32 x6 ≤ 0 then (
      f_X6_writeFrame_b274 x1 x2 x3 x4 M)
    else (
      if w32 4 ≤ w32 x6 then (
        f_X6_writeFrame_b274 x1 x2 x3 x4 M)
      else (
        rd (mI M 0 53) fun v20 =>
        mB (f_X6_beginAlike v20 M) fun v22 M21 =>
        if w32 v22 = 0 then (
          f_X6_writeFrame_b274 x1 x2 x3 x4 M21)
        else (
          mB (f_X6_write (251 + x6) M21) fun _ M23 =>
          mB (f_X6_writeTwo x3 M23) fun _ M24 =>
          rd (mI M24 0 53) fun v25 =>
          f_X6_writeFrame_b245 FU v25 M24))))
  else (
    f_X6_writeFrame_b274 x1 x2 x3 x4 M)
def f_X6_writeFrame_b151 (x1 : Int) (x2 : Int) (x3 : Int) (x4 : Int) (x6 : Int) (M : MW) : Option (Unit × MW) :=
  if w32 x4 = 0 then (
    if 0 ≤ w32 x6 then (
      f_X6_writeFrame_b197 x1 x2 x3 x4 x6 M)
    else (
      if w32 x6 ≤ w32 (-4) then (
        f_X6_writeFrame_b197 x1 x2 x3 x4 x6 M)
      else (
        rd (mI M 0 55) fun v15 =>
        mB (f_X6_beginAlike v15 M) fun v17 M16 =>
        if w32 v17 = 0 then (
          f_X6_writeFrame_b197 x1 x2 x3 x4 x6 M16)
        else (
          mB (f_X6_write (251 + x6) M16) fun _ M18 =>
          mB (f_X6_writeTwo x3 M18) fun _ M19 =>
          some ((), M19)))))
  else (
    f_X6_writeFrame_b197 x1 x2 x3 x4 x6 M)
def f_X6_writeFrame_b58 (x1 : Int) (x2 : Int) (x3 : Int) (x4 : Int) (s0 : Int) (M : MW) : Option (Unit × MW) :=
  rd (mI M 0 55) fun v6 =>
  rd (mI M 0 53) fun v7 =>
  rd (v6 - v7) fun v8 =>
  if w32 s0 = 0 then (
    f_X6_writeFrame_b151 x1 x2 x3 x4 v8 M)
  else (
    if w32 2 ≤ w32 x4 then (
      f_X6_writeFrame_b151 x1 x2 x3 x4 v8 M)
    else (
      if w32 64 ≤ w32 x3 then (
        if w32 x4 = 0 then (
          f_X6_writeFrame_b117 x1 x2 x3 x4 251 M)
        else (
          f_X6_writeFrame_b117 x1 x2 x3 x4 247 M))
      else (
        mB (f_X6_write ((64 * x4) + x3) M) fun _ M9 =>
        f_X6_writeFrame_b120 x1 x2 x3 x4 M9)))
def f_X6_writeFrame_b57 (x1 : Int) (x2 : Int) (x3 : Int) (x4 : Int) (M : MW) : Option (Unit × MW) :=
  f_X6_writeFrame_b58 x1 x2 x3 x4 0 M
def f_X6_writeFrame_b29 (x1 : Int) (x2 : Int) (x3 : Int) (s0 : Int) (M : MW) : Option (Unit × MW) :=
  rd (mI M 0 53) fun v1 =>
  rd (mI M 0 55) fun v2 =>
  if w32 v1 = w32 v2 then (
    rd (mI M 0 55) fun v3 =>
    mB (f_X6_beginAlike v3 M) fun v5 M4 =>
    if w32 v5 = 0 then (
      f_X6_writeFrame_b57 x1 x2 x3 s0 M4)
    else (
      f_X6_writeFrame_b58 x1 x2 x3 s0 1 M4))
  else (
    f_X6_writeFrame_b57 x1 x2 x3 s0 M)
def f_X6_writeFrame (x1 : Int) (x2 : Int) (x3 : Int) (M : MW) : Option (Unit × MW) :=
  ax ((120 * x1) + x2) 960 fun j => rd (mI M 27 j) fun v40 =>
  if w32 v40 = 0 then (
    ax ((120 * x1) + x2) 960 fun j => rd (mI M 23 j) fun v41 =>
    f_X6_writeFrame_b29 x1 x2 x3 v41 M)
  else (
    f_X6_writeFrame_b29 x1 x2 x3 1 M)
def f_X6_writeAll_b134 (k51 : Int → Int → Int → MW → Option (Unit × MW)) (x1 : Int) (x2 : Int) (x3 : Int) (M : MW) : Option (Unit × MW) :=
  k51 x1 x2 (x3 + 1) M
def f_X6_writeAll_s105 (k51 : Int → Int → Int → MW → Option (Unit × MW)) (k105 : Int → Int → Int → Int → MW → Option (Unit × MW)) (x1 : Int) (x2 : Int) (x3 : Int) (x4 : Int) (M : MW) : Option (Unit × MW) :=
  rd (mI M 0 55) fun v10 =>
  if w32 v10 ≤ w32 x4 then (
    f_X6_writeAll_b134 k51 x1 x2 x3 M)
  else (
    ax x4 12 fun j => rd (mI M 40 j) fun v11 =>
    ax x4 12 fun j => rd (msI M 39 j v11) fun M12 =>
    k105 x1 x2 x3 (x4 + 1) M12)
def f_X6_writeAll_b105 (k51 : Int → Int → Int → MW → Option (Unit × MW)) : Nat → Int → Int → Int → Int → MW → Option (Unit × MW)
  | 0 => fun _ _ _ _ _ => none
  | n + 1 => fun x1 x2 x3 x4 M => f_X6_writeAll_s105 k51 (f_X6_writeAll_b105 k51 n) x1 x2 x3 x4 M
def f_X6_writeAll_s51 (k51 : Int → Int → Int → MW → Option (Unit × MW)) (x1 : Int) (x2 : Int) (x3 : Int) (M : MW) : Option (Unit × MW) :=
  ax x1 8 fun j => rd (mI M 9 j) fun v4 =>
  if w32 v4 ≤ w32 x3 then (
    some ((), M))
  else (
    ax ((120 * x1) + x3) 960 fun j => rd (mI M 28 j) fun v5 =>
    if w32 v5 = 0 then (
      f_X6_writeAll_b134 k51 x1 x2 x3 M)
    else (
      mB (f_X6_listLocals x1 x3 M) fun _ M6 =>
      mB (f_X6_writeFrame x1 x3 ((x3 - x2) - 1) M6) fun _ M7 =>
      rd (mI M7 0 55) fun v8 =>
      rd (msI M7 0 53 v8) fun M9 =>
      f_X6_writeAll_b105 k51 FU x1 x3 x3 0 M9))
def f_X6_writeAll_b51 : Nat → Int → Int → Int → MW → Option (Unit × MW)
  | 0 => fun _ _ _ _ => none
  | n + 1 => fun x1 x2 x3 M => f_X6_writeAll_s51 (f_X6_writeAll_b51 n) x1 x2 x3 M
def f_X6_writeAll_s17 (k17 : Int → Int → MW → Option (Unit × MW)) (x1 : Int) (x2 : Int) (M : MW) : Option (Unit × MW) :=
  rd (mI M 0 53) fun v1 =>
  if w32 v1 ≤ w32 x2 then (
    f_X6_writeAll_b51 FU x1 (-1) 0 M)
  else (
    ax ((4 * x1) + x2) 32 fun j => rd (mI M 6 j) fun v2 =>
    ax x2 12 fun j => rd (msI M 39 j v2) fun M3 =>
    k17 x1 (x2 + 1) M3)
def f_X6_writeAll_b17 : Nat → Int → Int → MW → Option (Unit × MW)
  | 0 => fun _ _ _ => none
  | n + 1 => fun x1 x2 M => f_X6_writeAll_s17 (f_X6_writeAll_b17 n) x1 x2 M
def f_X6_writeAll (x1 : Int) (M : MW) : Option (Unit × MW) :=
  rd (msI M 0 50 0) fun M13 =>
  ax x1 8 fun j => rd (mI M13 7 j) fun v14 =>
  rd (msI M13 0 53 v14) fun M15 =>
  f_X6_writeAll_b17 FU x1 0 M15
def f_X6_about_b18 (M : MW) : Option (Int × MW) :=
  mB (f_X6_fails 1 M) fun v2 M1 =>
  some (v2, M1)
def f_X6_about_b62 (k34 : Int → Int → Int → Int → MW → Option (Int × MW)) (x1 : Int) (x2 : Int) (x4 : Int) (s0 : Int) (s1 : Int) (M : MW) : Option (Int × MW) :=
  rd (s0 + s1) fun v5 =>
  k34 x1 x2 v5 (x4 + 1) M
def f_X6_about_b80 (x1 : Int) (x2 : Int) (x3 : Int) (M : MW) : Option (Int × MW) :=
  sw (w32 x2) 0 [
     (
      ax x1 8 fun j => rd (mI M 19 j) fun v6 =>
      some (v6, M)),
     (
      ax x1 8 fun j => rd (mI M 20 j) fun v7 =>
      some (v7, M)),
     (
      ax x1 8 fun j => rd (mI M 18 j) fun v8 =>
      if w32 v8 = 0 then (
        some (0, M))
      else (
        some (1, M))),
     (
      ax x1 8 fun j => rd (mI M 9 j) fun v9 =>
      some (v9, M)),
     (
      rd (mI M 0 50) fun v10 =>
      some (v10, M)),
     (
      ax x1 8 fun j => rd (mI M 13 j) fun v11 =>
      some (v11, M)),
     (
      ax x1 8 fun j => rd (mI M 11 j) fun v12 =>
      some (v12, M)),
     (
      ax x1 8 fun j => rd (mI M 12 j) fun v13 =>
      some (v13, M))
    ] (
    some (x3, M))
def f_X6_about_s34 (k34 : Int → Int → Int → Int → MW → Option (Int × MW)) (x1 : Int) (x2 : Int) (x3 : Int) (x4 : Int) (M : MW) : Option (Int × MW) :=
  if w32 120 ≤ w32 x4 then (
    if w32 x2 = w32 4 then (
      mB (f_X6_writeAll x1 M) fun _ M3 =>
      f_X6_about_b80 x1 x2 x3 M3)
    else (
      f_X6_about_b80 x1 x2 x3 M))
  else (
    ax ((120 * x1) + x4) 960 fun j => rd (mI M 28 j) fun v4 =>
    if w32 v4 = 0 then (
      f_X6_about_b62 k34 x1 x2 x4 x3 0 M)
    else (
      f_X6_about_b62 k34 x1 x2 x4 x3 1 M))
def f_X6_about_b34 : Nat → Int → Int → Int → Int → MW → Option (Int × MW)
  | 0 => fun _ _ _ _ _ => none
  | n + 1 => fun x1 x2 x3 x4 M => f_X6_about_s34 (f_X6_about_b34 n) x1 x2 x3 x4 M
def f_X6_about (x1 : Int) (x2 : Int) (M : MW) : Option (Int × MW) :=
  mB (f_X6_isMethod x1 M) fun v15 M14 =>
  if w32 v15 = 0 then (
    f_X6_about_b18 M14)
  else (
    if w32 x2 < 0 then (
      f_X6_about_b18 M14)
    else (
      if w32 x2 ≤ w32 8 then (
        rd (msI M14 0 0 0) fun M16 =>
        f_X6_about_b34 FU x1 x2 0 0 M16)
      else (
        f_X6_about_b18 M14)))
def f_X6_codeAt_b34 (M : MW) : Option (Int × MW) :=
  mB (f_X6_fails 1 M) fun v6 M5 =>
  some (v6, M5)
def f_X6_codeAt_b30 (x1 : Int) (x2 : Int) (s0 : Int) (s2 : Int) (M : MW) : Option (Int × MW) :=
  ax s2 8 fun j => rd (mI M 9 j) fun v1 =>
  if w32 s0 < w32 v1 then (
    rd (msI M 0 0 0) fun M2 =>
    mB (f_X6_at x1 x2 M2) fun v4 M3 =>
    some (v4, M3))
  else (
    f_X6_codeAt_b34 M)
def f_X6_codeAt (x1 : Int) (x2 : Int) (M : MW) : Option (Int × MW) :=
  mB (f_X6_isMethod x1 M) fun v8 M7 =>
  if w32 v8 = 0 then (
    f_X6_codeAt_b34 M7)
  else (
    if w32 x2 < 0 then (
      f_X6_codeAt_b34 M7)
    else (
      mB (f_X6_isMethod x1 M7) fun v10 M9 =>
      if w32 v10 = 0 then (
        f_X6_codeAt_b30 x1 x2 x2 0 M9)
      else (
        f_X6_codeAt_b30 x1 x2 x2 x1 M9)))
def f_X6_frameAt_b12 (M : MW) : Option (Int × MW) :=
  mB (f_X6_fails 1 M) fun v2 M1 =>
  some (v2, M1)
def f_X6_frameAt (x1 : Int) (x2 : Int) (M : MW) : Option (Int × MW) :=
  mB (f_X6_isMethod x1 M) fun v4 M3 =>
  if w32 v4 = 0 then (
    f_X6_frameAt_b12 M3)
  else (
    if 0 ≤ w32 x2 then (
      mB (f_X6_writeAll x1 M3) fun _ M5 =>
      rd (mI M5 0 50) fun v6 =>
      if w32 x2 < w32 v6 then (
        rd (msI M5 0 0 0) fun M7 =>
        ax x2 12000 fun j => rd (mI M7 38 j) fun v8 =>
        some (v8, M7))
      else (
        mB (f_X6_fails 1 M5) fun v10 M9 =>
        some (v10, M9)))
    else (
      f_X6_frameAt_b12 M3))
def f_X6_handlerAt_b43 (M : MW) : Option (Int × MW) :=
  mB (f_X6_fails 1 M) fun v9 M8 =>
  some (v9, M8)
def f_X6_handlerAt_b30 (x1 : Int) (x2 : Int) (x3 : Int) (s0 : Int) (s2 : Int) (M : MW) : Option (Int × MW) :=
  ax s2 8 fun j => rd (mI M 13 j) fun v1 =>
  if w32 v1 ≤ w32 s0 then (
    f_X6_handlerAt_b43 M)
  else (
    if w32 x3 < 0 then (
      f_X6_handlerAt_b43 M)
    else (
      if w32 x3 ≤ w32 3 then (
        rd (msI M 0 0 0) fun M2 =>
        rd ((16 * x1) + x2) fun v3 =>
        if w32 x3 = 0 then (
          ax v3 128 fun j => rd (mI M2 14 j) fun v7 =>
          some (v7, M2))
        else (
          if w32 x3 = w32 1 then (
            ax v3 128 fun j => rd (mI M2 15 j) fun v6 =>
            some (v6, M2))
          else (
            if w32 x3 = w32 2 then (
              ax v3 128 fun j => rd (mI M2 16 j) fun v5 =>
              some (v5, M2))
            else (
              ax v3 128 fun j => rd (mI M2 17 j) fun v4 =>
              some (v4, M2)))))
      else (
        f_X6_handlerAt_b43 M)))
def f_X6_handlerAt (x1 : Int) (x2 : Int) (x3 : Int) (M : MW) : Option (Int × MW) :=
  mB (f_X6_isMethod x1 M) fun v11 M10 =>
  if w32 v11 = 0 then (
    f_X6_handlerAt_b43 M10)
  else (
    if w32 x2 < 0 then (
      f_X6_handlerAt_b43 M10)
    else (
      mB (f_X6_isMethod x1 M10) fun v13 M12 =>
      if w32 v13 = 0 then (
        f_X6_handlerAt_b30 x1 x2 x3 x2 0 M12)
      else (
        f_X6_handlerAt_b30 x1 x2 x3 x2 x1 M12)))
def f_X6_typeAt_b85 (M : MW) : Option (Int × MW) :=
  mB (f_X6_fails 1 M) fun v11 M10 =>
  some (v11, M10)
def f_X6_typeAt_b138 (x3 : Int) (x5 : Int) (s0 : Int) (M : MW) : Option (Int × MW) :=
  if w32 s0 = 0 then (
    mB (f_X6_fails 1 M) fun v17 M16 =>
    some (v17, M16))
  else (
    rd (msI M 0 0 0) fun M13 =>
    if w32 100 ≤ w32 x3 then (
      ax (((12 * x5) + x3) - 100) 11520 fun j => rd (mI M13 25 j) fun v14 =>
      some (v14, M13))
    else (
      ax ((12 * x5) + x3) 11520 fun j => rd (mI M13 24 j) fun v15 =>
      some (v15, M13)))
def f_X6_typeAt_b133 (x3 : Int) (x5 : Int) (M : MW) : Option (Int × MW) :=
  f_X6_typeAt_b138 x3 x5 1 M
def f_X6_typeAt_b137 (x3 : Int) (x5 : Int) (M : MW) : Option (Int × MW) :=
  f_X6_typeAt_b138 x3 x5 0 M
def f_X6_typeAt_b113 (x3 : Int) (x5 : Int) (M : MW) : Option (Int × MW) :=
  if w32 x3 < w32 100 then (
    f_X6_typeAt_b137 x3 x5 M)
  else (
    ax x5 960 fun j => rd (mI M 23 j) fun v12 =>
    if w32 v12 ≤ w32 (x3 - 100) then (
      f_X6_typeAt_b137 x3 x5 M)
    else (
      f_X6_typeAt_b133 x3 x5 M))
def f_X6_typeAt_b55 (x1 : Int) (x2 : Int) (x3 : Int) (s0 : Int) (M : MW) : Option (Int × MW) :=
  if w32 s0 = 0 then (
    f_X6_typeAt_b85 M)
  else (
    mB (f_X6_isBeginning x1 x2 M) fun v6 M5 =>
    if w32 v6 = 0 then (
      f_X6_typeAt_b85 M5)
    else (
      ax ((120 * x1) + x2) 960 fun j => rd (mI M5 23 j) fun v7 =>
      if 0 ≤ w32 v7 then (
        rd ((120 * x1) + x2) fun v8 =>
        if w32 x3 < 0 then (
          f_X6_typeAt_b113 x3 v8 M5)
        else (
          ax x1 8 fun j => rd (mI M5 12 j) fun v9 =>
          if w32 x3 < w32 v9 then (
            f_X6_typeAt_b133 x3 v8 M5)
          else (
            f_X6_typeAt_b113 x3 v8 M5)))
      else (
        f_X6_typeAt_b85 M5)))
def f_X6_typeAt_b54 (x1 : Int) (x2 : Int) (x3 : Int) (M : MW) : Option (Int × MW) :=
  f_X6_typeAt_b55 x1 x2 x3 0 M
def f_X6_typeAt_b46 (x1 : Int) (x2 : Int) (x3 : Int) (s1 : Int) (M : MW) : Option (Int × MW) :=
  ax s1 8 fun j => rd (mI M 19 j) fun v4 =>
  if w32 v4 = 0 then (
    f_X6_typeAt_b55 x1 x2 x3 1 M)
  else (
    f_X6_typeAt_b54 x1 x2 x3 M)
def f_X6_typeAt_b25 (x1 : Int) (x2 : Int) (x3 : Int) (s1 : Int) (M : MW) : Option (Int × MW) :=
  ax s1 8 fun j => rd (mI M 18 j) fun v1 =>
  if w32 v1 = 0 then (
    f_X6_typeAt_b54 x1 x2 x3 M)
  else (
    mB (f_X6_isMethod x1 M) fun v3 M2 =>
    if w32 v3 = 0 then (
      f_X6_typeAt_b46 x1 x2 x3 0 M2)
    else (
      f_X6_typeAt_b46 x1 x2 x3 x1 M2))
def f_X6_typeAt (x1 : Int) (x2 : Int) (x3 : Int) (M : MW) : Option (Int × MW) :=
  mB (f_X6_isMethod x1 M) fun v19 M18 =>
  if w32 v19 = 0 then (
    f_X6_typeAt_b54 x1 x2 x3 M18)
  else (
    mB (f_X6_isMethod x1 M18) fun v21 M20 =>
    if w32 v21 = 0 then (
      f_X6_typeAt_b25 x1 x2 x3 0 M20)
    else (
      f_X6_typeAt_b25 x1 x2 x3 x1 M20))
def f_X6_isReady_b135 (k9 : Int → Int → Int → MW → Option (Int × MW)) (k19 : Int → Int → Int → Int → MW → Option (Int × MW)) (k83 : Int → Int → Int → Int → Int → Int → MW → Option (Int × MW)) (x3 : Int) (x4 : Int) (x5 : Int) (x6 : Int) (x7 : Int) (s0 : Int) (s1 : Int) (M : MW) : Option (Int × MW) :=
  rd (iOr s0 s1) fun v9 =>
  mB (f_X6_at x5 x7 M) fun v11 M10 =>
  mB (f_X6_length v11 M10) fun v13 M12 =>
  rd (x7 + v13) fun v14 =>
  k83 v9 x3 x4 x5 x6 v14 M12
def f_X6_isReady_b156 (k9 : Int → Int → Int → MW → Option (Int × MW)) (k19 : Int → Int → Int → Int → MW → Option (Int × MW)) (x2 : Int) (x3 : Int) (x4 : Int) (x5 : Int) (M : MW) : Option (Int × MW) :=
  k19 x2 x3 x4 (x5 + 1) M
def f_X6_isReady_s83 (k9 : Int → Int → Int → MW → Option (Int × MW)) (k19 : Int → Int → Int → Int → MW → Option (Int × MW)) (k83 : Int → Int → Int → Int → Int → Int → MW → Option (Int × MW)) (x2 : Int) (x3 : Int) (x4 : Int) (x5 : Int) (x6 : Int) (x7 : Int) (M : MW) : Option (Int × MW) :=
  ax x5 8 fun j => rd (mI M 9 j) fun v4 =>
  if w32 v4 ≤ w32 x7 then (
    f_X6_isReady_b156 k9 k19 x2 x3 x4 x5 M)
  else (
    if w32 x6 = 0 then (
      f_X6_isReady_b156 k9 k19 x2 x3 x4 x5 M)
    else (
      if w32 x3 = 0 then (
        f_X6_isReady_b156 k9 k19 x2 x3 x4 x5 M)
      else (
        mB (f_X6_at x5 x7 M) fun v6 M5 =>
        if w32 v6 = w32 184 then (
          mB (f_X6_at x5 (x7 + 1) M5) fun v8 M7 =>
          f_X6_isReady_b135 k9 k19 k83 x3 x4 x5 x6 x7 x2 (iShl 1 v8) M7)
        else (
          f_X6_isReady_b135 k9 k19 k83 x3 x4 x5 x6 x7 x2 0 M5))))
def f_X6_isReady_b83 (k9 : Int → Int → Int → MW → Option (Int × MW)) (k19 : Int → Int → Int → Int → MW → Option (Int × MW)) : Nat → Int → Int → Int → Int → Int → Int → MW → Option (Int × MW)
  | 0 => fun _ _ _ _ _ _ _ => none
  | n + 1 => fun x2 x3 x4 x5 x6 x7 M => f_X6_isReady_s83 k9 k19 (f_X6_isReady_b83 k9 k19 n) x2 x3 x4 x5 x6 x7 M
def f_X6_isReady_b79 (k9 : Int → Int → Int → MW → Option (Int × MW)) (k19 : Int → Int → Int → Int → MW → Option (Int × MW)) (x2 : Int) (x4 : Int) (x5 : Int) (x6 : Int) (s0 : Int) (M : MW) : Option (Int × MW) :=
  f_X6_isReady_b83 k9 k19 FU x2 s0 x4 x5 x6 0 M
def f_X6_isReady_b74 (k9 : Int → Int → Int → MW → Option (Int × MW)) (k19 : Int → Int → Int → Int → MW → Option (Int × MW)) (x2 : Int) (x4 : Int) (x5 : Int) (x6 : Int) (M : MW) : Option (Int × MW) :=
  f_X6_isReady_b79 k9 k19 x2 x4 x5 x6 1 M
def f_X6_isReady_b78 (k9 : Int → Int → Int → MW → Option (Int × MW)) (k19 : Int → Int → Int → Int → MW → Option (Int × MW)) (x2 : Int) (x4 : Int) (x5 : Int) (x6 : Int) (M : MW) : Option (Int × MW) :=
  f_X6_isReady_b79 k9 k19 x2 x4 x5 x6 0 M
def f_X6_isReady_b43 (k9 : Int → Int → Int → MW → Option (Int × MW)) (k19 : Int → Int → Int → Int → MW → Option (Int × MW)) (x2 : Int) (x3 : Int) (x4 : Int) (x5 : Int) (s0 : Int) (M : MW) : Option (Int × MW) :=
  if w32 x3 = 0 then (
    f_X6_isReady_b78 k9 k19 x2 x4 x5 s0 M)
  else (
    if w32 s0 = 0 then (
      f_X6_isReady_b74 k9 k19 x2 x4 x5 s0 M)
    else (
      ax x5 8 fun j => rd (mI M 18 j) fun v2 =>
      if w32 v2 = 0 then (
        f_X6_isReady_b78 k9 k19 x2 x4 x5 s0 M)
      else (
        ax x5 8 fun j => rd (mI M 19 j) fun v3 =>
        if w32 v3 = 0 then (
          f_X6_isReady_b74 k9 k19 x2 x4 x5 s0 M)
        else (
          f_X6_isReady_b78 k9 k19 x2 x4 x5 s0 M))))
def f_X6_isReady_s19 (k9 : Int → Int → Int → MW → Option (Int × MW)) (k19 : Int → Int → Int → Int → MW → Option (Int × MW)) (x2 : Int) (x3 : Int) (x4 : Int) (x5 : Int) (M : MW) : Option (Int × MW) :=
  rd (mI M 0 8) fun v1 =>
  if w32 v1 ≤ w32 x5 then (
    k9 x2 x3 (x4 + 1) M)
  else (
    if w32 (iAnd (iShr x2 x5) 1) = w32 1 then (
      f_X6_isReady_b43 k9 k19 x2 x3 x4 x5 1 M)
    else (
      f_X6_isReady_b43 k9 k19 x2 x3 x4 x5 0 M))
def f_X6_isReady_b19 (k9 : Int → Int → Int → MW → Option (Int × MW)) : Nat → Int → Int → Int → Int → MW → Option (Int × MW)
  | 0 => fun _ _ _ _ _ => none
  | n + 1 => fun x2 x3 x4 x5 M => f_X6_isReady_s19 k9 (f_X6_isReady_b19 k9 n) x2 x3 x4 x5 M
def f_X6_isReady_s9 (k9 : Int → Int → Int → MW → Option (Int × MW)) (x2 : Int) (x3 : Int) (x4 : Int) (M : MW) : Option (Int × MW) :=
  if w32 8 ≤ w32 x4 then (
    gdB (isZ x3) (some (x3, M)))
  else (
    f_X6_isReady_b19 k9 FU x2 x3 x4 0 M)
def f_X6_isReady_b9 : Nat → Int → Int → Int → MW → Option (Int × MW)
  | 0 => fun _ _ _ _ => none
  | n + 1 => fun x2 x3 x4 M => f_X6_isReady_s9 (f_X6_isReady_b9 n) x2 x3 x4 M
def f_X6_isReady (x1 : Int) (M : MW) : Option (Int × MW) :=
  rd (iShl 1 x1) fun v15 =>
  f_X6_isReady_b9 FU v15 1 0 M
def f_X6_zero (x0 : Int) (M : MW) : Option (Int × MW) :=
  if w32 x0 = w32 1 then (
    some (0, M))
  else (
    if w32 x0 = w32 2 then (
      some (0, M))
    else (
      if w32 x0 = 0 then (
        some (0, M))
      else (
        some ((-1), M))))
def f_X6_setLocal (x1 : Int) (x2 : Int) (M : MW) : Option (Unit × MW) :=
  rd (mI M 0 63) fun v1 =>
  ax ((13 * (v1 - 1)) + x1) 312 fun j => rd (msJ M 50 j x2) fun M2 =>
  some ((), M2)
def f_X6_enter_s42 (k42 : Int → MW → Option (Unit × MW)) (x2 : Int) (M : MW) : Option (Unit × MW) :=
  if w32 13 ≤ w32 x2 then (
    some ((), M))
  else (
    mB (f_X6_setLocal x2 0 M) fun _ M1 =>
    k42 (x2 + 1) M1)
def f_X6_enter_b42 : Nat → Int → MW → Option (Unit × MW)
  | 0 => fun _ _ => none
  | n + 1 => fun x2 M => f_X6_enter_s42 (f_X6_enter_b42 n) x2 M
def f_X6_enter (x1 : Int) (M : MW) : Option (Unit × MW) :=
  rd (mI M 0 63) fun v2 =>
  ax v2 24 fun j => rd (msI M 47 j x1) fun M3 =>
  rd (mI M3 0 63) fun v4 =>
  ax v4 24 fun j => rd (msI M3 48 j 0) fun M5 =>
  rd (mI M5 0 63) fun v6 =>
  ax v6 24 fun j => rd (msI M5 49 j 0) fun M7 =>
  rd (mI M7 0 63) fun v8 =>
  rd (msI M7 0 63 (v8 + 1)) fun M9 =>
  f_X6_enter_b42 FU 0 M9
def f_X6_take (M : MW) : Option (Int × MW) :=
  rd (mI M 0 63) fun v1 =>
  ax (v1 - 1) 24 fun j => rd (mI M 49 j) fun v2 =>
  ax (v1 - 1) 24 fun j => rd (msI M 49 j (v2 - 1)) fun M3 =>
  rd (mI M3 0 63) fun v4 =>
  rd (mI M3 0 63) fun v5 =>
  ax (v5 - 1) 24 fun j => rd (mI M3 49 j) fun v6 =>
  ax ((20 * (v4 - 1)) + v6) 480 fun j => rd (mJ M3 51 j) fun v7 =>
  some (v7, M3)
def f_X6_over (x1 : Int) (M : MW) : Option (Unit × MW) :=
  gdB (isZ 0) <| rd (msI M 0 69 0) fun M1 =>
  ax 0 4 fun j => rd (msI M1 41 j x1) fun M2 =>
  some ((), M2)
def f_X6_thing_b75 (k39 : Int → Int → MW → Option (Int × MW)) (x1 : Int) (x3 : Int) (s1 : Int) (s2 : Int) (M : MW) : Option (Int × MW) :=
  ax s1 3600 fun j => rd (msJ M 45 j s2) fun M2 =>
  k39 x1 (x3 + 1) M2
def f_X6_thing_b68 (k39 : Int → Int → MW → Option (Int × MW)) (x1 : Int) (x3 : Int) (s1 : Int) (M : MW) : Option (Int × MW) :=
  f_X6_thing_b75 k39 x1 x3 s1 0 M
def f_X6_thing_s84 (k84 : Int → MW → Option (Int × MW)) (x3 : Int) (M : MW) : Option (Int × MW) :=
  if w32 16 ≤ w32 x3 then (
    rd (mI M 0 58) fun v3 =>
    rd (msI M 0 58 (v3 + 1)) fun M4 =>
    rd (mI M4 0 58) fun v5 =>
    some ((v5 - 1), M4))
  else (
    rd (mI M 0 58) fun v6 =>
    ax x3 16 fun j => rd (mI M 4 j) fun v7 =>
    mB (f_X6_zero v7 M) fun v9 M8 =>
    ax ((16 * v6) + x3) 2400 fun j => rd (msJ M8 46 j v9) fun M10 =>
    k84 (x3 + 1) M10)
def f_X6_thing_b84 : Nat → Int → MW → Option (Int × MW)
  | 0 => fun _ _ => none
  | n + 1 => fun x3 M => f_X6_thing_s84 (f_X6_thing_b84 n) x3 M
def f_X6_thing_s39 (k39 : Int → Int → MW → Option (Int × MW)) (x1 : Int) (x3 : Int) (M : MW) : Option (Int × MW) :=
  if w32 24 ≤ w32 x3 then (
    f_X6_thing_b84 FU 0 M)
  else (
    rd (mI M 0 58) fun v1 =>
    if w32 x1 = w32 3 then (
      f_X6_thing_b68 k39 x1 x3 ((24 * v1) + x3) M)
    else (
      if w32 x1 = w32 4 then (
        f_X6_thing_b68 k39 x1 x3 ((24 * v1) + x3) M)
      else (
        f_X6_thing_b75 k39 x1 x3 ((24 * v1) + x3) (-1) M)))
def f_X6_thing_b39 : Nat → Int → Int → MW → Option (Int × MW)
  | 0 => fun _ _ _ => none
  | n + 1 => fun x1 x3 M => f_X6_thing_s39 (f_X6_thing_b39 n) x1 x3 M
def f_X6_thing (x1 : Int) (x2 : Int) (M : MW) : Option (Int × MW) :=
  rd (mI M 0 58) fun v11 =>
  if w32 v11 = w32 150 then (
    mB (f_X6_over 4 M) fun _ M16 =>
    some ((-1), M16))
  else (
    rd (mI M 0 58) fun v12 =>
    ax v12 150 fun j => rd (msI M 43 j x1) fun M13 =>
    rd (mI M13 0 58) fun v14 =>
    ax v14 150 fun j => rd (msI M13 44 j x2) fun M15 =>
    f_X6_thing_b39 FU x1 0 M15)
def f_X6_lay (x1 : Int) (M : MW) : Option (Unit × MW) :=
  rd (mI M 0 63) fun v1 =>
  rd (mI M 0 63) fun v2 =>
  ax (v2 - 1) 24 fun j => rd (mI M 49 j) fun v3 =>
  ax ((20 * (v1 - 1)) + v3) 480 fun j => rd (msJ M 51 j x1) fun M4 =>
  rd (mI M4 0 63) fun v5 =>
  ax (v5 - 1) 24 fun j => rd (mI M4 49 j) fun v6 =>
  ax (v5 - 1) 24 fun j => rd (msI M4 49 j (v6 + 1)) fun M7 =>
  some ((), M7)
def f_X6_raise_b118 (k0 : Int → MW → Option (Unit × MW)) (k37 : Int → Int → Int → Int → MW → Option (Unit × MW)) (x1 : Int) (x2 : Int) (x3 : Int) (x4 : Int) (s0 : Int) (M : MW) : Option (Unit × MW) :=
  if w32 s0 = 0 then (
    k37 x1 x2 x3 (x4 + 1) M)
  else (
    rd (mI M 0 63) fun v21 =>
    ax (v21 - 1) 24 fun j => rd (msI M 49 j 0) fun M22 =>
    mB (f_X6_lay (w32 x1) M22) fun _ M23 =>
    rd (mI M23 0 63) fun v24 =>
    ax x4 128 fun j => rd (mI M23 16 j) fun v25 =>
    ax (v24 - 1) 24 fun j => rd (msI M23 48 j v25) fun M26 =>
    some ((), M26))
def f_X6_raise_b117 (k0 : Int → MW → Option (Unit × MW)) (k37 : Int → Int → Int → Int → MW → Option (Unit × MW)) (x1 : Int) (x2 : Int) (x3 : Int) (x4 : Int) (M : MW) : Option (Unit × MW) :=
  f_X6_raise_b118 k0 k37 x1 x2 x3 x4 0 M
def f_X6_raise_b107 (k0 : Int → MW → Option (Unit × MW)) (k37 : Int → Int → Int → Int → MW → Option (Unit × MW)) (x1 : Int) (x2 : Int) (x3 : Int) (x4 : Int) (s1 : Int) (s2 : Int) (M : MW) : Option (Unit × MW) :=
  mB (f_X6_subs s1 s2 M) fun v20 M19 =>
  if w32 v20 = 0 then (
    f_X6_raise_b117 k0 k37 x1 x2 x3 x4 M19)
  else (
    f_X6_raise_b118 k0 k37 x1 x2 x3 x4 1 M19)
def f_X6_raise_s37 (k0 : Int → MW → Option (Unit × MW)) (k37 : Int → Int → Int → Int → MW → Option (Unit × MW)) (x1 : Int) (x2 : Int) (x3 : Int) (x4 : Int) (M : MW) : Option (Unit × MW) :=
  ax x2 8 fun j => rd (mI M 13 j) fun v7 =>
  if w32 ((16 * x2) + v7) ≤ w32 x4 then (
    rd (mI M 0 63) fun v8 =>
    rd (msI M 0 63 (v8 - 1)) fun M9 =>
    rd (mI M9 0 63) fun v10 =>
    if w32 v10 = 0 then (
      mB (f_X6_over 1 M9) fun _ M11 =>
      ax x1 150 fun j => rd (mI M11 43 j) fun v12 =>
      ax 2 4 fun j => rd (msI M11 41 j (v12 - 32)) fun M13 =>
      k0 x1 M13)
    else (
      k0 x1 M9))
  else (
    ax x4 128 fun j => rd (mI M 14 j) fun v14 =>
    if w32 x3 < w32 v14 then (
      f_X6_raise_b117 k0 k37 x1 x2 x3 x4 M)
    else (
      ax x4 128 fun j => rd (mI M 15 j) fun v15 =>
      if w32 v15 ≤ w32 x3 then (
        f_X6_raise_b117 k0 k37 x1 x2 x3 x4 M)
      else (
        ax x1 150 fun j => rd (mI M 43 j) fun v16 =>
        ax x4 128 fun j => rd (mI M 17 j) fun v17 =>
        if w32 v17 = w32 (-1) then (
          f_X6_raise_b107 k0 k37 x1 x2 x3 x4 (v16 - 32) 1 M)
        else (
          ax x4 128 fun j => rd (mI M 17 j) fun v18 =>
          f_X6_raise_b107 k0 k37 x1 x2 x3 x4 (v16 - 32) v18 M))))
def f_X6_raise_b37 (k0 : Int → MW → Option (Unit × MW)) : Nat → Int → Int → Int → Int → MW → Option (Unit × MW)
  | 0 => fun _ _ _ _ _ => none
  | n + 1 => fun x1 x2 x3 x4 M => f_X6_raise_s37 k0 (f_X6_raise_b37 k0 n) x1 x2 x3 x4 M
def f_X6_raise_s0 (k0 : Int → MW → Option (Unit × MW)) (x1 : Int) (M : MW) : Option (Unit × MW) :=
  rd (mI M 0 69) fun v1 =>
  if w32 v1 = 0 then (
    some ((), M))
  else (
    rd (mI M 0 63) fun v2 =>
    ax (v2 - 1) 24 fun j => rd (mI M 47 j) fun v3 =>
    rd (mI M 0 63) fun v4 =>
    ax (v4 - 1) 24 fun j => rd (mI M 48 j) fun v5 =>
    rd (16 * v3) fun v6 =>
    f_X6_raise_b37 k0 FU x1 v3 v5 v6 M)
def f_X6_raise_b0 : Nat → Int → MW → Option (Unit × MW)
  | 0 => fun _ _ => none
  | n + 1 => fun x1 M => f_X6_raise_s0 (f_X6_raise_b0 n) x1 M
def f_X6_raise (x1 : Int) (M : MW) : Option (Unit × MW) :=
  f_X6_raise_b0 FU x1 M
def f_X6_raiseNew (M : MW) : Option (Unit × MW) :=
  mB (f_X6_thing 33 0 M) fun v2 M1 =>
  if w32 v2 < 0 then (
    some ((), M1))
  else (
    mB (f_X6_raise v2 M1) fun _ M3 =>
    some ((), M3))
def f_X6_goTo (x1 : Int) (M : MW) : Option (Unit × MW) :=
  rd (mI M 0 63) fun v1 =>
  ax (v1 - 1) 24 fun j => rd (msI M 48 j x1) fun M2 =>
  some ((), M2)
def f_X6_runArray_b74 (M : MW) : Option (Unit × MW) :=
  mB (f_X6_raiseNew M) fun _ M8 =>
  some ((), M8)
def f_X6_runArray_b189 (x2 : Int) (M : MW) : Option (Unit × MW) :=
  mB (f_X6_goTo x2 M) fun _ M17 =>
  some ((), M17)
def f_X6_runArray_b136 (x2 : Int) (x3 : Int) (x4 : Int) (x6 : Int) (x8 : Int) (s0 : Int) (M : MW) : Option (Unit × MW) :=
  if w32 s0 = 0 then (
    mB (f_X6_raiseNew M) fun _ M16 =>
    some ((), M16))
  else (
    if w32 x3 = 0 then (
      ax ((24 * x8) + x6) 3600 fun j => rd (mJ M 45 j) fun v13 =>
      mB (f_X6_lay v13 M) fun _ M14 =>
      f_X6_runArray_b189 x2 M14)
    else (
      ax ((24 * x8) + x6) 3600 fun j => rd (msJ M 45 j x4) fun M15 =>
      f_X6_runArray_b189 x2 M15))
def f_X6_runArray_b131 (x2 : Int) (x3 : Int) (x4 : Int) (x6 : Int) (x8 : Int) (M : MW) : Option (Unit × MW) :=
  f_X6_runArray_b136 x2 x3 x4 x6 x8 1 M
def f_X6_runArray_b111 (x2 : Int) (x3 : Int) (x4 : Int) (x6 : Int) (x8 : Int) (s2 : Int) (M : MW) : Option (Unit × MW) :=
  ax s2 150 fun j => rd (mI M 43 j) fun v9 =>
  ax x8 150 fun j => rd (mI M 43 j) fun v10 =>
  mB (f_X6_goesInto v9 ((32 + v10) - 64) M) fun v12 M11 =>
  if w32 v12 = 0 then (
    f_X6_runArray_b136 x2 x3 x4 x6 x8 0 M11)
  else (
    f_X6_runArray_b131 x2 x3 x4 x6 x8 M11)
def f_X6_runArray_b68 (x1 : Int) (x2 : Int) (x3 : Int) (x4 : Int) (x6 : Int) (x8 : Int) (s0 : Int) (s2 : Int) (M : MW) : Option (Unit × MW) :=
  ax s2 150 fun j => rd (mI M 44 j) fun v7 =>
  if w32 (jCmp s0 (w32 v7)) < 0 then (
    if w32 x1 = w32 83 then (
      if w32 (jCmp x4 0) < 0 then (
        f_X6_runArray_b131 x2 x3 x4 x6 x8 M)
      else (
        if 0 ≤ w32 (jCmp x4 0) then (
          f_X6_runArray_b111 x2 x3 x4 x6 x8 x4 M)
        else (
          f_X6_runArray_b111 x2 x3 x4 x6 x8 0 M)))
    else (
      f_X6_runArray_b131 x2 x3 x4 x6 x8 M))
  else (
    f_X6_runArray_b74 M)
def f_X6_runArray_b24 (x1 : Int) (x2 : Int) (x3 : Int) (s0 : Int) (M : MW) : Option (Unit × MW) :=
  mB (f_X6_take M) fun v4 M3 =>
  mB (f_X6_take M3) fun v6 M5 =>
  if w32 v6 < 0 then (
    f_X6_runArray_b74 M5)
  else (
    if w32 (jCmp v4 0) < 0 then (
      f_X6_runArray_b74 M5)
    else (
      if 0 ≤ w32 v6 then (
        f_X6_runArray_b68 x1 x2 x3 s0 v4 v6 v4 v6 M5)
      else (
        f_X6_runArray_b68 x1 x2 x3 s0 v4 v6 v4 0 M5)))
def f_X6_runArray_b11 (x1 : Int) (x2 : Int) (s0 : Int) (M : MW) : Option (Unit × MW) :=
  if w32 s0 = 0 then (
    f_X6_runArray_b24 x1 x2 s0 0 M)
  else (
    mB (f_X6_take M) fun v2 M1 =>
    f_X6_runArray_b24 x1 x2 s0 v2 M1)
def f_X6_runArray (x1 : Int) (x2 : Int) (M : MW) : Option (Unit × MW) :=
  if w32 x1 ≤ w32 78 then (
    f_X6_runArray_b11 x1 x2 0 M)
  else (
    f_X6_runArray_b11 x1 x2 1 M)
def f_X6_reckoned_b52 (x5 : Int) (s0 : Int) (M : MW) : Option (Int × MW) :=
  if w32 x5 = 0 then (
    some (s0, M))
  else (
    some ((w32 s0), M))
def f_X6_reckoned_b11 (x0 : Int) (x1 : Int) (x3 : Int) (s0 : Int) (M : MW) : Option (Int × MW) :=
  if w32 100 ≤ w32 x0 then (
    if w32 104 ≤ w32 x0 then (
      if w32 108 ≤ w32 x0 then (
        gdB (w64 x3 != 0) <|
        f_X6_reckoned_b52 s0 (jDiv x1 x3) M)
      else (
        f_X6_reckoned_b52 s0 (x1 * x3) M))
    else (
      f_X6_reckoned_b52 s0 (x1 - x3) M))
  else (
    f_X6_reckoned_b52 s0 (x1 + x3) M)
def f_X6_reckoned (x0 : Int) (x1 : Int) (x3 : Int) (M : MW) : Option (Int × MW) :=
  if w32 (iAnd x0 1) = 0 then (
    f_X6_reckoned_b11 x0 x1 x3 1 M)
  else (
    f_X6_reckoned_b11 x0 x1 x3 0 M)
def f_X6_localOf (x1 : Int) (M : MW) : Option (Int × MW) :=
  rd (mI M 0 63) fun v1 =>
  ax ((13 * (v1 - 1)) + x1) 312 fun j => rd (mJ M 50 j) fun v2 =>
  some (v2, M)
def f_X6_runReckon_b175 (x4 : Int) (M : MW) : Option (Unit × MW) :=
  mB (f_X6_goTo x4 M) fun _ M6 =>
  some ((), M6)
def f_X6_runReckon_b36 (x1 : Int) (x4 : Int) (x5 : Int) (x7 : Int) (M : MW) : Option (Unit × MW) :=
  mB (f_X6_reckoned x1 x7 x5 M) fun v2 M1 =>
  mB (f_X6_lay v2 M1) fun _ M3 =>
  f_X6_runReckon_b175 x4 M3
def f_X6_runReckon_b143 (x4 : Int) (s1 : Int) (M : MW) : Option (Unit × MW) :=
  mB (f_X6_lay s1 M) fun _ M4 =>
  f_X6_runReckon_b175 x4 M4
def f_X6_runReckon_b172 (x4 : Int) (s1 : Int) (M : MW) : Option (Unit × MW) :=
  mB (f_X6_lay s1 M) fun _ M5 =>
  f_X6_runReckon_b175 x4 M5
def f_X6_runReckon (x1 : Int) (x2 : Int) (x3 : Int) (x4 : Int) (M : MW) : Option (Unit × MW) :=
  if w32 110 ≤ w32 x1 then (
    if w32 x1 = w32 132 then (
      mB (f_X6_at x2 (x3 + 1) M) fun v14 M13 =>
      mB (f_X6_localOf v14 M13) fun v16 M15 =>
      mB (f_X6_at x2 (x3 + 2) M15) fun v18 M17 =>
      mB (f_X6_setLocal v14 (w32 (v16 + (w32 (i2b v18)))) M17) fun _ M19 =>
      f_X6_runReckon_b175 x4 M19)
    else (
      if w32 x1 = w32 148 then (
        mB (f_X6_take M) fun v10 M9 =>
        mB (f_X6_take M9) fun v12 M11 =>
        if 0 ≤ w32 (jCmp v12 v10) then (
          if w32 (jCmp v12 v10) ≤ 0 then (
            f_X6_runReckon_b143 x4 0 M11)
          else (
            f_X6_runReckon_b143 x4 1 M11))
        else (
          f_X6_runReckon_b143 x4 (-1) M11))
      else (
        mB (f_X6_take M) fun v8 M7 =>
        if w32 x1 = w32 136 then (
          f_X6_runReckon_b172 x4 (w32 v8) M7)
        else (
          f_X6_runReckon_b172 x4 v8 M7))))
  else (
    mB (f_X6_take M) fun v21 M20 =>
    mB (f_X6_take M20) fun v23 M22 =>
    if w32 x1 ≤ w32 107 then (
      f_X6_runReckon_b36 x1 x4 v21 v23 M22)
    else (
      if w32 (jCmp v21 0) = 0 then (
        mB (f_X6_raiseNew M22) fun _ M24 =>
        some ((), M24))
      else (
        f_X6_runReckon_b36 x1 x4 v21 v23 M22)))
def f_X6_holds (x0 : Int) (x1 : Int) (x3 : Int) (M : MW) : Option (Int × MW) :=
  if w32 x0 = 0 then (
    if w32 (jCmp x1 x3) = 0 then (
      some (1, M))
    else (
      some (0, M)))
  else (
    if w32 x0 = w32 1 then (
      if w32 (jCmp x1 x3) = 0 then (
        some (0, M))
      else (
        some (1, M)))
    else (
      if w32 x0 = w32 2 then (
        if 0 ≤ w32 (jCmp x1 x3) then (
          some (0, M))
        else (
          some (1, M)))
      else (
        if w32 x0 = w32 3 then (
          if w32 (jCmp x1 x3) < 0 then (
            some (0, M))
          else (
            some (1, M)))
        else (
          if w32 x0 = w32 4 then (
            if w32 (jCmp x1 x3) ≤ 0 then (
              some (0, M))
            else (
              some (1, M)))
          else (
            if 0 < w32 (jCmp x1 x3) then (
              some (0, M))
            else (
              some (1, M)))))))
def f_X6_runBranch_b139 (s1 : Int) (M : MW) : Option (Unit × MW) :=
  mB (f_X6_goTo s1 M) fun _ M5 =>
  some ((), M5)
def f_X6_runBranch_b122 (x2 : Int) (x3 : Int) (x4 : Int) (x5 : Int) (M : MW) : Option (Unit × MW) :=
  if w32 x5 = 0 then (
    f_X6_runBranch_b139 x4 M)
  else (
    mB (f_X6_target x2 x3 M) fun v4 M3 =>
    f_X6_runBranch_b139 v4 M3)
def f_X6_runBranch_b67 (x2 : Int) (x3 : Int) (x4 : Int) (x6 : Int) (x8 : Int) (s0 : Int) (M : MW) : Option (Unit × MW) :=
  mB (f_X6_holds s0 x8 x6 M) fun v2 M1 =>
  f_X6_runBranch_b122 x2 x3 x4 v2 M1
def f_X6_runBranch_b120 (x2 : Int) (x3 : Int) (x4 : Int) (s0 : Int) (M : MW) : Option (Unit × MW) :=
  f_X6_runBranch_b122 x2 x3 x4 s0 M
def f_X6_runBranch_b112 (x2 : Int) (x3 : Int) (x4 : Int) (s0 : Int) (s1 : Int) (M : MW) : Option (Unit × MW) :=
  if w32 s0 = w32 s1 then (
    f_X6_runBranch_b120 x2 x3 x4 1 M)
  else (
    f_X6_runBranch_b120 x2 x3 x4 0 M)
def f_X6_runBranch_b100 (x1 : Int) (x2 : Int) (x3 : Int) (x4 : Int) (s0 : Int) (M : MW) : Option (Unit × MW) :=
  if w32 x1 = w32 198 then (
    f_X6_runBranch_b112 x2 x3 x4 s0 1 M)
  else (
    f_X6_runBranch_b112 x2 x3 x4 s0 0 M)
def f_X6_runBranch (x1 : Int) (x2 : Int) (x3 : Int) (x4 : Int) (M : MW) : Option (Unit × MW) :=
  if w32 159 ≤ w32 x1 then (
    if w32 167 ≤ w32 x1 then (
      if w32 x1 ≤ w32 167 then (
        f_X6_runBranch_b122 x2 x3 x4 1 M)
      else (
        mB (f_X6_take M) fun v7 M6 =>
        if 0 ≤ w32 (jCmp v7 0) then (
          f_X6_runBranch_b100 x1 x2 x3 x4 0 M6)
        else (
          f_X6_runBranch_b100 x1 x2 x3 x4 1 M6)))
    else (
      mB (f_X6_take M) fun v9 M8 =>
      mB (f_X6_take M8) fun v11 M10 =>
      if w32 165 ≤ w32 x1 then (
        f_X6_runBranch_b67 x2 x3 x4 v9 v11 (x1 - 165) M10)
      else (
        f_X6_runBranch_b67 x2 x3 x4 v9 v11 (x1 - 159) M10)))
  else (
    mB (f_X6_take M) fun v13 M12 =>
    mB (f_X6_holds (x1 - 153) v13 0 M12) fun v15 M14 =>
    f_X6_runBranch_b122 x2 x3 x4 v15 M14)
def f_X6_runReturn_b56 (M : MW) : Option (Unit × MW) :=
  rd (mI M 0 63) fun v7 =>
  ax (v7 - 1) 24 fun j => rd (mI M 48 j) fun v8 =>
  mB (f_X6_goTo (v8 + 2) M) fun _ M9 =>
  some ((), M9)
def f_X6_runReturn_b15 (x1 : Int) (s0 : Int) (M : MW) : Option (Unit × MW) :=
  rd (mI M 0 63) fun v1 =>
  rd (msI M 0 63 (v1 - 1)) fun M2 =>
  rd (mI M2 0 63) fun v3 =>
  if w32 v3 = 0 then (
    rd (msJ M2 0 70 s0) fun M5 =>
    mB (f_X6_over 0 M5) fun _ M6 =>
    some ((), M6))
  else (
    if w32 x1 = w32 177 then (
      f_X6_runReturn_b56 M2)
    else (
      mB (f_X6_lay s0 M2) fun _ M4 =>
      f_X6_runReturn_b56 M4))
def f_X6_runReturn (x1 : Int) (M : MW) : Option (Unit × MW) :=
  if w32 x1 = w32 177 then (
    f_X6_runReturn_b15 x1 0 M)
  else (
    mB (f_X6_take M) fun v11 M10 =>
    f_X6_runReturn_b15 x1 v11 M10)
def f_X6_runField_b128 (x3 : Int) (M : MW) : Option (Unit × MW) :=
  mB (f_X6_goTo x3 M) fun _ M12 =>
  some ((), M12)
def f_X6_runField_b107 (x1 : Int) (x2 : Int) (x3 : Int) (x4 : Int) (x6 : Int) (M : MW) : Option (Unit × MW) :=
  if w32 x1 = w32 181 then (
    ax ((16 * x6) + x2) 2400 fun j => rd (msJ M 46 j x4) fun M11 =>
    f_X6_runField_b128 x3 M11)
  else (
    f_X6_runField_b128 x3 M)
def f_X6_runField_b84 (x1 : Int) (x2 : Int) (x3 : Int) (x4 : Int) (x6 : Int) (M : MW) : Option (Unit × MW) :=
  if w32 x1 = w32 180 then (
    ax ((16 * x6) + x2) 2400 fun j => rd (mJ M 46 j) fun v9 =>
    mB (f_X6_lay v9 M) fun _ M10 =>
    f_X6_runField_b107 x1 x2 x3 x4 x6 M10)
  else (
    f_X6_runField_b107 x1 x2 x3 x4 x6 M)
def f_X6_runField_b69 (x1 : Int) (x2 : Int) (x3 : Int) (x4 : Int) (x6 : Int) (M : MW) : Option (Unit × MW) :=
  if w32 x1 = w32 179 then (
    ax x2 16 fun j => rd (msJ M 42 j x4) fun M8 =>
    f_X6_runField_b84 x1 x2 x3 x4 x6 M8)
  else (
    f_X6_runField_b84 x1 x2 x3 x4 x6 M)
def f_X6_runField_b40 (x1 : Int) (x2 : Int) (x3 : Int) (x4 : Int) (s0 : Int) (M : MW) : Option (Unit × MW) :=
  if 0 ≤ w32 s0 then (
    if w32 x1 = w32 178 then (
      ax x2 16 fun j => rd (mJ M 42 j) fun v5 =>
      mB (f_X6_lay v5 M) fun _ M6 =>
      f_X6_runField_b69 x1 x2 x3 x4 s0 M6)
    else (
      f_X6_runField_b69 x1 x2 x3 x4 s0 M))
  else (
    mB (f_X6_raiseNew M) fun _ M7 =>
    some ((), M7))
def f_X6_runField_b22 (x1 : Int) (x2 : Int) (x3 : Int) (s0 : Int) (M : MW) : Option (Unit × MW) :=
  if w32 x1 ≤ w32 179 then (
    f_X6_runField_b40 x1 x2 x3 s0 0 M)
  else (
    mB (f_X6_take M) fun v4 M3 =>
    f_X6_runField_b40 x1 x2 x3 s0 v4 M3)
def f_X6_runField_b14 (x1 : Int) (x2 : Int) (x3 : Int) (M : MW) : Option (Unit × MW) :=
  mB (f_X6_take M) fun v2 M1 =>
  f_X6_runField_b22 x1 x2 x3 v2 M1
def f_X6_runField (x1 : Int) (x2 : Int) (x3 : Int) (M : MW) : Option (Unit × MW) :=
  if w32 x1 = w32 179 then (
    f_X6_runField_b14 x1 x2 x3 M)
  else (
    if w32 x1 = w32 181 then (
      f_X6_runField_b14 x1 x2 x3 M)
    else (
      f_X6_runField_b22 x1 x2 x3 0 M))
def f_X6_runCall_b118 (k68 : Int → Int → Int → Int → Int → MW → Option (Unit × MW)) (x1 : Int) (x2 : Int) (x3 : Int) (x5 : Int) (s0 : Int) (s1 : Int) (M : MW) : Option (Unit × MW) :=
  rd (s0 + s1) fun v5 =>
  k68 x1 x2 x3 v5 (x5 + 1) M
def f_X6_runCall_s68 (k68 : Int → Int → Int → Int → Int → MW → Option (Unit × MW)) (x1 : Int) (x2 : Int) (x3 : Int) (x4 : Int) (x5 : Int) (M : MW) : Option (Unit × MW) :=
  ax x1 8 fun j => rd (mI M 7 j) fun v1 =>
  if w32 v1 ≤ w32 x5 then (
    some ((), M))
  else (
    ax ((x2 + x3) + x5) 480 fun j => rd (mJ M 51 j) fun v2 =>
    mB (f_X6_setLocal x4 v2 M) fun _ M3 =>
    ax ((4 * x1) + x5) 32 fun j => rd (mI M3 6 j) fun v4 =>
    if w32 v4 = w32 2 then (
      f_X6_runCall_b118 k68 x1 x2 x3 x5 x4 2 M3)
    else (
      f_X6_runCall_b118 k68 x1 x2 x3 x5 x4 1 M3))
def f_X6_runCall_b68 : Nat → Int → Int → Int → Int → Int → MW → Option (Unit × MW)
  | 0 => fun _ _ _ _ _ _ => none
  | n + 1 => fun x1 x2 x3 x4 x5 M => f_X6_runCall_s68 (f_X6_runCall_b68 n) x1 x2 x3 x4 x5 M
def f_X6_runCall (x1 : Int) (M : MW) : Option (Unit × MW) :=
  rd (mI M 0 63) fun v6 =>
  if w32 v6 = w32 24 then (
    mB (f_X6_over 3 M) fun _ M16 =>
    some ((), M16))
  else (
    rd (mI M 0 63) fun v7 =>
    rd (20 * (v7 - 1)) fun v8 =>
    rd (mI M 0 63) fun v9 =>
    ax (v9 - 1) 24 fun j => rd (mI M 49 j) fun v10 =>
    ax x1 8 fun j => rd (mI M 7 j) fun v11 =>
    ax (v9 - 1) 24 fun j => rd (msI M 49 j (v10 - v11)) fun M12 =>
    rd (mI M12 0 63) fun v13 =>
    ax (v13 - 1) 24 fun j => rd (mI M12 49 j) fun v14 =>
    mB (f_X6_enter x1 M12) fun _ M15 =>
    f_X6_runCall_b68 FU x1 v8 v14 0 0 M15)
def f_X6_runObject_b86 (M : MW) : Option (Unit × MW) :=
  mB (f_X6_raiseNew M) fun _ M3 =>
  some ((), M3)
def f_X6_runObject_b296 (x3 : Int) (M : MW) : Option (Unit × MW) :=
  mB (f_X6_goTo x3 M) fun _ M18 =>
  some ((), M18)
def f_X6_runObject_b117 (x3 : Int) (x4 : Int) (s1 : Int) (M : MW) : Option (Unit × MW) :=
  mB (f_X6_thing s1 x4 M) fun v5 M4 =>
  if 0 ≤ w32 v5 then (
    mB (f_X6_lay (w32 v5) M4) fun _ M6 =>
    f_X6_runObject_b296 x3 M6)
  else (
    some ((), M4))
def f_X6_runObject_b64 (x1 : Int) (x2 : Int) (x3 : Int) (M : MW) : Option (Unit × MW) :=
  mB (f_X6_take M) fun v2 M1 =>
  if w32 (jCmp v2 0) < 0 then (
    f_X6_runObject_b86 M1)
  else (
    if w32 (jCmp v2 24) ≤ 0 then (
      if w32 x1 = w32 189 then (
        f_X6_runObject_b117 x3 v2 (64 + x2) M1)
      else (
        if w32 x2 = w32 10 then (
          f_X6_runObject_b117 x3 v2 3 M1)
        else (
          f_X6_runObject_b117 x3 v2 4 M1)))
    else (
      f_X6_runObject_b86 M1))
def f_X6_runObject_b155 (x1 : Int) (x3 : Int) (M : MW) : Option (Unit × MW) :=
  mB (f_X6_take M) fun v8 M7 =>
  if 0 ≤ w32 v8 then (
    if w32 x1 = w32 191 then (
      mB (f_X6_raise v8 M7) fun _ M11 =>
      some ((), M11))
    else (
      ax v8 150 fun j => rd (mI M7 44 j) fun v9 =>
      mB (f_X6_lay (w32 v9) M7) fun _ M10 =>
      f_X6_runObject_b296 x3 M10))
  else (
    mB (f_X6_raiseNew M7) fun _ M12 =>
    some ((), M12))
def f_X6_runObject_b293 (x3 : Int) (s1 : Int) (M : MW) : Option (Unit × MW) :=
  mB (f_X6_lay s1 M) fun _ M17 =>
  f_X6_runObject_b296 x3 M17
def f_X6_runObject_b269 (x1 : Int) (x3 : Int) (x4 : Int) (x5 : Int) (M : MW) : Option (Unit × MW) :=
  if w32 x1 = w32 192 then (
    f_X6_runObject_b293 x3 (w32 x4) M)
  else (
    if w32 x5 = 0 then (
      f_X6_runObject_b293 x3 0 M)
    else (
      f_X6_runObject_b293 x3 1 M))
def f_X6_runObject_b245 (x1 : Int) (x3 : Int) (x4 : Int) (s0 : Int) (M : MW) : Option (Unit × MW) :=
  if w32 x1 = w32 192 then (
    if w32 x4 < 0 then (
      f_X6_runObject_b269 x1 x3 x4 s0 M)
    else (
      if w32 s0 = 0 then (
        mB (f_X6_raiseNew M) fun _ M16 =>
        some ((), M16))
      else (
        f_X6_runObject_b269 x1 x3 x4 s0 M)))
  else (
    f_X6_runObject_b269 x1 x3 x4 s0 M)
def f_X6_runObject_b244 (x1 : Int) (x3 : Int) (x4 : Int) (M : MW) : Option (Unit × MW) :=
  f_X6_runObject_b245 x1 x3 x4 0 M
def f_X6_runObject_b229 (x1 : Int) (x2 : Int) (x3 : Int) (x4 : Int) (s2 : Int) (M : MW) : Option (Unit × MW) :=
  ax s2 150 fun j => rd (mI M 43 j) fun v13 =>
  mB (f_X6_goesInto v13 (32 + x2) M) fun v15 M14 =>
  if w32 v15 = 0 then (
    f_X6_runObject_b244 x1 x3 x4 M14)
  else (
    f_X6_runObject_b245 x1 x3 x4 1 M14)
def f_X6_runObject (x1 : Int) (x2 : Int) (x3 : Int) (M : MW) : Option (Unit × MW) :=
  if w32 x1 = w32 187 then (
    mB (f_X6_thing (32 + x2) 0 M) fun v24 M23 =>
    if 0 ≤ w32 v24 then (
      mB (f_X6_lay (w32 v24) M23) fun _ M25 =>
      f_X6_runObject_b296 x3 M25)
    else (
      some ((), M23)))
  else (
    if w32 x1 = w32 183 then (
      mB (f_X6_take M) fun v22 M21 =>
      f_X6_runObject_b296 x3 M21)
    else (
      if w32 x1 = w32 188 then (
        f_X6_runObject_b64 x1 x2 x3 M)
      else (
        if w32 x1 = w32 189 then (
          f_X6_runObject_b64 x1 x2 x3 M)
        else (
          if w32 x1 = w32 191 then (
            f_X6_runObject_b155 x1 x3 M)
          else (
            if w32 x1 = w32 190 then (
              f_X6_runObject_b155 x1 x3 M)
            else (
              mB (f_X6_take M) fun v20 M19 =>
              if w32 v20 < 0 then (
                f_X6_runObject_b244 x1 x3 v20 M19)
              else (
                if 0 ≤ w32 v20 then (
                  f_X6_runObject_b229 x1 x2 x3 v20 v20 M19)
                else (
                  f_X6_runObject_b229 x1 x2 x3 v20 0 M19))))))))
def f_X6_runShuffle_b170 (x6 : Int) (M : MW) : Option (Unit × MW) :=
  mB (f_X6_lay x6 M) fun _ M10 =>
  some ((), M10)
def f_X6_runShuffle_b146 (x1 : Int) (x6 : Int) (x8 : Int) (M : MW) : Option (Unit × MW) :=
  mB (f_X6_lay x6 M) fun _ M8 =>
  mB (f_X6_lay x8 M8) fun _ M9 =>
  if w32 x1 = w32 90 then (
    f_X6_runShuffle_b170 x6 M9)
  else (
    if w32 x1 = w32 92 then (
      f_X6_runShuffle_b170 x6 M9)
    else (
      some ((), M9)))
def f_X6_runShuffle_b121 (x1 : Int) (x6 : Int) (M : MW) : Option (Unit × MW) :=
  mB (f_X6_take M) fun v6 M5 =>
  if w32 x1 = w32 88 then (
    some ((), M5))
  else (
    if w32 x1 = w32 92 then (
      mB (f_X6_lay v6 M5) fun _ M7 =>
      f_X6_runShuffle_b146 x1 x6 v6 M7)
    else (
      f_X6_runShuffle_b146 x1 x6 v6 M5))
def f_X6_runShuffle_b115 (x1 : Int) (x5 : Int) (x6 : Int) (M : MW) : Option (Unit × MW) :=
  if w32 x5 = 0 then (
    f_X6_runShuffle_b121 x1 x6 M)
  else (
    some ((), M))
def f_X6_runShuffle_b91 (x1 : Int) (x5 : Int) (x6 : Int) (M : MW) : Option (Unit × MW) :=
  if w32 x1 = w32 87 then (
    some ((), M))
  else (
    if w32 x1 = w32 89 then (
      some ((), M))
    else (
      if w32 x1 = w32 88 then (
        f_X6_runShuffle_b115 x1 x5 x6 M)
      else (
        if w32 x1 = w32 92 then (
          f_X6_runShuffle_b115 x1 x5 x6 M)
        else (
          f_X6_runShuffle_b121 x1 x6 M))))
def f_X6_runShuffle_b85 (x1 : Int) (x5 : Int) (x6 : Int) (M : MW) : Option (Unit × MW) :=
  mB (f_X6_lay x6 M) fun _ M4 =>
  f_X6_runShuffle_b91 x1 x5 x6 M4
def f_X6_runShuffle_b68 (x1 : Int) (x5 : Int) (x6 : Int) (M : MW) : Option (Unit × MW) :=
  if w32 x1 = w32 89 then (
    f_X6_runShuffle_b85 x1 x5 x6 M)
  else (
    if w32 x1 = w32 92 then (
      if w32 x5 = 0 then (
        f_X6_runShuffle_b91 x1 x5 x6 M)
      else (
        f_X6_runShuffle_b85 x1 x5 x6 M))
    else (
      f_X6_runShuffle_b91 x1 x5 x6 M))
def f_X6_runShuffle_b62 (x1 : Int) (x5 : Int) (x6 : Int) (M : MW) : Option (Unit × MW) :=
  mB (f_X6_lay x6 M) fun _ M3 =>
  f_X6_runShuffle_b68 x1 x5 x6 M3
def f_X6_runShuffle_b37 (x1 : Int) (s0 : Int) (M : MW) : Option (Unit × MW) :=
  mB (f_X6_take M) fun v2 M1 =>
  if w32 x1 = w32 89 then (
    f_X6_runShuffle_b62 x1 s0 v2 M1)
  else (
    if w32 x1 = w32 92 then (
      if w32 s0 = 0 then (
        f_X6_runShuffle_b68 x1 s0 v2 M1)
      else (
        f_X6_runShuffle_b62 x1 s0 v2 M1))
    else (
      f_X6_runShuffle_b68 x1 s0 v2 M1))
def f_X6_runShuffle (x1 : Int) (x2 : Int) (x3 : Int) (M : MW) : Option (Unit × MW) :=
  rd ((120 * x2) + x3) fun v11 =>
  ax v11 960 fun j => rd (mI M 23 j) fun v12 =>
  ax (((12 * v11) + v12) - 1) 11520 fun j => rd (mI M 25 j) fun v13 =>
  if w32 v13 = w32 2 then (
    f_X6_runShuffle_b37 x1 1 M)
  else (
    f_X6_runShuffle_b37 x1 0 M)
def f_X6_step_b83 (x3 : Int) (x4 : Int) (M : MW) : Option (Unit × MW) :=
  mB (f_X6_runArray x3 x4 M) fun _ M20 =>
  some ((), M20)
def f_X6_step_b368 (x4 : Int) (M : MW) : Option (Unit × MW) :=
  mB (f_X6_goTo x4 M) fun _ M42 =>
  some ((), M42)
def f_X6_step_b350 (x1 : Int) (x2 : Int) (x3 : Int) (x4 : Int) (M : MW) : Option (Unit × MW) :=
  mB (f_X6_in x3 87 95 M) fun v40 M39 =>
  if w32 v40 = 0 then (
    f_X6_step_b368 x4 M39)
  else (
    mB (f_X6_runShuffle x3 x1 x2 M39) fun _ M41 =>
    f_X6_step_b368 x4 M41)
def f_X6_step_b329 (x1 : Int) (x2 : Int) (x3 : Int) (x4 : Int) (x5 : Int) (M : MW) : Option (Unit × MW) :=
  mB (f_X6_in x3 54 58 M) fun v35 M34 =>
  if w32 v35 = 0 then (
    f_X6_step_b350 x1 x2 x3 x4 M34)
  else (
    mB (f_X6_take M34) fun v37 M36 =>
    mB (f_X6_setLocal x5 v37 M36) fun _ M38 =>
    f_X6_step_b350 x1 x2 x3 x4 M38)
def f_X6_step_b308 (x1 : Int) (x2 : Int) (x3 : Int) (x4 : Int) (x5 : Int) (M : MW) : Option (Unit × MW) :=
  mB (f_X6_in x3 21 25 M) fun v30 M29 =>
  if w32 v30 = 0 then (
    f_X6_step_b329 x1 x2 x3 x4 x5 M29)
  else (
    mB (f_X6_localOf x5 M29) fun v32 M31 =>
    mB (f_X6_lay v32 M31) fun _ M33 =>
    f_X6_step_b329 x1 x2 x3 x4 x5 M33)
def f_X6_step_b282 (x1 : Int) (x2 : Int) (x3 : Int) (x4 : Int) (x5 : Int) (M : MW) : Option (Unit × MW) :=
  if w32 x3 = w32 17 then (
    mB (f_X6_at x1 (x2 + 2) M) fun v27 M26 =>
    mB (f_X6_lay (w32 (i2s (iOr (iShl x5 8) v27))) M26) fun _ M28 =>
    f_X6_step_b308 x1 x2 x3 x4 x5 M28)
  else (
    f_X6_step_b308 x1 x2 x3 x4 x5 M)
def f_X6_step_b268 (x1 : Int) (x2 : Int) (x3 : Int) (x4 : Int) (x5 : Int) (M : MW) : Option (Unit × MW) :=
  if w32 x3 = w32 16 then (
    mB (f_X6_lay (w32 (i2b x5)) M) fun _ M25 =>
    f_X6_step_b282 x1 x2 x3 x4 x5 M25)
  else (
    f_X6_step_b282 x1 x2 x3 x4 x5 M)
def f_X6_step_b259 (x1 : Int) (x2 : Int) (x3 : Int) (x4 : Int) (x5 : Int) (M : MW) : Option (Unit × MW) :=
  mB (f_X6_lay (w32 (x3 - 9)) M) fun _ M24 =>
  f_X6_step_b268 x1 x2 x3 x4 x5 M24
def f_X6_step_b247 (x1 : Int) (x2 : Int) (x3 : Int) (x4 : Int) (x5 : Int) (M : MW) : Option (Unit × MW) :=
  if w32 x3 = w32 9 then (
    f_X6_step_b259 x1 x2 x3 x4 x5 M)
  else (
    if w32 x3 = w32 10 then (
      f_X6_step_b259 x1 x2 x3 x4 x5 M)
    else (
      f_X6_step_b268 x1 x2 x3 x4 x5 M))
def f_X6_step_b229 (x1 : Int) (x2 : Int) (x3 : Int) (x4 : Int) (x5 : Int) (M : MW) : Option (Unit × MW) :=
  mB (f_X6_in x3 2 8 M) fun v22 M21 =>
  if w32 v22 = 0 then (
    f_X6_step_b247 x1 x2 x3 x4 x5 M21)
  else (
    mB (f_X6_lay (w32 (x3 - 3)) M21) fun _ M23 =>
    f_X6_step_b247 x1 x2 x3 x4 x5 M23)
def f_X6_step_b59 (x1 : Int) (x2 : Int) (x3 : Int) (x4 : Int) (s0 : Int) (M : MW) : Option (Unit × MW) :=
  mB (f_X6_in x3 46 50 M) fun v2 M1 =>
  if w32 v2 = 0 then (
    mB (f_X6_in x3 79 83 M1) fun v4 M3 =>
    if w32 v4 = 0 then (
      mB (f_X6_in x3 96 148 M3) fun v6 M5 =>
      if w32 v6 = 0 then (
        mB (f_X6_branches x3 M5) fun v8 M7 =>
        if w32 v8 = 0 then (
          mB (f_X6_in x3 172 177 M7) fun v10 M9 =>
          if w32 v10 = 0 then (
            mB (f_X6_in x3 178 181 M9) fun v12 M11 =>
            if w32 v12 = 0 then (
              if w32 x3 = w32 184 then (
                mB (f_X6_runCall s0 M11) fun _ M15 =>
                some ((), M15))
              else (
                if w32 x3 ≤ w32 182 then (
                  if w32 x3 = w32 1 then (
                    mB (f_X6_lay (-1) M11) fun _ M13 =>
                    f_X6_step_b229 x1 x2 x3 x4 s0 M13)
                  else (
                    f_X6_step_b229 x1 x2 x3 x4 s0 M11))
                else (
                  mB (f_X6_runObject x3 s0 x4 M11) fun _ M14 =>
                  some ((), M14))))
            else (
              mB (f_X6_runField x3 s0 x4 M11) fun _ M16 =>
              some ((), M16)))
          else (
            mB (f_X6_runReturn x3 M9) fun _ M17 =>
            some ((), M17)))
        else (
          mB (f_X6_runBranch x3 x1 x2 x4 M7) fun _ M18 =>
          some ((), M18)))
      else (
        mB (f_X6_runReckon x3 x1 x2 x4 M5) fun _ M19 =>
        some ((), M19)))
    else (
      f_X6_step_b83 x3 x4 M3))
  else (
    f_X6_step_b83 x3 x4 M1)
def f_X6_step (M : MW) : Option (Unit × MW) :=
  rd (mI M 0 63) fun v43 =>
  ax (v43 - 1) 24 fun j => rd (mI M 47 j) fun v44 =>
  rd (mI M 0 63) fun v45 =>
  ax (v45 - 1) 24 fun j => rd (mI M 48 j) fun v46 =>
  mB (f_X6_at v44 v46 M) fun v48 M47 =>
  mB (f_X6_length v48 M47) fun v50 M49 =>
  rd (v46 + v50) fun v51 =>
  mB (f_X6_length v48 M49) fun v53 M52 =>
  if w32 v53 ≤ w32 1 then (
    f_X6_step_b59 v44 v46 v48 v51 0 M52)
  else (
    mB (f_X6_at v44 (v46 + 1) M52) fun v55 M54 =>
    f_X6_step_b59 v44 v46 v48 v51 v55 M54)
def f_X6_run_b118 (k73 : Int → Int → Int → Int → Int → Int → MW → Option (Int × MW)) (x1 : Int) (x2 : Int) (x4 : Int) (x6 : Int) (x8 : Int) (s0 : Int) (M : MW) : Option (Int × MW) :=
  k73 x1 x2 x4 x6 s0 (x8 + 1) M
def f_X6_run_b317 (k231 : Int → Int → Int → Int → Int → Int → MW → Option (Int × MW)) (x1 : Int) (x2 : Int) (x4 : Int) (x6 : Int) (x9 : Int) (s0 : Int) (s1 : Int) (M : MW) : Option (Int × MW) :=
  rd (s0 + s1) fun v28 =>
  k231 x1 x2 x4 x6 v28 (x9 + 1) M
def f_X6_run_b292 (k231 : Int → Int → Int → Int → Int → Int → MW → Option (Int × MW)) (x1 : Int) (x2 : Int) (x4 : Int) (x6 : Int) (x8 : Int) (x9 : Int) (s1 : Int) (s2 : Int) (M : MW) : Option (Int × MW) :=
  mB (f_X6_setLocal s1 s2 M) fun _ M26 =>
  ax ((4 * x1) + x9) 32 fun j => rd (mI M26 6 j) fun v27 =>
  if w32 v27 = w32 2 then (
    f_X6_run_b317 k231 x1 x2 x4 x6 x9 x8 2 M26)
  else (
    f_X6_run_b317 k231 x1 x2 x4 x6 x9 x8 1 M26)
def f_X6_run_b263 (k231 : Int → Int → Int → Int → Int → Int → MW → Option (Int × MW)) (x1 : Int) (x2 : Int) (x4 : Int) (x6 : Int) (x8 : Int) (x9 : Int) (s0 : Int) (M : MW) : Option (Int × MW) :=
  ax ((x1 * 4) + x9) 32 fun j => rd (mI M 6 j) fun v25 =>
  if w32 v25 = w32 1 then (
    f_X6_run_b292 k231 x1 x2 x4 x6 x8 x9 x8 (w32 s0) M)
  else (
    f_X6_run_b292 k231 x1 x2 x4 x6 x8 x9 x8 s0 M)
def f_X6_run_b398 (x1 : Int) (s1 : Int) (M : MW) : Option (Int × MW) :=
  rd (msI M 0 0 s1) fun M39 =>
  rd (mI M39 0 0) fun v40 =>
  if w32 v40 ≤ 0 then (
    ax x1 8 fun j => rd (mI M39 8 j) fun v41 =>
    if w32 2 < w32 v41 then (
      rd (mJ M39 0 70) fun v42 =>
      if 0 ≤ w32 (jCmp v42 0) then (
        rd (mJ M39 0 70) fun v43 =>
        ax v43 150 fun j => rd (mI M39 43 j) fun v44 =>
        mB (f_X6_isObject v44 M39) fun v46 M45 =>
        if w32 v46 = 0 then (
          some (32, M45))
        else (
          rd (mJ M45 0 70) fun v47 =>
          ax v47 150 fun j => rd (mI M45 43 j) fun v48 =>
          some ((w32 (v48 - 32)), M45)))
      else (
        some ((-1), M39)))
    else (
      rd (mJ M39 0 70) fun v49 =>
      some (v49, M39)))
  else (
    some (0, M39))
def f_X6_run_b373 (x1 : Int) (M : MW) : Option (Int × MW) :=
  rd (mI M 0 58) fun v36 =>
  ax 3 4 fun j => rd (msI M 41 j v36) fun M37 =>
  ax 0 4 fun j => rd (mI M37 41 j) fun v38 =>
  if w32 v38 = 0 then (
    f_X6_run_b398 x1 0 M37)
  else (
    f_X6_run_b398 x1 3 M37)
def f_X6_run_b361 (x1 : Int) (M : MW) : Option (Int × MW) :=
  rd (mI M 0 69) fun v34 =>
  if w32 v34 = 0 then (
    f_X6_run_b373 x1 M)
  else (
    mB (f_X6_over 2 M) fun _ M35 =>
    f_X6_run_b373 x1 M35)
def f_X6_run_s326 (k326 : Int → Int → MW → Option (Int × MW)) (x1 : Int) (x6 : Int) (M : MW) : Option (Int × MW) :=
  rd (mI M 0 69) fun v29 =>
  if w32 v29 = 0 then (
    f_X6_run_b361 x1 M)
  else (
    ax 1 4 fun j => rd (mI M 41 j) fun v30 =>
    if w32 x6 ≤ w32 v30 then (
      f_X6_run_b361 x1 M)
    else (
      ax 1 4 fun j => rd (mI M 41 j) fun v31 =>
      ax 1 4 fun j => rd (msI M 41 j (v31 + 1)) fun M32 =>
      mB (f_X6_step M32) fun _ M33 =>
      k326 x1 x6 M33))
def f_X6_run_b326 : Nat → Int → Int → MW → Option (Int × MW)
  | 0 => fun _ _ _ => none
  | n + 1 => fun x1 x6 M => f_X6_run_s326 (f_X6_run_b326 n) x1 x6 M
def f_X6_run_s231 (k231 : Int → Int → Int → Int → Int → Int → MW → Option (Int × MW)) (x1 : Int) (x2 : Int) (x4 : Int) (x6 : Int) (x8 : Int) (x9 : Int) (M : MW) : Option (Int × MW) :=
  ax x1 8 fun j => rd (mI M 7 j) fun v24 =>
  if w32 v24 ≤ w32 x9 then (
    f_X6_run_b326 FU x1 x6 M)
  else (
    if w32 x9 = 0 then (
      f_X6_run_b263 k231 x1 x2 x4 x6 x8 x9 x2 M)
    else (
      if w32 x9 = w32 1 then (
        f_X6_run_b263 k231 x1 x2 x4 x6 x8 x9 x4 M)
      else (
        f_X6_run_b263 k231 x1 x2 x4 x6 x8 x9 0 M)))
def f_X6_run_b231 : Nat → Int → Int → Int → Int → Int → Int → MW → Option (Int × MW)
  | 0 => fun _ _ _ _ _ _ _ => none
  | n + 1 => fun x1 x2 x4 x6 x8 x9 M => f_X6_run_s231 (f_X6_run_b231 n) x1 x2 x4 x6 x8 x9 M
def f_X6_run_s156 (k156 : Int → Int → Int → Int → Int → MW → Option (Int × MW)) (x1 : Int) (x2 : Int) (x4 : Int) (x6 : Int) (x8 : Int) (M : MW) : Option (Int × MW) :=
  if w32 16 ≤ w32 x8 then (
    rd (msI M 0 58 0) fun M13 =>
    rd (msI M13 0 63 0) fun M14 =>
    gdB (isZ 1) <| rd (msI M14 0 69 1) fun M15 =>
    rd (msJ M15 0 70 0) fun M16 =>
    ax 1 4 fun j => rd (msI M16 41 j 0) fun M17 =>
    ax 2 4 fun j => rd (msI M17 41 j (-1)) fun M18 =>
    mB (f_X6_enter x1 M18) fun _ M19 =>
    f_X6_run_b231 FU x1 x2 x4 x6 0 0 M19)
  else (
    ax x8 16 fun j => rd (mI M 4 j) fun v20 =>
    mB (f_X6_zero v20 M) fun v22 M21 =>
    ax x8 16 fun j => rd (msJ M21 42 j v22) fun M23 =>
    k156 x1 x2 x4 x6 (x8 + 1) M23)
def f_X6_run_b156 : Nat → Int → Int → Int → Int → Int → MW → Option (Int × MW)
  | 0 => fun _ _ _ _ _ _ => none
  | n + 1 => fun x1 x2 x4 x6 x8 M => f_X6_run_s156 (f_X6_run_b156 n) x1 x2 x4 x6 x8 M
def f_X6_run_b126 (x1 : Int) (x2 : Int) (x4 : Int) (x6 : Int) (x7 : Int) (M : MW) : Option (Int × MW) :=
  if w32 x7 = 0 then (
    mB (f_X6_fails 1 M) fun v12 M11 =>
    some ((w32 v12), M11))
  else (
    mB (f_X6_isReady x1 M) fun v8 M7 =>
    if w32 v8 = 0 then (
      mB (f_X6_fails 2 M7) fun v10 M9 =>
      some ((w32 v10), M9))
    else (
      f_X6_run_b156 FU x1 x2 x4 x6 0 M7))
def f_X6_run_b89 (k73 : Int → Int → Int → Int → Int → Int → MW → Option (Int × MW)) (x1 : Int) (x2 : Int) (x4 : Int) (x6 : Int) (x7 : Int) (x8 : Int) (s0 : Int) (s2 : Int) (M : MW) : Option (Int × MW) :=
  ax s2 8 fun j => rd (mI M 7 j) fun v5 =>
  if w32 v5 ≤ w32 s0 then (
    f_X6_run_b126 x1 x2 x4 x6 x7 M)
  else (
    if w32 x7 = 0 then (
      f_X6_run_b126 x1 x2 x4 x6 x7 M)
    else (
      ax ((4 * x1) + x8) 32 fun j => rd (mI M 6 j) fun v6 =>
      if w32 2 < w32 v6 then (
        f_X6_run_b118 k73 x1 x2 x4 x6 x8 0 M)
      else (
        f_X6_run_b118 k73 x1 x2 x4 x6 x8 1 M)))
def f_X6_run_s73 (k73 : Int → Int → Int → Int → Int → Int → MW → Option (Int × MW)) (x1 : Int) (x2 : Int) (x4 : Int) (x6 : Int) (x7 : Int) (x8 : Int) (M : MW) : Option (Int × MW) :=
  if w32 x7 = 0 then (
    f_X6_run_b89 k73 x1 x2 x4 x6 x7 x8 x8 0 M)
  else (
    f_X6_run_b89 k73 x1 x2 x4 x6 x7 x8 x8 x1 M)
def f_X6_run_b73 : Nat → Int → Int → Int → Int → Int → Int → MW → Option (Int × MW)
  | 0 => fun _ _ _ _ _ _ _ => none
  | n + 1 => fun x1 x2 x4 x6 x7 x8 M => f_X6_run_s73 (f_X6_run_b73 n) x1 x2 x4 x6 x7 x8 M
def f_X6_run_b68 (x1 : Int) (x2 : Int) (x4 : Int) (x6 : Int) (s0 : Int) (M : MW) : Option (Int × MW) :=
  f_X6_run_b73 FU x1 x2 x4 x6 s0 0 M
def f_X6_run_b67 (x1 : Int) (x2 : Int) (x4 : Int) (x6 : Int) (M : MW) : Option (Int × MW) :=
  f_X6_run_b68 x1 x2 x4 x6 0 M
def f_X6_run_b46 (x1 : Int) (x2 : Int) (x4 : Int) (x6 : Int) (s1 : Int) (M : MW) : Option (Int × MW) :=
  ax s1 8 fun j => rd (mI M 19 j) fun v4 =>
  if w32 v4 = 0 then (
    if w32 x6 ≤ 0 then (
      f_X6_run_b67 x1 x2 x4 x6 M)
    else (
      if w32 20000 < w32 x6 then (
        f_X6_run_b67 x1 x2 x4 x6 M)
      else (
        f_X6_run_b68 x1 x2 x4 x6 1 M)))
  else (
    f_X6_run_b67 x1 x2 x4 x6 M)
def f_X6_run_b25 (x1 : Int) (x2 : Int) (x4 : Int) (x6 : Int) (s1 : Int) (M : MW) : Option (Int × MW) :=
  ax s1 8 fun j => rd (mI M 18 j) fun v1 =>
  if w32 v1 = 0 then (
    f_X6_run_b67 x1 x2 x4 x6 M)
  else (
    mB (f_X6_isMethod x1 M) fun v3 M2 =>
    if w32 v3 = 0 then (
      f_X6_run_b46 x1 x2 x4 x6 0 M2)
    else (
      f_X6_run_b46 x1 x2 x4 x6 x1 M2))
def f_X6_run (x1 : Int) (x2 : Int) (x4 : Int) (x6 : Int) (M : MW) : Option (Int × MW) :=
  mB (f_X6_isMethod x1 M) fun v51 M50 =>
  if w32 v51 = 0 then (
    f_X6_run_b67 x1 x2 x4 x6 M50)
  else (
    mB (f_X6_isMethod x1 M50) fun v53 M52 =>
    if w32 v53 = 0 then (
      f_X6_run_b25 x1 x2 x4 x6 0 M52)
    else (
      f_X6_run_b25 x1 x2 x4 x6 x1 M52))
def f_X6_end (x1 : Int) (M : MW) : Option (Int × MW) :=
  rd (msI M 0 0 0) fun M1 =>
  if w32 x1 < 0 then (
    some ((-1), M1))
  else (
    if w32 x1 ≤ w32 3 then (
      ax x1 4 fun j => rd (mI M1 41 j) fun v2 =>
      some (v2, M1))
    else (
      some ((-1), M1)))
def f_X6_count (x1 : Int) (M : MW) : Option (Int × MW) :=
  rd (msI M 0 0 0) fun M1 =>
  if w32 x1 = 0 then (
    rd (mI M1 0 1) fun v5 =>
    some (v5, M1))
  else (
    if w32 x1 = w32 1 then (
      rd (mI M1 0 4) fun v4 =>
      some (v4, M1))
    else (
      if w32 x1 = w32 2 then (
        rd (mI M1 0 8) fun v3 =>
        some (v3, M1))
      else (
        if w32 x1 = w32 3 then (
          rd (mI M1 0 24) fun v2 =>
          some (v2, M1))
        else (
          some ((-1), M1)))))
