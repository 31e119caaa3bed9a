/-! TEXT of the component: calls and ends -/
def lva : Nat → List Nat → List Value → List (Nat × Value)
  | _, _, [] => []
  | i, c :: cs, v :: vs => (i, v) :: lva (i + c) cs vs
  | _, [], _ :: _ => []
theorem lva_eq : ∀ (vs : List Value) (cs : List Nat) (i : Nat), vs.map Value.category = cs → lv_args i vs = lva i cs vs
  | [], cs, i, _ => by cases cs <;> simp [lv_args, lva]
  | v :: vs, cs, i, h => by
    subst h
    simp only [lv_args, List.map_cons, lva]
    rw [lva_eq vs _ _ rfl]
    have : (if v.category = 2 then i + 2 else i + 1) = i + v.category := by rcases lv_cat v with h | h <;> simp [h]
    rw [this]
theorem lgl_eq (vs : List Value) : (lg_sl vs).length = (vs.map Value.category).sum := by
  induction vs with
  | nil => rfl
  | cons v vs ih =>
    have : lg_sl (v :: vs) = (if v.category = 2 then [Slot.val v, .second] else [.val v]) ++ lg_sl vs := rfl
    rw [this, List.length_append, ih, List.map_cons, List.sum_cons]
    rcases lv_cat v with h | h <;> simp [h]
section CV
variable {g : Gx} {d d2 : Nat} {y y2 : MD} {pc : Nat} {kn kn2 : List (Nat × Value)} {st rest : List Value} {M : MW} {C : CW} {X : XW} {Q Q2 : Out → XW → Prop} {α β : Type} {z : β} {cs : List Nat}
theorem ex_invV2 {as : List Value} {b idx : Nat} {nm : MethodName} (hd : decode y.2.2.1 pc = .ok (.invokevirtual idx, 3)) (hl : LKm y.1 idx nm) (hv : VF y2 nm as.length) (hrc : RC g X b nm.cls) (hst : as.reverse ++ .ref b :: rest = st) (hcat : (Value.ref b :: as).map Value.category = cs) (hb1 : Nat.ble cs.sum y2.2.2.2.1 = true) (hb2 : Nat.ble (d2 + 1) d = true) (hb3 : Nat.ble (2 * rest.length + y2.2.2.2.1) 370 = true) (K : Ex g d2 y2 0 (lva 0 cs (.ref b :: as)) [] X Q2) (k : ∀ o X', Q2 o X' → Aft g d y pc kn rest Q o X') : Ex g d y pc kn st X Q :=
  ex_invV hd hl hv.1 hv.2.1 hv.2.2.1 hrc hst hv.2.2.2 (by rw [lgl_eq, hcat]; exact Nat.le_of_ble_eq_true hb1) (Nat.le_of_ble_eq_true hb2) (Nat.le_of_ble_eq_true hb3) (by rw [lva_eq _ _ _ hcat]; exact K) k
theorem ex_invS2 {as : List Value} {idx : Nat} {nm : MethodName} (hd : decode y.2.2.1 pc = .ok (.invokestatic idx, 3)) (hl : LKm y.1 idx nm) (hv : SF y2 nm as.length) (hst : as.reverse ++ rest = st) (hcat : as.map Value.category = cs) (hb1 : Nat.ble cs.sum y2.2.2.2.1 = true) (hb2 : Nat.ble (d2 + 1) d = true) (hb3 : Nat.ble (2 * rest.length + y2.2.2.2.1) 370 = true) (K : Ex g d2 y2 0 (lva 0 cs as) [] X Q2) (k : ∀ o X', Q2 o X' → Aft g d y pc kn rest Q o X') : Ex g d y pc kn st X Q :=
  ex_invS hd hl hv.1 hv.2.1 hst hv.2.2 (by rw [lgl_eq, hcat]; exact Nat.le_of_ble_eq_true hb1) (Nat.le_of_ble_eq_true hb2) (Nat.le_of_ble_eq_true hb3) (by rw [lva_eq _ _ _ hcat]; exact K) k
/-- a constructor, all that the tables say of it -/
def NF (y2 : MD) (nm : MethodName) (n : Nat) : Prop := ML y2 nm ∧ nm.name = "<init>" ∧ y2.2.2.2.2.1 = none ∧ (y2.2.2.2.2.2 = [] ∧ Cond.code nm y2.2.2.1 y2.2.2.2.1 none ∈ lw_tbl) ∧ Cond.instanceMethod nm ∈ lw_tbl ∧ (parseMethodDescriptor nm.desc).map (fun d => d.parameters.length) = some n
theorem ex_invI2 {as : List Value} {b idx : Nat} {nm : MethodName} (hd : decode y.2.2.1 pc = .ok (.invokespecial idx, 3)) (hl : LKm y.1 idx nm) (hv : NF y2 nm as.length) (hst : as.reverse ++ .ref b :: rest = st) (hcat : (Value.ref b :: as).map Value.category = cs) (hb1 : Nat.ble cs.sum y2.2.2.2.1 = true) (hb2 : Nat.ble (d2 + 1) d = true) (hb3 : Nat.ble (2 * rest.length + y2.2.2.2.1) 370 = true) (K : Ex g d2 y2 0 (lva 0 cs (.ref b :: as)) [] X Q2) (k : ∀ o X', Q2 o X' → Aft g d y pc kn rest Q o X') : Ex g d y pc kn st X Q :=
  ex_invI hd hl hv.1 hv.2.1 hv.2.2.1 hv.2.2.2.1 hv.2.2.2.2.1 hst hv.2.2.2.2.2 (by rw [lgl_eq, hcat]; exact Nat.le_of_ble_eq_true hb1) (Nat.le_of_ble_eq_true hb2) (Nat.le_of_ble_eq_true hb3) (lva_eq _ _ _ hcat) K k
/-! calls that don't throw -/
theorem cx_V {e1 : α → Option Value} {f : Option (α × CW)} {κ : α → CW → Option β} {z : β} {as : List Value} {k o ci idx : Nat} {nm : MethodName} (h : cB f κ = some z) (hg : gS g = true) (hd : decode y.2.2.1 pc = .ok (.invokevirtual idx, 3)) (hl : LKm y.1 idx nm) (hv : VF y2 nm as.length) (hk : sKind k = ci + 1) (ho : sOff k = o) (hc : Nat.blt ci 19 = true) (hC : clR ci = nm.cls) (hst : as.reverse ++ .ref (gB g + o) :: rest = st)
    (hcat : (Value.ref (gB g + o) :: as).map Value.category = cs) (hb1 : Nat.ble cs.sum y2.2.2.2.1 = true) (hb2 : Nat.ble (d2 + 1) d = true) (hb3 : Nat.ble (2 * rest.length + y2.2.2.2.1) 370 = true) (K : ∀ a C', f = some (a, C') → Ex g d2 y2 0 (lva 0 cs (.ref (gB g + o) :: as)) [] (M, C) (QC e1 a C' M)) (n : ∀ a C', κ a C' = some z → Ex g d y (pc + 3) kn ((e1 a).toList ++ rest) (M, C') Q) : Ex g d y pc kn st (M, C) Q := by
  obtain ⟨a, C', hf, h⟩ := cB_some h
  refine ex_invV2 hd hl hv (RC.stat hg hk ho (Nat.blt_eq.mp hc) hC) hst hcat hb1 hb2 hb3 (K a C' hf) ?_
  rintro _ _ ⟨rfl, rfl⟩
  exact n a C' h
theorem hx_V {e1 : α → Option Value} {f : Nat → Option (α × CW)} {κ : α → CW → Option β} {z : β} {as : List Value} {ci idx : Nat} {nm : MethodName} {r : Option Nat} (h : dr r (fun q => gdB (hK C q == ci + 1) (cB (f q) κ)) = some z) (hd : decode y.2.2.1 pc = .ok (.invokevirtual idx, 3)) (hl : LKm y.1 idx nm) (hv : VF y2 nm as.length) (hc : Nat.blt ci 19 = true) (hC : clR ci = nm.cls) (hst : as.reverse ++ va_rf r :: rest = st)
    (hcat : ∀ q, (Value.ref q :: as).map Value.category = cs) (hb1 : Nat.ble cs.sum y2.2.2.2.1 = true) (hb2 : Nat.ble (d2 + 1) d = true) (hb3 : Nat.ble (2 * rest.length + y2.2.2.2.1) 370 = true) (K : ∀ q a C', f q = some (a, C') → Ex g d2 y2 0 (lva 0 cs (.ref q :: as)) [] (M, C) (QC e1 a C' M)) (n : ∀ a C', κ a C' = some z → Ex g d y (pc + 3) kn ((e1 a).toList ++ rest) (M, C') Q) : Ex g d y pc kn st (M, C) Q := by
  obtain ⟨q, rfl, h⟩ := dr_some h
  obtain ⟨hk, h⟩ := gdB_some h
  obtain ⟨a, C', hf, h⟩ := cB_some h
  refine ex_invV2 hd hl hv (RC.heap (by simpa using hk) (Nat.blt_eq.mp hc) hC) hst (hcat q) hb1 hb2 hb3 (K q a C' hf) ?_
  rintro _ _ ⟨rfl, rfl⟩
  exact n a C' h
theorem cx_S {e1 : α → Option Value} {f : Option (α × CW)} {κ : α → CW → Option β} {z : β} {as : List Value} {idx : Nat} {nm : MethodName} (h : cB f κ = some z) (hd : decode y.2.2.1 pc = .ok (.invokestatic idx, 3)) (hl : LKm y.1 idx nm) (hv : SF y2 nm as.length) (hst : as.reverse ++ rest = st)
    (hcat : as.map Value.category = cs) (hb1 : Nat.ble cs.sum y2.2.2.2.1 = true) (hb2 : Nat.ble (d2 + 1) d = true) (hb3 : Nat.ble (2 * rest.length + y2.2.2.2.1) 370 = true) (K : ∀ a C', f = some (a, C') → Ex g d2 y2 0 (lva 0 cs as) [] (M, C) (QC e1 a C' M)) (n : ∀ a C', κ a C' = some z → Ex g d y (pc + 3) kn ((e1 a).toList ++ rest) (M, C') Q) : Ex g d y pc kn st (M, C) Q := by
  obtain ⟨a, C', hf, h⟩ := cB_some h
  refine ex_invS2 hd hl hv hst hcat hb1 hb2 hb3 (K a C' hf) ?_
  rintro _ _ ⟨rfl, rfl⟩
  exact n a C' h
theorem hx_I {e1 : α → Option Value} {f : Nat → Option (α × CW)} {κ : α → CW → Option β} {z : β} {as : List Value} {idx : Nat} {nm : MethodName} {r : Option Nat} (h : dr r (fun q => cB (f q) κ) = some z) (hd : decode y.2.2.1 pc = .ok (.invokespecial idx, 3)) (hl : LKm y.1 idx nm) (hv : NF y2 nm as.length) (hst : as.reverse ++ va_rf r :: rest = st)
    (hcat : ∀ q, (Value.ref q :: as).map Value.category = cs) (hb1 : Nat.ble cs.sum y2.2.2.2.1 = true) (hb2 : Nat.ble (d2 + 1) d = true) (hb3 : Nat.ble (2 * rest.length + y2.2.2.2.1) 370 = true) (K : ∀ q a C', f q = some (a, C') → Ex g d2 y2 0 (lva 0 cs (.ref q :: as)) [] (M, C) (QC e1 a C' M)) (n : ∀ a C', κ a C' = some z → Ex g d y (pc + 3) kn ((e1 a).toList ++ rest) (M, C') Q) : Ex g d y pc kn st (M, C) Q := by
  obtain ⟨q, rfl, h⟩ := dr_some h
  obtain ⟨a, C', hf, h⟩ := cB_some h
  refine ex_invI2 hd hl hv hst (hcat q) hb1 hb2 hb3 (K q a C' hf) ?_
  rintro _ _ ⟨rfl, rfl⟩
  exact n a C' h
/-! calls that may throw; nobody catches here -/
def NoH (y : MD) (pc : Nat) : Bool := y.2.2.2.2.2.all (fun h => !(decide (h.1 ≤ pc) && decide (pc < h.2.1)))
theorem aft_x {e1 : α → Option Value} {e0 : β → Option Value} {a : Nat ⊕ α} {C' : CW} {κ : α → CW → Option ((Nat ⊕ β) × CW)} {a0 : Nat ⊕ β} {C0 : CW} (h : xB (some (a, C')) κ = some (a0, C0)) (hno : NoH y pc = true) (n : ∀ a, κ a C' = some (a0, C0) → Ex g d y (pc + 3) kn ((e1 a).toList ++ rest) (M, C') (QX e0 a0 C0 M)) : ∀ o X', QX e1 a C' M o X' → Aft g d y pc kn rest (QX e0 a0 C0 M) o X' := by
  rintro o X' ⟨ho, rfl⟩
  cases a with
  | inl q =>
    subst ho
    unfold xB at h
    cases h
    exact ext_out hno ⟨rfl, rfl⟩
  | inr a =>
    subst ho
    exact n a h
theorem cx_VX {e1 : α → Option Value} {e0 : β → Option Value} {f : Option ((Nat ⊕ α) × CW)} {κ : α → CW → Option ((Nat ⊕ β) × CW)} {a0 : Nat ⊕ β} {C0 : CW} {as : List Value} {k o ci idx : Nat} {nm : MethodName} (h : xB f κ = some (a0, C0)) (hno : NoH y pc = true) (hg : gS g = true) (hd : decode y.2.2.1 pc = .ok (.invokevirtual idx, 3)) (hl : LKm y.1 idx nm) (hv : VF y2 nm as.length) (hk : sKind k = ci + 1) (ho : sOff k = o) (hc : Nat.blt ci 19 = true) (hC : clR ci = nm.cls) (hst : as.reverse ++ .ref (gB g + o) :: rest = st)
    (hcat : (Value.ref (gB g + o) :: as).map Value.category = cs) (hb1 : Nat.ble cs.sum y2.2.2.2.1 = true) (hb2 : Nat.ble (d2 + 1) d = true) (hb3 : Nat.ble (2 * rest.length + y2.2.2.2.1) 370 = true) (K : ∀ a C', f = some (a, C') → Ex g d2 y2 0 (lva 0 cs (.ref (gB g + o) :: as)) [] (M, C) (QX e1 a C' M)) (n : ∀ a C', κ a C' = some (a0, C0) → Ex g d y (pc + 3) kn ((e1 a).toList ++ rest) (M, C') (QX e0 a0 C0 M)) : Ex g d y pc kn st (M, C) (QX e0 a0 C0 M) := by
  cases f with
  | none => cases h
  | some w =>
    obtain ⟨a, C'⟩ := w
    exact ex_invV2 hd hl hv (RC.stat hg hk ho (Nat.blt_eq.mp hc) hC) hst hcat hb1 hb2 hb3 (K a C' rfl) (aft_x h hno (fun a => n a C'))
theorem hx_VX {e1 : α → Option Value} {e0 : β → Option Value} {f : Nat → Option ((Nat ⊕ α) × CW)} {κ : α → CW → Option ((Nat ⊕ β) × CW)} {a0 : Nat ⊕ β} {C0 : CW} {as : List Value} {ci idx : Nat} {nm : MethodName} {r : Option Nat} (h : dr r (fun q => gdB (hK C q == ci + 1) (xB (f q) κ)) = some (a0, C0)) (hno : NoH y pc = true) (hd : decode y.2.2.1 pc = .ok (.invokevirtual idx, 3)) (hl : LKm y.1 idx nm) (hv : VF y2 nm as.length) (hc : Nat.blt ci 19 = true) (hC : clR ci = nm.cls) (hst : as.reverse ++ va_rf r :: rest = st)
    (hcat : ∀ q, (Value.ref q :: as).map Value.category = cs) (hb1 : Nat.ble cs.sum y2.2.2.2.1 = true) (hb2 : Nat.ble (d2 + 1) d = true) (hb3 : Nat.ble (2 * rest.length + y2.2.2.2.1) 370 = true) (K : ∀ q a C', f q = some (a, C') → Ex g d2 y2 0 (lva 0 cs (.ref q :: as)) [] (M, C) (QX e1 a C' M)) (n : ∀ a C', κ a C' = some (a0, C0) → Ex g d y (pc + 3) kn ((e1 a).toList ++ rest) (M, C') (QX e0 a0 C0 M)) : Ex g d y pc kn st (M, C) (QX e0 a0 C0 M) := by
  obtain ⟨q, rfl, h⟩ := dr_some h
  obtain ⟨hk, h⟩ := gdB_some h
  cases hf : f q with
  | none => rw [hf] at h; cases h
  | some w =>
    obtain ⟨a, C'⟩ := w
    rw [hf] at h
    exact ex_invV2 hd hl hv (RC.heap (by simpa using hk) (Nat.blt_eq.mp hc) hC) hst (hcat q) hb1 hb2 hb3 (K q a C' hf) (aft_x h hno (fun a => n a C'))
theorem cx_SX {e1 : α → Option Value} {e0 : β → Option Value} {f : Option ((Nat ⊕ α) × CW)} {κ : α → CW → Option ((Nat ⊕ β) × CW)} {a0 : Nat ⊕ β} {C0 : CW} {as : List Value} {idx : Nat} {nm : MethodName} (h : xB f κ = some (a0, C0)) (hno : NoH y pc = true) (hd : decode y.2.2.1 pc = .ok (.invokestatic idx, 3)) (hl : LKm y.1 idx nm) (hv : SF y2 nm as.length) (hst : as.reverse ++ rest = st)
    (hcat : as.map Value.category = cs) (hb1 : Nat.ble cs.sum y2.2.2.2.1 = true) (hb2 : Nat.ble (d2 + 1) d = true) (hb3 : Nat.ble (2 * rest.length + y2.2.2.2.1) 370 = true) (K : ∀ a C', f = some (a, C') → Ex g d2 y2 0 (lva 0 cs as) [] (M, C) (QX e1 a C' M)) (n : ∀ a C', κ a C' = some (a0, C0) → Ex g d y (pc + 3) kn ((e1 a).toList ++ rest) (M, C') (QX e0 a0 C0 M)) : Ex g d y pc kn st (M, C) (QX e0 a0 C0 M) := by
  cases f with
  | none => cases h
  | some w =>
    obtain ⟨a, C'⟩ := w
    exact ex_invS2 hd hl hv hst hcat hb1 hb2 hb3 (K a C' rfl) (aft_x h hno (fun a => n a C'))
/-! ends of methods that don't throw -/
theorem cx_iret {v a0 : Int} {C0 : CW} (h : some (v, C) = some (a0, C0)) (hd : decode y.2.2.1 pc = .ok (.ireturn, 1)) (hr : y.2.2.2.2.1 = some .int) : Ex g d y pc kn [.int (iI v)] (M, C) (QC eI a0 C0 M) := by
  cases h
  exact ex_iret hd hr ⟨rfl, rfl⟩
theorem cx_zret {v a0 : Int} {C0 : CW} (h : gdB (isZ v) (some (v, C)) = some (a0, C0)) (hd : decode y.2.2.1 pc = .ok (.ireturn, 1)) (hr : y.2.2.2.2.1 = some .boolean) : Ex g d y pc kn [.int (iI v)] (M, C) (QC eI a0 C0 M) := by
  obtain ⟨hz, h⟩ := gdB_some h
  cases h
  exact ex_zret hd hr (isZ_or hz) ⟨rfl, rfl⟩
theorem cx_zret0 {a0 : Int} {C0 : CW} (h : some ((0 : Int), C) = some (a0, C0)) (hd : decode y.2.2.1 pc = .ok (.ireturn, 1)) (hr : y.2.2.2.2.1 = some .boolean) : Ex g d y pc kn [.int (iI 0)] (M, C) (QC eI a0 C0 M) := by
  cases h
  exact ex_zret hd hr (Or.inl rfl) ⟨rfl, rfl⟩
theorem cx_zret1 {a0 : Int} {C0 : CW} (h : some ((1 : Int), C) = some (a0, C0)) (hd : decode y.2.2.1 pc = .ok (.ireturn, 1)) (hr : y.2.2.2.2.1 = some .boolean) : Ex g d y pc kn [.int (iI 1)] (M, C) (QC eI a0 C0 M) := by
  cases h
  exact ex_zret hd hr (Or.inr rfl) ⟨rfl, rfl⟩
theorem cx_lret {v a0 : Int} {C0 : CW} (h : some (v, C) = some (a0, C0)) (hd : decode y.2.2.1 pc = .ok (.lreturn, 1)) (hr : y.2.2.2.2.1 = some .long) : Ex g d y pc kn [.long (iJ v)] (M, C) (QC eJ a0 C0 M) := by
  cases h
  exact ex_lret hd hr ⟨rfl, rfl⟩
theorem cx_vret {a0 : Unit} {C0 : CW} (h : some ((), C) = some (a0, C0)) (hd : decode y.2.2.1 pc = .ok (.return_, 1)) (hr : y.2.2.2.2.1 = none) : Ex g d y pc kn [] (M, C) (QC eV a0 C0 M) := by
  cases h
  exact ex_vret hd hr ⟨rfl, rfl⟩
theorem cx_aret {v a0 : Option Nat} {C0 : CW} {rt : FieldType} (h : some (v, C) = some (a0, C0)) (hd : decode y.2.2.1 pc = .ok (.areturn, 1)) (hr : y.2.2.2.2.1 = some rt) (hrt : (∃ n, rt = .object n) ∨ ∃ t, rt = .array t) : Ex g d y pc kn [va_rf v] (M, C) (QC eR a0 C0 M) := by
  cases h
  exact ex_aret hd hr hrt ⟨rfl, rfl⟩
/-! ends of methods that may throw -/
theorem xx_iret {v : Int} {a0 : Nat ⊕ Int} {C0 : CW} (h : some ((Sum.inr v : Nat ⊕ Int), C) = some (a0, C0)) (hd : decode y.2.2.1 pc = .ok (.ireturn, 1)) (hr : y.2.2.2.2.1 = some .int) : Ex g d y pc kn [.int (iI v)] (M, C) (QX eI a0 C0 M) := by
  cases h
  exact ex_iret hd hr ⟨rfl, rfl⟩
theorem xx_zret {v : Int} {a0 : Nat ⊕ Int} {C0 : CW} (h : gdB (isZ v) (some ((Sum.inr v : Nat ⊕ Int), C)) = some (a0, C0)) (hd : decode y.2.2.1 pc = .ok (.ireturn, 1)) (hr : y.2.2.2.2.1 = some .boolean) : Ex g d y pc kn [.int (iI v)] (M, C) (QX eI a0 C0 M) := by
  obtain ⟨hz, h⟩ := gdB_some h
  cases h
  exact ex_zret hd hr (isZ_or hz) ⟨rfl, rfl⟩
theorem xx_zret0 {a0 : Nat ⊕ Int} {C0 : CW} (h : some ((Sum.inr 0 : Nat ⊕ Int), C) = some (a0, C0)) (hd : decode y.2.2.1 pc = .ok (.ireturn, 1)) (hr : y.2.2.2.2.1 = some .boolean) : Ex g d y pc kn [.int (iI 0)] (M, C) (QX eI a0 C0 M) := by
  cases h
  exact ex_zret hd hr (Or.inl rfl) ⟨rfl, rfl⟩
theorem xx_zret1 {a0 : Nat ⊕ Int} {C0 : CW} (h : some ((Sum.inr 1 : Nat ⊕ Int), C) = some (a0, C0)) (hd : decode y.2.2.1 pc = .ok (.ireturn, 1)) (hr : y.2.2.2.2.1 = some .boolean) : Ex g d y pc kn [.int (iI 1)] (M, C) (QX eI a0 C0 M) := by
  cases h
  exact ex_zret hd hr (Or.inr rfl) ⟨rfl, rfl⟩
theorem xx_lret {v : Int} {a0 : Nat ⊕ Int} {C0 : CW} (h : some ((Sum.inr v : Nat ⊕ Int), C) = some (a0, C0)) (hd : decode y.2.2.1 pc = .ok (.lreturn, 1)) (hr : y.2.2.2.2.1 = some .long) : Ex g d y pc kn [.long (iJ v)] (M, C) (QX eJ a0 C0 M) := by
  cases h
  exact ex_lret hd hr ⟨rfl, rfl⟩
theorem xx_vret {a0 : Nat ⊕ Unit} {C0 : CW} (h : some ((Sum.inr () : Nat ⊕ Unit), C) = some (a0, C0)) (hd : decode y.2.2.1 pc = .ok (.return_, 1)) (hr : y.2.2.2.2.1 = none) : Ex g d y pc kn [] (M, C) (QX eV a0 C0 M) := by
  cases h
  exact ex_vret hd hr ⟨rfl, rfl⟩
theorem xx_aret {v : Option Nat} {a0 : Nat ⊕ Option Nat} {C0 : CW} {rt : FieldType} (h : some ((Sum.inr v : Nat ⊕ Option Nat), C) = some (a0, C0)) (hd : decode y.2.2.1 pc = .ok (.areturn, 1)) (hr : y.2.2.2.2.1 = some rt) (hrt : (∃ n, rt = .object n) ∨ ∃ t, rt = .array t) : Ex g d y pc kn [va_rf v] (M, C) (QX eR a0 C0 M) := by
  cases h
  exact ex_aret hd hr hrt ⟨rfl, rfl⟩
theorem xx_throw {e0 : β → Option Value} {r : Option Nat} {a0 : Nat ⊕ β} {C0 : CW} (h : dr r (fun q => some ((Sum.inl q : Nat ⊕ β), C)) = some (a0, C0)) (hno : NoH y pc = true) (hd : decode y.2.2.1 pc = .ok (.athrow, 1)) : Ex g d y pc kn (va_rf r :: rest) (M, C) (QX e0 a0 C0 M) := by
  obtain ⟨q, rfl, h⟩ := dr_some h
  cases h
  exact ex_athrow hd (ext_out hno ⟨rfl, rfl⟩)
end CV
section CW2
variable {g : Gx} {d d2 : Nat} {y y2 : MD} {pc : Nat} {kn kn2 : List (Nat × Value)} {st rest : List Value} {M : MW} {C : CW} {X : XW} {Q Q2 : Out → XW → Prop} {α β : Type} {z : β}
theorem ex_nullq (hd : decode y.2.2.1 pc = .ok (.aconst_null, 1)) (k : Ex g d y (pc + 1) kn (va_rf none :: st) X Q) : Ex g d y pc kn st X Q := ex_null hd k
theorem cx_alen {k o t n : Nat} (hg : gS g = true) (hd : decode y.2.2.1 pc = .ok (.arraylength, 1)) (hk : sKind k = 64 + t) (ho : sOff k = o) (hn : sLen k = n) (h : Ex g d y (pc + 1) kn (.int (iI (n : Int)) :: rest) (M, C) Q) : Ex g d y pc kn (.ref (gB g + o) :: rest) (M, C) Q := by
  intro p l e R s m args below meth c H locs cells slots y0 ls C0 hRp h1 h2 h3 hl2
  have hP := hRp.stat hg (k := k) (by omega)
  rw [hk] at hP
  rw [← ho]
  obtain ⟨h7, hA⟩ := hP.arr
  refine W.alen C0.exec C0.code hA ((kn_arr C0.kno h7).1 _ _) (n := iI (n : Int)) ?_ rfl rfl hd (h p l e R s m args below meth c H locs cells slots y0 ls C0 hRp h1 h2 h3 hl2)
  rw [arrV_size, hn]
  exact (Int32.ofInt_eq_ofNat).symm
/-- the statics of old that the code reads: class, name, descriptor -/
def gsN (i : Nat) : String × String × String := if i = 0 then ("java/util/ArrayList", "DEFAULTCAPACITY_EMPTY_ELEMENTDATA", "[Ljava/lang/Object;") else if i = 1 then ("java/lang/Throwable", "UNASSIGNED_STACK", "[Ljava/lang/StackTraceElement;") else ("java/lang/Throwable", "SUPPRESSED_SENTINEL", "Ljava/util/List;")
def va_L (C n d : String) (s : State) (H : Heap) : Prop := ∃ (c : ClassId) (k : Class) (i : Nat) (f : Field) (a : Nat) (cell : Cell), s.vm.findClass C = some c ∧ s.fieldFound? C n d = some (c, k, i, f) ∧ f.isStatic = true ∧ k.statics = some a ∧ H[a]? = some cell ∧ cell.vm.isStatics = true ∧ cell.cls = c ∧ f.slot < cell.slots.size ∧ k.staticTypes[f.slot]? = some f.type
/-- the statics of old stand as gE says; gE 3 is the class object of Object[] -/
def OLDg (g : Gx) : Prop := ∀ s : State, gO g s → (∀ i, i < 3 → va_Z (gsN i).1 (gsN i).2.1 (gsN i).2.2 (va_rf (gE g i)) (fun q => gB g ≤ q) s (gH g)) ∧ (∃ mi : Nat, gE g 3 = some mi ∧ va_Mi "[Ljava/lang/Object;" mi s) ∧ ∀ i, i < 3 → va_L (gsN i).1 (gsN i).2.1 (gsN i).2.2 s (gH g)
theorem ex_gstat {i idx : Nat} (ho : OLDg g) (hd : decode y.2.2.1 pc = .ok (.getstatic idx, 3)) (hi : i < 3) (hl : Cond.fieldLink y.1 idx (gsN i).1 (gsN i).2.1 (gsN i).2.2 ∈ lw_tbl) (k : Ex g d y (pc + 3) kn (va_rf (hE C i) :: st) (M, C) Q) : Ex g d y pc kn st (M, C) Q := by
  intro p l e R s m args below meth c H locs cells slots y0 ls C0 hRp h1 h2 h3 hl2
  obtain ⟨cf, kf, fi, f, a, cell, w1, w2, w3, w4, w5, w6, w7, w8⟩ := (ho s C0.old).1 i hi
  have hsame : ∀ q : Nat, q < gB g → H[q]? = (gH g)[q]? := hRp.2.2.1.2
  have hbase : gB g = (gH g).size := hRp.2.2.1.1
  rw [show hE C = gE g from hRp.olds] at k
  have ha : a < (gH g).size := (Array.getElem?_eq_some_iff.mp w5).1
  exact W.gets C0.exec C0.code C0.own (va_tabs rfl rfl (C0.tb _ hl rfl)) w1 w2 w3 w4 (by rw [hsame a (by omega)]; exact w5) (fun e => by rw [e] at w6; cases w6) w7 rfl hd (k p l e R s m args below meth c H locs cells slots y0 ls C0 hRp h1 h2 h3 hl2)
end CW2
