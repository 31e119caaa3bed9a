/-! LAYER A: rows of the component: single objects (c..), the heap (h..) -/
def dr {β : Type} (r : Option Nat) (κ : Nat → Option β) : Option β := match r with
  | none => none
  | some q => κ q
/-- room for a new cell of w slots; its address -/
def al {β : Type} (C : CW) (w : Nat) (κ : Nat → Option β) : Option β := if hZ C + 1 ≤ 600384 ∧ hS C + w ≤ 7290858 then κ (hB C + hZ C) else none
def cB {α β : Type} (m : Option (α × CW)) (κ : α → CW → Option β) : Option β := match m with
  | none => none
  | some (a, C) => κ a C
/-- a call that may throw, with nobody to catch here -/
def xB {α β : Type} (m : Option ((Nat ⊕ α) × CW)) (κ : α → CW → Option ((Nat ⊕ β) × CW)) : Option ((Nat ⊕ β) × CW) := match m with
  | none => none
  | some (.inl q, C) => some (.inl q, C)
  | some (.inr a, C) => κ a C
/-- a call that may throw, with a handler -/
def xH {α β : Type} (m : Option ((Nat ⊕ α) × CW)) (η : Nat → CW → Option β) (κ : α → CW → Option β) : Option β := match m with
  | none => none
  | some (.inl q, C) => η q C
  | some (.inr a, C) => κ a C
def QC {α : Type} (e : α → Option Value) (a : α) (C : CW) (M : MW) : Out → XW → Prop := fun o X => o = .inr (e a) ∧ X = (M, C)
def QX {α : Type} (e : α → Option Value) (a : Nat ⊕ α) (C : CW) (M : MW) : Out → XW → Prop := fun o X => (match a with
  | .inl q => o = .inl q
  | .inr a => o = .inr (e a)) ∧ X = (M, C)
theorem dr_some {β : Type} {r : Option Nat} {κ : Nat → Option β} {z : β} (h : dr r κ = some z) : ∃ q, r = some q ∧ κ q = some z := by
  unfold dr at h
  split at h
  · cases h
  · exact ⟨_, rfl, h⟩
theorem al_some {β : Type} {C : CW} {w : Nat} {κ : Nat → Option β} {z : β} (h : al C w κ = some z) : (hZ C + 1 ≤ 600384 ∧ hS C + w ≤ 7290858) ∧ κ (hB C + hZ C) = some z := by
  unfold al at h
  split at h
  · rename_i hc
    exact ⟨hc, h⟩
  · cases h
theorem cB_some {α β : Type} {m : Option (α × CW)} {κ : α → CW → Option β} {z : β} (h : cB m κ = some z) : ∃ a C, m = some (a, C) ∧ κ a C = some z := by
  unfold cB at h
  split at h
  · cases h
  · exact ⟨_, _, rfl, h⟩
theorem nf_ref {ty : FieldType} (h : ty.isReference = true) (r : Option Nat) : narrow ty (va_rf r) = va_rf r ∧ fits ty (va_rf r) = true := by
  cases ty <;> first | (cases h; done) | (cases r <;> exact ⟨rfl, rfl⟩)
section HROW
variable {g : Gx} {d d2 : Nat} {y y2 : MD} {pc : Nat} {kn : List (Nat × Value)} {st rest : List Value} {M : MW} {C C' : CW} {X : XW} {Q : Out → XW → Prop}
theorem sV_csI {k i : Nat} {v : Int} (hk : ¬ k < 200) (hc : scd k i = 0) : sV g (M, csI C k i v) k = updV (sV g (M, C) k) i (.int (iI v)) := by
  funext j
  show fvl _ _ (stI (M, csI C k i v) k j) _ _ = _
  have e1 : stI (M, csI C k i v) k = up2 (cI C) k i v k := by unfold stI; rw [if_neg hk]; rfl
  have e2 : stI (M, C) k = cI C k := by unfold stI; rw [if_neg hk]
  have e3 : stJ (M, csI C k i v) k = stJ (M, C) k := rfl
  rw [e1, e3]
  unfold updV
  by_cases h : j = i
  · subst h
    rw [up2_self, if_pos rfl, hc]
    rfl
  · rw [if_neg h, up2_i h]
    unfold sV
    rw [e2]
    rfl
theorem sV_csJ {k i : Nat} {v : Int} (hk : ¬ k < 200) (hc : scd k i = 1) : sV g (M, csJ C k i v) k = updV (sV g (M, C) k) i (.long (iJ v)) := by
  funext j
  show fvl _ _ (stI (M, csJ C k i v) k j) (stJ (M, csJ C k i v) k j) _ = _
  have e1 : stJ (M, csJ C k i v) k = up2 (cJ C) k i v k := by unfold stJ; rw [if_neg hk]; rfl
  have e2 : stJ (M, C) k = cJ C k := by unfold stJ; rw [if_neg hk]
  have e3 : stI (M, csJ C k i v) k = stI (M, C) k := rfl
  rw [e1, e3]
  unfold updV
  by_cases h : j = i
  · subst h
    rw [up2_self, if_pos rfl, hc]
    rfl
  · rw [if_neg h, up2_i h]
    unfold sV
    rw [e2]
    rfl
theorem sV_csR {k i : Nat} {v : Option Nat} (hc : scd k i = 2) : sV g (M, csR C k i v) k = updV (sV g (M, C) k) i (va_rf v) := by
  funext j
  show fvl _ _ (stI (M, csR C k i v) k j) (stJ (M, csR C k i v) k j) (up2 (cR C) k i v k j) = _
  have e3 : stI (M, csR C k i v) k = stI (M, C) k := rfl
  have e4 : stJ (M, csR C k i v) k = stJ (M, C) k := rfl
  rw [e3, e4]
  unfold updV
  by_cases h : j = i
  · subst h
    rw [up2_self, if_pos rfl, hc]
    rfl
  · rw [if_neg h, up2_i h]
    rfl
theorem sV_csI_o {k k' i : Nat} {v : Int} (h : k' ≠ k) : sV g (M, csI C k i v) k' = sV g (M, C) k' := by
  funext j
  unfold sV
  have e1 : stI (M, csI C k i v) k' = stI (M, C) k' := by
    unfold stI
    show (if k' < 200 then _ else up2 (cI C) k i v k') = _
    rw [up2_k h]
  rw [e1]
  rfl
theorem sV_csJ_o {k k' i : Nat} {v : Int} (h : k' ≠ k) : sV g (M, csJ C k i v) k' = sV g (M, C) k' := by
  funext j
  unfold sV
  have e1 : stJ (M, csJ C k i v) k' = stJ (M, C) k' := by
    unfold stJ
    show (if k' < 200 then _ else up2 (cJ C) k i v k') = _
    rw [up2_k h]
  rw [e1]
  rfl
theorem sV_csR_o {k k' i : Nat} {v : Option Nat} (h : k' ≠ k) : sV g (M, csR C k i v) k' = sV g (M, C) k' := by
  funext j
  show fvl _ _ _ _ (up2 (cR C) k i v k' j) = _
  rw [up2_k h]
  rfl
theorem hV_hsI {q i : Nat} {v : Int} (hc : hcd (hK C q) i = 0) : hV g (hsI C q i v) q = updV (hV g C q) i (.int (iI v)) := by
  funext j
  show fvl _ (hcd (hK C q) j) (up2 (hI C) q i v q j) (hJ C q j) (hR C q j) = _
  unfold updV
  by_cases h : j = i
  · subst h
    rw [up2_self, if_pos rfl, hc]
    rfl
  · rw [if_neg h, up2_i h]
    rfl
theorem hV_hsJ {q i : Nat} {v : Int} (hc : hcd (hK C q) i = 1) : hV g (hsJ C q i v) q = updV (hV g C q) i (.long (iJ v)) := by
  funext j
  show fvl _ (hcd (hK C q) j) (hI C q j) (up2 (hJ C) q i v q j) (hR C q j) = _
  unfold updV
  by_cases h : j = i
  · subst h
    rw [up2_self, if_pos rfl, hc]
    rfl
  · rw [if_neg h, up2_i h]
    rfl
theorem hV_hsR {q i : Nat} {v : Option Nat} (hc : hcd (hK C q) i = 2) : hV g (hsR C q i v) q = updV (hV g C q) i (va_rf v) := by
  funext j
  show fvl _ (hcd (hK C q) j) (hI C q j) (hJ C q j) (up2 (hR C) q i v q j) = _
  unfold updV
  by_cases h : j = i
  · subst h
    rw [up2_self, if_pos rfl, hc]
    rfl
  · rw [if_neg h, up2_i h]
    rfl
theorem hV_hsI_o {q q' i : Nat} {v : Int} (h : q' ≠ q) : hV g (hsI C q i v) q' = hV g C q' := by
  funext j
  show fvl _ (hcd (hK C q') j) (up2 (hI C) q i v q' j) (hJ C q' j) (hR C q' j) = _
  rw [up2_k h]
  rfl
theorem hV_hsJ_o {q q' i : Nat} {v : Int} (h : q' ≠ q) : hV g (hsJ C q i v) q' = hV g C q' := by
  funext j
  show fvl _ (hcd (hK C q') j) (hI C q' j) (up2 (hJ C) q i v q' j) (hR C q' j) = _
  rw [up2_k h]
  rfl
theorem hV_hsR_o {q q' i : Nat} {v : Option Nat} (h : q' ≠ q) : hV g (hsR C q i v) q' = hV g C q' := by
  funext j
  show fvl _ (hcd (hK C q') j) (hI C q' j) (hJ C q' j) (up2 (hR C) q i v q' j) = _
  rw [up2_k h]
  rfl
theorem sV_hsI {k q i : Nat} {v : Int} : sV g (M, hsI C q i v) k = sV g (M, C) k := rfl
theorem sV_hsJ {k q i : Nat} {v : Int} : sV g (M, hsJ C q i v) k = sV g (M, C) k := rfl
theorem sV_hsR {k q i : Nat} {v : Option Nat} : sV g (M, hsR C q i v) k = sV g (M, C) k := rfl
/-! single objects -/
theorem ex_cput {k o ci j idx : Nat} {v : Value} (hg : gS g = true) (hd : decode y.2.2.1 pc = .ok (.putfield idx, 3)) (hl : FLk y.1 idx ci j) (hk : sKind k = ci + 1) (ho : sOff k = o) (hfin : (clT ci j).2.2.2 = false) (hn : narrow (clY ci j) v = v) (hf : fits (clY ci j) v = true)
    (hX : ∀ k', k' ≠ k → sV g (M, C') k' = sV g (M, C) k') (hC : hK C' = hK C ∧ hL C' = hL C ∧ (hB C' = hB C ∧ hE C' = hE C) ∧ hZ C' = hZ C ∧ hS C' = hS C ∧ ∀ q, hV g C' q = hV g C q) (he : sV g (M, C') k = updV (sV g (M, C) k) j v) (h : Ex g d y (pc + 3) kn rest (M, C') Q) : Ex g d y pc kn (v :: .ref (gB g + o) :: rest) (M, C) Q := by
  intro p l e R s m args below meth c H locs cells slots y0 ls C0 hR h1 h2 h3 hl2
  have hk0 : sKind k ≠ 0 := by omega
  have hP := hR.stat hg hk0
  rw [← ho]
  refine put_core C0 hP hk hl hd (Or.inl hfin) hn hf fun H1 f e1 z oq => ?_
  rw [← he] at e1
  exact h p l e R s m args below meth c H1 (locs ++ [⟨gB g + sOff k, f⟩]) cells slots y0 ls C0 (hR.putS (X' := (M, C')) hg hk0 hX hC e1 z oq) (by rw [z]; exact h1) (by show hS C' = _; rw [hC.2.2.2.2.1]; exact h2) (fun q hq => by
    rcases List.mem_append.mp hq with hq | hq
    · exact h3 q hq
    · rw [List.mem_singleton.mp hq]; exact Nat.le_add_right _ _) hl2
theorem ex_cald {k o t : Nat} {i : Int} {ins : Instr} {v : Value} (hg : gS g = true) (hd : decode y.2.2.1 pc = .ok (ins, 1)) (hk : sKind k = 64 + t) (ho : sOff k = o) (hins : (t = 0 ∧ ins = .iaload) ∨ (t = 1 ∧ ins = .laload) ∨ ((t = 2 ∨ t = 3) ∧ ins = .baload) ∨ (4 ≤ t ∧ ins = .aaload)) (hin : 0 ≤ w32 i ∧ w32 i < sLen k) (hv : sV g (M, C) k (w32 i).toNat = v) (h : Ex g d y (pc + 1) kn (v :: rest) (M, C) Q) : Ex g d y pc kn (.int (iI i) :: .ref (gB g + o) :: rest) (M, C) Q := by
  intro p l e R s m args below meth c H locs cells slots y0 ls C0 hR h1 h2 h3 hl2
  have hP := hR.stat hg (k := k) (by omega)
  rw [hk] at hP
  rw [← ho]
  refine ald_core C0 hP hd hins hin ?_
  rw [hv]
  exact h p l e R s m args below meth c H locs cells slots y0 ls C0 hR h1 h2 h3 hl2
theorem ex_cast {k o t : Nat} {i x : Int} {ins : Instr} {v w : Value} (hg : gS g = true) (hd : decode y.2.2.1 pc = .ok (ins, 1)) (hk : sKind k = 64 + t) (ho : sOff k = o) (hins : (t = 0 ∧ ins = .iastore ∧ v = .int (iI x) ∧ w = .int (iI x)) ∨ (t = 1 ∧ ins = .lastore ∧ v = .long (iJ x) ∧ w = .long (iJ x)) ∨ ((t = 2 ∨ t = 3) ∧ ins = .bastore ∧ v = .int (iI x) ∧ w = .int (iI (nrw t x)))) (hin : 0 ≤ w32 i ∧ w32 i < sLen k)
    (hX : ∀ k', k' ≠ k → sV g (M, C') k' = sV g (M, C) k') (hC : hK C' = hK C ∧ hL C' = hL C ∧ (hB C' = hB C ∧ hE C' = hE C) ∧ hZ C' = hZ C ∧ hS C' = hS C ∧ ∀ q, hV g C' q = hV g C q) (he : sV g (M, C') k = updV (sV g (M, C) k) (w32 i).toNat w) (h : Ex g d y (pc + 1) kn rest (M, C') Q) : Ex g d y pc kn (v :: .int (iI i) :: .ref (gB g + o) :: rest) (M, C) Q := by
  intro p l e R s m args below meth c H locs cells slots y0 ls C0 hR h1 h2 h3 hl2
  have hk0 : sKind k ≠ 0 := by omega
  have hP := hR.stat hg hk0
  rw [hk] at hP
  rw [← ho]
  refine ast_core C0 hP hd hins hin fun H1 f e1 z oq => ?_
  rw [← he, ← hk] at e1
  exact h p l e R s m args below meth c H1 (locs ++ [⟨gB g + sOff k, f⟩]) cells slots y0 ls C0 (hR.putS (X' := (M, C')) hg hk0 hX hC e1 z oq) (by rw [z]; exact h1) (by show hS C' = _; rw [hC.2.2.2.2.1]; exact h2) (fun q hq => by
    rcases List.mem_append.mp hq with hq | hq
    · exact h3 q hq
    · rw [List.mem_singleton.mp hq]; exact Nat.le_add_right _ _) hl2
/-! the heap -/
theorem ex_hget {q ci j idx : Nat} {v : Value} (hd : decode y.2.2.1 pc = .ok (.getfield idx, 3)) (hl : FLk y.1 idx ci j) (hk : hK C q = ci + 1) (hv : fvl (gB g) (clF ci j) (hI C q j) (hJ C q j) (hR C q j) = v) (h : Ex g d y (pc + 3) kn (v :: rest) (M, C) Q) : Ex g d y pc kn (.ref q :: rest) (M, C) Q := by
  intro p l e R s m args below meth c H locs cells slots y0 ls C0 hR h1 h2 h3 hl2
  have hP := hR.heap (q := q) (by show hK C q ≠ 0; omega)
  have hk' : hK (M, C).2 q = ci + 1 := hk
  rw [hk'] at hP
  refine get_core C0 hP rfl hl hd ?_
  have e1 : hV g (M, C).2 q j = v := by
    rw [← hv]
    show fvl _ (hcd (hK C q) j) _ _ _ = _
    unfold hcd
    rw [hk, if_pos (by have := hl.1; omega), Nat.add_sub_cancel]
  rw [e1]
  exact h p l e R s m args below meth c H locs cells slots y0 ls C0 hR h1 h2 h3 hl2
theorem ex_hput {q ci j idx : Nat} {v : Value} (hd : decode y.2.2.1 pc = .ok (.putfield idx, 3)) (hl : FLk y.1 idx ci j) (hk : hK C q = ci + 1) (hfin : (clT ci j).2.2.2 = false ∨ ((clT ci j).2.2.2 = true ∧ y.2.1 = "<init>" ∧ (clT ci j).1 = y.1)) (hn : narrow (clY ci j) v = v) (hf : fits (clY ci j) v = true)
    (hX : ∀ k, sV g (M, C') k = sV g (M, C) k) (hC : hK C' = hK C ∧ hL C' = hL C ∧ (hB C' = hB C ∧ hE C' = hE C) ∧ hZ C' = hZ C ∧ hS C' = hS C ∧ ∀ q', q' ≠ q → hV g C' q' = hV g C q') (he : hV g C' q = updV (hV g C q) j v) (h : Ex g d y (pc + 3) kn rest (M, C') Q) : Ex g d y pc kn (v :: .ref q :: rest) (M, C) Q := by
  intro p l e R s m args below meth c H locs cells slots y0 ls C0 hR h1 h2 h3 hl2
  have hq0 : hK (M, C).2 q ≠ 0 := by show hK C q ≠ 0; omega
  have hP := hR.heap hq0
  have hge : gB g ≤ q := by
    rcases hR.hge hq0 with h | ⟨-, h⟩
    · exact h
    · have : 64 ≤ hK C q := h
      have := hl.1
      omega
  refine put_core C0 hP hk hl hd hfin hn hf fun H1 f e1 z oq => ?_
  have e1 : cAt g (hK C q) (hL C q) (updV (hV g C q) j v) q H1 := e1
  rw [← he] at e1
  exact h p l e R s m args below meth c H1 (locs ++ [⟨q, f⟩]) cells slots y0 ls C0 (hR.putH (C' := C') hq0 hge hX hC e1 z oq) (by rw [z]; exact h1) (by show hS C' = _; rw [hC.2.2.2.2.1]; exact h2) (fun q hq => by
    rcases List.mem_append.mp hq with hq | hq
    · exact h3 q hq
    · rw [List.mem_singleton.mp hq]; exact hge) hl2
theorem ex_hald {q t : Nat} {i : Int} {ins : Instr} {v : Value} (hd : decode y.2.2.1 pc = .ok (ins, 1)) (hk : hK C q = 64 + t) (hins : (t = 0 ∧ ins = .iaload) ∨ (t = 1 ∧ ins = .laload) ∨ ((t = 2 ∨ t = 3) ∧ ins = .baload) ∨ (4 ≤ t ∧ ins = .aaload)) (hin : 0 ≤ w32 i ∧ w32 i < hL C q) (hv : hV g C q (w32 i).toNat = v) (h : Ex g d y (pc + 1) kn (v :: rest) (M, C) Q) : Ex g d y pc kn (.int (iI i) :: .ref q :: rest) (M, C) Q := by
  intro p l e R s m args below meth c H locs cells slots y0 ls C0 hR h1 h2 h3 hl2
  have hP := hR.heap (q := q) (by show hK C q ≠ 0; omega)
  have hk' : hK (M, C).2 q = 64 + t := hk
  rw [hk'] at hP
  refine ald_core C0 hP hd hins hin ?_
  rw [show hV g (M, C).2 q (w32 i).toNat = v from hv]
  exact h p l e R s m args below meth c H locs cells slots y0 ls C0 hR h1 h2 h3 hl2
theorem ex_hast {q t : Nat} {i x : Int} {ins : Instr} {v w : Value} (hd : decode y.2.2.1 pc = .ok (ins, 1)) (hk : hK C q = 64 + t) (hins : (t = 0 ∧ ins = .iastore ∧ v = .int (iI x) ∧ w = .int (iI x)) ∨ (t = 1 ∧ ins = .lastore ∧ v = .long (iJ x) ∧ w = .long (iJ x)) ∨ ((t = 2 ∨ t = 3) ∧ ins = .bastore ∧ v = .int (iI x) ∧ w = .int (iI (nrw t x)))) (hin : 0 ≤ w32 i ∧ w32 i < hL C q)
    (hX : ∀ k, sV g (M, C') k = sV g (M, C) k) (hC : hK C' = hK C ∧ hL C' = hL C ∧ (hB C' = hB C ∧ hE C' = hE C) ∧ hZ C' = hZ C ∧ hS C' = hS C ∧ ∀ q', q' ≠ q → hV g C' q' = hV g C q') (he : hV g C' q = updV (hV g C q) (w32 i).toNat w) (h : Ex g d y (pc + 1) kn rest (M, C') Q) : Ex g d y pc kn (v :: .int (iI i) :: .ref q :: rest) (M, C) Q := by
  intro p l e R s m args below meth c H locs cells slots y0 ls C0 hR h1 h2 h3 hl2
  have hq0 : hK (M, C).2 q ≠ 0 := by show hK C q ≠ 0; omega
  have hP := hR.heap hq0
  have hge : gB g ≤ q := by
    rcases hR.hge hq0 with h | ⟨h, -⟩
    · exact h
    · have : hL C q = 0 := h
      omega
  have hP' : cAt g (64 + t) (hL C q) (hV g C q) q H := by rw [← hk]; exact hP
  refine ast_core C0 hP' hd hins hin fun H1 f e1 z oq => ?_
  rw [← he, ← hk] at e1
  exact h p l e R s m args below meth c H1 (locs ++ [⟨q, f⟩]) cells slots y0 ls C0 (hR.putH (C' := C') hq0 hge hX hC e1 z oq) (by rw [z]; exact h1) (by show hS C' = _; rw [hC.2.2.2.2.1]; exact h2) (fun q hq => by
    rcases List.mem_append.mp hq with hq | hq
    · exact h3 q hq
    · rw [List.mem_singleton.mp hq]; exact hge) hl2
/-- an array's length -/
theorem ex_alen {q : Nat} (hd : decode y.2.2.1 pc = .ok (.arraylength, 1)) (hk : 64 ≤ hK C q) (h : Ex g d y (pc + 1) kn (.int (iI (hL C q : Int)) :: rest) (M, C) Q) : Ex g d y pc kn (.ref q :: rest) (M, C) Q := by
  intro p l e R s m args below meth c H locs cells slots y0 ls C0 hR h1 h2 h3 hl2
  have hP := hR.heap (q := q) (by show hK C q ≠ 0; omega)
  obtain ⟨t, ht⟩ : ∃ t, hK C q = 64 + t := ⟨hK C q - 64, by omega⟩
  have hP' : cAt g (64 + t) (hL C q) (hV g C q) q H := by rw [← ht]; exact hP
  obtain ⟨h7, hA⟩ := hP'.arr
  refine W.alen C0.exec C0.code hA ((kn_arr C0.kno h7).1 _ _) (n := iI (hL C q : Int)) ?_ rfl rfl hd (h p l e R s m args below meth c H locs cells slots y0 ls C0 hR h1 h2 h3 hl2)
  rw [arrV_size]
  exact (Int32.ofInt_eq_ofNat).symm
/-- a new cell -/
theorem Rp.new {H H1 : Heap} {K n w : Nat} (hR : Rp g (M, C) H) (hz : H1.size = H.size + 1) (ho : ∀ q : Nat, q < H.size → H1[q]? = H[q]?) (hc : cAt g K n (hV g (hNew C K n w) H.size) H.size H1) (hZ1 : hZ C + 1 ≤ 600384) (hS1 : hS C + w ≤ 7290858) : Rp g (M, hNew C K n w) H1 := by
  have hsz : H.size = hB C + hZ C := by rw [hR.size, show hB C = gB g from hR.base]
  obtain ⟨r1, r2, ⟨r3, r3b⟩, r4, r5, r6, r7, r8⟩ := hR
  have r2b : hB C = gB g := r2.1
  have r1 : H.size = gB g + hZ C := r1
  have hlt : ∀ {K n : Nat} {V : Nat → Value} {a : Nat}, cAt g K n V a H → a < H.size := fun h => h.lt
  have hz1 : hZ (hNew C K n w) = hZ C + 1 := rfl
  refine ⟨by rw [hz]; show _ = _ + (hZ C + 1); omega, r2, ⟨r3, fun q hq => by rw [ho q (by omega)]; exact r3b q hq⟩, fun k hs hk => (r4 k hs hk).kept (ho _ (hlt (r4 k hs hk))), fun q hq => ?_, fun k hs hk => ?_, hZ1, hS1⟩
  · by_cases hqq : q = hB C + hZ C
    · subst hqq
      have e1 : hK (hNew C K n w) (hB C + hZ C) = K := by show up1 _ _ _ _ = _; simp [up1]
      have e2 : hL (hNew C K n w) (hB C + hZ C) = n := by show up1 _ _ _ _ = _; simp [up1]
      show cAt g (hK (hNew C K n w) _) (hL (hNew C K n w) _) _ _ _ ∧ _
      rw [e1, e2, ← hsz]
      exact ⟨hc, Or.inl (by omega)⟩
    · have e1 : hK (hNew C K n w) q = hK C q := by show up1 _ _ _ _ = _; simp [up1, hqq]
      have e2 : hL (hNew C K n w) q = hL C q := by show up1 _ _ _ _ = _; simp [up1, hqq]
      have hq' : hK C q ≠ 0 := by have : hK (hNew C K n w) q ≠ 0 := hq; rw [e1] at this; exact this
      have e3 : hV g (hNew C K n w) q = hV g C q := by
        funext j
        show fvl _ (hcd (hK (hNew C K n w) q) j) (up1 (hI C) _ _ q j) (up1 (hJ C) _ _ q j) (up1 (hR C) _ _ q j) = _
        rw [e1]
        simp only [up1, if_neg hqq]
        rfl
      show cAt g (hK (hNew C K n w) q) (hL (hNew C K n w) q) _ _ _ ∧ (_ ∨ hL (hNew C K n w) q = 0 ∧ 64 ≤ hK (hNew C K n w) q)
      rw [e1, e2, e3]
      exact ⟨(r5 q hq').1.kept (ho q (hlt (r5 q hq').1)), (r5 q hq').2⟩
  · show hK (hNew C K n w) _ = 0
    have : gB g + sOff k ≠ hB C + hZ C := by
      have := (r4 k hs hk).lt
      omega
    show up1 _ _ _ _ = _
    simp only [up1, if_neg this]
    exact r6 k hs hk
theorem ex_new {ci w idx : Nat} (hd : decode y.2.2.1 pc = .ok (.new idx, 3)) (hc : ci < 19) (hcl : Cond.classLink y.1 idx (clR ci) ∈ lw_tbl) (hin : Cond.instantiable (clR ci) w ∈ lw_tbl) (hini : Cond.initialized (clR ci) ∈ lw_tbl) (hdef : ∀ j, j < clN ci → defaultValue (clY ci j) = fvl 0 (clF ci j) 0 0 none) (hcod : ∀ j, j < clN ci → clF ci j < 3) (hZ1 : hZ C + 1 ≤ 600384) (hS1 : hS C + w ≤ 7290858) (h : Ex g d y (pc + 3) kn (.ref (hB C + hZ C) :: rest) (M, hNew C (ci + 1) 0 w) Q) : Ex g d y pc kn rest (M, C) Q := by
  intro p l e R s m args below meth c H locs cells slots y0 ls C0 hRp h1 h2 h3 hl2
  have hrc := C0.cells
  have hrs := C0.slots
  have hKn := kn_cl C0.kno hc
  have hsz : H.size = hB C + hZ C := by rw [hRp.size, show hB C = gB g from hRp.base]
  have hb : hB C = gB g := hRp.base
  have h2' : hS C = y0 + slots := h2
  refine W.newcK C0.exec C0.code C0.own (va_tabs rfl rfl (C0.tb _ hcl rfl)) (va_tabs rfl rfl (C0.tb _ hin rfl)) (va_tabs rfl rfl (C0.tb _ hini rfl)) rfl hd (by omega) (by omega) hKn.2.1 hsz fun H1 kC hkC e1 z1 o1 => ?_
  have hborn := u_born (args := args) (clY ci) (cl_hts C0.tb hc) (fun _ h => h) hKn hkC e1 (cl_ty ci hc)
  have hcell : cAt g (ci + 1) 0 (hV g (hNew C (ci + 1) 0 w) H.size) H.size H1 := by
    unfold cAt
    rw [if_pos (by omega), Nat.add_sub_cancel]
    refine ⟨⟨by omega, fun c' hc' => ?_⟩, ?_⟩
    · rw [hsz, e1] at hc'
      cases hc'
      exact ⟨rfl, rfl⟩
    rw [hsz]
    refine hborn.to fun j hj => ?_
    have e1 : hK (hNew C (ci + 1) 0 w) (hB C + hZ C) = ci + 1 := by show up1 _ _ _ _ = _; simp [up1]
    show _ = fvl _ (hcd (hK (hNew C (ci + 1) 0 w) _) j) (up1 (hI C) _ _ _ j) (up1 (hJ C) _ _ _ j) (up1 (hR C) _ _ _ j)
    rw [e1, hdef j hj]
    simp only [up1, if_true]
    unfold hcd
    rw [if_pos (by omega), Nat.add_sub_cancel]
    have := hcod j hj
    unfold fvl
    split
    · rfl
    · split
      · rfl
      · split
        · rfl
        · omega
  have := h p l e R s m args below meth c H1 locs (cells + 1) (slots + w) y0 ls C0 (hRp.new (by rw [z1, hsz]) (fun q hq => o1 q (by omega)) hcell hZ1 hS1) (by rw [z1, ← hsz, h1]; omega) (by show hS C + w = _; omega) h3 hl2
  exact this
theorem ex_newa {t : Nat} {n : Int} {aty : ArrayType} (hd : decode y.2.2.1 pc = .ok (.newarray aty, 2)) (ht : t < 4) (hty : newarray.typeOf aty = atT t) (hac : Cond.arrayClass (atT t) ∈ lw_tbl) (hn : 0 ≤ w32 n) (hZ1 : hZ C + 1 ≤ 600384) (hS1 : hS C + (w32 n).toNat ≤ 7290858) (h : Ex g d y (pc + 2) kn (.ref (hB C + hZ C) :: rest) (M, hNew C (64 + t) (w32 n).toNat (w32 n).toNat) Q) : Ex g d y pc kn (.int (iI n) :: rest) (M, C) Q := by
  intro p l e R s m args below meth c H locs cells slots y0 ls C0 hRp h1 h2 h3 hl2
  have hrc := C0.cells
  have hrs := C0.slots
  have hsz : H.size = hB C + hZ C := by rw [hRp.size, show hB C = gB g from hRp.base]
  have hb : hB C = gB g := hRp.base
  have h2' : hS C = y0 + slots := h2
  have hbytes : (w32 n).toNat * componentBytes (newarray.typeOf aty) ≤ 536870912 := by
    have : componentBytes (newarray.typeOf aty) ≤ 8 := by cases aty <;> decide
    calc (w32 n).toNat * componentBytes (newarray.typeOf aty) ≤ (w32 n).toNat * 8 := Nat.mul_le_mul_left _ this
      _ ≤ 536870912 := by omega
  refine va_newaK C0.exec C0.code (show (Cond.arrayClass (newarray.typeOf aty)).before args s = true by rw [hty]; exact C0.tb _ hac rfl) rfl hd rfl (by rw [iI_l0]; omega) (iI_clamp n) hbytes (by omega) (by omega) hsz fun H1 cA e1 z1 o1 hAr hNm => ?_
  have hcA : gA g t = cA := by
    have h9 := (kn_arr C0.kno (t := t) (by omega)).2
    have hfc : s.vm.findClass ("[" ++ (atT t).toString) = some (gA g t) := by
      have hcase : t = 0 ∨ t = 1 ∨ t = 2 ∨ t = 3 := by omega
      rcases hcase with rfl | rfl | rfl | rfl <;> exact h9
    rw [← hty] at hfc
    exact Option.some.inj (hfc.symm.trans hNm)
  have hcell : cAt g (64 + t) (w32 n).toNat (hV g (hNew C (64 + t) (w32 n).toNat (w32 n).toNat) H.size) H.size H1 := by
    refine cAt.ofArr (by omega) ?_
    rw [hcA, hsz, e1]
    congr 2
    funext j
    have e1 : hK (hNew C (64 + t) (w32 n).toNat (w32 n).toNat) (hB C + hZ C) = 64 + t := by show up1 _ _ _ _ = _; simp [up1]
    show _ = fvl _ (hcd (hK (hNew C (64 + t) _ _) _) j) (up1 (hI C) _ _ _ j) (up1 (hJ C) _ _ _ j) (up1 (hR C) _ _ _ j)
    rw [e1, hty]
    simp only [up1, if_true]
    unfold hcd
    rw [if_neg (by omega), Nat.add_sub_cancel_left]
    have hcase : t = 0 ∨ t = 1 ∨ t = 2 ∨ t = 3 := by omega
    rcases hcase with rfl | rfl | rfl | rfl <;> rfl
  exact h p l e R s m args below meth c H1 locs (cells + 1) (slots + (w32 n).toNat) y0 ls C0 (hRp.new (by rw [z1, hsz]) (fun q hq => o1 q (by omega)) hcell hZ1 hS1) (by rw [z1, ← hsz, h1]; omega) (by show hS C + _ = _; omega) h3 hl2
theorem ex_anew {t idx : Nat} {n : Int} {nm : String} (hd : decode y.2.2.1 pc = .ok (.anewarray idx, 3)) (ht : 4 ≤ t ∧ t < 7) (hty : atT t = .object nm) (hcl : Cond.classLink y.1 idx nm ∈ lw_tbl) (hao : Cond.arrayOver (.object nm) ∈ lw_tbl) (hn : 0 ≤ w32 n) (hZ1 : hZ C + 1 ≤ 600384) (hS1 : hS C + (w32 n).toNat ≤ 7290858) (h : Ex g d y (pc + 3) kn (.ref (hB C + hZ C) :: rest) (M, hNew C (64 + t) (w32 n).toNat (w32 n).toNat) Q) : Ex g d y pc kn (.int (iI n) :: rest) (M, C) Q := by
  intro p l e R s m args below meth c H locs cells slots y0 ls C0 hRp h1 h2 h3 hl2
  have hrc := C0.cells
  have hrs := C0.slots
  have hsz : H.size = hB C + hZ C := by rw [hRp.size, show hB C = gB g from hRp.base]
  have hb : hB C = gB g := hRp.base
  have h2' : hS C = y0 + slots := h2
  refine W.anew C0.exec C0.code C0.own (va_tabs rfl rfl (C0.tb _ hcl rfl)) (va_AO.use (show va_AO nm s from C0.tb _ hao rfl)) rfl hd rfl (by rw [iI_l0]; omega) (by rw [iI_clamp]; omega) (by omega) (by rw [iI_clamp]; omega) fun cA kA comp f1 f2 f3 f4 => ?_
  rw [iI_clamp]
  generalize hH1 : H.push ({ cls := cA, slots := Array.replicate (w32 n).toNat .null, vm := .none } : Cell) = H1
  have z1 : H1.size = H.size + 1 := by rw [← hH1, Array.size_push]
  have e1 : H1[H.size]? = some (arrV cA (w32 n).toNat (fun _ => .null)) := by rw [← hH1, Array.getElem?_push_size, ← arrV_new]
  have o1 : ∀ q : Nat, q < H.size → H1[q]? = H[q]? := by
    intro q hq
    rw [← hH1, Array.getElem?_push_lt hq, Array.getElem?_eq_getElem hq]
  have hcA : gA g t = cA := by
    have h9 := (kn_arr C0.kno (t := t) ht.2).2
    rw [hty] at h9
    obtain ⟨_, _, _, _, _, h9⟩ := h9
    exact Option.some.inj (h9.symm.trans f1)
  have hcell : cAt g (64 + t) (w32 n).toNat (hV g (hNew C (64 + t) (w32 n).toNat (w32 n).toNat) H.size) H.size H1 := by
    refine cAt.ofArr ht.2 ?_
    rw [hcA, e1]
    congr 2
    funext j
    rw [hsz]
    have e1 : hK (hNew C (64 + t) (w32 n).toNat (w32 n).toNat) (hB C + hZ C) = 64 + t := by show up1 _ _ _ _ = _; simp [up1]
    show _ = fvl _ (hcd (hK (hNew C (64 + t) _ _) _) j) (up1 (hI C) _ _ _ j) (up1 (hJ C) _ _ _ j) (up1 (hR C) _ _ _ j)
    rw [e1]
    simp only [up1, if_true]
    unfold hcd
    rw [if_neg (by omega), Nat.add_sub_cancel_left]
    unfold acd
    rw [if_neg (by omega), if_neg (by omega)]
    rfl
  rw [hsz] at h1
  have := h p l e R s m args below meth c H1 locs (cells + 1) (slots + (w32 n).toNat) y0 ls C0 (hRp.new z1 o1 hcell hZ1 hS1) (by rw [z1, hsz]; omega) (by show hS C + _ = _; omega) h3 hl2
  rw [← hsz] at this
  exact this
end HROW
