/-! TEXT of the component: rows -/
def okN (r : Option Nat) (p : Nat → Bool) : Bool := match r with
  | none => true
  | some q => p q
theorem okN_some {r : Option Nat} {p : Nat → Bool} (h : okN r p = true) : ∀ q, r = some q → p q = true := by
  intro q hq
  subst hq
  exact h
section CX
variable {g : Gx} {d d2 : Nat} {y y2 : MD} {pc : Nat} {kn kn2 : List (Nat × Value)} {st rest : List Value} {M : MW} {C : CW} {X : XW} {Q : Out → XW → Prop} {β : Type} {z : β}
/-- a fixed reference as an address of the heap -/
theorem ex_topS {o : Nat} (k : Ex g d y pc kn (va_rf (some (hB C + o)) :: rest) (M, C) Q) : Ex g d y pc kn (.ref (gB g + o) :: rest) (M, C) Q := by
  intro p l e R s m args below meth c H locs cells slots y0 ls C0 hRp h1 h2 h3 hl2
  have hb : hB C = gB g := hRp.base
  rw [hb] at k
  exact k p l e R s m args below meth c H locs cells slots y0 ls C0 hRp h1 h2 h3 hl2
theorem ex_topR {o : Nat} {r : Option Nat} (hr : r = some (hB C + o)) (k : Ex g d y pc kn (.ref (gB g + o) :: rest) (M, C) Q) : Ex g d y pc kn (va_rf r :: rest) (M, C) Q := by
  intro p l e R s m args below meth c H locs cells slots y0 ls C0 hRp h1 h2 h3 hl2
  have hb : hB C = gB g := hRp.base
  rw [hr, hb]
  exact k p l e R s m args below meth c H locs cells slots y0 ls C0 hRp h1 h2 h3 hl2
/-! single objects -/
theorem cx_gI {k o ci j idx : Nat} {κ : Int → β} (h : rd (cI C k j) κ = z) (hg : gS g = true) (hd : decode y.2.2.1 pc = .ok (.getfield idx, 3)) (hl : FLk y.1 idx ci j) (hk : sKind k = ci + 1) (ho : sOff k = o) (hm : Nat.ble 200 k = true) (hc : sfc k j = 0) (n : ∀ v, κ v = z → Ex g d y (pc + 3) kn (.int (iI v) :: rest) (M, C) Q) : Ex g d y pc kn (.ref (gB g + o) :: rest) (M, C) Q :=
  ex_gets hg hd hl hk ho (by have := Nat.le_of_ble_eq_true hm; rw [hc]; unfold stI; rw [if_neg (by omega)]; rfl) (n _ h)
theorem cx_gR {k o ci j idx : Nat} {κ : Option Nat → β} (h : rd (cR C k j) κ = z) (hg : gS g = true) (hd : decode y.2.2.1 pc = .ok (.getfield idx, 3)) (hl : FLk y.1 idx ci j) (hk : sKind k = ci + 1) (ho : sOff k = o) (hc : sfc k j = 2) (n : ∀ v, κ v = z → Ex g d y (pc + 3) kn (va_rf v :: rest) (M, C) Q) : Ex g d y pc kn (.ref (gB g + o) :: rest) (M, C) Q :=
  ex_gets hg hd hl hk ho (by rw [hc]; rfl) (n _ h)
theorem cx_gfixR {k o ci j idx o' : Nat} (hg : gS g = true) (hd : decode y.2.2.1 pc = .ok (.getfield idx, 3)) (hl : FLk y.1 idx ci j) (hk : sKind k = ci + 1) (ho : sOff k = o) (hc : sfc k j = 16 + o') (h : Ex g d y (pc + 3) kn (va_rf (some (hB C + o')) :: rest) (M, C) Q) : Ex g d y pc kn (.ref (gB g + o) :: rest) (M, C) Q :=
  ex_gfix hg hd hl hk ho hc (ex_topS h)
theorem cx_pI {k o ci j idx : Nat} {v : Int} {κ : CW → β} (h : rd (csI C k j v) κ = z) (hg : gS g = true) (hd : decode y.2.2.1 pc = .ok (.putfield idx, 3)) (hl : FLk y.1 idx ci j) (hk : sKind k = ci + 1) (ho : sOff k = o) (hm : Nat.ble 200 k = true) (hc : sfc k j = 0) (hfin : (clT ci j).2.2.2 = false) (hY : clY ci j = .int) (n : ∀ C1, κ C1 = z → Ex g d y (pc + 3) kn rest (M, C1) Q) : Ex g d y pc kn (.int (iI v) :: .ref (gB g + o) :: rest) (M, C) Q := by
  have hm := Nat.le_of_ble_eq_true hm
  have hsc : scd k j = 0 := by unfold scd; rw [if_pos (by have := hl.1; omega)]; exact hc
  exact ex_cput hg hd hl hk ho hfin (by rw [hY]; rfl) (by rw [hY]; rfl) (fun k' hk' => sV_csI_o hk') ⟨rfl, rfl, ⟨rfl, rfl⟩, rfl, rfl, fun _ => rfl⟩ (sV_csI (by omega) hsc) (n _ h)
theorem cx_pZ {k o ci j idx : Nat} {v : Int} {κ : CW → Option β} {z : β} (h : gdB (isZ v) (rd (csI C k j v) κ) = some z) (hg : gS g = true) (hd : decode y.2.2.1 pc = .ok (.putfield idx, 3)) (hl : FLk y.1 idx ci j) (hk : sKind k = ci + 1) (ho : sOff k = o) (hm : Nat.ble 200 k = true) (hc : sfc k j = 0) (hfin : (clT ci j).2.2.2 = false) (hY : clY ci j = .boolean) (n : ∀ C1, κ C1 = some z → Ex g d y (pc + 3) kn rest (M, C1) Q) : Ex g d y pc kn (.int (iI v) :: .ref (gB g + o) :: rest) (M, C) Q := by
  obtain ⟨hz, h⟩ := gdB_some h
  have hz := isZ_or hz
  have hm := Nat.le_of_ble_eq_true hm
  have hsc : scd k j = 0 := by unfold scd; rw [if_pos (by have := hl.1; omega)]; exact hc
  exact ex_cput hg hd hl hk ho hfin (by rw [hY]; exact nrw_z hz) (by rw [hY]; rcases hz with rfl | rfl <;> rfl) (fun k' hk' => sV_csI_o hk') ⟨rfl, rfl, ⟨rfl, rfl⟩, rfl, rfl, fun _ => rfl⟩ (sV_csI (by omega) hsc) (n _ h)
theorem cx_pR {k o ci j idx : Nat} {v : Option Nat} {κ : CW → β} (h : rd (csR C k j v) κ = z) (hg : gS g = true) (hd : decode y.2.2.1 pc = .ok (.putfield idx, 3)) (hl : FLk y.1 idx ci j) (hk : sKind k = ci + 1) (ho : sOff k = o) (hc : sfc k j = 2) (hfin : (clT ci j).2.2.2 = false) (hY : (clY ci j).isReference = true) (n : ∀ C1, κ C1 = z → Ex g d y (pc + 3) kn rest (M, C1) Q) : Ex g d y pc kn (va_rf v :: .ref (gB g + o) :: rest) (M, C) Q := by
  have hsc : scd k j = 2 := by unfold scd; rw [if_pos (by have := hl.1; omega)]; exact hc
  exact ex_cput hg hd hl hk ho hfin (nf_ref hY v).1 (nf_ref hY v).2 (fun k' hk' => sV_csR_o hk') ⟨rfl, rfl, ⟨rfl, rfl⟩, rfl, rfl, fun _ => rfl⟩ (sV_csR hsc) (n _ h)
theorem sV_cI {k t i : Nat} (hk : sKind k = 64 + t) (hm : 200 ≤ k) (ht : acd t = 0) : sV g (M, C) k i = .int (iI (cI C k i)) := by
  unfold sV scd stI
  rw [if_neg (by omega), if_neg (by omega), hk, Nat.add_sub_cancel_left, ht]
  rfl
theorem sV_cJ {k i : Nat} (hk : sKind k = 64 + 1) (hm : 200 ≤ k) : sV g (M, C) k i = .long (iJ (cJ C k i)) := by
  unfold sV scd stJ
  rw [if_neg (by omega), if_neg (by omega), hk, Nat.add_sub_cancel_left]
  rfl
theorem cx_ald {k o n : Nat} {i : Int} {κ : Int → Option β} {z : β} (h : ax i n (fun j => rd (cI C k j) κ) = some z) (hg : gS g = true) (hd : decode y.2.2.1 pc = .ok (.iaload, 1)) (hk : sKind k = 64 + 0) (ho : sOff k = o) (hm : Nat.ble 200 k = true) (hn : sLen k = n) (nx : ∀ v, κ v = some z → Ex g d y (pc + 1) kn (.int (iI v) :: rest) (M, C) Q) : Ex g d y pc kn (.int (iI i) :: .ref (gB g + o) :: rest) (M, C) Q := by
  obtain ⟨hb, h⟩ := ax_some h
  exact ex_cald hg hd hk ho (Or.inl ⟨rfl, rfl⟩) (by rw [hn]; exact hb) (sV_cI hk (Nat.le_of_ble_eq_true hm) rfl) (nx _ h)
theorem cx_zld {k o n : Nat} {i : Int} {κ : Int → Option β} {z : β} (h : ax i n (fun j => rd (cI C k j) κ) = some z) (hg : gS g = true) (hd : decode y.2.2.1 pc = .ok (.baload, 1)) (hk : sKind k = 64 + 2) (ho : sOff k = o) (hm : Nat.ble 200 k = true) (hn : sLen k = n) (nx : ∀ v, κ v = some z → Ex g d y (pc + 1) kn (.int (iI v) :: rest) (M, C) Q) : Ex g d y pc kn (.int (iI i) :: .ref (gB g + o) :: rest) (M, C) Q := by
  obtain ⟨hb, h⟩ := ax_some h
  exact ex_cald hg hd hk ho (Or.inr (Or.inr (Or.inl ⟨Or.inl rfl, rfl⟩))) (by rw [hn]; exact hb) (sV_cI hk (Nat.le_of_ble_eq_true hm) rfl) (nx _ h)
theorem cx_bld {k o n : Nat} {i : Int} {κ : Int → Option β} {z : β} (h : ax i n (fun j => rd (cI C k j) κ) = some z) (hg : gS g = true) (hd : decode y.2.2.1 pc = .ok (.baload, 1)) (hk : sKind k = 64 + 3) (ho : sOff k = o) (hm : Nat.ble 200 k = true) (hn : sLen k = n) (nx : ∀ v, κ v = some z → Ex g d y (pc + 1) kn (.int (iI v) :: rest) (M, C) Q) : Ex g d y pc kn (.int (iI i) :: .ref (gB g + o) :: rest) (M, C) Q := by
  obtain ⟨hb, h⟩ := ax_some h
  exact ex_cald hg hd hk ho (Or.inr (Or.inr (Or.inl ⟨Or.inr rfl, rfl⟩))) (by rw [hn]; exact hb) (sV_cI hk (Nat.le_of_ble_eq_true hm) rfl) (nx _ h)
theorem cx_lld {k o n : Nat} {i : Int} {κ : Int → Option β} {z : β} (h : ax i n (fun j => rd (cJ C k j) κ) = some z) (hg : gS g = true) (hd : decode y.2.2.1 pc = .ok (.laload, 1)) (hk : sKind k = 64 + 1) (ho : sOff k = o) (hm : Nat.ble 200 k = true) (hn : sLen k = n) (nx : ∀ v, κ v = some z → Ex g d y (pc + 1) kn (.long (iJ v) :: rest) (M, C) Q) : Ex g d y pc kn (.int (iI i) :: .ref (gB g + o) :: rest) (M, C) Q := by
  obtain ⟨hb, h⟩ := ax_some h
  exact ex_cald hg hd hk ho (Or.inr (Or.inl ⟨rfl, rfl⟩)) (by rw [hn]; exact hb) (sV_cJ hk (Nat.le_of_ble_eq_true hm)) (nx _ h)
theorem scd_a {k t j : Nat} (hk : sKind k = 64 + t) : scd k j = acd t := by
  unfold scd
  rw [if_neg (by omega), hk, Nat.add_sub_cancel_left]
theorem cx_ast {k o n : Nat} {i x : Int} {κ : CW → Option β} {z : β} (h : ax i n (fun j => rd (csI C k j x) κ) = some z) (hg : gS g = true) (hd : decode y.2.2.1 pc = .ok (.iastore, 1)) (hk : sKind k = 64 + 0) (ho : sOff k = o) (hm : Nat.ble 200 k = true) (hn : sLen k = n) (nx : ∀ C1, κ C1 = some z → Ex g d y (pc + 1) kn rest (M, C1) Q) : Ex g d y pc kn (.int (iI x) :: .int (iI i) :: .ref (gB g + o) :: rest) (M, C) Q := by
  obtain ⟨hb, h⟩ := ax_some h
  have hm := Nat.le_of_ble_eq_true hm
  exact ex_cast (w := .int (iI x)) (x := x) hg hd hk ho (Or.inl ⟨rfl, rfl, rfl, rfl⟩) (by rw [hn]; exact hb) (fun k' hk' => sV_csI_o hk') ⟨rfl, rfl, ⟨rfl, rfl⟩, rfl, rfl, fun _ => rfl⟩ (sV_csI (by omega) (scd_a hk)) (nx _ h)
theorem cx_zst {k o n : Nat} {i x : Int} {κ : CW → Option β} {z : β} (h : ax i n (fun j => rd (csI C k j (iAnd x 1)) κ) = some z) (hg : gS g = true) (hd : decode y.2.2.1 pc = .ok (.bastore, 1)) (hk : sKind k = 64 + 2) (ho : sOff k = o) (hm : Nat.ble 200 k = true) (hn : sLen k = n) (nx : ∀ C1, κ C1 = some z → Ex g d y (pc + 1) kn rest (M, C1) Q) : Ex g d y pc kn (.int (iI x) :: .int (iI i) :: .ref (gB g + o) :: rest) (M, C) Q := by
  obtain ⟨hb, h⟩ := ax_some h
  have hm := Nat.le_of_ble_eq_true hm
  exact ex_cast (w := .int (iI (nrw 2 x))) (x := x) hg hd hk ho (Or.inr (Or.inr ⟨Or.inl rfl, rfl, rfl, rfl⟩)) (by rw [hn]; exact hb) (fun k' hk' => sV_csI_o hk') ⟨rfl, rfl, ⟨rfl, rfl⟩, rfl, rfl, fun _ => rfl⟩ (sV_csI (by omega) (scd_a hk)) (nx _ h)
theorem cx_bst {k o n : Nat} {i x : Int} {κ : CW → Option β} {z : β} (h : ax i n (fun j => rd (csI C k j (i2b x)) κ) = some z) (hg : gS g = true) (hd : decode y.2.2.1 pc = .ok (.bastore, 1)) (hk : sKind k = 64 + 3) (ho : sOff k = o) (hm : Nat.ble 200 k = true) (hn : sLen k = n) (nx : ∀ C1, κ C1 = some z → Ex g d y (pc + 1) kn rest (M, C1) Q) : Ex g d y pc kn (.int (iI x) :: .int (iI i) :: .ref (gB g + o) :: rest) (M, C) Q := by
  obtain ⟨hb, h⟩ := ax_some h
  have hm := Nat.le_of_ble_eq_true hm
  exact ex_cast (w := .int (iI (nrw 3 x))) (x := x) hg hd hk ho (Or.inr (Or.inr ⟨Or.inr rfl, rfl, rfl, rfl⟩)) (by rw [hn]; exact hb) (fun k' hk' => sV_csI_o hk') ⟨rfl, rfl, ⟨rfl, rfl⟩, rfl, rfl, fun _ => rfl⟩ (sV_csI (by omega) (scd_a hk)) (nx _ h)
theorem cx_lst {k o n : Nat} {i x : Int} {κ : CW → Option β} {z : β} (h : ax i n (fun j => rd (csJ C k j x) κ) = some z) (hg : gS g = true) (hd : decode y.2.2.1 pc = .ok (.lastore, 1)) (hk : sKind k = 64 + 1) (ho : sOff k = o) (hm : Nat.ble 200 k = true) (hn : sLen k = n) (nx : ∀ C1, κ C1 = some z → Ex g d y (pc + 1) kn rest (M, C1) Q) : Ex g d y pc kn (.long (iJ x) :: .int (iI i) :: .ref (gB g + o) :: rest) (M, C) Q := by
  obtain ⟨hb, h⟩ := ax_some h
  have hm := Nat.le_of_ble_eq_true hm
  exact ex_cast (w := .long (iJ x)) (x := x) hg hd hk ho (Or.inr (Or.inl ⟨rfl, rfl, rfl, rfl⟩)) (by rw [hn]; exact hb) (fun k' hk' => sV_csJ_o hk') ⟨rfl, rfl, ⟨rfl, rfl⟩, rfl, rfl, fun _ => rfl⟩ (sV_csJ (by omega) (scd_a hk)) (nx _ h)
/-! the heap -/
theorem hx_gI {ci j idx : Nat} {r : Option Nat} {κ : Int → Option β} {z : β} (h : dr r (fun q => gdB (hK C q == ci + 1) (rd (hI C q j) κ)) = some z) (hd : decode y.2.2.1 pc = .ok (.getfield idx, 3)) (hl : FLk y.1 idx ci j) (hc : clF ci j = 0) (n : ∀ v, κ v = some z → Ex g d y (pc + 3) kn (.int (iI v) :: rest) (M, C) Q) : Ex g d y pc kn (va_rf r :: rest) (M, C) Q := by
  obtain ⟨q, rfl, h⟩ := dr_some h
  obtain ⟨hk, h⟩ := gdB_some h
  exact ex_hget hd hl (by simpa using hk) (by rw [hc]; rfl) (n _ h)
theorem hx_gJ {ci j idx : Nat} {r : Option Nat} {κ : Int → Option β} {z : β} (h : dr r (fun q => gdB (hK C q == ci + 1) (rd (hJ C q j) κ)) = some z) (hd : decode y.2.2.1 pc = .ok (.getfield idx, 3)) (hl : FLk y.1 idx ci j) (hc : clF ci j = 1) (n : ∀ v, κ v = some z → Ex g d y (pc + 3) kn (.long (iJ v) :: rest) (M, C) Q) : Ex g d y pc kn (va_rf r :: rest) (M, C) Q := by
  obtain ⟨q, rfl, h⟩ := dr_some h
  obtain ⟨hk, h⟩ := gdB_some h
  exact ex_hget hd hl (by simpa using hk) (by rw [hc]; rfl) (n _ h)
theorem hx_gR {ci j idx : Nat} {r : Option Nat} {κ : Option Nat → Option β} {z : β} (h : dr r (fun q => gdB (hK C q == ci + 1) (rd (hR C q j) κ)) = some z) (hd : decode y.2.2.1 pc = .ok (.getfield idx, 3)) (hl : FLk y.1 idx ci j) (hc : clF ci j = 2) (n : ∀ v, κ v = some z → Ex g d y (pc + 3) kn (va_rf v :: rest) (M, C) Q) : Ex g d y pc kn (va_rf r :: rest) (M, C) Q := by
  obtain ⟨q, rfl, h⟩ := dr_some h
  obtain ⟨hk, h⟩ := gdB_some h
  exact ex_hget hd hl (by simpa using hk) (by rw [hc]; rfl) (n _ h)
/-- a single object's reference out of the heap: it must be that object's -/
theorem hx_gS {ci j idx o : Nat} {r : Option Nat} {κ : Option β} {z : β} (h : dr r (fun q => gdB (hK C q == ci + 1) (gdB (hR C q j == some (hB C + o)) κ)) = some z) (hd : decode y.2.2.1 pc = .ok (.getfield idx, 3)) (hl : FLk y.1 idx ci j) (hc : clF ci j = 2) (n : κ = some z → Ex g d y (pc + 3) kn (.ref (gB g + o) :: rest) (M, C) Q) : Ex g d y pc kn (va_rf r :: rest) (M, C) Q := by
  obtain ⟨q, rfl, h⟩ := dr_some h
  obtain ⟨hk, h⟩ := gdB_some h
  obtain ⟨hs, h⟩ := gdB_some h
  exact ex_hget hd hl (by simpa using hk) (by rw [hc]; rfl) (ex_topR (by simpa using hs) (n h))
theorem hx_pI {ci j idx : Nat} {v : Int} {r : Option Nat} {κ : CW → Option β} {z : β} (h : dr r (fun q => gdB (hK C q == ci + 1) (rd (hsI C q j v) κ)) = some z) (hd : decode y.2.2.1 pc = .ok (.putfield idx, 3)) (hl : FLk y.1 idx ci j) (hc : clF ci j = 0) (hfin : (clT ci j).2.2.2 = false ∨ ((clT ci j).2.2.2 = true ∧ y.2.1 = "<init>" ∧ (clT ci j).1 = y.1)) (hY : clY ci j = .int) (n : ∀ C1, κ C1 = some z → Ex g d y (pc + 3) kn rest (M, C1) Q) : Ex g d y pc kn (.int (iI v) :: va_rf r :: rest) (M, C) Q := by
  obtain ⟨q, rfl, h⟩ := dr_some h
  obtain ⟨hk, h⟩ := gdB_some h
  have hk : hK C q = ci + 1 := by simpa using hk
  have hcd : hcd (hK C q) j = 0 := by unfold hcd; rw [hk, if_pos (by have := hl.1; omega)]; exact hc
  exact ex_hput (C' := hsI C q j v) hd hl hk hfin (by rw [hY]; rfl) (by rw [hY]; rfl) (fun _ => rfl) ⟨rfl, rfl, ⟨rfl, rfl⟩, rfl, rfl, fun q' hq' => hV_hsI_o hq'⟩ (hV_hsI hcd) (n _ h)
theorem hx_pZ {ci j idx : Nat} {v : Int} {r : Option Nat} {κ : CW → Option β} {z : β} (h : dr r (fun q => gdB (hK C q == ci + 1) (gdB (isZ v) (rd (hsI C q j v) κ))) = some z) (hd : decode y.2.2.1 pc = .ok (.putfield idx, 3)) (hl : FLk y.1 idx ci j) (hc : clF ci j = 0) (hfin : (clT ci j).2.2.2 = false ∨ ((clT ci j).2.2.2 = true ∧ y.2.1 = "<init>" ∧ (clT ci j).1 = y.1)) (hY : clY ci j = .boolean) (n : ∀ C1, κ C1 = some z → Ex g d y (pc + 3) kn rest (M, C1) Q) : Ex g d y pc kn (.int (iI v) :: va_rf r :: rest) (M, C) Q := by
  obtain ⟨q, rfl, h⟩ := dr_some h
  obtain ⟨hk, h⟩ := gdB_some h
  obtain ⟨hz, h⟩ := gdB_some h
  have hz := isZ_or hz
  have hk : hK C q = ci + 1 := by simpa using hk
  have hcd : hcd (hK C q) j = 0 := by unfold hcd; rw [hk, if_pos (by have := hl.1; omega)]; exact hc
  exact ex_hput (C' := hsI C q j v) hd hl hk hfin (by rw [hY]; exact nrw_z hz) (by rw [hY]; rcases hz with rfl | rfl <;> rfl) (fun _ => rfl) ⟨rfl, rfl, ⟨rfl, rfl⟩, rfl, rfl, fun q' hq' => hV_hsI_o hq'⟩ (hV_hsI hcd) (n _ h)
theorem hx_pJ {ci j idx : Nat} {v : Int} {r : Option Nat} {κ : CW → Option β} {z : β} (h : dr r (fun q => gdB (hK C q == ci + 1) (rd (hsJ C q j v) κ)) = some z) (hd : decode y.2.2.1 pc = .ok (.putfield idx, 3)) (hl : FLk y.1 idx ci j) (hc : clF ci j = 1) (hfin : (clT ci j).2.2.2 = false ∨ ((clT ci j).2.2.2 = true ∧ y.2.1 = "<init>" ∧ (clT ci j).1 = y.1)) (hY : clY ci j = .long) (n : ∀ C1, κ C1 = some z → Ex g d y (pc + 3) kn rest (M, C1) Q) : Ex g d y pc kn (.long (iJ v) :: va_rf r :: rest) (M, C) Q := by
  obtain ⟨q, rfl, h⟩ := dr_some h
  obtain ⟨hk, h⟩ := gdB_some h
  have hk : hK C q = ci + 1 := by simpa using hk
  have hcd : hcd (hK C q) j = 1 := by unfold hcd; rw [hk, if_pos (by have := hl.1; omega)]; exact hc
  exact ex_hput (C' := hsJ C q j v) hd hl hk hfin (by rw [hY]; rfl) (by rw [hY]; rfl) (fun _ => rfl) ⟨rfl, rfl, ⟨rfl, rfl⟩, rfl, rfl, fun q' hq' => hV_hsJ_o hq'⟩ (hV_hsJ hcd) (n _ h)
theorem hx_pR {ci j idx : Nat} {v r : Option Nat} {κ : CW → Option β} {z : β} (h : dr r (fun q => gdB (hK C q == ci + 1) (rd (hsR C q j v) κ)) = some z) (hd : decode y.2.2.1 pc = .ok (.putfield idx, 3)) (hl : FLk y.1 idx ci j) (hc : clF ci j = 2) (hfin : (clT ci j).2.2.2 = false ∨ ((clT ci j).2.2.2 = true ∧ y.2.1 = "<init>" ∧ (clT ci j).1 = y.1)) (hY : (clY ci j).isReference = true) (n : ∀ C1, κ C1 = some z → Ex g d y (pc + 3) kn rest (M, C1) Q) : Ex g d y pc kn (va_rf v :: va_rf r :: rest) (M, C) Q := by
  obtain ⟨q, rfl, h⟩ := dr_some h
  obtain ⟨hk, h⟩ := gdB_some h
  have hk : hK C q = ci + 1 := by simpa using hk
  have hcd : hcd (hK C q) j = 2 := by unfold hcd; rw [hk, if_pos (by have := hl.1; omega)]; exact hc
  exact ex_hput (C' := hsR C q j v) hd hl hk hfin (nf_ref hY v).1 (nf_ref hY v).2 (fun _ => rfl) ⟨rfl, rfl, ⟨rfl, rfl⟩, rfl, rfl, fun q' hq' => hV_hsR_o hq'⟩ (hV_hsR hcd) (n _ h)
theorem hV_aI {q t i : Nat} (hk : hK C q = 64 + t) (ht : acd t = 0) : hV g C q i = .int (iI (hI C q i)) := by
  unfold hV hcd
  rw [if_neg (by omega), hk, Nat.add_sub_cancel_left, ht]
  rfl
theorem hV_aJ {q i : Nat} (hk : hK C q = 64 + 1) : hV g C q i = .long (iJ (hJ C q i)) := by
  unfold hV hcd
  rw [if_neg (by omega), hk, Nat.add_sub_cancel_left]
  rfl
theorem hV_aR {q t i : Nat} (hk : hK C q = 64 + t) (ht : 4 ≤ t) : hV g C q i = va_rf (hR C q i) := by
  unfold hV
  rw [hV_arr hk ht]
  rfl
theorem hcd_a {q t j : Nat} (hk : hK C q = 64 + t) : hcd (hK C q) j = acd t := by
  unfold hcd
  rw [if_neg (by omega), hk, Nat.add_sub_cancel_left]
theorem hx_ald {i : Int} {r : Option Nat} {κ : Int → Option β} {z : β} (h : dr r (fun q => gdB (hK C q == 64) (ax i (hL C q) (fun j => rd (hI C q j) κ))) = some z) (hd : decode y.2.2.1 pc = .ok (.iaload, 1)) (nx : ∀ v, κ v = some z → Ex g d y (pc + 1) kn (.int (iI v) :: rest) (M, C) Q) : Ex g d y pc kn (.int (iI i) :: va_rf r :: rest) (M, C) Q := by
  obtain ⟨q, rfl, h⟩ := dr_some h
  obtain ⟨hk, h⟩ := gdB_some h
  obtain ⟨hb, h⟩ := ax_some h
  have hk : hK C q = 64 + 0 := by simpa using hk
  exact ex_hald hd hk (Or.inl ⟨rfl, rfl⟩) hb (hV_aI hk rfl) (nx _ h)
theorem hx_zld {i : Int} {r : Option Nat} {κ : Int → Option β} {z : β} (h : dr r (fun q => gdB (hK C q == 66) (ax i (hL C q) (fun j => rd (hI C q j) κ))) = some z) (hd : decode y.2.2.1 pc = .ok (.baload, 1)) (nx : ∀ v, κ v = some z → Ex g d y (pc + 1) kn (.int (iI v) :: rest) (M, C) Q) : Ex g d y pc kn (.int (iI i) :: va_rf r :: rest) (M, C) Q := by
  obtain ⟨q, rfl, h⟩ := dr_some h
  obtain ⟨hk, h⟩ := gdB_some h
  obtain ⟨hb, h⟩ := ax_some h
  have hk : hK C q = 64 + 2 := by simpa using hk
  exact ex_hald hd hk (Or.inr (Or.inr (Or.inl ⟨Or.inl rfl, rfl⟩))) hb (hV_aI hk rfl) (nx _ h)
theorem hx_bld {i : Int} {r : Option Nat} {κ : Int → Option β} {z : β} (h : dr r (fun q => gdB (hK C q == 67) (ax i (hL C q) (fun j => rd (hI C q j) κ))) = some z) (hd : decode y.2.2.1 pc = .ok (.baload, 1)) (nx : ∀ v, κ v = some z → Ex g d y (pc + 1) kn (.int (iI v) :: rest) (M, C) Q) : Ex g d y pc kn (.int (iI i) :: va_rf r :: rest) (M, C) Q := by
  obtain ⟨q, rfl, h⟩ := dr_some h
  obtain ⟨hk, h⟩ := gdB_some h
  obtain ⟨hb, h⟩ := ax_some h
  have hk : hK C q = 64 + 3 := by simpa using hk
  exact ex_hald hd hk (Or.inr (Or.inr (Or.inl ⟨Or.inr rfl, rfl⟩))) hb (hV_aI hk rfl) (nx _ h)
theorem hx_lld {i : Int} {r : Option Nat} {κ : Int → Option β} {z : β} (h : dr r (fun q => gdB (hK C q == 65) (ax i (hL C q) (fun j => rd (hJ C q j) κ))) = some z) (hd : decode y.2.2.1 pc = .ok (.laload, 1)) (nx : ∀ v, κ v = some z → Ex g d y (pc + 1) kn (.long (iJ v) :: rest) (M, C) Q) : Ex g d y pc kn (.int (iI i) :: va_rf r :: rest) (M, C) Q := by
  obtain ⟨q, rfl, h⟩ := dr_some h
  obtain ⟨hk, h⟩ := gdB_some h
  obtain ⟨hb, h⟩ := ax_some h
  have hk : hK C q = 64 + 1 := by simpa using hk
  exact ex_hald hd hk (Or.inr (Or.inl ⟨rfl, rfl⟩)) hb (hV_aJ hk) (nx _ h)
theorem hx_rld {i : Int} {t : Nat} {r : Option Nat} {κ : Option Nat → Option β} {z : β} (h : dr r (fun q => gdB (hK C q == 64 + t) (ax i (hL C q) (fun j => rd (hR C q j) κ))) = some z) (hd : decode y.2.2.1 pc = .ok (.aaload, 1)) (ht : Nat.ble 4 t = true) (nx : ∀ v, κ v = some z → Ex g d y (pc + 1) kn (va_rf v :: rest) (M, C) Q) : Ex g d y pc kn (.int (iI i) :: va_rf r :: rest) (M, C) Q := by
  obtain ⟨q, rfl, h⟩ := dr_some h
  obtain ⟨hk, h⟩ := gdB_some h
  obtain ⟨hb, h⟩ := ax_some h
  have ht := Nat.le_of_ble_eq_true ht
  have hk : hK C q = 64 + t := by simpa using hk
  exact ex_hald hd hk (Or.inr (Or.inr (Or.inr ⟨ht, rfl⟩))) hb (hV_aR hk ht) (nx _ h)
theorem hx_ast {i x : Int} {r : Option Nat} {κ : CW → Option β} {z : β} (h : dr r (fun q => gdB (hK C q == 64) (ax i (hL C q) (fun j => rd (hsI C q j x) κ))) = some z) (hd : decode y.2.2.1 pc = .ok (.iastore, 1)) (nx : ∀ C1, κ C1 = some z → Ex g d y (pc + 1) kn rest (M, C1) Q) : Ex g d y pc kn (.int (iI x) :: .int (iI i) :: va_rf r :: rest) (M, C) Q := by
  obtain ⟨q, rfl, h⟩ := dr_some h
  obtain ⟨hk, h⟩ := gdB_some h
  obtain ⟨hb, h⟩ := ax_some h
  have hk : hK C q = 64 + 0 := by simpa using hk
  exact ex_hast (C' := hsI C q (w32 i).toNat x) (w := .int (iI x)) (x := x) hd hk (Or.inl ⟨rfl, rfl, rfl, rfl⟩) hb (fun _ => rfl) ⟨rfl, rfl, ⟨rfl, rfl⟩, rfl, rfl, fun q' hq' => hV_hsI_o hq'⟩ (hV_hsI (hcd_a hk)) (nx _ h)
theorem hx_zst {i x : Int} {r : Option Nat} {κ : CW → Option β} {z : β} (h : dr r (fun q => gdB (hK C q == 66) (ax i (hL C q) (fun j => rd (hsI C q j (iAnd x 1)) κ))) = some z) (hd : decode y.2.2.1 pc = .ok (.bastore, 1)) (nx : ∀ C1, κ C1 = some z → Ex g d y (pc + 1) kn rest (M, C1) Q) : Ex g d y pc kn (.int (iI x) :: .int (iI i) :: va_rf r :: rest) (M, C) Q := by
  obtain ⟨q, rfl, h⟩ := dr_some h
  obtain ⟨hk, h⟩ := gdB_some h
  obtain ⟨hb, h⟩ := ax_some h
  have hk : hK C q = 64 + 2 := by simpa using hk
  exact ex_hast (C' := hsI C q (w32 i).toNat (nrw 2 x)) (w := .int (iI (nrw 2 x))) (x := x) hd hk (Or.inr (Or.inr ⟨Or.inl rfl, rfl, rfl, rfl⟩)) hb (fun _ => rfl) ⟨rfl, rfl, ⟨rfl, rfl⟩, rfl, rfl, fun q' hq' => hV_hsI_o hq'⟩ (hV_hsI (hcd_a hk)) (nx _ h)
theorem hx_bst {i x : Int} {r : Option Nat} {κ : CW → Option β} {z : β} (h : dr r (fun q => gdB (hK C q == 67) (ax i (hL C q) (fun j => rd (hsI C q j (i2b x)) κ))) = some z) (hd : decode y.2.2.1 pc = .ok (.bastore, 1)) (nx : ∀ C1, κ C1 = some z → Ex g d y (pc + 1) kn rest (M, C1) Q) : Ex g d y pc kn (.int (iI x) :: .int (iI i) :: va_rf r :: rest) (M, C) Q := by
  obtain ⟨q, rfl, h⟩ := dr_some h
  obtain ⟨hk, h⟩ := gdB_some h
  obtain ⟨hb, h⟩ := ax_some h
  have hk : hK C q = 64 + 3 := by simpa using hk
  exact ex_hast (C' := hsI C q (w32 i).toNat (nrw 3 x)) (w := .int (iI (nrw 3 x))) (x := x) hd hk (Or.inr (Or.inr ⟨Or.inr rfl, rfl, rfl, rfl⟩)) hb (fun _ => rfl) ⟨rfl, rfl, ⟨rfl, rfl⟩, rfl, rfl, fun q' hq' => hV_hsI_o hq'⟩ (hV_hsI (hcd_a hk)) (nx _ h)
theorem hx_lst {i x : Int} {r : Option Nat} {κ : CW → Option β} {z : β} (h : dr r (fun q => gdB (hK C q == 65) (ax i (hL C q) (fun j => rd (hsJ C q j x) κ))) = some z) (hd : decode y.2.2.1 pc = .ok (.lastore, 1)) (nx : ∀ C1, κ C1 = some z → Ex g d y (pc + 1) kn rest (M, C1) Q) : Ex g d y pc kn (.long (iJ x) :: .int (iI i) :: va_rf r :: rest) (M, C) Q := by
  obtain ⟨q, rfl, h⟩ := dr_some h
  obtain ⟨hk, h⟩ := gdB_some h
  obtain ⟨hb, h⟩ := ax_some h
  have hk : hK C q = 64 + 1 := by simpa using hk
  exact ex_hast (C' := hsJ C q (w32 i).toNat x) (w := .long (iJ x)) (x := x) hd hk (Or.inr (Or.inl ⟨rfl, rfl, rfl, rfl⟩)) hb (fun _ => rfl) ⟨rfl, rfl, ⟨rfl, rfl⟩, rfl, rfl, fun q' hq' => hV_hsJ_o hq'⟩ (hV_hsJ (hcd_a hk)) (nx _ h)
theorem hx_rst {i : Int} {t : Nat} {r v : Option Nat} {κ : CW → Option β} {z : β} (h : dr r (fun q => gdB (hK C q == 64 + t && okN v (fun w => okE t (hK C w))) (ax i (hL C q) (fun j => rd (hsR C q j v) κ))) = some z) (hd : decode y.2.2.1 pc = .ok (.aastore, 1)) (ht : Nat.ble 4 t = true) (nx : ∀ C1, κ C1 = some z → Ex g d y (pc + 1) kn rest (M, C1) Q) : Ex g d y pc kn (va_rf v :: .int (iI i) :: va_rf r :: rest) (M, C) Q := by
  obtain ⟨q, rfl, h⟩ := dr_some h
  obtain ⟨hk, h⟩ := gdB_some h
  obtain ⟨hb, h⟩ := ax_some h
  have ht := Nat.le_of_ble_eq_true ht
  rw [Bool.and_eq_true, beq_iff_eq] at hk
  exact ex_haast hd hk.1 ht (okN_some hk.2) hb (nx _ h)
theorem hx_alen {r : Option Nat} {κ : Int → Option β} {z : β} (h : dr r (fun q => gdB (Nat.ble 64 (hK C q)) (rd (hL C q : Int) κ)) = some z) (hd : decode y.2.2.1 pc = .ok (.arraylength, 1)) (nx : ∀ v, κ v = some z → Ex g d y (pc + 1) kn (.int (iI v) :: rest) (M, C) Q) : Ex g d y pc kn (va_rf r :: rest) (M, C) Q := by
  obtain ⟨q, rfl, h⟩ := dr_some h
  obtain ⟨hk, h⟩ := gdB_some h
  exact ex_alen hd (Nat.le_of_ble_eq_true hk) (nx _ h)
theorem hx_cast {idx ci : Nat} {r : Option Nat} {nm : String} {κ : Option β} {z : β} (h : gdB (okN r (fun q => hK C q == ci + 1)) κ = some z) (hd : decode y.2.2.1 pc = .ok (.checkcast idx, 3)) (hl : Cond.classLink y.1 idx nm ∈ lw_tbl) (hc : Nat.blt ci 19 = true) (hC : clR ci = nm) (nx : κ = some z → Ex g d y (pc + 3) kn (va_rf r :: rest) (M, C) Q) : Ex g d y pc kn (va_rf r :: rest) (M, C) Q := by
  obtain ⟨hk, h⟩ := gdB_some h
  exact ex_cast0 hd hl (Nat.blt_eq.mp hc) hC (fun q hq => by simpa using okN_some hk q hq) (nx h)
/-- what a class gives when it is made -/
def NWk (ci w : Nat) : Prop := ci < 19 ∧ Cond.instantiable (clR ci) w ∈ lw_tbl ∧ Cond.initialized (clR ci) ∈ lw_tbl ∧ (∀ j, j < clN ci → defaultValue (clY ci j) = fvl 0 (clF ci j) 0 0 none) ∧ ∀ j, j < clN ci → clF ci j < 3
theorem hx_new {ci w idx : Nat} {κ : Nat → CW → Option β} {z : β} (h : al C w (fun q => rd (hNew C (ci + 1) 0 w) (κ q)) = some z) (hd : decode y.2.2.1 pc = .ok (.new idx, 3)) (hw : NWk ci w) (hcl : Cond.classLink y.1 idx (clR ci) ∈ lw_tbl) (nx : ∀ q C1, κ q C1 = some z → Ex g d y (pc + 3) kn (va_rf (some q) :: rest) (M, C1) Q) : Ex g d y pc kn rest (M, C) Q := by
  obtain ⟨⟨h1, h2⟩, h⟩ := al_some h
  exact ex_new hd hw.1 hcl hw.2.1 hw.2.2.1 hw.2.2.2.1 hw.2.2.2.2 h1 h2 (nx _ _ h)
theorem hx_newa {t : Nat} {n : Int} {aty : ArrayType} {κ : Nat → CW → Option β} {z : β} (h : gdB (decide (0 ≤ w32 n)) (al C (w32 n).toNat (fun q => rd (hNew C (64 + t) (w32 n).toNat (w32 n).toNat) (κ q))) = some z) (hd : decode y.2.2.1 pc = .ok (.newarray aty, 2)) (ht : Nat.blt t 4 = true) (hty : newarray.typeOf aty = atT t) (hac : Cond.arrayClass (atT t) ∈ lw_tbl) (nx : ∀ q C1, κ q C1 = some z → Ex g d y (pc + 2) kn (va_rf (some q) :: rest) (M, C1) Q) : Ex g d y pc kn (.int (iI n) :: rest) (M, C) Q := by
  obtain ⟨hn, h⟩ := gdB_some h
  obtain ⟨⟨h1, h2⟩, h⟩ := al_some h
  exact ex_newa hd (Nat.blt_eq.mp ht) hty hac (by simpa using hn) h1 h2 (nx _ _ h)
theorem hx_anew {t idx : Nat} {n : Int} {nm : String} {κ : Nat → CW → Option β} {z : β} (h : gdB (decide (0 ≤ w32 n)) (al C (w32 n).toNat (fun q => rd (hNew C (64 + t) (w32 n).toNat (w32 n).toNat) (κ q))) = some z) (hd : decode y.2.2.1 pc = .ok (.anewarray idx, 3)) (ht : Nat.ble 4 t = true ∧ Nat.blt t 7 = true) (hty : atT t = .object nm) (hcl : Cond.classLink y.1 idx nm ∈ lw_tbl) (hao : Cond.arrayOver (.object nm) ∈ lw_tbl) (nx : ∀ q C1, κ q C1 = some z → Ex g d y (pc + 3) kn (va_rf (some q) :: rest) (M, C1) Q) : Ex g d y pc kn (.int (iI n) :: rest) (M, C) Q := by
  obtain ⟨hn, h⟩ := gdB_some h
  obtain ⟨⟨h1, h2⟩, h⟩ := al_some h
  exact ex_anew hd ⟨Nat.le_of_ble_eq_true ht.1, Nat.blt_eq.mp ht.2⟩ hty hcl hao (by simpa using hn) h1 h2 (nx _ _ h)
theorem tx_null {r : Option Nat} {off : Int} {A : Nat → Option β} {B : Option β} {z : β} (t : Nat) (h : (match r with | none => B | some q => A q) = some z) (hd : decode y.2.2.1 pc = .ok (.ifnull off, 3)) (ht : (pc : Int) + off = (t : Int)) (k1 : r = none → B = some z → Ex g d y t kn st X Q) (k2 : ∀ q, r = some q → A q = some z → Ex g d y (pc + 3) kn st X Q) : Ex g d y pc kn (va_rf r :: st) X Q :=
  ex_ifnull t hd ht (fun c => k1 c (by subst c; exact h)) (fun q c => k2 q c (by subst c; exact h))
theorem tx_nonnull {r : Option Nat} {off : Int} {A : Nat → Option β} {B : Option β} {z : β} (t : Nat) (h : (match r with | none => B | some q => A q) = some z) (hd : decode y.2.2.1 pc = .ok (.ifnonnull off, 3)) (ht : (pc : Int) + off = (t : Int)) (k1 : ∀ q, r = some q → A q = some z → Ex g d y t kn st X Q) (k2 : r = none → B = some z → Ex g d y (pc + 3) kn st X Q) : Ex g d y pc kn (va_rf r :: st) X Q :=
  ex_ifnonnull t hd ht (fun q c => k1 q c (by subst c; exact h)) (fun c => k2 c (by subst c; exact h))
theorem tx_acmp_eq {r q : Option Nat} {off : Int} {A B : Option β} {z : β} (t : Nat) (h : (if r = q then A else B) = some z) (hd : decode y.2.2.1 pc = .ok (.if_acmp .eq off, 3)) (ht : (pc : Int) + off = (t : Int)) (k1 : A = some z → Ex g d y t kn st X Q) (k2 : B = some z → Ex g d y (pc + 3) kn st X Q) : Ex g d y pc kn (va_rf q :: va_rf r :: st) X Q :=
  ex_acmp_eq t hd ht (fun c => k1 (by rw [if_pos c] at h; exact h)) (fun c => k2 (by rw [if_neg c] at h; exact h))
theorem tx_acmp_ne {r q : Option Nat} {off : Int} {A B : Option β} {z : β} (t : Nat) (h : (if r = q then B else A) = some z) (hd : decode y.2.2.1 pc = .ok (.if_acmp .ne off, 3)) (ht : (pc : Int) + off = (t : Int)) (k1 : A = some z → Ex g d y t kn st X Q) (k2 : B = some z → Ex g d y (pc + 3) kn st X Q) : Ex g d y pc kn (va_rf q :: va_rf r :: st) X Q :=
  ex_acmp_ne t hd ht (fun c => k1 (by rw [if_neg c] at h; exact h)) (fun c => k2 (by rw [if_pos c] at h; exact h))
end CX
