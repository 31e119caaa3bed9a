/-! LAYER C: numbers; rows that evaluate the decompiled functions -/
def b2i (b : Bool) : Int := if b = true then 1 else 0
theorem b2i_t : b2i true = 1 := rfl
theorem b2i_f : b2i false = 0 := rfl
theorem w32_n (k : Nat) (h : k < 2147483648) : w32 (k : Int) = (k : Int) := w32_of (by omega) (by omega)
theorem w32_i {a : Int} (h : -2147483648 ≤ a ∧ a < 2147483648) : w32 a = a := w32_of h.1 h.2
theorem w32_b2i (b : Bool) : w32 (b2i b) = b2i b := by cases b <;> rfl
theorem b2i_z (b : Bool) : (b2i b = 0) = (b = false) := by cases b <;> simp [b2i]
theorem b2i_isZ (b : Bool) : isZ (b2i b) = true := by cases b <;> rfl
theorem isZ_0 : isZ 0 = true := rfl
theorem isZ_1 : isZ 1 = true := rfl
theorem iAnd_11 : iAnd 1 1 = 1 := by decide +kernel
theorem iAnd_01 : iAnd 0 1 = 0 := by decide +kernel
theorem iAnd_b (b : Bool) : iAnd (b2i b) 1 = b2i b := by cases b <;> decide +kernel
theorem rd_k {α β : Type} (a : α) (κ : α → β) : rd a κ = κ a := rfl
theorem ax_k {β : Type} {i : Int} {n : Nat} {κ : Nat → Option β} (h : 0 ≤ i ∧ i < (n : Int) ∧ n ≤ 2147483648) : ax i n κ = κ i.toNat := by
  unfold ax
  rw [w32_of (by omega) (by omega), if_pos ⟨h.1, h.2.1⟩]
theorem mB_k {α β : Type} (a : α) (M : MW) (κ : α → MW → Option β) : mB (some (a, M)) κ = κ a M := rfl
theorem cB_k {α β : Type} (a : α) (C : CW) (κ : α → CW → Option β) : cB (some (a, C)) κ = κ a C := rfl
theorem xB_r {α β : Type} (a : α) (C : CW) (κ : α → CW → Option ((Nat ⊕ β) × CW)) : xB (some (Sum.inr a, C)) κ = κ a C := rfl
theorem xB_l {α β : Type} (q : Nat) (C : CW) (κ : α → CW → Option ((Nat ⊕ β) × CW)) : xB (some (Sum.inl q, C)) κ = some (Sum.inl q, C) := rfl
theorem xH_r {α β : Type} (a : α) (C : CW) (η : Nat → CW → Option β) (κ : α → CW → Option β) : xH (some (Sum.inr a, C)) η κ = κ a C := rfl
theorem xH_l {α β : Type} (q : Nat) (C : CW) (η : Nat → CW → Option β) (κ : α → CW → Option β) : xH (some (Sum.inl q, C)) η κ = η q C := rfl
theorem dr_k {β : Type} (q : Nat) (κ : Nat → Option β) : dr (some q) κ = κ q := rfl
theorem gd_t {β : Type} (m : Option β) : gdB true m = m := rfl
theorem gd_p {β : Type} {b : Bool} {m : Option β} (h : b = true) : gdB b m = m := by rw [h]; rfl
theorem gd_e {β : Type} {a b : Nat} {m : Option β} (h : a = b) : gdB (a == b) m = m := by rw [h, beq_self_eq_true]; rfl
theorem gd_l {β : Type} {a b : Nat} {m : Option β} (h : a ≤ b) : gdB (Nat.ble a b) m = m := by rw [Nat.ble_eq_true_of_le h]; rfl
theorem gd_d {β : Type} {P : Prop} [Decidable P] {m : Option β} (h : P) : gdB (decide P) m = m := by rw [decide_eq_true h]; rfl
theorem al_k {β : Type} {C : CW} {w : Nat} {κ : Nat → Option β} (h : hZ C + 1 ≤ 600384 ∧ hS C + w ≤ 7290858) : al C w κ = κ (hB C + hZ C) := by
  unfold al
  rw [if_pos h]
theorem okN_k (q : Nat) (p : Nat → Bool) : okN (some q) p = p q := rfl
theorem ite_t {α : Type} {c : Prop} [Decidable c] {a b : α} (h : c) : (if c then a else b) = a := if_pos h
theorem ite_f {α : Type} {c : Prop} [Decidable c] {a b : α} (h : ¬ c) : (if c then a else b) = b := if_neg h
theorem FU_v : FU = 1152921504606846976 := rfl
/-! projections -/
theorem mI_s {M : MW} {k i i' : Nat} {v : Int} (h : i' = i) : mI (msI M k i v) k i' = v := by
  show (if k = k ∧ i' = i then v else _) = v
  rw [if_pos ⟨rfl, h⟩]
theorem mI_o {M : MW} {k i k' i' : Nat} {v : Int} (h : k' ≠ k ∨ i' ≠ i) : mI (msI M k i v) k' i' = mI M k' i' := by
  show (if k' = k ∧ i' = i then v else _) = _
  rw [if_neg (by omega)]
  rfl
theorem mI_if {M : MW} {k i k' i' : Nat} {v : Int} : mI (msI M k i v) k' i' = if k' = k ∧ i' = i then v else mI M k' i' := rfl
theorem mI_J {M : MW} {k i : Nat} {v : Int} : mI (msJ M k i v) = mI M := rfl
theorem mJ_I {M : MW} {k i : Nat} {v : Int} : mJ (msI M k i v) = mJ M := rfl
theorem mJ_s {M : MW} {k i i' : Nat} {v : Int} (h : i' = i) : mJ (msJ M k i v) k i' = v := by
  show (if k = k ∧ i' = i then v else _) = v
  rw [if_pos ⟨rfl, h⟩]
theorem mJ_o {M : MW} {k i k' i' : Nat} {v : Int} (h : k' ≠ k ∨ i' ≠ i) : mJ (msJ M k i v) k' i' = mJ M k' i' := by
  show (if k' = k ∧ i' = i then v else _) = _
  rw [if_neg (by omega)]
  rfl
theorem mJ_if {M : MW} {k i k' i' : Nat} {v : Int} : mJ (msJ M k i v) k' i' = if k' = k ∧ i' = i then v else mJ M k' i' := rfl
theorem cJ_csI {C : CW} {k i : Nat} {v : Int} : cJ (csI C k i v) = cJ C := rfl
theorem cR_csI {C : CW} {k i : Nat} {v : Int} : cR (csI C k i v) = cR C := rfl
theorem hK_csI {C : CW} {k i : Nat} {v : Int} : hK (csI C k i v) = hK C := rfl
theorem hL_csI {C : CW} {k i : Nat} {v : Int} : hL (csI C k i v) = hL C := rfl
theorem hI_csI {C : CW} {k i : Nat} {v : Int} : hI (csI C k i v) = hI C := rfl
theorem hJ_csI {C : CW} {k i : Nat} {v : Int} : hJ (csI C k i v) = hJ C := rfl
theorem hR_csI {C : CW} {k i : Nat} {v : Int} : hR (csI C k i v) = hR C := rfl
theorem hB_csI {C : CW} {k i : Nat} {v : Int} : hB (csI C k i v) = hB C := rfl
theorem hZ_csI {C : CW} {k i : Nat} {v : Int} : hZ (csI C k i v) = hZ C := rfl
theorem hS_csI {C : CW} {k i : Nat} {v : Int} : hS (csI C k i v) = hS C := rfl
theorem hE_csI {C : CW} {k i : Nat} {v : Int} : hE (csI C k i v) = hE C := rfl
theorem cI_scsI {C : CW} {k i i' : Nat} {v : Int} (h : i' = i) : cI (csI C k i v) k i' = v := by
  show (if k = k ∧ i' = i then v else _) = v
  rw [if_pos ⟨rfl, h⟩]
theorem cI_ocsI {C : CW} {k i k' i' : Nat} {v : Int} (h : k' ≠ k ∨ i' ≠ i) : cI (csI C k i v) k' i' = cI C k' i' := by
  show (if k' = k ∧ i' = i then v else _) = _
  rw [if_neg (by omega)]
theorem cI_ifcsI {C : CW} {k i k' i' : Nat} {v : Int} : cI (csI C k i v) k' i' = if k' = k ∧ i' = i then v else cI C k' i' := rfl
theorem cI_csJ {C : CW} {k i : Nat} {v : Int} : cI (csJ C k i v) = cI C := rfl
theorem cR_csJ {C : CW} {k i : Nat} {v : Int} : cR (csJ C k i v) = cR C := rfl
theorem hK_csJ {C : CW} {k i : Nat} {v : Int} : hK (csJ C k i v) = hK C := rfl
theorem hL_csJ {C : CW} {k i : Nat} {v : Int} : hL (csJ C k i v) = hL C := rfl
theorem hI_csJ {C : CW} {k i : Nat} {v : Int} : hI (csJ C k i v) = hI C := rfl
theorem hJ_csJ {C : CW} {k i : Nat} {v : Int} : hJ (csJ C k i v) = hJ C := rfl
theorem hR_csJ {C : CW} {k i : Nat} {v : Int} : hR (csJ C k i v) = hR C := rfl
theorem hB_csJ {C : CW} {k i : Nat} {v : Int} : hB (csJ C k i v) = hB C := rfl
theorem hZ_csJ {C : CW} {k i : Nat} {v : Int} : hZ (csJ C k i v) = hZ C := rfl
theorem hS_csJ {C : CW} {k i : Nat} {v : Int} : hS (csJ C k i v) = hS C := rfl
theorem hE_csJ {C : CW} {k i : Nat} {v : Int} : hE (csJ C k i v) = hE C := rfl
theorem cJ_scsJ {C : CW} {k i i' : Nat} {v : Int} (h : i' = i) : cJ (csJ C k i v) k i' = v := by
  show (if k = k ∧ i' = i then v else _) = v
  rw [if_pos ⟨rfl, h⟩]
theorem cJ_ocsJ {C : CW} {k i k' i' : Nat} {v : Int} (h : k' ≠ k ∨ i' ≠ i) : cJ (csJ C k i v) k' i' = cJ C k' i' := by
  show (if k' = k ∧ i' = i then v else _) = _
  rw [if_neg (by omega)]
theorem cJ_ifcsJ {C : CW} {k i k' i' : Nat} {v : Int} : cJ (csJ C k i v) k' i' = if k' = k ∧ i' = i then v else cJ C k' i' := rfl
theorem cI_csR {C : CW} {k i : Nat} {v : Option Nat} : cI (csR C k i v) = cI C := rfl
theorem cJ_csR {C : CW} {k i : Nat} {v : Option Nat} : cJ (csR C k i v) = cJ C := rfl
theorem hK_csR {C : CW} {k i : Nat} {v : Option Nat} : hK (csR C k i v) = hK C := rfl
theorem hL_csR {C : CW} {k i : Nat} {v : Option Nat} : hL (csR C k i v) = hL C := rfl
theorem hI_csR {C : CW} {k i : Nat} {v : Option Nat} : hI (csR C k i v) = hI C := rfl
theorem hJ_csR {C : CW} {k i : Nat} {v : Option Nat} : hJ (csR C k i v) = hJ C := rfl
theorem hR_csR {C : CW} {k i : Nat} {v : Option Nat} : hR (csR C k i v) = hR C := rfl
theorem hB_csR {C : CW} {k i : Nat} {v : Option Nat} : hB (csR C k i v) = hB C := rfl
theorem hZ_csR {C : CW} {k i : Nat} {v : Option Nat} : hZ (csR C k i v) = hZ C := rfl
theorem hS_csR {C : CW} {k i : Nat} {v : Option Nat} : hS (csR C k i v) = hS C := rfl
theorem hE_csR {C : CW} {k i : Nat} {v : Option Nat} : hE (csR C k i v) = hE C := rfl
theorem cR_scsR {C : CW} {k i i' : Nat} {v : Option Nat} (h : i' = i) : cR (csR C k i v) k i' = v := by
  show (if k = k ∧ i' = i then v else _) = v
  rw [if_pos ⟨rfl, h⟩]
theorem cR_ocsR {C : CW} {k i k' i' : Nat} {v : Option Nat} (h : k' ≠ k ∨ i' ≠ i) : cR (csR C k i v) k' i' = cR C k' i' := by
  show (if k' = k ∧ i' = i then v else _) = _
  rw [if_neg (by omega)]
theorem cR_ifcsR {C : CW} {k i k' i' : Nat} {v : Option Nat} : cR (csR C k i v) k' i' = if k' = k ∧ i' = i then v else cR C k' i' := rfl
theorem cI_hsI {C : CW} {k i : Nat} {v : Int} : cI (hsI C k i v) = cI C := rfl
theorem cJ_hsI {C : CW} {k i : Nat} {v : Int} : cJ (hsI C k i v) = cJ C := rfl
theorem cR_hsI {C : CW} {k i : Nat} {v : Int} : cR (hsI C k i v) = cR C := rfl
theorem hK_hsI {C : CW} {k i : Nat} {v : Int} : hK (hsI C k i v) = hK C := rfl
theorem hL_hsI {C : CW} {k i : Nat} {v : Int} : hL (hsI C k i v) = hL C := rfl
theorem hJ_hsI {C : CW} {k i : Nat} {v : Int} : hJ (hsI C k i v) = hJ C := rfl
theorem hR_hsI {C : CW} {k i : Nat} {v : Int} : hR (hsI C k i v) = hR C := rfl
theorem hB_hsI {C : CW} {k i : Nat} {v : Int} : hB (hsI C k i v) = hB C := rfl
theorem hZ_hsI {C : CW} {k i : Nat} {v : Int} : hZ (hsI C k i v) = hZ C := rfl
theorem hS_hsI {C : CW} {k i : Nat} {v : Int} : hS (hsI C k i v) = hS C := rfl
theorem hE_hsI {C : CW} {k i : Nat} {v : Int} : hE (hsI C k i v) = hE C := rfl
theorem hI_shsI {C : CW} {k i i' : Nat} {v : Int} (h : i' = i) : hI (hsI C k i v) k i' = v := by
  show (if k = k ∧ i' = i then v else _) = v
  rw [if_pos ⟨rfl, h⟩]
theorem hI_ohsI {C : CW} {k i k' i' : Nat} {v : Int} (h : k' ≠ k ∨ i' ≠ i) : hI (hsI C k i v) k' i' = hI C k' i' := by
  show (if k' = k ∧ i' = i then v else _) = _
  rw [if_neg (by omega)]
theorem hI_ifhsI {C : CW} {k i k' i' : Nat} {v : Int} : hI (hsI C k i v) k' i' = if k' = k ∧ i' = i then v else hI C k' i' := rfl
theorem cI_hsJ {C : CW} {k i : Nat} {v : Int} : cI (hsJ C k i v) = cI C := rfl
theorem cJ_hsJ {C : CW} {k i : Nat} {v : Int} : cJ (hsJ C k i v) = cJ C := rfl
theorem cR_hsJ {C : CW} {k i : Nat} {v : Int} : cR (hsJ C k i v) = cR C := rfl
theorem hK_hsJ {C : CW} {k i : Nat} {v : Int} : hK (hsJ C k i v) = hK C := rfl
theorem hL_hsJ {C : CW} {k i : Nat} {v : Int} : hL (hsJ C k i v) = hL C := rfl
theorem hI_hsJ {C : CW} {k i : Nat} {v : Int} : hI (hsJ C k i v) = hI C := rfl
theorem hR_hsJ {C : CW} {k i : Nat} {v : Int} : hR (hsJ C k i v) = hR C := rfl
theorem hB_hsJ {C : CW} {k i : Nat} {v : Int} : hB (hsJ C k i v) = hB C := rfl
theorem hZ_hsJ {C : CW} {k i : Nat} {v : Int} : hZ (hsJ C k i v) = hZ C := rfl
theorem hS_hsJ {C : CW} {k i : Nat} {v : Int} : hS (hsJ C k i v) = hS C := rfl
theorem hE_hsJ {C : CW} {k i : Nat} {v : Int} : hE (hsJ C k i v) = hE C := rfl
theorem hJ_shsJ {C : CW} {k i i' : Nat} {v : Int} (h : i' = i) : hJ (hsJ C k i v) k i' = v := by
  show (if k = k ∧ i' = i then v else _) = v
  rw [if_pos ⟨rfl, h⟩]
theorem hJ_ohsJ {C : CW} {k i k' i' : Nat} {v : Int} (h : k' ≠ k ∨ i' ≠ i) : hJ (hsJ C k i v) k' i' = hJ C k' i' := by
  show (if k' = k ∧ i' = i then v else _) = _
  rw [if_neg (by omega)]
theorem hJ_ifhsJ {C : CW} {k i k' i' : Nat} {v : Int} : hJ (hsJ C k i v) k' i' = if k' = k ∧ i' = i then v else hJ C k' i' := rfl
theorem cI_hsR {C : CW} {k i : Nat} {v : Option Nat} : cI (hsR C k i v) = cI C := rfl
theorem cJ_hsR {C : CW} {k i : Nat} {v : Option Nat} : cJ (hsR C k i v) = cJ C := rfl
theorem cR_hsR {C : CW} {k i : Nat} {v : Option Nat} : cR (hsR C k i v) = cR C := rfl
theorem hK_hsR {C : CW} {k i : Nat} {v : Option Nat} : hK (hsR C k i v) = hK C := rfl
theorem hL_hsR {C : CW} {k i : Nat} {v : Option Nat} : hL (hsR C k i v) = hL C := rfl
theorem hI_hsR {C : CW} {k i : Nat} {v : Option Nat} : hI (hsR C k i v) = hI C := rfl
theorem hJ_hsR {C : CW} {k i : Nat} {v : Option Nat} : hJ (hsR C k i v) = hJ C := rfl
theorem hB_hsR {C : CW} {k i : Nat} {v : Option Nat} : hB (hsR C k i v) = hB C := rfl
theorem hZ_hsR {C : CW} {k i : Nat} {v : Option Nat} : hZ (hsR C k i v) = hZ C := rfl
theorem hS_hsR {C : CW} {k i : Nat} {v : Option Nat} : hS (hsR C k i v) = hS C := rfl
theorem hE_hsR {C : CW} {k i : Nat} {v : Option Nat} : hE (hsR C k i v) = hE C := rfl
theorem hR_shsR {C : CW} {k i i' : Nat} {v : Option Nat} (h : i' = i) : hR (hsR C k i v) k i' = v := by
  show (if k = k ∧ i' = i then v else _) = v
  rw [if_pos ⟨rfl, h⟩]
theorem hR_ohsR {C : CW} {k i k' i' : Nat} {v : Option Nat} (h : k' ≠ k ∨ i' ≠ i) : hR (hsR C k i v) k' i' = hR C k' i' := by
  show (if k' = k ∧ i' = i then v else _) = _
  rw [if_neg (by omega)]
theorem hR_ifhsR {C : CW} {k i k' i' : Nat} {v : Option Nat} : hR (hsR C k i v) k' i' = if k' = k ∧ i' = i then v else hR C k' i' := rfl
theorem cI_N {C : CW} {K n x : Nat} : cI (hNew C K n x) = cI C := rfl
theorem cJ_N {C : CW} {K n x : Nat} : cJ (hNew C K n x) = cJ C := rfl
theorem cR_N {C : CW} {K n x : Nat} : cR (hNew C K n x) = cR C := rfl
theorem hB_N {C : CW} {K n x : Nat} : hB (hNew C K n x) = hB C := rfl
theorem hE_N {C : CW} {K n x : Nat} : hE (hNew C K n x) = hE C := rfl
theorem hZ_N {C : CW} {K n x : Nat} : hZ (hNew C K n x) = hZ C + 1 := rfl
theorem hS_N {C : CW} {K n x : Nat} : hS (hNew C K n x) = hS C + x := rfl
theorem hK_sN {C : CW} {K n x q : Nat} (h : q = hB C + hZ C) : hK (hNew C K n x) q = K := by
  show (if q = hB C + hZ C then K else _) = K
  rw [if_pos h]
theorem hK_oN {C : CW} {K n x q : Nat} (h : q ≠ hB C + hZ C) : hK (hNew C K n x) q = hK C q := by
  show (if q = hB C + hZ C then K else _) = _
  rw [if_neg h]
theorem hL_sN {C : CW} {K n x q : Nat} (h : q = hB C + hZ C) : hL (hNew C K n x) q = n := by
  show (if q = hB C + hZ C then n else _) = n
  rw [if_pos h]
theorem hL_oN {C : CW} {K n x q : Nat} (h : q ≠ hB C + hZ C) : hL (hNew C K n x) q = hL C q := by
  show (if q = hB C + hZ C then n else _) = _
  rw [if_neg h]
theorem hI_sN {C : CW} {K n x q i : Nat} (h : q = hB C + hZ C) : hI (hNew C K n x) q i = 0 := by
  show (if q = hB C + hZ C then (fun _ => 0) else hI C q) i = _
  rw [if_pos h]
theorem hI_oN {C : CW} {K n x q : Nat} (h : q ≠ hB C + hZ C) : hI (hNew C K n x) q = hI C q := by
  show (if q = hB C + hZ C then (fun _ => 0) else hI C q) = _
  rw [if_neg h]
theorem hJ_sN {C : CW} {K n x q i : Nat} (h : q = hB C + hZ C) : hJ (hNew C K n x) q i = 0 := by
  show (if q = hB C + hZ C then (fun _ => 0) else hJ C q) i = _
  rw [if_pos h]
theorem hJ_oN {C : CW} {K n x q : Nat} (h : q ≠ hB C + hZ C) : hJ (hNew C K n x) q = hJ C q := by
  show (if q = hB C + hZ C then (fun _ => 0) else hJ C q) = _
  rw [if_neg h]
theorem hR_sN {C : CW} {K n x q i : Nat} (h : q = hB C + hZ C) : hR (hNew C K n x) q i = none := by
  show (if q = hB C + hZ C then (fun _ => none) else hR C q) i = _
  rw [if_pos h]
theorem hR_oN {C : CW} {K n x q : Nat} (h : q ≠ hB C + hZ C) : hR (hNew C K n x) q = hR C q := by
  show (if q = hB C + hZ C then (fun _ => none) else hR C q) = _
  rw [if_neg h]
