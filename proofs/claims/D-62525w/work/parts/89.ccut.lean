/-! LAYER C: the component cuts handlers -/
def ccut1 (a b : Nat) (h : HD) : List HD := (if dF h < min (dT h) a then [(dF h, min (dT h) a, dP h, dC h)] else []) ++ (if max (dF h) b < dT h then [(max (dF h) b, dT h, dP h, dC h)] else [])
theorem ccut1_e {a b : Nat} {h : HD} (hab : a < b) (hft : dF h < dT h) : ccut1 a b h = cut1 a b h := by
  unfold ccut1 cut1
  by_cases e1 : dT h ≤ a
  · rw [if_pos (Or.inl e1), Nat.min_eq_left e1, if_pos hft, if_neg (by omega), List.append_nil]
    rfl
  · by_cases e2 : b ≤ dF h
    · rw [if_pos (Or.inr e2), Nat.min_eq_right (by omega), if_neg (by omega), Nat.max_eq_left e2, if_pos hft, List.nil_append]
      rfl
    · rw [Nat.min_eq_right (show a ≤ dT h by omega), Nat.max_eq_right (show dF h ≤ b by omega), if_neg (show ¬ (dT h ≤ a ∨ b ≤ dF h) by omega)]
/-- handlers, in a list of the component -/
def HsC (C : CW) (hl : Nat) (qh : List Nat) (hs : List HD) : Prop := ALs C hl qh ∧ qh.length = hs.length ∧ ∀ (i q : Nat) h, qh[i]? = some q → hs[i]? = some h → HdC C q h
/-- a new handler -/
theorem c_newHd {C : CW} {g : HD} (r1 : hZ C + 1 ≤ 600384) (r2 : hS C + 4 ≤ 7290858) : ∃ C', f_X9_init (hB C + hZ C) (dF g : Int) (dT g : Int) (dP g : Int) (dC g) (hNew C 9 0 4) = some ((), C') ∧ HdC C' (hB C + hZ C) g ∧ hZ C' = hZ C + 1 ∧ hS C' = hS C + 4 ∧ ∀ K A R, ChC C C' K A R := by
  have k9 : hK (hNew C 9 0 4) (hB C + hZ C) = 9 := hK_sN rfl
  let D1 := hsI (hNew C 9 0 4) (hB C + hZ C) 0 (dF g : Int)
  let D2 := hsI D1 (hB C + hZ C) 1 (dT g : Int)
  let D3 := hsI D2 (hB C + hZ C) 2 (dP g : Int)
  let D4 := hsI D3 (hB C + hZ C) 3 (dC g)
  refine ⟨D4, ?_, ⟨k9, ?_, ?_, ?_, hI_shsI rfl⟩, rfl, rfl, fun K A R => (((((ChC.r C K A R).new _ _ _).hsIn (Or.inl (Nat.le_refl _))).hsIn (Or.inl (Nat.le_refl _))).hsIn (Or.inl (Nat.le_refl _))).hsIn (Or.inl (Nat.le_refl _))⟩
  · unfold f_X9_init
    rw [dr_k, gd_e k9, rd_k, dr_k, gd_e (show hK D1 (hB C + hZ C) = 9 from k9), rd_k, dr_k, gd_e (show hK D2 (hB C + hZ C) = 9 from k9), rd_k, dr_k, gd_e (show hK D3 (hB C + hZ C) = 9 from k9), rd_k]
  · show hI (hsI D3 _ 3 _) _ 0 = _; rw [hI_ohsI (by omega)]; show hI (hsI D2 _ 2 _) _ 0 = _; rw [hI_ohsI (by omega)]; show hI (hsI D1 _ 1 _) _ 0 = _; rw [hI_ohsI (by omega)]; exact hI_shsI rfl
  · show hI (hsI D3 _ 3 _) _ 1 = _; rw [hI_ohsI (by omega)]; show hI (hsI D2 _ 2 _) _ 1 = _; rw [hI_ohsI (by omega)]; exact hI_shsI rfl
  · show hI (hsI D3 _ 3 _) _ 2 = _; rw [hI_ohsI (by omega)]; exact hI_shsI rfl
