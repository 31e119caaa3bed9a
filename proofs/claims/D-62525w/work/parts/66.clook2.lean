/-! LAYER C: the component looks at a place: all -/
theorem pc_sw {x lo d : Int} (l : List Int) : PuC (fun C => sw x lo (l.map fun a => some (a, C)) (some (d, C))) := by
  by_cases h : lo ≤ x
  · refine ⟨(l[(x - lo).toNat]?).getD d, fun C => ?_⟩
    show sw x lo (l.map fun a => some (a, C)) (some (d, C)) = _
    unfold sw
    rw [if_pos h, List.getElem?_map]
    cases l[(x - lo).toNat]? <;> rfl
  · refine ⟨d, fun C => ?_⟩
    show sw x lo (l.map fun a => some (a, C)) (some (d, C)) = _
    unfold sw
    rw [if_neg h]
theorem pc_k {α : Type} (a : α) : PuC (fun C => some (a, C)) := ⟨a, fun _ => rfl⟩
set_option maxRecDepth 100000 in
theorem pc_size32 (x : Int) : PuC (fun C => f_X1_sizeOf_b32 x C) := by
  unfold f_X1_sizeOf_b32
  exact pc_ite (pc_k _) (pc_ite (pc_k _) (pc_ite (pc_k _) (pc_ite (pc_k _) (pc_sw (x := w32 x) (lo := 16) (d := 0) [2, 0, 0, 0, 0, 2, 2, 0, 0, 2, 0, 0, 0, 0, 0, 0, 0, 0, 0, 0, 0, 0, 0, 0, 0, 0, 0, 0, 0, 0, 1, 1, 0, 0, 1, 0, 0, 0, 2, 2, 0, 0, 2, 0, 0, 0, 0, 0, 0, 0, 0, 0, 0, 0, 0, 0, 0, 0, 0, 0, 0, 0, 0, 1, 1, 0, 0, 1, 0, 0, 0, 1, 1, 1, 1, 0, 1, 0, 0, 1, 1, 1, 0, 0, 1, 1, 0, 0, 1, 1, 0, 0, 1, 1, 0, 0, 0, 0, 0, 0, 0, 0, 0, 0, 0, 0, 0, 0, 0, 0, 0, 0, 0, 0, 0, 0, 0, 1, 0, 0, 1, 0, 0, 0, 0, 0, 0, 0, 0, 0, 0, 0, 1, 0, 0, 0, 0, 0, 0, 0, 0, 0, 0, 0, 0, 0, 0, 0, 0, 0, 0, 0, 0, 0, 0, 0, 1, 1, 0, 0, 1, 1, 2, 2, 2, 2, 0, 2, 2, 0, 0, 2, 2, 2, 1, 1, 2, 2]))))
theorem pc_size (x : Int) : PuC (fun C => f_X1_sizeOf x C) := by
  unfold f_X1_sizeOf
  exact pc_ite (pc_ite (pc_size32 x) (pc_ite (pc_k _) (pc_size32 x))) (pc_ite (pc_k _) (pc_k _))
theorem size_all : ∀ op : Fin 256, (f_X1_sizeOf ((op.val : Nat) : Int) c00).map (·.1) = some ((szo op.val : Nat) : Int) := by decide +kernel
theorem c_sizeOf {C : CW} {op : Nat} (h : op < 256) : f_X1_sizeOf (op : Int) C = some ((szo op : Int), C) := (pc_size op).at0 (size_all ⟨op, h⟩) C
theorem pc_last (x : Int) : PuC (fun C => f_X1_isLast x C) := by
  unfold f_X1_isLast f_X1_isLast_b21
  exact pc_ite (pc_k _) (pc_ite (pc_ite (pc_k _) (pc_k _)) (pc_ite (pc_k _) (pc_ite (pc_k _) (pc_k _))))
theorem last_all : ∀ op : Fin 256, (f_X1_isLast ((op.val : Nat) : Int) c00).map (·.1) = some (b2i (isLa op.val)) := by decide +kernel
theorem c_isLast {C : CW} {op : Nat} (h : op < 256) : f_X1_isLast (op : Int) C = some (b2i (isLa op), C) := (pc_last op).at0 (last_all ⟨op, h⟩) C
theorem pc_branch (x : Int) : PuC (fun C => f_X1_isBranch x C) := by
  unfold f_X1_isBranch f_X1_isBranch_b14
  exact pc_ite (pc_ite (pc_k _) (pc_ite (pc_k _) (pc_k _))) (pc_ite (pc_k _) (pc_ite (pc_k _) (pc_ite (pc_k _) (pc_k _))))
theorem branch_all : ∀ op : Fin 256, (f_X1_isBranch ((op.val : Nat) : Int) c00).map (·.1) = some (b2i (isBr op.val)) := by decide +kernel
theorem c_isBranch {C : CW} {op : Nat} (h : op < 256) : f_X1_isBranch (op : Int) C = some (b2i (isBr op), C) := (pc_branch op).at0 (branch_all ⟨op, h⟩) C
theorem szo3_all : ∀ op : Fin 256, szo op.val = 3 → op.val = 17 ∨ op.val = 132 ∨ (153 ≤ op.val ∧ op.val ≤ 167) ∨ op.val = 198 ∨ op.val = 199 := by decide +kernel
/-- where an instruction has three bytes, its second isn't asked for -/
theorem c_step_z {C : CW} {op : Nat} (h : op < 256) (h3 : szo op = 3) (z w : Int) : f_X3_step (op : Int) z C = f_X3_step (op : Int) w C := by
  have g := szo3_all ⟨op, h⟩ h3
  dsimp only at g
  unfold f_X3_step f_X3_step_b84
  rcases g with g | g | g | g | g
  all_goals simp (disch := omega) only [w32_i, ite_t, ite_f]
theorem c_m2 {C : CW} {q : Nat} {m : MR} (h : MsC C q m) (hz : rN m ≤ 120) {k : Nat} (hk : k + 1 < rN m) {i : Int} (hi : i = (k : Int)) : f_X8_two q i C = some (i2s (iOr (iShl (rC m k) 8) (rC m (k + 1))), C) := by
  unfold f_X8_two
  rw [dr_k, gd_e h.1, c_at h hz (k := k) (by omega) hi, cB_k, dr_k, gd_e h.1, c_at h hz (k := k + 1) hk (by omega), cB_k]
theorem c_target {C : CW} {q : Nat} {m : MR} (h : MsC C q m) (hz : rN m ≤ 120) {p : Nat} (hp : p + 2 < rN m) : f_X8_target q (p : Int) C = some (tgt (rC m) p, C) := by
  unfold f_X8_target
  rw [dr_k, gd_e h.1, c_m2 h hz (k := p + 1) (by omega) (by omega), cB_k]
  rfl
theorem FrN.hio {C0 C : CW} (h : FrN C0 C) : HiO C0 C (St3 (hB C0 + 8)) := by
  obtain ⟨h1, h2, h3, h4, h5, h6, h7, h8, h9, ha, hb, hc⟩ := h
  exact ⟨h1, h2, h3, h4, h5, fun q n => h6 q (fun e => n (Or.inl e)) (fun e => n (Or.inr (Or.inl e))) (fun e => n (Or.inr (Or.inr e))), h7, h8, h9, ha, hb, hc⟩
theorem HiO.af {C0 C C' : CW} {sa : Nat} {A : Nat → Prop} (h : HiO C C' A) (hA : ∀ q, A q → AF C0 q) : ChC C C' KF (AF C0) (RF C0 sa) := (h.ch KF (RF C0 sa)).mono (fun _ _ h => h) (fun q _ h => hA q h) (fun _ _ h => h)
