/-! LAYER C: the component's operands -/
theorem lsw_n {β : Type} {x k : Int} {A : β} {r : List (Int × β)} {D : β} (h : x ≠ k) : lsw x ((k, A) :: r) D = lsw x r D := if_neg h
theorem lsw_y {β : Type} {x k : Int} {A : β} {r : List (Int × β)} {D : β} (h : x = k) : lsw x ((k, A) :: r) D = A := if_pos h
theorem lsw_0 {β : Type} {x : Int} {D : β} : lsw x [] D = D := rfl
def OpR (C : CW) (p n : Nat) (o : Option ((Nat ⊕ Unit) × CW)) : Prop := (n = 0 ∧ o = some (.inr (), C)) ∨ (n ≠ 0 ∧ ∃ q C', o = some (.inl q, C') ∧ FXc C C' q n p)
def ND (C : CW) (z n : Int) : Option ((Nat ⊕ Unit) × CW) := xB (f_X3_need z n C) fun _ C4 => some (Sum.inr (), C4)
theorem c_nd {C : CW} {x : VC} {qf qs : List Nat} {qm p n w : Nat} {g : Bool} {z : Int} (c : SCx C x qf qs qm p) (hn : n ≠ 0) (hz : z = b2i g) (hw : w = if g = true then 0 else n) {o : Option ((Nat ⊕ Unit) × CW)} (ho : o = ND C z n) : OpR C p w o := by
  subst hz ho hw
  unfold ND
  rcases c_need c (FrN.r C) g n with ⟨h1, h2⟩ | ⟨h1, q, C', h2, h3⟩
  · rw [h2, xB_r, h1]
    exact Or.inl ⟨rfl, rfl⟩
  · rw [h2, xB_l, h1]
    exact Or.inr ⟨hn, q, C', rfl, h3⟩
theorem w_hi {x : VC} {op i : Nat} (h : ¬ (op = 21 ∨ op = 22 ∨ op = 25 ∨ op = 54 ∨ op = 55 ∨ op = 58 ∨ op = 132)) : w70 x op i = w125 x op i := by
  unfold w70 isLo
  rw [decide_eq_false h, if_neg (fun h => Bool.noConfusion h.1)]
theorem w_125 {x : VC} {op i : Nat} (h : ¬ (178 ≤ op ∧ op ≤ 181)) : w125 x op i = w184 x op i := by
  unfold w125; rw [if_neg (fun k => h k.1)]
theorem w_184 {x : VC} {op i : Nat} (h : ¬ (op = 183 ∨ op = 187)) : w184 x op i = w232 x op i := by
  unfold w184; rw [if_neg (fun k => h k.1)]
theorem w_232 {x : VC} {op i : Nat} (h : ¬ (op = 189 ∨ op = 192 ∨ op = 193)) : w232 x op i = w264 x op i := by
  unfold w232; rw [if_neg (fun k => h k.1)]
theorem w_264 {x : VC} {op i : Nat} (h : op ≠ 184) : w264 x op i = w305 op i := by
  unfold w264; rw [if_neg (fun k => h k.1)]
theorem w_305 {op i : Nat} (h : op ≠ 188) : w305 op i = 0 := by
  unfold w305; rw [if_neg (fun k => h k.1)]
theorem w_lo {x : VC} {op i : Nat} (h : op = 21 ∨ op = 22 ∨ op = 25 ∨ op = 54 ∨ op = 55 ∨ op = 58 ∨ op = 132) : w70 x op i = if rL (xm_ x) ≤ i + (if op = 22 ∨ op = 55 then 1 else 0) then 2 else 0 := by
  have z : w125 x op i = 0 := by rw [w_125 (by omega), w_184 (by omega), w_232 (by omega), w_264 (by omega), w_305 (by omega)]
  unfold w70 isLo
  rw [decide_eq_true h, z]
  by_cases e : rL (xm_ x) ≤ i + (if op = 22 ∨ op = 55 then 1 else 0)
  · rw [if_pos ⟨rfl, e⟩, if_pos e]
  · rw [if_neg (fun k => e k.2), if_neg e]
theorem c_operand {C : CW} {x : VC} {qf qs : List Nat} {qm p op i : Nat} (c : SCx C x qf qs qm p) (hop : op = rC (xm_ x) p) (hi : i < 256) (h0 : 0 < szo op) (hN : p + szo op ≤ rN (xm_ x)) (h132 : op ≠ 132 → i = opi (rC (xm_ x)) p ∨ szo op ≠ 2) : OpR C p (w70 x op (opi (rC (xm_ x)) p)) (f_X3_operand (op : Int) (i : Int) C) := by
  obtain ⟨c1, ⟨f1, f2, f3, f4⟩, ⟨m1, m2, m3, m4, m5⟩, ⟨o1, o2, o3, o4⟩, p8, _, _, r1, r2⟩ := id c
  have l12 := c.rL
  have n16 := c.n16
  have hN120 : rN (xm_ x) ≤ 120 := c.xz
  have o256 : op < 256 := by rw [hop]; exact o3.2.2.2.2.2.2 p
  have oL : hI C qm 4 = (rL (xm_ x) : Int) := o2.2.2.2.2.2.2
  by_cases hA : op = 21 ∨ op = 25 ∨ op = 54 ∨ op = 58
  · have s2 : szo op = 2 := by rcases hA with h | h | h | h <;> rw [h] <;> rfl
    have ei : i = opi (rC (xm_ x)) p := by have := h132 (by omega); omega
    have e : f_X3_operand (op : Int) (i : Int) C = f_X3_operand_b156 i C := by
      unfold f_X3_operand
      rw [w32_n op (by omega)]
      rcases hA with h | h | h | h
      all_goals simp (disch := omega) only [lsw_n, lsw_y]
    rw [e, w_lo (by omega), if_neg (show ¬ (op = 22 ∨ op = 55) by omega), ← ei]
    unfold f_X3_operand_b156 f_X3_operand_b173
    rw [rd_k, o1, dr_k, gd_e o2.1, rd_k, oL, w32_n _ (by omega), w32_n i (by omega)]
    by_cases g : rL (xm_ x) ≤ i
    · rw [if_pos (by omega), if_pos (by omega)]
      exact c_nd (n := 2) (g := false) c (by decide) rfl rfl rfl
    · rw [if_neg (by omega), if_neg (by omega)]
      exact c_nd (n := 2) (g := true) c (by decide) rfl rfl rfl
  by_cases hBb : op = 22 ∨ op = 55
  · have s2 : szo op = 2 := by rcases hBb with h | h <;> rw [h] <;> rfl
    have ei : i = opi (rC (xm_ x)) p := by have := h132 (by omega); omega
    have e : f_X3_operand (op : Int) (i : Int) C = f_X3_operand_b216 i C := by
      unfold f_X3_operand
      rw [w32_n op (by omega)]
      rcases hBb with h | h
      all_goals simp (disch := omega) only [lsw_n, lsw_y]
    rw [e, w_lo (by omega), if_pos hBb, ← ei]
    unfold f_X3_operand_b216 f_X3_operand_b235
    rw [rd_k, o1, dr_k, gd_e o2.1, rd_k, oL, w32_n _ (by omega), w32_i (by omega)]
    by_cases g : rL (xm_ x) ≤ i + 1
    · rw [if_pos (by omega), if_pos (by omega)]
      exact c_nd (n := 2) (g := false) c (by decide) rfl rfl rfl
    · rw [if_neg (by omega), if_neg (by omega)]
      exact c_nd (n := 2) (g := true) c (by decide) rfl rfl rfl
  by_cases hC : op = 132
  · have s3 : szo op = 3 := by rw [hC]; rfl
    have eo : opi (rC (xm_ x)) p = rC (xm_ x) (p + 1) := by unfold opi; rw [← hop, s3, if_neg (by decide)]
    rw [w_lo (by omega), if_neg (show ¬ (op = 22 ∨ op = 55) by omega), eo]
    have b256 := o3.2.2.2.2.2.2 (p + 1)
    unfold f_X3_operand f_X3_operand_b209
    rw [w32_n op (by omega)]
    simp (disch := omega) only [lsw_n, lsw_y]
    rw [rd_k, o1, rd_k, p8, dr_k, gd_e o2.1, c_at o2 hN120 (k := p + 1) (by omega) (by omega), cB_k, rd_k, o1, dr_k, gd_e o2.1, rd_k, oL, w32_n _ (by omega), w32_n _ (by omega)]
    by_cases g : rL (xm_ x) ≤ rC (xm_ x) (p + 1)
    · rw [if_pos (by omega), if_pos (by omega)]
      exact c_nd (n := 2) (g := false) c (by decide) rfl rfl rfl
    · rw [if_neg (by omega), if_neg (by omega)]
      exact c_nd (n := 2) (g := true) c (by decide) rfl rfl rfl
  have hlo : ¬ (op = 21 ∨ op = 22 ∨ op = 25 ∨ op = 54 ∨ op = 55 ∨ op = 58 ∨ op = 132) := by omega
  rw [w_hi hlo]
  by_cases hD : 178 ≤ op ∧ op ≤ 181
  · have s2 : szo op = 2 := by
      have : op = 178 ∨ op = 179 ∨ op = 180 ∨ op = 181 := by omega
      rcases this with h | h | h | h <;> rw [h] <;> rfl
    have ei : i = opi (rC (xm_ x)) p := by have := h132 (by omega); omega
    have zz : w184 x op i = 0 := by rw [w_184 (by omega), w_232 (by omega), w_264 (by omega), w_305 (by omega)]
    have hw : w125 x op i = if (decide (i < fN (xF_ x)) && (fS (xF_ x) i == decide (op < 180))) = true then 0 else 3 := by
      unfold w125
      by_cases g : fN (xF_ x) ≤ i
      · rw [if_pos ⟨hD, Or.inl g⟩, decide_eq_false (show ¬ i < fN (xF_ x) by omega), Bool.false_and, if_neg (by decide)]
      · rw [decide_eq_true (show i < fN (xF_ x) by omega), Bool.true_and]
        by_cases g2 : fS (xF_ x) i = decide (op < 180)
        · rw [if_neg (fun h => h.2.elim g (fun k => k g2)), zz, g2, beq_self_eq_true, if_pos rfl]
        · rw [if_pos ⟨hD, Or.inr g2⟩, beq_eq_false_iff_ne.mpr g2, if_neg (by decide)]
    rw [← ei]
    have fn16 := f4.1
    have sz := c_size f1
    have get : ∀ (h : i < fN (xF_ x)), ∃ q, f_J2_get (hB C + 4) (i : Int) C = some (some q, C) ∧ hK C q = 8 ∧ hI C q 3 = b2i (fS (xF_ x) i) := by
      intro h
      have e1 : qf[i]? = some (qf[i]'(by omega)) := List.getElem?_eq_getElem _
      have k := f3 _ _ e1
      exact ⟨_, c_get f1 e1 rfl, k.1, k.2.2.2.2⟩
    by_cases hD1 : op < 180
    · have e : f_X3_operand (op : Int) (i : Int) C = f_X3_operand_b242 i C := by
        unfold f_X3_operand
        rw [w32_n op (by omega)]
        have : op = 178 ∨ op = 179 := by omega
        rcases this with h | h
        all_goals simp (disch := omega) only [lsw_n, lsw_y]
      rw [e]
      unfold f_X3_operand_b242 f_X3_operand_b275 f_X3_operand_b276
      rw [dr_k, gd_e f1.1, sz, cB_k, w32_n _ (by omega), w32_n i (by omega), f2]
      by_cases g : fN (xF_ x) ≤ i
      · rw [if_pos (by omega)]
        exact c_nd (n := 3) (g := false) c (by decide) rfl (by rw [hw, decide_eq_false (show ¬ i < fN (xF_ x) by omega), Bool.false_and]) rfl
      · obtain ⟨q, g1, g2, g3⟩ := get (by omega)
        rw [if_neg (by omega), dr_k, gd_e f1.1, g1, cB_k, gd_p (by show (hK C q == 8) = true; rw [g2]; rfl), dr_k, gd_e g2, rd_k, g3, ite_b]
        cases hs : fS (xF_ x) i with
        | true => rw [if_pos rfl]; exact c_nd (n := 3) (g := true) c (by decide) rfl (by rw [hw, decide_eq_true (show i < fN (xF_ x) by omega), hs, decide_eq_true hD1]; rfl) rfl
        | false => rw [if_neg (by decide)]; exact c_nd (n := 3) (g := false) c (by decide) rfl (by rw [hw, decide_eq_true (show i < fN (xF_ x) by omega), hs, decide_eq_true hD1]; rfl) rfl
    · have e : f_X3_operand (op : Int) (i : Int) C = f_X3_operand_b283 i C := by
        unfold f_X3_operand
        rw [w32_n op (by omega)]
        have : op = 180 ∨ op = 181 := by omega
        rcases this with h | h
        all_goals simp (disch := omega) only [lsw_n, lsw_y]
      rw [e]
      unfold f_X3_operand_b283 f_X3_operand_b316 f_X3_operand_b317
      rw [dr_k, gd_e f1.1, sz, cB_k, w32_n _ (by omega), w32_n i (by omega), f2]
      by_cases g : fN (xF_ x) ≤ i
      · rw [if_pos (by omega)]
        exact c_nd (n := 3) (g := false) c (by decide) rfl (by rw [hw, decide_eq_false (show ¬ i < fN (xF_ x) by omega), Bool.false_and]) rfl
      · obtain ⟨q, g1, g2, g3⟩ := get (by omega)
        rw [if_neg (by omega), dr_k, gd_e f1.1, g1, cB_k, gd_p (by show (hK C q == 8) = true; rw [g2]; rfl), dr_k, gd_e g2, rd_k, g3, ite_b]
        cases hs : fS (xF_ x) i with
        | true => rw [if_pos rfl]; exact c_nd (n := 3) (g := false) c (by decide) rfl (by rw [hw, decide_eq_true (show i < fN (xF_ x) by omega), hs, decide_eq_false hD1]; rfl) rfl
        | false => rw [if_neg (by decide)]; exact c_nd (n := 3) (g := true) c (by decide) rfl (by rw [hw, decide_eq_true (show i < fN (xF_ x) by omega), hs, decide_eq_false hD1]; rfl) rfl
  rw [w_125 hD]
  by_cases hE : op = 183 ∨ op = 187
  · have s2 : szo op = 2 := by rcases hE with h | h <;> rw [h] <;> rfl
    have ei : i = opi (rC (xm_ x)) p := by have := h132 (by omega); omega
    have zz : w232 x op i = 0 := by rw [w_232 (by omega), w_264 (by omega), w_305 (by omega)]
    have e : f_X3_operand (op : Int) (i : Int) C = f_X3_operand_b365 i C := by
      unfold f_X3_operand
      rw [w32_n op (by omega)]
      rcases hE with h | h
      all_goals simp (disch := omega) only [lsw_n, lsw_y]
    rw [e, ← ei]
    unfold f_X3_operand_b365 f_X3_operand_b393 f_X3_operand_b394
    rw [c_has c1 (w32_n i (by omega)), cB_k, ite_bd]
    by_cases g : hn (xH_ x) ≤ i
    · rw [if_neg (by omega)]
      exact c_nd (n := 3) (g := false) c (by decide) rfl (by unfold w184; rw [if_pos ⟨hE, Or.inl g⟩]; rfl) rfl
    · rw [if_pos (by omega), ax_k (by omega), Int.toNat_natCast, rd_k, c1.2.2.2.2 i (by omega), ite_b]
      cases hs : hf (xH_ x) i with
      | true => rw [if_pos rfl]; exact c_nd (n := 3) (g := false) c (by decide) rfl (by unfold w184; rw [if_pos ⟨hE, Or.inr hs⟩]; rfl) rfl
      | false => rw [if_neg (by decide)]; exact c_nd (n := 3) (g := true) c (by decide) rfl (by unfold w184; rw [if_neg (fun h => h.2.elim g (fun k => by rw [hs] at k; cases k)), zz]; rfl) rfl
  rw [w_184 hE]
  by_cases hF : op = 189 ∨ op = 192 ∨ op = 193
  · have s2 : szo op = 2 := by rcases hF with h | h | h <;> rw [h] <;> rfl
    have ei : i = opi (rC (xm_ x)) p := by have := h132 (by omega); omega
    have zz : w264 x op i = 0 := by rw [w_264 (by omega), w_305 (by omega)]
    have e : f_X3_operand (op : Int) (i : Int) C = f_X3_operand_b426 i C := by
      unfold f_X3_operand
      rw [w32_n op (by omega)]
      rcases hF with h | h | h
      all_goals simp (disch := omega) only [lsw_n, lsw_y]
    rw [e, ← ei]
    unfold f_X3_operand_b426
    rw [c_has c1 (w32_n i (by omega)), cB_k]
    refine c_nd (n := 3) (g := decide (0 ≤ (i : Int) ∧ (i : Int) < hn (xH_ x))) c (by decide) rfl ?_ rfl
    unfold w232
    by_cases g : hn (xH_ x) ≤ i
    · rw [if_pos ⟨hF, g⟩, decide_eq_false (by omega)]; rfl
    · rw [if_neg (fun h => g h.2), zz, decide_eq_true (by omega)]; rfl
  rw [w_232 hF]
  by_cases hG : op = 184
  · have s2 : szo op = 2 := by rw [hG]; rfl
    have ei : i = opi (rC (xm_ x)) p := by have := h132 (by omega); omega
    have zz : w305 op i = 0 := w_305 (by omega)
    rw [← ei]
    unfold f_X3_operand f_X3_operand_b357 f_X3_operand_b358
    rw [w32_n op (by omega)]
    simp (disch := omega) only [lsw_n, lsw_y]
    rw [dr_k, gd_e m1.1, c_size m1, cB_k, w32_n _ (by omega), w32_n i (by omega), m2]
    by_cases g : (xM_ x).length ≤ i
    · rw [if_pos (by omega)]
      exact c_nd (n := 3) (g := false) c (by decide) rfl (by unfold w264 zN; rw [List.getElem?_eq_none g, if_pos ⟨hG, rfl⟩]; rfl) rfl
    · have e1 : qs[i]? = some (qs[i]'(by omega)) := List.getElem?_eq_getElem _
      have e2 : (xM_ x)[i]? = some ((xM_ x)[i]'(by omega)) := List.getElem?_eq_getElem _
      have k := m4 _ _ _ e1 e2
      have ez : zN x i = rN ((xM_ x)[i]'(by omega)) := by unfold zN; rw [e2]
      rw [if_neg (by omega), dr_k, gd_e m1.1, c_get m1 e1 rfl, cB_k, gd_p (by show (hK C (qs[i]'(by omega)) == 7) = true; rw [k.1]; rfl), dr_k, gd_e k.1, rd_k]
      by_cases g2 : zN x i = 0
      · rw [k.2.2.2.1 (by omega)]
        exact c_nd (n := 3) (g := false) c (by decide) rfl (by unfold w264; rw [if_pos ⟨hG, g2⟩]; rfl) rfl
      · obtain ⟨ac, a1, _⟩ := k.2.2.2.2.1 (by omega)
        rw [a1]
        exact c_nd (n := 3) (g := true) c (by decide) rfl (by unfold w264; rw [if_neg (fun h => g2 h.2), zz]; rfl) rfl
  rw [w_264 hG]
  by_cases hH : op = 188
  · have s2 : szo op = 2 := by rw [hH]; rfl
    have ei : i = opi (rC (xm_ x)) p := by have := h132 (by omega); omega
    rw [← ei]
    unfold f_X3_operand f_X3_operand_b414 f_X3_operand_b419
    rw [w32_n op (by omega)]
    simp (disch := omega) only [lsw_n, lsw_y]
    rw [w32_n i (by omega), show w32 10 = 10 by decide, show w32 11 = 11 by decide]
    by_cases g : i = 10 ∨ i = 11
    · have hw : w305 op i = if true = true then 0 else 3 := by unfold w305; rw [if_neg (fun h => h.2 g)]; rfl
      rcases g with g | g
      · rw [if_pos (by omega)]; exact c_nd (n := 3) (g := true) c (by decide) rfl hw rfl
      · rw [if_neg (by omega), if_pos (by omega)]; exact c_nd (n := 3) (g := true) c (by decide) rfl hw rfl
    · rw [if_neg (by omega), if_neg (by omega)]
      exact c_nd (n := 3) (g := false) c (by decide) rfl (by unfold w305; rw [if_pos ⟨hH, g⟩]; rfl) rfl
  · refine Or.inl ⟨w_305 hH, ?_⟩
    unfold f_X3_operand
    rw [w32_n op (by omega)]
    simp (disch := omega) only [lsw_n, lsw_0]
