/-! LAYER C: the component's form, whole -/
theorem c_fo3 {C1 C : CW} {x : VC} {qf qs qh : List Nat} {qm hl : Nat} {B : Nat → Bool} (hf : FCp C x qf qs qm hl qh) (cs : CsE C1 C) (hb : BgC C B) (hw : ∀ h ∈ rH (xm_ x), HdW (hn (xH_ x)) h) (r1 : hZ C + 1 ≤ 600384) (r2 : hS C + 8 ≤ 7290858) : ∀ (l : List HD) (i n : Nat), (rH (xm_ x)).drop i = l → i ≤ (rH (xm_ x)).length → (rH (xm_ x)).length < n + i →
    match fo3 x B i l with
    | some h => ∃ q C', f_X3_form_b237 n (rN (xm_ x) : Int) (i : Int) C = some (.inl q, C') ∧ FxF C1 C' q 5 h
    | none => f_X3_form_b237 n (rN (xm_ x) : Int) (i : Int) C = some (.inr (), C) := by
  obtain ⟨z, z2, c1, f, m, ⟨o1, o2, o3, o4⟩, _, h1, h2, h3, h4, h5⟩ := id hf
  have hN : rN (xm_ x) ≤ 120 := o3.2.2.2.1
  intro l
  induction l with
  | nil =>
    intro i n hd hi hn
    obtain ⟨n, rfl⟩ : ∃ k, n = k + 1 := ⟨n - 1, by omega⟩
    have ei : i = (rH (xm_ x)).length := by
      have := congrArg List.length hd
      rw [List.length_drop] at this
      have e0 : ([] : List HD).length = 0 := rfl
      omega
    show f_X3_form_s237 (f_X3_form_b237 n) (rN (xm_ x) : Int) (i : Int) C = some (.inr (), C)
    unfold f_X3_form_s237
    rw [rd_k, o1, dr_k, gd_e o2.1, rd_k, h1, dr_k, gd_e h2.1, c_size h2, cB_k, w32_n _ (by omega), w32_n _ (by omega), if_pos (by omega)]
  | cons h l ih =>
    intro i n hd hi hn
    obtain ⟨n, rfl⟩ : ∃ k, n = k + 1 := ⟨n - 1, by omega⟩
    have hk : i < (rH (xm_ x)).length := by
      have := congrArg List.length hd
      rw [List.length_drop] at this
      have e0 : (h :: l).length = l.length + 1 := rfl
      omega
    have ht : (rH (xm_ x))[i]? = some h := by
      have : ((rH (xm_ x)).drop i)[0]? = some h := by rw [hd]; rfl
      rw [List.getElem?_drop] at this
      exact this
    have hd2 : (rH (xm_ x)).drop (i + 1) = l := by
      rw [← List.drop_drop, hd]; rfl
    have hq : qh[i]? = some (qh[i]'(by omega)) := List.getElem?_eq_getElem _
    obtain ⟨g0, g1, g2, g3, g4⟩ := h5 i _ h hq ht
    obtain ⟨b1, b2, b3, _⟩ := hw h (List.mem_of_getElem? ht)
    have R := ih (i + 1) n hd2 (by omega) (by omega)
    generalize hqe : qh[i]'(by omega) = q0 at hq g0 g1 g2 g3 g4
    have en : ((i + 1 : Nat) : Int) = (i : Int) + 1 := by omega
    have fin : ∀ z : Bool, hdOk x B h = z → match fo3 x B i (h :: l) with
        | some h => ∃ q C', f_X3_form_b330 (f_X3_form_b237 n) (rN (xm_ x) : Int) (i : Int) (b2i z) C = some (.inl q, C') ∧ FxF C1 C' q 5 h
        | none => f_X3_form_b330 (f_X3_form_b237 n) (rN (xm_ x) : Int) (i : Int) (b2i z) C = some (.inr (), C) := by
      intro z hz
      unfold f_X3_form_b330
      rcases c_hold (C := C) z 5 i r1 r2 with ⟨k1, k2⟩ | ⟨k1, C', k2, k3, k4, k5⟩
      · rw [k2, xB_r, show fo3 x B i (h :: l) = fo3 x B (i + 1) l from if_pos (by rw [hz, k1]), ← en]
        exact R
      · rw [k2, xB_l, show fo3 x B i (h :: l) = some i from if_neg (by rw [hz, k1]; decide)]
        exact ⟨_, C', rfl, FXc.ff ⟨C, FrN.r C, k3, k4, k5⟩ cs⟩
    rw [show f_X3_form_b237 (n + 1) (rN (xm_ x) : Int) (i : Int) C = f_X3_form_s237 (f_X3_form_b237 n) (rN (xm_ x) : Int) (i : Int) C from rfl]
    unfold f_X3_form_s237
    rw [rd_k, o1, dr_k, gd_e o2.1, rd_k, h1, dr_k, gd_e h2.1, c_size h2, cB_k, w32_n _ (by omega), w32_n i (by omega), if_neg (by omega), rd_k, o1, dr_k, gd_e o2.1, rd_k, h1, dr_k, gd_e h2.1, c_get h2 hq rfl, cB_k, gd_p (by show (hK C q0 == 9) = true; rw [g0]; rfl), dr_k, gd_e g0, rd_k, g1, dr_k, gd_e g0, rd_k, g2, w32_n _ (by omega), w32_n _ (by omega)]
    by_cases e : dF h < dT h
    · rw [if_neg (by omega), dr_k, gd_e g0, rd_k, g1, c_isStart hf hb (by omega), cB_k, ite_b]
      cases e1 : stB x B (dF h : Int) with
      | false =>
        rw [if_neg (by decide)]
        exact fin false (by unfold hdOk; rw [e1, Bool.false_and, Bool.and_false])
      | true =>
        rw [if_pos rfl, dr_k, gd_e g0, rd_k, g3, c_isStart hf hb (by omega), cB_k, ite_b]
        cases e2 : stB x B (dP h : Int) with
        | false =>
          rw [if_neg (by decide)]
          exact fin false (by unfold hdOk; rw [e2, Bool.false_and, Bool.and_false, Bool.and_false])
        | true =>
          rw [if_pos rfl, dr_k, gd_e g0, rd_k, g2, w32_n _ (by omega), w32_n _ (by omega)]
          by_cases e3 : dT h = rN (xm_ x)
          · rw [if_pos (by omega)]
            exact fin true (by unfold hdOk; rw [e1, e2, decide_eq_true e, decide_eq_true e3]; rfl)
          · rw [if_neg (by omega), dr_k, gd_e g0, rd_k, g2, c_isStart hf hb (by omega), cB_k, ite_b]
            cases e4 : stB x B (dT h : Int) with
            | false =>
              rw [if_neg (by decide)]
              exact fin false (by unfold hdOk; rw [e4, decide_eq_false e3]; simp)
            | true =>
              rw [if_pos rfl]
              exact fin true (by unfold hdOk; rw [e1, e2, e4, decide_eq_true e]; simp)
    · rw [if_pos (by omega)]
      exact fin false (by unfold hdOk; rw [decide_eq_false e, Bool.false_and])
theorem c_fo0 {C1 : CW} {y : Int} : ∀ (n k : Nat) (C : CW), k ≤ 121 → 121 < n + k → CsE C1 C → (∀ j, j < k → cI C 205 j = 0) → ∃ C', f_X3_form_b16 n y (k : Int) C = f_X3_form_b40 FU y C' ∧ CsE C1 C' ∧ cI C' 204 8 = 0 ∧ ∀ j, j < 121 → cI C' 205 j = 0 := by
  intro n
  induction n with
  | zero => intro k C h1 h2; omega
  | succ n ih =>
    intro k C h1 h2 cs hz
    show ∃ C', f_X3_form_s16 (f_X3_form_b16 n) y (k : Int) C = _ ∧ _
    unfold f_X3_form_s16
    rw [w32_n k (by omega), show w32 120 = 120 by decide]
    by_cases e : k = 121
    · rw [if_pos (by omega), rd_k]
      exact ⟨_, rfl, cs.st (Or.inr ⟨rfl, rfl⟩), cI_scsI rfl, fun j hj => by rw [cI_ocsI (by omega)]; exact hz j (by omega)⟩
    · rw [if_neg (by omega), ax_k (by omega), Int.toNat_natCast, show iAnd 0 1 = 0 by decide +kernel, rd_k]
      exact ih (k + 1) _ (by omega) (by omega) (cs.st (Or.inl rfl)) (fun j hj => by
        by_cases ej : j = k
        · rw [ej, cI_scsI rfl]
        · rw [cI_ocsI (by omega)]; exact hz j (by omega))
theorem c_form {C C1 : CW} {x : VC} {qf qs qh : List Nat} {qm hl : Nat} (e1 : C1 = csR C 204 7 (some qm)) (hf1 : FCp C1 x qf qs qm hl qh) (hw : ∀ h ∈ rH (xm_ x), HdW (hn (xH_ x)) h) (r1 : hZ C1 + 1 ≤ 600384) (r2 : hS C1 + 8 ≤ 7290858) :
    match form x with
    | .inl e => ∃ q C', f_X3_form (some qm) C = some (.inl q, C') ∧ FxF C1 C' q e.1 e.2
    | .inr B => ∃ C', f_X3_form (some qm) C = some (.inr (), C') ∧ CsE C1 C' ∧ BgC C' B := by
  obtain ⟨z, z2, c1, f, m, ⟨o1, o2, o3, o4⟩, _⟩ := id hf1
  obtain ⟨ac, a1, a2, a3, _⟩ := o2.2.2.2.2.1 o4
  have hN : rN (xm_ x) ≤ 120 := o3.2.2.2.1
  obtain ⟨C2, s1, s2, s3, s4⟩ := c_fo0 (C1 := C1) (y := (rN (xm_ x) : Int)) FU 0 C1 (by omega) (by rw [FU_v]; omega) (CsE.r _) (fun j hj => by omega)
  have top : f_X3_form (some qm) C = f_X3_form_b40 FU (rN (xm_ x) : Int) C2 := by
    unfold f_X3_form
    rw [rd_k, ← e1, rd_k, o1, dr_k, gd_e o2.1, rd_k, a1, dr_k, gd_l (by omega), rd_k, a3]
    exact s1
  have kz : ∀ C', CsE C1 C' → hZ C' = hZ C1 ∧ hS C' = hS C1 := fun C' cs => ⟨cs.2.2.2.2.2.2.2.2.1, cs.2.2.2.2.2.2.2.2.2.1⟩
  have G := c_fo1 hf1 r1 r2 121 FU 0 (fun _ => false) C2 (by omega) (by rw [FU_v]; omega) (by omega) s2 s3 (fun j hj => by rw [s4 j hj]; rfl)
  rw [top]
  unfold form
  cases e : fo1 x 121 0 (fun _ => false) with
  | inl e1 => rw [e] at G; exact G
  | inr B =>
    rw [e] at G
    dsimp only
    obtain ⟨C3, g1, g2, g3, g4⟩ := G
    have fB := fo1_B 121 0 _ _ (by omega) (⟨by omega, fun h => by omega, fun q hq => by cases hq⟩) e
    have G2 := c_fo2 fB hf1 r1 r2 121 FU 0 C3 (by omega) (by rw [FU_v]; omega) (by omega) g2 g3 g4
    rw [g1]
    cases e2 : fo2 x B 121 0 with
    | some p =>
      rw [e2] at G2
      exact G2
    | none =>
      rw [e2] at G2
      dsimp only at G2 ⊢
      obtain ⟨C4, i1, i2, i3⟩ := G2
      have k4 := kz C4 i2
      rw [i1]
      have G3 := c_fo3 (hf1.cs i2) i2 i3 hw (by omega) (by omega) (rH (xm_ x)) 0 FU rfl (by omega) (by have h := hf1.2.2.2.2.2.2.2.2.2; rw [FU_v]; omega)
      cases e3 : fo3 x B 0 (rH (xm_ x)) with
      | some h =>
        rw [e3] at G3
        exact G3
      | none =>
        rw [e3] at G3
        exact ⟨C4, G3, i2, i3⟩
