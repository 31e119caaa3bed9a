/-! LAYER C: the model's instruction on types: numbers, branches, returns, fields, calls -/
theorem iAnd1_all : ∀ op : Fin 256, iAnd ((op.val : Nat) : Int) 1 = ((op.val % 2 : Nat) : Int) := by decide +kernel
theorem iAnd1 {op : Nat} (h : op < 256) : iAnd (op : Int) 1 = ((op % 2 : Nat) : Int) := iAnd1_all ⟨op, h⟩
theorem m_comp {M0 M : MW} {x : VC} {a t : Nat} {s : TS} (c : SMx M0 x a) (h : SimM M0 M x s) (ht : t = 1 ∨ t = 2) (z : Int) (hz : z = (t : Int)) : ∃ M', f_X6_reckon_b17 z M = some ((), M') ∧ SE M0 M' x (sComp (xH_ x) (rS (xm_ x)) t s) := by
  have tv : tyV (hn (xH_ x)) (xz x) t := Or.inl (by omega)
  unfold f_X6_reckon_b17
  obtain ⟨M1, e1, k1⟩ := m_wantI (r := .inr s) c h t tv z hz
  obtain ⟨M2, e2, k2⟩ := m_wantI c k1 t tv z hz
  obtain ⟨M3, e3, k3⟩ := m_pushI c k2 t tv z hz
  rw [e1, mB_k, e2, mB_k, e3, mB_k]
  rw [sB_a] at k3
  exact ⟨M3, rfl, k3⟩
theorem m_reckon {M0 M : MW} {x : VC} {a p op : Nat} {s : TS} (c : SMx M0 x a) (hp : mI M0 0 34 = (p : Int)) (hp2 : p + szo op ≤ xz x) (h : SimM M0 M x s) (hop : (op = 96 ∨ op = 97 ∨ op = 100 ∨ op = 101 ∨ op = 104 ∨ op = 105 ∨ op = 108 ∨ op = 109) ∨ op = 132 ∨ op = 133 ∨ op = 136 ∨ op = 148) (hi : op = 132 → rC (xm_ x) (p + 1) < rL (xm_ x)) : ∃ M', f_X6_reckon (op : Int) M = some ((), M') ∧ SE M0 M' x (if op ≤ 109 then sComp (xH_ x) (rS (xm_ x)) (if op % 4 = 0 then 1 else 2) s else sNum (xH_ x) (rS (xm_ x)) op (rC (xm_ x) (p + 1)) s) := by
  unfold f_X6_reckon
  rcases hop with ho | rfl | rfl | rfl | rfl
  · have e110 : ¬ w32 110 ≤ w32 (op : Int) := by rw [w32_n op (by omega), show w32 110 = 110 by decide]; omega
    rw [if_neg e110, if_pos (by omega : op ≤ 109), iAnd1 (by omega), w32_n _ (by omega)]
    by_cases h4 : op % 4 = 0
    · rw [if_pos (by omega), if_pos h4]
      exact m_comp c h (Or.inl rfl) 1 rfl
    · rw [if_neg (by omega), if_neg h4]
      exact m_comp c h (Or.inr rfl) 2 rfl
  · have cM := c.mv h.1
    have hL := c.rL
    have hi' := hi rfl
    have hs := h.2.2.2.2.2.1.1 (rC (xm_ x) (p + 1))
    have sl := tyV_lt hs c.n16 c.xz
    have ha := c.2.2.2.1
    have hz := c.xz
    have s132 : szo 132 = 3 := by decide
    rw [s132] at hp2
    rw [if_pos (by decide), if_pos (by decide), rd_k, cM.2.2.2.2.1, rd_k, h.1.2.2 34 (by omega) (by omega), hp]
    unfold f_X6_at
    rw [ax_k (by omega), rd_k, show (120 * (a : Int) + ((p : Int) + 1)).toNat = 120 * a + (p + 1) by omega, cM.so.2.2.2.2.2.2.2 (p + 1) (by omega), mB_k, ax_k (by omega), rd_k, Int.toNat_natCast, h.2.1 _ hi', w32_n _ (by omega), show w32 1 = 1 by decide]
    show ∃ M', _ ∧ SE M0 M' x (if s.1 (rC (xm_ x) (p + 1)) = 1 then .inr s else .inl 6)
    by_cases q : s.1 (rC (xm_ x) (p + 1)) = 1
    · rw [if_pos (by omega), if_pos q]
      exact ⟨M, rfl, h⟩
    · obtain ⟨M1, e1, k1⟩ := m_miss6 h c.rS
      rw [if_neg (by omega), if_neg q, e1, mB_k]
      exact ⟨M1, rfl, k1⟩
  · show ∃ M', f_X6_reckon_b113 133 1 M = _ ∧ SE M0 M' x (sB (sWant (xH_ x) 1 s) fun s => sPush (rS (xm_ x)) 2 s)
    unfold f_X6_reckon_b113 f_X6_reckon_b129
    obtain ⟨M1, e1, k1⟩ := m_wantI (r := .inr s) c h 1 (tyV_1 _ _) 1 rfl
    obtain ⟨M2, e2, k2⟩ := m_pushI c k1 2 (tyV_2 _ _) 2 rfl
    rw [e1, mB_k, if_pos rfl, e2, mB_k]
    exact ⟨M2, rfl, k2⟩
  · show ∃ M', f_X6_reckon_b113 136 2 M = _ ∧ SE M0 M' x (sB (sWant (xH_ x) 2 s) fun s => sPush (rS (xm_ x)) 1 s)
    unfold f_X6_reckon_b113 f_X6_reckon_b129
    obtain ⟨M1, e1, k1⟩ := m_wantI (r := .inr s) c h 2 (tyV_2 _ _) 2 rfl
    obtain ⟨M2, e2, k2⟩ := m_pushI c k1 1 (tyV_1 _ _) 1 rfl
    rw [e1, mB_k, if_neg (by decide), e2, mB_k]
    exact ⟨M2, rfl, k2⟩
  · show ∃ M', (mB (f_X6_want 2 M) fun _ M6 => mB (f_X6_want 2 M6) fun _ M7 => mB (f_X6_push 1 M7) fun _ M8 => some ((), M8)) = _ ∧ SE M0 M' x (sB (sWant (xH_ x) 2 s) fun s => sB (sWant (xH_ x) 2 s) fun s => sPush (rS (xm_ x)) 1 s)
    obtain ⟨M1, e1, k1⟩ := m_wantI (r := .inr s) c h 2 (tyV_2 _ _) 2 rfl
    obtain ⟨M2, e2, k2⟩ := m_wantI c k1 2 (tyV_2 _ _) 2 rfl
    obtain ⟨M3, e3, k3⟩ := m_pushI c k2 1 (tyV_1 _ _) 1 rfl
    rw [e1, mB_k, e2, mB_k, e3, mB_k]
    rw [sB_a] at k3
    exact ⟨M3, rfl, k3⟩
theorem m_refS {M0 M : MW} {x : VC} {a : Nat} {r : Nat ⊕ TS} (c : SMx M0 x a) (h : SE M0 M x r) : ∃ v M', f_X6_popReference M = some (v, M') ∧ SE M0 M' x (sB r fun s => sB (sRef s) fun a => .inr a.2) := by
  obtain ⟨v, M', e, k⟩ := m_ref c h
  refine ⟨v, M', e, ?_⟩
  have := k.snd
  rw [sB_a] at this
  exact this
theorem m_test {M0 M : MW} {x : VC} {a op : Nat} {s : TS} (c : SMx M0 x a) (h : SimM M0 M x s) (hop : isBr op = true) : ∃ M', f_X6_test (op : Int) M = some ((), M') ∧ SE M0 M' x (sBran (xH_ x) op s) := by
  have hb := of_decide_eq_true hop
  unfold f_X6_test sBran
  rw [w32_n op (by omega), show w32 167 = 167 by decide]
  by_cases o167 : op = 167
  · rw [if_pos (by omega), if_pos o167]
    exact ⟨M, rfl, h⟩
  rw [if_neg (by omega), if_neg o167, m_in (by omega), mB_k, ite_d]
  -- one round of the loop
  have lst : ∀ (n : Nat) (k j : Nat) (M1 : MW), j = k → k < 3 → f_X6_test_b29 (n + 1) (op : Int) (j : Int) (k : Int) M1 = some ((), M1) := by
    intro n k j M1 e hk
    show f_X6_test_s29 (f_X6_test_b29 n) _ _ _ M1 = _
    unfold f_X6_test_s29
    rw [e, if_pos (Int.le_refl _)]
  have rnd : ∀ (n : Nat) (k j : Nat) (M1 : MW) (r : Nat ⊕ TS), SE M0 M1 x r → k < j → j < 3 → ∃ M2, f_X6_test_b29 (n + 1) (op : Int) (j : Int) (k : Int) M1 = f_X6_test_b29 n (op : Int) (j : Int) ((k + 1 : Nat) : Int) M2 ∧ SE M0 M2 x (sB r fun s => if 165 ≤ op then sB (sRef s) fun a => .inr a.2 else sWant (xH_ x) 1 s) := by
    intro n k j M1 r hr h1 h2
    show ∃ M2, f_X6_test_s29 (f_X6_test_b29 n) _ _ _ M1 = _ ∧ _
    unfold f_X6_test_s29 f_X6_test_b55
    rw [w32_n j (by omega), w32_n k (by omega), w32_n op (by omega), show w32 165 = 165 by decide, if_neg (by omega)]
    by_cases o : 165 ≤ op
    · obtain ⟨v, M2, e2, k2⟩ := m_refS c hr
      rw [if_pos (by omega), e2, mB_k]
      simp only [if_pos o]
      exact ⟨M2, rfl, k2⟩
    · obtain ⟨M2, e2, k2⟩ := m_wantI c hr 1 (tyV_1 _ _) 1 rfl
      rw [if_neg (by omega), e2, mB_k]
      simp only [if_neg o]
      exact ⟨M2, rfl, k2⟩
  unfold f_X6_test_b26
  by_cases two : (159 : Int) ≤ op ∧ (op : Int) ≤ 166
  · rw [if_pos two]
    obtain ⟨M1, e1, k1⟩ := rnd 1152921504606846975 0 2 M (.inr s) h (by omega) (by omega)
    obtain ⟨M2, e2, k2⟩ := rnd 1152921504606846974 1 2 M1 _ k1 (by omega) (by omega)
    refine ⟨M2, ?_, ?_⟩
    · exact (e1.trans e2).trans (lst 1152921504606846973 2 2 M2 rfl (by omega))
    · rw [if_neg (by omega)]
      by_cases o : 165 ≤ op
      · simp only [if_pos o, sB_i] at k2 ⊢
        rw [sB_a] at k2
        exact k2
      · simp only [if_neg o, sB_i] at k2 ⊢
        rw [if_pos (by omega)]
        exact k2
  · rw [if_neg two]
    obtain ⟨M1, e1, k1⟩ := rnd 1152921504606846975 0 1 M (.inr s) h (by omega) (by omega)
    refine ⟨M1, ?_, ?_⟩
    · exact e1.trans (lst 1152921504606846974 1 1 M1 rfl (by omega))
    · by_cases o : 165 ≤ op
      · simp only [if_pos o, sB_i] at k1 ⊢
        rw [if_pos (by omega)]
        exact k1
      · simp only [if_neg o, sB_i] at k1 ⊢
        rw [if_neg (by omega), if_neg (by omega)]
        exact k1
theorem m_leave {M0 M : MW} {x : VC} {a op : Nat} {s : TS} (c : SMx M0 x a) (h : SimM M0 M x s) (hop : op = 172 ∨ op = 173 ∨ op = 176 ∨ op = 177) : ∃ M', f_X6_leave (op : Int) M = some ((), M') ∧ SE M0 M' x (sRet (xH_ x) (rR (xm_ x)) op s) := by
  have cM := c.mv h.1
  have ha := c.2.2.2.1
  have hr : rR (xm_ x) = 0 ∨ tyT (hn (xH_ x)) (rR (xm_ x)) = true := c.so.1.2.2.1
  have rv : tyV (hn (xH_ x)) (xz x) (rR (xm_ x)) := by
    rcases hr with hr | hr
    · rw [hr]; exact Or.inl (by omega)
    · exact tyT_V hr
  have rl := tyV_lt rv c.n16 c.xz
  unfold f_X6_leave
  rw [rd_k, cM.2.2.2.2.1, ax_k (by omega), Int.toNat_natCast, rd_k, cM.so.2.2.2.1]
  have fin : ∀ (M1 : MW) (r : Nat ⊕ TS) (t : Nat), SE M0 M1 x r → t < 5 → ∃ M', f_X6_leave_b103 (rR (xm_ x) : Int) (t : Int) M1 = some ((), M') ∧ SE M0 M' x (sB r fun s => if rR (xm_ x) = t then .inr s else .inl 6) := by
    intro M1 r t hr ht
    unfold f_X6_leave_b103
    rw [w32_n _ (by omega), w32_n t (by omega)]
    by_cases e : rR (xm_ x) = t
    · rw [if_pos (by omega)]
      simp only [if_pos e, sB_id]
      exact ⟨M1, rfl, hr⟩
    · rw [if_neg (by omega)]
      simp only [if_neg e]
      obtain ⟨M2, e2, k2⟩ := m_miss hr c.rS 6 (by omega)
      rw [show (6 : Int) = ((6 : Nat) : Int) from rfl, e2, mB_k]
      refine ⟨M2, rfl, ?_⟩
      cases r with
      | inl b => exact k2
      | inr s => exact k2
  rcases hop with rfl | rfl | rfl | rfl
  · show ∃ M', f_X6_leave_b87 172 (rR (xm_ x) : Int) 1 M = _ ∧ SE M0 M' x (sB (sWant (xH_ x) 1 s) fun s => if rR (xm_ x) = 1 then .inr s else .inl 6)
    unfold f_X6_leave_b87
    obtain ⟨M1, e1, k1⟩ := m_wantI (r := .inr s) c h 1 (tyV_1 _ _) 1 rfl
    rw [e1, mB_k, if_pos rfl]
    exact fin M1 _ 1 k1 (by omega)
  · show ∃ M', f_X6_leave_b87 173 (rR (xm_ x) : Int) 2 M = _ ∧ SE M0 M' x (sB (sWant (xH_ x) 2 s) fun s => if rR (xm_ x) = 2 then .inr s else .inl 6)
    unfold f_X6_leave_b87
    obtain ⟨M1, e1, k1⟩ := m_wantI (r := .inr s) c h 2 (tyV_2 _ _) 2 rfl
    rw [e1, mB_k, if_neg (by decide)]
    exact fin M1 _ 2 k1 (by omega)
  · obtain ⟨v, M1, e1, k1⟩ := m_ref (r := .inr s) c h
    show ∃ M', (mB (f_X6_popReference M) _) = _ ∧ SE M0 M' x (sB (sRef s) fun a => if thg (rR (xm_ x)) = true ∧ fit (xH_ x) a.1 (rR (xm_ x)) = true then .inr a.2 else .inl 6)
    rw [e1, mB_k]
    rw [sB_i] at k1
    generalize sRef s = q at k1 ⊢
    cases q with
    | inl b =>
      rw [rd_k, if_neg (BadM.b k1)]
      exact ⟨M1, rfl, k1⟩
    | inr q =>
      obtain ⟨t, s1⟩ := q
      obtain ⟨k1, k2, k3⟩ := k1
      dsimp only at k1 k2 k3
      rw [rd_k, if_pos k2.z, m_isThing (by omega), mB_k, ite_b, k1, m_goesInto (c.mv k2.1).1 c.xz k3 rv, mB_k, ite_b, sB_i]
      unfold f_X6_leave_b65
      obtain ⟨M2, e2, j2⟩ := m_miss6 k2 c.rS
      cases p1 : thg (rR (xm_ x)) <;> cases p2 : fit (xH_ x) t (rR (xm_ x))
      · simp only [e2, mB_k, p2]; exact ⟨M2, rfl, j2⟩
      · simp only [e2, mB_k]; exact ⟨M2, rfl, j2⟩
      · simp only [e2, mB_k, p2]; exact ⟨M2, rfl, j2⟩
      · simp only [p2]; exact ⟨M1, rfl, k2⟩
  · rw [if_pos (show w32 ((177 : Nat) : Int) = w32 177 from rfl), show sRet (xH_ x) (rR (xm_ x)) 177 s = (if rR (xm_ x) = 0 then .inr s else .inl 6) from rfl]
    rw [w32_n _ (by omega)]
    by_cases e : rR (xm_ x) = 0
    · rw [if_pos (by omega), if_pos e]
      exact ⟨M, rfl, h⟩
    · obtain ⟨M2, e2, j2⟩ := m_miss6 h c.rS
      rw [if_neg (by omega), if_neg e, e2, mB_k]
      exact ⟨M2, rfl, j2⟩
