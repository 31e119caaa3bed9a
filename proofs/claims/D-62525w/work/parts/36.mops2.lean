/-! LAYER C: the model's instruction on types: the stack's, numbers, branches, calls, objects -/
theorem SV.snd {M0 M : MW} {x : VC} {v : Int} {q : Nat ⊕ (Nat × TS)} (h : SV M0 M x v q) : SE M0 M x (sB q fun a => .inr a.2) := by
  cases q with
  | inl b => exact h
  | inr q => exact h.2.1
theorem m_oneB {M0 M : MW} {x : VC} {a b : Nat} (c : SMx M0 x a) (h : BadM M0 M b) : ∃ v M', f_X6_popOne M = some (v, M') ∧ BadM M0 M' b := by
  obtain ⟨v, M', e, k⟩ := m_one (r := .inl b) c h
  exact ⟨v, M', e, k⟩
theorem m_popB {M0 M : MW} {x : VC} {a b : Nat} (c : SMx M0 x a) (h : BadM M0 M b) : ∃ v M', f_X6_pop M = some (v, M') ∧ BadM M0 M' b := by
  obtain ⟨v, M', e, k⟩ := m_pop (r := .inl b) c h
  exact ⟨v, M', e, k⟩
theorem m_b132B {M0 M : MW} {b : Nat} {op v w : Int} (h : BadM M0 M b) : f_X6_shuffle_b132 op v w M = some ((), M) := by
  unfold f_X6_shuffle_b132 f_X6_shuffle_b154
  simp only [m_pushB h, mB_k]
  repeat' split
  all_goals rfl
theorem m_b109B {M0 M : MW} {x : VC} {a b : Nat} {op v : Int} (c : SMx M0 x a) (h : BadM M0 M b) : ∃ M', f_X6_shuffle_b109 op v M = some ((), M') ∧ BadM M0 M' b := by
  unfold f_X6_shuffle_b109
  obtain ⟨w, M', e, k⟩ := m_oneB c h
  simp only [e, mB_k, m_pushB k, m_b132B k]
  refine ⟨M', ?_, k⟩
  repeat' split
  all_goals rfl
theorem m_b98B {M0 M : MW} {x : VC} {a b : Nat} {op v : Int} (c : SMx M0 x a) (h : BadM M0 M b) : ∃ M', f_X6_shuffle_b98 op v M = some ((), M') ∧ BadM M0 M' b := by
  unfold f_X6_shuffle_b98
  split
  · obtain ⟨M1, e, k⟩ := m_missB h c.rS 6 (by omega)
    rw [show (6 : Int) = ((6 : Nat) : Int) from rfl, e, mB_k]
    exact m_b109B c k
  · exact m_b109B c h
theorem m_shuffle {M0 M : MW} {x : VC} {a op : Nat} {s : TS} (c : SMx M0 x a) (h : SimM M0 M x s) (hop : op = 87 ∨ op = 88 ∨ op = 89 ∨ op = 90 ∨ op = 92 ∨ op = 95) : ∃ M', f_X6_shuffle (op : Int) M = some ((), M') ∧ SE M0 M' x (sShuf (rS (xm_ x)) op s) := by
  rcases hop with rfl | rfl | rfl | rfl | rfl | rfl
  · obtain ⟨v, M1, e1, k1⟩ := m_one (r := .inr s) c h
    refine ⟨M1, ?_, k1.snd⟩
    show mB (f_X6_popOne M) (fun v2 M1 => f_X6_shuffle_b23 87 v2 M1) = _
    rw [e1]
    rfl
  · obtain ⟨v, M1, e1, k1⟩ := m_pop (r := .inr s) c h
    show ∃ M', mB (f_X6_pop M) (fun v2 M1 => f_X6_shuffle_b92 88 v2 M1) = _ ∧ SE M0 M' x (sB (sPop s) fun a => if a.1 = 2 then .inr a.2 else sB (sOne a.2) fun b => .inr b.2)
    rw [e1, mB_k]
    rw [sB_i] at k1
    generalize sPop s = q at k1 ⊢
    unfold f_X6_shuffle_b92
    cases q with
    | inl b =>
      split
      · exact ⟨M1, rfl, k1⟩
      · exact m_b98B c k1
    | inr q =>
      obtain ⟨t, s1⟩ := q
      obtain ⟨k1, k2, k3⟩ := k1
      have tl := tyV_lt k3 c.n16 c.xz
      dsimp only at k1 k2 k3 tl
      rw [k1, w32_n t (by omega), show w32 2 = 2 by decide, sB_i]
      by_cases t2 : t = 2
      · rw [if_pos (by omega), if_pos t2]
        exact ⟨M1, rfl, k2⟩
      · rw [if_neg (by omega), if_neg t2]
        unfold f_X6_shuffle_b98 f_X6_shuffle_b109
        rw [w32_n t (by omega), show w32 2 = 2 by decide, if_neg (by omega)]
        obtain ⟨w, M2, e2, j2⟩ := m_one (r := .inr s1) c k2
        rw [e2, mB_k]
        exact ⟨M2, rfl, j2.snd⟩
  · obtain ⟨v, M1, e1, k1⟩ := m_one (r := .inr s) c h
    show ∃ M', mB (f_X6_popOne M) (fun v2 M1 => mB (f_X6_push v2 M1) fun _ M3 => mB (f_X6_push v2 M3) fun _ M4 => some ((), M4)) = _ ∧ SE M0 M' x (sB (sOne s) fun a => sB (sPush (rS (xm_ x)) a.1 a.2) fun s => sPush (rS (xm_ x)) a.1 s)
    rw [e1, mB_k]
    rw [sB_i] at k1
    generalize sOne s = q at k1 ⊢
    cases q with
    | inl b =>
      rw [m_pushB k1, mB_k, m_pushB k1, mB_k]
      exact ⟨M1, rfl, k1⟩
    | inr q =>
      obtain ⟨t, s1⟩ := q
      obtain ⟨k1, k2, k3⟩ := k1
      obtain ⟨M2, e2, j2⟩ := m_pushI (r := .inr s1) c k2 t k3 v k1
      obtain ⟨M3, e3, j3⟩ := m_pushI c j2 t k3 v k1
      rw [e2, mB_k, e3, mB_k]
      exact ⟨M3, rfl, j3⟩
  · obtain ⟨v, M1, e1, k1⟩ := m_pop (r := .inr s) c h
    show ∃ M', mB (f_X6_pop M) (fun v2 M1 => f_X6_shuffle_b98 90 v2 M1) = _ ∧ SE M0 M' x (sB (sOne s) fun a => sB (sOne a.2) fun b => sB (sPush (rS (xm_ x)) a.1 b.2) fun s => sB (sPush (rS (xm_ x)) b.1 s) fun s => sPush (rS (xm_ x)) a.1 s)
    rw [e1, mB_k]
    show ∃ M', _ ∧ SE M0 M' x (sB (sB (sPop s) fun a => if a.1 = 2 then .inl 6 else .inr a) _)
    rw [sB_i] at k1
    generalize sPop s = q at k1 ⊢
    cases q with
    | inl b => exact m_b98B c k1
    | inr q =>
      obtain ⟨t, s1⟩ := q
      obtain ⟨k1, k2, k3⟩ := k1
      have tl := tyV_lt k3 c.n16 c.xz
      dsimp only at k1 k2 k3 tl
      unfold f_X6_shuffle_b98
      rw [k1, w32_n t (by omega), show w32 2 = 2 by decide, sB_i]
      by_cases t2 : t = 2
      · obtain ⟨M2, e2, j2⟩ := m_miss6 k2 c.rS
        rw [if_pos (by omega), if_pos t2, e2, mB_k]
        exact m_b109B c j2
      · rw [if_neg (by omega), if_neg t2, sB_i]
        obtain ⟨w, M2, e2, j2⟩ := m_one (r := .inr s1) c k2
        show ∃ M', mB (f_X6_popOne M1) (fun v7 M6 => mB (f_X6_push t M6) fun _ M9 => mB (f_X6_push v7 M9) fun _ M10 => mB (f_X6_push t M10) fun _ M11 => some ((), M11)) = _ ∧ SE M0 M' x (sB (sOne s1) _)
        rw [e2, mB_k]
        rw [sB_i] at j2
        generalize sOne s1 = q at j2 ⊢
        cases q with
        | inl b =>
          rw [m_pushB j2, mB_k, m_pushB j2, mB_k, m_pushB j2, mB_k]
          exact ⟨M2, rfl, j2⟩
        | inr q =>
          obtain ⟨u, s2⟩ := q
          obtain ⟨j1, j2, j3⟩ := j2
          obtain ⟨M3, e3, i3⟩ := m_pushI (r := .inr s2) c j2 t k3 t rfl
          obtain ⟨M4, e4, i4⟩ := m_pushI c i3 u j3 w j1
          obtain ⟨M5, e5, i5⟩ := m_pushI c i4 t k3 t rfl
          rw [e3, mB_k, e4, mB_k, e5, mB_k]
          refine ⟨M5, rfl, ?_⟩
          rw [sB_a] at i5
          exact i5
  · obtain ⟨v, M1, e1, k1⟩ := m_pop (r := .inr s) c h
    show ∃ M', mB (f_X6_pop M) (fun v2 M1 => f_X6_shuffle_b23 92 v2 M1) = _ ∧ SE M0 M' x (sB (sPop s) fun a => if a.1 = 2 then sB (sPush (rS (xm_ x)) a.1 a.2) fun s => sPush (rS (xm_ x)) a.1 s else sB (sOne a.2) fun b => sB (sPush (rS (xm_ x)) b.1 b.2) fun s => sB (sPush (rS (xm_ x)) a.1 s) fun s => sB (sPush (rS (xm_ x)) b.1 s) fun s => sPush (rS (xm_ x)) a.1 s)
    rw [e1, mB_k]
    show ∃ M', (if w32 v = w32 2 then (mB (f_X6_push v M1) fun _ M3 => if w32 v = w32 2 then (mB (f_X6_push v M3) fun _ M4 => if w32 v = w32 2 then some ((), M4) else f_X6_shuffle_b98 92 v M4) else (if w32 v = w32 2 then some ((), M3) else f_X6_shuffle_b98 92 v M3)) else (if w32 v = w32 2 then (mB (f_X6_push v M1) fun _ M4 => if w32 v = w32 2 then some ((), M4) else f_X6_shuffle_b98 92 v M4) else (if w32 v = w32 2 then some ((), M1) else f_X6_shuffle_b98 92 v M1))) = _ ∧ _
    rw [sB_i] at k1
    generalize sPop s = q at k1 ⊢
    cases q with
    | inl b =>
      by_cases v2 : w32 v = w32 2
      · simp only [if_pos v2, m_pushB k1, mB_k]
        exact ⟨M1, rfl, k1⟩
      · simp only [if_neg v2]
        exact m_b98B c k1
    | inr q =>
      obtain ⟨t, s1⟩ := q
      obtain ⟨k1, k2, k3⟩ := k1
      have tl := tyV_lt k3 c.n16 c.xz
      dsimp only at k1 k2 k3 tl
      rw [k1, sB_i]
      by_cases t2 : t = 2
      · have v2 : w32 (t : Int) = w32 2 := by subst t2; rfl
        simp only [if_pos v2, if_pos t2]
        obtain ⟨M2, e2, j2⟩ := m_push (r := .inr s1) c k2 k3
        obtain ⟨M3, e3, j3⟩ := m_push c j2 k3
        rw [e2, mB_k, e3, mB_k]
        exact ⟨M3, rfl, j3⟩
      · have v2 : ¬ w32 (t : Int) = w32 2 := by rw [w32_n t (by omega), show w32 2 = 2 by decide]; omega
        simp only [if_neg v2, if_neg t2]
        unfold f_X6_shuffle_b98
        rw [if_neg v2]
        obtain ⟨w, M2, e2, j2⟩ := m_one (r := .inr s1) c k2
        show ∃ M', mB (f_X6_popOne M1) (fun v7 M6 => mB (f_X6_push v7 M6) fun _ M8 => mB (f_X6_push t M8) fun _ M9 => mB (f_X6_push v7 M9) fun _ M10 => mB (f_X6_push t M10) fun _ M11 => some ((), M11)) = _ ∧ SE M0 M' x (sB (sOne s1) _)
        rw [e2, mB_k]
        rw [sB_i] at j2
        generalize sOne s1 = q at j2 ⊢
        cases q with
        | inl b =>
          rw [m_pushB j2, mB_k, m_pushB j2, mB_k, m_pushB j2, mB_k, m_pushB j2, mB_k]
          exact ⟨M2, rfl, j2⟩
        | inr q =>
          obtain ⟨u, s2⟩ := q
          obtain ⟨j1, j2, j3⟩ := j2
          obtain ⟨M3, e3, i3⟩ := m_pushI (r := .inr s2) c j2 u j3 w j1
          obtain ⟨M4, e4, i4⟩ := m_pushI c i3 t k3 t rfl
          obtain ⟨M5, e5, i5⟩ := m_pushI c i4 u j3 w j1
          obtain ⟨M6, e6, i6⟩ := m_pushI c i5 t k3 t rfl
          rw [e3, mB_k, e4, mB_k, e5, mB_k, e6, mB_k]
          refine ⟨M6, rfl, ?_⟩
          rw [sB_a, sB_a] at i6
          exact i6
  · obtain ⟨v, M1, e1, k1⟩ := m_pop (r := .inr s) c h
    show ∃ M', mB (f_X6_pop M) (fun v2 M1 => f_X6_shuffle_b98 95 v2 M1) = _ ∧ SE M0 M' x (sB (sOne s) fun a => sB (sOne a.2) fun b => sB (sPush (rS (xm_ x)) a.1 b.2) fun s => sB (sPush (rS (xm_ x)) b.1 s) fun s => .inr s)
    rw [e1, mB_k]
    show ∃ M', _ ∧ SE M0 M' x (sB (sB (sPop s) fun a => if a.1 = 2 then .inl 6 else .inr a) _)
    rw [sB_i] at k1
    generalize sPop s = q at k1 ⊢
    cases q with
    | inl b => exact m_b98B c k1
    | inr q =>
      obtain ⟨t, s1⟩ := q
      obtain ⟨k1, k2, k3⟩ := k1
      have tl := tyV_lt k3 c.n16 c.xz
      dsimp only at k1 k2 k3 tl
      unfold f_X6_shuffle_b98
      rw [k1, w32_n t (by omega), show w32 2 = 2 by decide, sB_i]
      by_cases t2 : t = 2
      · obtain ⟨M2, e2, j2⟩ := m_miss6 k2 c.rS
        rw [if_pos (by omega), if_pos t2, e2, mB_k]
        exact m_b109B c j2
      · rw [if_neg (by omega), if_neg t2, sB_i]
        obtain ⟨w, M2, e2, j2⟩ := m_one (r := .inr s1) c k2
        show ∃ M', mB (f_X6_popOne M1) (fun v7 M6 => mB (f_X6_push t M6) fun _ M9 => mB (f_X6_push v7 M9) fun _ M10 => some ((), M10)) = _ ∧ SE M0 M' x (sB (sOne s1) _)
        rw [e2, mB_k]
        rw [sB_i] at j2
        generalize sOne s1 = q at j2 ⊢
        cases q with
        | inl b =>
          rw [m_pushB j2, mB_k, m_pushB j2, mB_k]
          exact ⟨M2, rfl, j2⟩
        | inr q =>
          obtain ⟨u, s2⟩ := q
          obtain ⟨j1, j2, j3⟩ := j2
          obtain ⟨M3, e3, i3⟩ := m_pushI (r := .inr s2) c j2 t k3 t rfl
          obtain ⟨M4, e4, i4⟩ := m_pushI c i3 u j3 w j1
          rw [e3, mB_k, e4, mB_k]
          refine ⟨M4, rfl, ?_⟩
          rw [sB_i]
          dsimp only
          simp only [sB_id]
          exact i4
