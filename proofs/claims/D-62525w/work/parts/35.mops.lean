/-! LAYER C: the model's instruction on types, kind by kind -/
theorem m_miss6 {M0 M : MW} {x : VC} {s : TS} (h : SimM M0 M x s) (hS : rS (xm_ x) ≤ 12) : ∃ M', f_X6_miss 6 M = some ((), M') ∧ BadM M0 M' 6 := m_miss (r := .inr s) h hS 6 (by omega)
theorem m_missB {M0 M : MW} {x : VC} {b : Nat} (h : BadM M0 M b) (hS : rS (xm_ x) ≤ 12) (n : Nat) (hn : 0 < n ∧ n < 11) : ∃ M', f_X6_miss (n : Int) M = some ((), M') ∧ BadM M0 M' b := m_miss (x := x) (r := .inl b) h hS n hn
theorem BadM.b {M0 M : MW} {b : Nat} (h : BadM M0 M b) : w32 (mI M 0 35) ≠ 0 := by
  obtain ⟨_, _, h3, h4, h5⟩ := h
  rw [h3, w32_n _ (by omega)]
  omega
theorem SimM.z {M0 M : MW} {x : VC} {s : TS} (h : SimM M0 M x s) : w32 (mI M 0 35) = 0 := by
  rw [h.2.2.2.2.1]; rfl
/-- a check that may be the first fault -/
theorem m_chk {α : Type} {M0 M : MW} {x : VC} {s : TS} (h : SimM M0 M x s) (hS : rS (xm_ x) ≤ 12) (b : Bool) (κ : Unit → MW → Option α) : ∃ M', (if w32 (b2i b) = 0 then mB (f_X6_miss 6 M) κ else κ () M) = κ () M' ∧ SE M0 M' x (if b = true then .inr s else .inl 6) := by
  cases b with
  | true => exact ⟨M, by rw [if_neg (by decide)], by rw [if_pos rfl]; exact h⟩
  | false =>
    obtain ⟨M', e, k⟩ := m_miss6 h hS
    exact ⟨M', by rw [if_pos (by decide), e, mB_k], by rw [if_neg (by decide)]; exact k⟩
theorem m_want {M0 M : MW} {x : VC} {a w : Nat} {r : Nat ⊕ TS} (c : SMx M0 x a) (h : SE M0 M x r) (hw : tyV (hn (xH_ x)) (xz x) w) : ∃ M', f_X6_want (w : Int) M = some ((), M') ∧ SE M0 M' x (sB r (sWant (xH_ x) w)) := by
  unfold f_X6_want
  obtain ⟨v, M1, e1, k1⟩ := m_pop c h
  rw [e1, mB_k, rd_k]
  show ∃ M', _ ∧ SE M0 M' x (sB r fun s => sB (sPop s) fun a => if fit (xH_ x) a.1 w = true then .inr a.2 else .inl 6)
  rw [← sB_a]
  generalize sB r sPop = q at k1 ⊢
  cases q with
  | inl b =>
    rw [if_neg (BadM.b k1)]
    exact ⟨_, rfl, k1⟩
  | inr q =>
    obtain ⟨t, s⟩ := q
    obtain ⟨k1, k2, k3⟩ := k1
    rw [if_pos k2.z, k1, m_goesInto (c.mv k2.1).1 c.xz k3 hw, mB_k]
    obtain ⟨M', e, k⟩ := m_chk k2 c.rS (fit (xH_ x) t w) (fun _ M6 => some ((), M6))
    exact ⟨M', e, k⟩
theorem m_ref {M0 M : MW} {x : VC} {a : Nat} {r : Nat ⊕ TS} (c : SMx M0 x a) (h : SE M0 M x r) : ∃ v M', f_X6_popReference M = some (v, M') ∧ SV M0 M' x v (sB r sRef) := by
  unfold f_X6_popReference
  obtain ⟨v, M1, e1, k1⟩ := m_pop c h
  rw [e1, mB_k, rd_k]
  show ∃ v M', _ ∧ SV M0 M' x v (sB r fun s => sB (sPop s) fun a => if rfc a.1 = true then .inr a else .inl 6)
  rw [← sB_a]
  generalize sB r sPop = q at k1 ⊢
  cases q with
  | inl b =>
    rw [if_neg (BadM.b k1)]
    exact ⟨_, _, rfl, k1⟩
  | inr q =>
    obtain ⟨t, s⟩ := q
    obtain ⟨k1, k2, k3⟩ := k1
    have kl := tyV_lt k3 c.n16 c.xz
    dsimp only at k1 k2 k3 kl
    rw [if_pos k2.z, k1, m_isReference (by omega), mB_k]
    obtain ⟨M', e, k⟩ := m_chk k2 c.rS (rfc t) (fun _ M6 => some ((t : Int), M6))
    refine ⟨t, M', e, ?_⟩
    rw [sB_i]
    cases hb : rfc t <;> rw [hb] at k
    · exact k
    · exact ⟨rfl, k, k3⟩
theorem m_one {M0 M : MW} {x : VC} {a : Nat} {r : Nat ⊕ TS} (c : SMx M0 x a) (h : SE M0 M x r) : ∃ v M', f_X6_popOne M = some (v, M') ∧ SV M0 M' x v (sB r sOne) := by
  unfold f_X6_popOne
  obtain ⟨v, M1, e1, k1⟩ := m_pop c h
  rw [e1, mB_k, rd_k]
  show ∃ v M', _ ∧ SV M0 M' x v (sB r fun s => sB (sPop s) fun a => if a.1 = 2 then .inl 6 else .inr a)
  rw [← sB_a]
  generalize sB r sPop = q at k1 ⊢
  cases q with
  | inl b =>
    rw [if_neg (BadM.b k1)]
    exact ⟨_, _, rfl, k1⟩
  | inr q =>
    obtain ⟨t, s⟩ := q
    obtain ⟨k1, k2, k3⟩ := k1
    have kl := tyV_lt k3 c.n16 c.xz
    dsimp only at k1 k2 k3 kl
    rw [if_pos k2.z, k1, w32_n t (by omega), show w32 2 = 2 by decide, sB_i]
    by_cases t2 : t = 2
    · obtain ⟨M', e, k⟩ := m_miss6 k2 c.rS
      rw [if_pos (by omega), e, mB_k, if_pos t2]
      exact ⟨_, _, rfl, k⟩
    · rw [if_neg (by omega), if_neg t2]
      exact ⟨_, _, rfl, rfl, k2, k3⟩
/-- sorts of arrays, the model's number of them -/
theorem m_arr {M0 M : MW} {x : VC} {a : Nat} {r : Nat ⊕ TS} (c : SMx M0 x a) (h : SE M0 M x r) (so k : Nat) (hk : (so = 0 ∧ k = 3) ∨ (so = 1 ∧ k = 4) ∨ (so = 2 ∧ k = 32)) : ∃ v M', f_X6_popArray (so : Int) M = some (v, M') ∧ SV M0 M' x v (sB r (sArr k)) := by
  unfold f_X6_popArray
  obtain ⟨v, M1, e1, k1⟩ := m_pop c h
  rw [e1, mB_k]
  show ∃ v M', _ ∧ SV M0 M' x v (sB r fun s => sB (sPop s) fun a => if a.1 = 5 ∨ (k = 32 ∧ 64 ≤ a.1 ∧ a.1 < 1000) ∨ (k ≠ 32 ∧ a.1 = k) then .inr a else .inl 6)
  rw [← sB_a]
  generalize sB r sPop = q at k1 ⊢
  cases q with
  | inl b =>
    have key : ∀ z : Int, f_X6_popArray_b47 v z M1 = some (v, M1) := by
      intro z
      unfold f_X6_popArray_b47
      rw [rd_k, if_neg (BadM.b k1)]
    unfold f_X6_popArray_b42 f_X6_popArray_b46 f_X6_isRow
    simp only [key]
    refine ⟨v, M1, ?_, k1⟩
    repeat' split
    all_goals first | rfl | (rw [mB_k]; split <;> exact key _)
  | inr q =>
    obtain ⟨t, s⟩ := q
    obtain ⟨k1, k2, k3⟩ := k1
    have kl := tyV_lt k3 c.n16 c.xz
    dsimp only at k1 k2 k3 kl
    have key : ∀ z : Bool, ∃ M', f_X6_popArray_b47 (t : Int) (b2i z) M1 = some ((t : Int), M') ∧ SV M0 M' x t (if z = true then .inr (t, s) else .inl 6) := by
      intro z
      unfold f_X6_popArray_b47
      rw [rd_k, if_pos k2.z]
      obtain ⟨M', e, k⟩ := m_chk k2 c.rS z (fun _ M6 => some ((t : Int), M6))
      refine ⟨M', e, ?_⟩
      cases z
      · exact k
      · exact ⟨rfl, k, k3⟩
    have kT := key true
    have kF := key false
    rw [b2i_t] at kT
    rw [b2i_f] at kF
    rw [k1, sB_i]
    unfold f_X6_popArray_b42 f_X6_popArray_b46
    simp only [m_isRow (show t < 2000 by omega), mB_k, ite_b, decide_eq_true_eq]
    rw [w32_n t (by omega), w32_n so (by omega), show w32 5 = 5 by decide, show w32 3 = 3 by decide, show w32 4 = 4 by decide, show w32 1 = 1 by decide]
    by_cases p : t = 5 ∨ (k = 32 ∧ 64 ≤ t ∧ t < 1000) ∨ (k ≠ 32 ∧ t = k)
    · rw [if_pos p]
      obtain ⟨M', e, kk⟩ := kT
      refine ⟨t, M', ?_, kk⟩
      rw [← e]
      repeat' split
      all_goals first | rfl | omega
    · rw [if_neg p]
      obtain ⟨M', e, kk⟩ := kF
      refine ⟨t, M', ?_, kk⟩
      rw [← e]
      repeat' split
      all_goals first | rfl | omega
theorem SE.bad {M0 M : MW} {x : VC} {r : Nat ⊕ TS} (h : SE M0 M x r) : (∃ b, r = .inl b ∧ BadM M0 M b) ∨ ∃ s, r = .inr s ∧ SimM M0 M x s := by
  cases r with
  | inl b => exact Or.inl ⟨b, rfl, h⟩
  | inr s => exact Or.inr ⟨s, rfl, h⟩
theorem put_tyV {n sz : Nat} {L : Nat → Nat} (h : ∀ k, tyV n sz (L k)) {t : Nat} (ht : tyV n sz t) (i : Nat) : ∀ k, tyV n sz (put L i t k) := by
  intro k
  unfold put
  repeat' split
  · exact ht
  · exact Or.inl (by omega)
  · exact Or.inl (by omega)
  · exact h k
/-- a local is stored: i within the locals, two places for a LONG -/
theorem m_put {M0 M : MW} {x : VC} {a i t : Nat} {s : TS} (c : SMx M0 x a) (h : SimM M0 M x s) (ht : tyV (hn (xH_ x)) (xz x) t) (hi : i < rL (xm_ x)) (hi2 : t = 2 → i + 1 < rL (xm_ x)) : ∃ M', f_X6_put (i : Int) (t : Int) M = some ((), M') ∧ SimM M0 M' x (put s.1 i t, s.2) := by
  have hL := c.rL
  have tl := tyV_lt ht c.n16 c.xz
  obtain ⟨h1, h2, h3, h4, h5, h6, h7, h8⟩ := h
  have hz : w32 (mI M 0 35) ≤ 0 := by rw [h5]; decide
  unfold f_X6_put
  rw [rd_k, if_pos hz, w32_n i (by omega)]
  -- the world after the first step
  have step : ∃ M1, (if (i : Int) ≤ 0 then f_X6_put_b33 i t M else ax ((i : Int) - 1) 13 fun j => rd (mI M 29 j) fun v4 => if w32 v4 = w32 2 then (ax ((i : Int) - 1) 13 fun j => rd (msI M 29 j 0) fun M5 => f_X6_put_b33 i t M5) else f_X6_put_b33 i t M) = f_X6_put_b33 i t M1 ∧ (∀ k j, k ≠ 29 → mI M1 k j = mI M k j) ∧ mJ M1 = mJ M ∧ ∀ k, k < rL (xm_ x) → mI M1 29 k = ((if k + 1 = i ∧ s.1 k = 2 then 0 else s.1 k : Nat) : Int) := by
    by_cases i0 : i = 0
    · refine ⟨M, by rw [if_pos (by omega)], fun _ _ _ => rfl, rfl, fun k hk => ?_⟩
      rw [if_neg (by omega)]
      exact h2 k hk
    · have e1 : ((i : Int) - 1).toNat = i - 1 := by omega
      have lv := tyV_lt (h6.1 (i - 1)) c.n16 c.xz
      rw [if_neg (by omega), ax_k (by omega), rd_k, e1, h2 _ (by omega), w32_n _ (by omega), show w32 2 = 2 by decide]
      by_cases t2 : s.1 (i - 1) = 2
      · rw [if_pos (by omega), ax_k (by omega), rd_k, e1]
        refine ⟨_, rfl, fun k j hk => mI_o (Or.inl hk), rfl, fun k hk => ?_⟩
        by_cases ek : k + 1 = i
        · have : k = i - 1 := by omega
          subst this
          rw [mI_s rfl, if_pos ⟨ek, t2⟩]
          rfl
        · rw [mI_o (by omega), if_neg (fun hc => ek hc.1)]
          exact h2 k hk
      · rw [if_neg (by omega)]
        refine ⟨M, rfl, fun _ _ _ => rfl, rfl, fun k hk => ?_⟩
        rw [if_neg]
        · exact h2 k hk
        · rintro ⟨ek, hk2⟩
          have : k = i - 1 := by omega
          subst this
          exact t2 hk2
  obtain ⟨M1, e, g1, g2, g3⟩ := step
  rw [e]
  have fin : ∀ M2 : MW, (∀ k j, k ≠ 29 → mI M2 k j = mI M1 k j) → mJ M2 = mJ M1 → (∀ k, k < rL (xm_ x) → mI M2 29 k = (put s.1 i t k : Int)) → SimM M0 M2 x (put s.1 i t, s.2) := by
    intro M2 q1 q2 q3
    have q4 : ∀ k j, k ≠ 29 → mI M2 k j = mI M k j := fun k j hk => (q1 k j hk).trans (g1 k j hk)
    refine ⟨⟨(q2.trans g2).trans h1.1, fun k j c d e => ?_, fun j c d => ?_⟩, q3, fun k hk => ?_, ?_, ?_, ⟨put_tyV h6.1 ht i, h6.2⟩, h7, fun k hk => ?_⟩
    · rw [q4 k j d]; exact h1.2.1 k j c d e
    · rw [q4 0 j (by omega)]; exact h1.2.2 j c d
    · rw [q4 31 k (by omega)]; exact h3 k hk
    · rw [q4 0 40 (by omega)]; exact h4
    · rw [q4 0 35 (by omega)]; exact h5
    · have z := h8 k hk
      show put s.1 i t k = 0
      unfold put
      rw [if_neg (by omega)]
      repeat' split
      · rfl
      · rfl
      · exact z
  unfold f_X6_put_b33
  rw [ax_k (by omega), rd_k, Int.toNat_natCast, w32_n t (by omega), show w32 2 = 2 by decide]
  by_cases t2 : t = 2
  · have := hi2 t2
    rw [if_pos (by omega), ax_k (by omega), rd_k, show ((i : Int) + 1).toNat = i + 1 by omega]
    refine ⟨_, rfl, fin _ (fun k j hk => by rw [mI_o (Or.inl hk), mI_o (Or.inl hk)]) rfl fun k hk => ?_⟩
    unfold put
    by_cases k1 : k = i
    · rw [if_pos k1, k1, mI_o (by omega), mI_s rfl]
    by_cases k2 : k = i + 1
    · rw [if_neg k1, if_pos ⟨k2, t2⟩, k2, mI_s rfl]; rfl
    · rw [if_neg k1, if_neg (fun hc => k2 hc.1), mI_o (by omega), mI_o (by omega)]
      exact g3 k hk
  · rw [if_neg (by omega)]
    refine ⟨_, rfl, fin _ (fun k j hk => by rw [mI_o (Or.inl hk)]) rfl fun k hk => ?_⟩
    unfold put
    by_cases k1 : k = i
    · rw [if_pos k1, k1, mI_s rfl]
    · rw [if_neg k1, if_neg (fun hc => t2 hc.2), mI_o (by omega)]
      exact g3 k hk
theorem m_putB {M0 M : MW} {b : Nat} {i v : Int} (h : BadM M0 M b) : f_X6_put i v M = some ((), M) := by
  unfold f_X6_put
  obtain ⟨_, _, h3, h4, h5⟩ := h
  rw [rd_k, h3, w32_n _ (by omega), if_neg (by omega)]
theorem m_pushB {M0 M : MW} {b : Nat} {v : Int} (h : BadM M0 M b) : f_X6_push v M = some ((), M) := by
  unfold f_X6_push
  obtain ⟨_, _, h3, h4, h5⟩ := h
  rw [rd_k, h3, w32_n _ (by omega), if_neg (by omega)]
theorem okL_1 {op t : Nat} (h : op = 21 ∨ op = 54) : okL op t = decide (t = 1) := if_pos h
theorem okL_2 {op t : Nat} (h : op = 22 ∨ op = 55) : okL op t = decide (t = 2) := (if_neg (by omega)).trans (if_pos h)
theorem okL_3 {op t : Nat} (h : op = 25 ∨ op = 58) : okL op t = (rfc t || decide (1000 ≤ t)) := (if_neg (by omega)).trans (if_neg (by omega))
/-- the choice whether a type may be loaded or stored -/
theorem okL_if {α : Type} {op t o1 o2 : Nat} {f : Int → Option α} (hop : (op = o1 ∧ (op = 21 ∨ op = 54)) ∨ (op ≠ o1 ∧ op = o2 ∧ (op = 22 ∨ op = 55)) ∨ (op ≠ o1 ∧ op ≠ o2 ∧ (op = 25 ∨ op = 58))) :
    (if (op : Int) = (o1 : Int) then (if (t : Int) = 1 then f 1 else f 0) else if (op : Int) = (o2 : Int) then (if (t : Int) = 2 then f 1 else f 0) else if rfc t = true then f 1 else if (t : Int) < 1000 then f 0 else f 1) = f (b2i (okL op t)) := by
  rcases hop with ⟨h1, h2⟩ | ⟨h1, h2, h3⟩ | ⟨h1, h2, h3⟩
  · rw [if_pos (by omega), okL_1 h2]
    by_cases q : t = 1
    · rw [if_pos (by omega), decide_eq_true q]; rfl
    · rw [if_neg (by omega), decide_eq_false q]; rfl
  · rw [if_neg (by omega), if_pos (by omega), okL_2 h3]
    by_cases q : t = 2
    · rw [if_pos (by omega), decide_eq_true q]; rfl
    · rw [if_neg (by omega), decide_eq_false q]; rfl
  · rw [if_neg (by omega), if_neg (by omega), okL_3 h3]
    cases q : rfc t
    · by_cases z : 1000 ≤ t
      · rw [if_neg (by decide), if_neg (by omega), decide_eq_true z]; rfl
      · rw [if_neg (by decide), if_pos (by omega), decide_eq_false z]; rfl
    · rw [if_pos rfl]; rfl
theorem m_isRefA (v : Int) (M : MW) : ∃ z : Int, f_X6_isReference v M = some (z, M) := by
  unfold f_X6_isReference f_X6_isThing
  repeat' split
  all_goals first | exact ⟨_, rfl⟩ | (simp only [mB_k]; split <;> exact ⟨_, rfl⟩)
theorem m_load {M0 M : MW} {x : VC} {a op i : Nat} {s : TS} (c : SMx M0 x a) (h : SimM M0 M x s) (hop : op = 21 ∨ op = 22 ∨ op = 25) (hi : i < rL (xm_ x)) : ∃ M', f_X6_load (op : Int) (i : Int) M = some ((), M') ∧ SE M0 M' x (sLoad (rS (xm_ x)) op i s) := by
  have hL := c.rL
  have ht := h.2.2.2.2.2.1.1 i
  have tl := tyV_lt ht c.n16 c.xz
  have e0 : f_X6_load (op : Int) (i : Int) M = f_X6_load_b64 (s.1 i : Int) (b2i (okL op (s.1 i))) M := by
    unfold f_X6_load f_X6_load_b59
    rw [ax_k (by omega), rd_k, Int.toNat_natCast, h.2.1 i hi, w32_n op (by omega), w32_n (s.1 i) (by omega), show w32 21 = ((21 : Nat) : Int) by decide, show w32 22 = ((22 : Nat) : Int) by decide, show w32 1 = 1 by decide, show w32 2 = 2 by decide, m_isReference (by omega), mB_k, ite_b, show w32 1000 = 1000 by decide]
    exact okL_if (f := fun z => f_X6_load_b64 (s.1 i : Int) z M) (by omega)
  rw [e0]
  unfold f_X6_load_b64
  obtain ⟨M1, e, k⟩ := m_chk h c.rS (okL op (s.1 i)) (fun _ M1 => f_X6_load_b77 (s.1 i : Int) M1)
  rw [e]
  unfold f_X6_load_b77 sLoad
  obtain ⟨M', e', k'⟩ := m_push c k ht
  rw [e', mB_k]
  refine ⟨M', rfl, ?_⟩
  cases q : okL op (s.1 i) <;> rw [q] at k' <;> exact k'
theorem m_store {M0 M : MW} {x : VC} {a op i : Nat} {s : TS} (c : SMx M0 x a) (h : SimM M0 M x s) (hop : op = 54 ∨ op = 55 ∨ op = 58) (hi : i < rL (xm_ x)) (hi2 : op = 55 → i + 1 < rL (xm_ x)) : ∃ M', f_X6_store (op : Int) (i : Int) M = some ((), M') ∧ SE M0 M' x (sStore op i s) := by
  unfold f_X6_store f_X6_store_b57
  obtain ⟨v, M1, e1, k1⟩ := m_pop (r := .inr s) c h
  rw [e1, mB_k]
  show ∃ M', _ ∧ SE M0 M' x (sB (sPop s) fun a => if okL op a.1 = true then .inr (put a.2.1 i a.1, a.2.2) else .inl 6)
  rw [sB_i] at k1
  generalize sPop s = q at k1 ⊢
  cases q with
  | inl b =>
    have key : ∀ z : Int, ∃ M', f_X6_store_b62 i v z M1 = some ((), M') ∧ BadM M0 M' b := by
      intro z
      unfold f_X6_store_b62 f_X6_store_b75
      split
      · obtain ⟨M2, e2, k2⟩ := m_missB k1 c.rS 6 (by omega)
        rw [show (6 : Int) = ((6 : Nat) : Int) from rfl, e2, mB_k, m_putB k2, mB_k]
        exact ⟨_, rfl, k2⟩
      · rw [m_putB k1, mB_k]
        exact ⟨_, rfl, k1⟩
    obtain ⟨z, ez⟩ := m_isRefA v M1
    rw [ez, mB_k]
    repeat' split
    all_goals exact key _
  | inr q =>
    obtain ⟨t, s1⟩ := q
    obtain ⟨k1, k2, k3⟩ := k1
    have tl := tyV_lt k3 c.n16 c.xz
    dsimp only at k1 k2 k3 tl
    have e0 : (if w32 (op : Int) = w32 54 then (if w32 v = w32 1 then f_X6_store_b62 i v 1 M1 else f_X6_store_b62 i v 0 M1) else if w32 (op : Int) = w32 55 then (if w32 v = w32 2 then f_X6_store_b62 i v 1 M1 else f_X6_store_b62 i v 0 M1) else mB (f_X6_isReference v M1) fun v6 M5 => if w32 v6 = 0 then (if w32 v < w32 1000 then f_X6_store_b62 i v 0 M5 else f_X6_store_b62 i v 1 M5) else f_X6_store_b62 i v 1 M5) = f_X6_store_b62 i t (b2i (okL op t)) M1 := by
      rw [k1, w32_n op (by omega), w32_n t (by omega), show w32 54 = ((54 : Nat) : Int) by decide, show w32 55 = ((55 : Nat) : Int) by decide, show w32 1 = 1 by decide, show w32 2 = 2 by decide, m_isReference (by omega), mB_k, ite_b, show w32 1000 = 1000 by decide]
      exact okL_if (f := fun z => f_X6_store_b62 i (t : Int) z M1) (by omega)
    rw [e0, sB_i]
    unfold f_X6_store_b62
    obtain ⟨M2, e, k⟩ := m_chk k2 c.rS (okL op t) (fun _ M1 => f_X6_store_b75 i (t : Int) M1)
    rw [e]
    unfold f_X6_store_b75
    dsimp only
    cases q : okL op t <;> rw [q] at k
    · rw [m_putB (b := 6) k, mB_k]
      exact ⟨_, rfl, k⟩
    · have t2 : t = 2 → i + 1 < rL (xm_ x) := by
        intro t2
        refine hi2 ?_
        subst t2
        rcases hop with rfl | rfl | rfl
        · exact absurd q (by decide)
        · rfl
        · exact absurd q (by decide)
      obtain ⟨M', e', k'⟩ := m_put c k k3 hi t2
      rw [e', mB_k]
      exact ⟨M', rfl, k'⟩
theorem tyV_1 (n sz : Nat) : tyV n sz 1 := Or.inl (by omega)
theorem tyV_2 (n sz : Nat) : tyV n sz 2 := Or.inl (by omega)
theorem tyV_3 (n sz : Nat) : tyV n sz 3 := Or.inl (by omega)
theorem tyV_4 (n sz : Nat) : tyV n sz 4 := Or.inl (by omega)
theorem tyV_5 (n sz : Nat) : tyV n sz 5 := Or.inl (by omega)
theorem tyT_V {n sz t : Nat} (h : tyT n t = true) : tyV n sz t := by
  unfold tyT at h
  have := of_decide_eq_true h
  unfold tyV
  omega
theorem m_wantI {M0 M : MW} {x : VC} {a : Nat} {r : Nat ⊕ TS} (c : SMx M0 x a) (h : SE M0 M x r) (w : Nat) (hw : tyV (hn (xH_ x)) (xz x) w) (z : Int) (e : z = (w : Int)) : ∃ M', f_X6_want z M = some ((), M') ∧ SE M0 M' x (sB r (sWant (xH_ x) w)) := by
  subst e
  exact m_want c h hw
theorem m_pushI {M0 M : MW} {x : VC} {a : Nat} {r : Nat ⊕ TS} (c : SMx M0 x a) (h : SE M0 M x r) (t : Nat) (ht : tyV (hn (xH_ x)) (xz x) t) (z : Int) (e : z = (t : Int)) : ∃ M', f_X6_push z M = some ((), M') ∧ SE M0 M' x (sB r (sPush (rS (xm_ x)) t)) := by
  subst e
  exact m_push c h ht
theorem sArr_t {r : Nat ⊕ TS} {k t : Nat} {s1 : TS} (h : sB r (sArr k) = .inr (t, s1)) : t = 5 ∨ (k = 32 ∧ 64 ≤ t ∧ t < 1000) ∨ (k ≠ 32 ∧ t = k) := by
  cases r with
  | inl b => cases h
  | inr s =>
    have h' : sB (sPop s) (fun a => if a.1 = 5 ∨ (k = 32 ∧ 64 ≤ a.1 ∧ a.1 < 1000) ∨ (k ≠ 32 ∧ a.1 = k) then Sum.inr a else Sum.inl 6) = .inr (t, s1) := h
    cases hp : sPop s with
    | inl b => rw [hp] at h'; cases h'
    | inr a =>
      rw [hp, sB_i] at h'
      by_cases hc : a.1 = 5 ∨ (k = 32 ∧ 64 ≤ a.1 ∧ a.1 < 1000) ∨ (k ≠ 32 ∧ a.1 = k)
      · rw [if_pos hc] at h'
        cases h'
        exact hc
      · rw [if_neg hc] at h'
        cases h'
theorem m_arrays {M0 M : MW} {x : VC} {a op : Nat} {s : TS} (c : SMx M0 x a) (h : SimM M0 M x s) (hop : op = 46 ∨ op = 47 ∨ op = 50 ∨ op = 79 ∨ op = 80 ∨ op = 83) : ∃ M', f_X6_arrays (op : Int) M = some ((), M') ∧ SE M0 M' x (sArrs (xH_ x) (rS (xm_ x)) op s) := by
  -- the tail: an index, the array, what is loaded
  have tail : ∀ (so k : Nat) (M1 : MW) (r : Nat ⊕ TS), SE M0 M1 x r → ((so = 0 ∧ k = 3 ∧ (op = 46 ∨ op = 79)) ∨ (so = 1 ∧ k = 4 ∧ (op = 47 ∨ op = 80)) ∨ (so = 2 ∧ k = 32 ∧ (op = 50 ∨ op = 83))) → ∃ M', f_X6_arrays_b66 (op : Int) (so : Int) M1 = some ((), M') ∧ SE M0 M' x (sB (sB (sB r (sWant (xH_ x) 1)) (sArr k)) fun a => if 79 ≤ op then .inr a.2 else sPush (rS (xm_ x)) (if op = 46 then 1 else if op = 47 then 2 else if a.1 = 5 then 5 else a.1 - 64 + 32) a.2) := by
    intro so k M1 r hr hc
    unfold f_X6_arrays_b66
    obtain ⟨M2, e2, k2⟩ := m_wantI c hr 1 (tyV_1 _ _) 1 rfl
    rw [e2, mB_k]
    obtain ⟨v, M3, e3, k3⟩ := m_arr c k2 so k (by omega)
    rw [e3, mB_k, w32_n op (by omega), show w32 79 = 79 by decide]
    generalize hq : sB (sB r (sWant (xH_ x) 1)) (sArr k) = q at k3 ⊢
    cases q with
    | inl b =>
      have kb : ∀ z : Int, f_X6_arrays_b117 z M3 = some ((), M3) := by
        intro z
        unfold f_X6_arrays_b117
        rw [m_pushB k3, mB_k]
      simp only [kb]
      refine ⟨M3, ?_, k3⟩
      repeat' split
      all_goals rfl
    | inr q =>
      obtain ⟨t, s1⟩ := q
      have ht := sArr_t hq
      obtain ⟨k3, k4, k5⟩ := k3
      have tl := tyV_lt k5 c.n16 c.xz
      dsimp only at k3 k4 k5 tl
      rw [sB_i]
      by_cases h79 : 79 ≤ op
      · rw [if_pos (by omega), if_pos h79]
        exact ⟨M3, rfl, k4⟩
      · rw [if_neg (by omega), if_neg h79]
        have key : ∀ u : Nat, tyV (hn (xH_ x)) (xz x) u → ∃ M', f_X6_arrays_b117 (u : Int) M3 = some ((), M') ∧ SE M0 M' x (sPush (rS (xm_ x)) u s1) := by
          intro u hu
          unfold f_X6_arrays_b117
          obtain ⟨M', e', k'⟩ := m_push (r := .inr s1) c k4 hu
          rw [e', mB_k]
          exact ⟨M', rfl, k'⟩
        rcases hc with ⟨rfl, rfl, ho⟩ | ⟨rfl, rfl, ho⟩ | ⟨rfl, rfl, ho⟩
        · rw [if_pos (by decide), if_pos (by omega)]
          exact key 1 (tyV_1 _ _)
        · rw [if_neg (by decide), if_pos (by decide), if_neg (by omega), if_pos (by omega)]
          exact key 2 (tyV_2 _ _)
        · have o50 : op = 50 := by omega
          rw [k3, if_neg (show ¬ w32 ((2 : Nat) : Int) = 0 by decide), if_neg (show ¬ w32 ((2 : Nat) : Int) = w32 1 by decide), w32_n t (by omega), show w32 5 = 5 by decide, if_neg (show ¬ op = 46 by omega), if_neg (show ¬ op = 47 by omega)]
          by_cases t5 : t = 5
          · rw [if_pos (by omega), if_pos t5]
            exact key 5 (tyV_5 _ _)
          · rw [if_neg (by omega), if_neg t5, show (32 : Int) + (t : Int) - 64 = ((t - 64 + 32 : Nat) : Int) by omega]
            refine key _ ?_
            unfold tyV at k5 ⊢
            omega
  unfold f_X6_arrays f_X6_arrays_b12 f_X6_arrays_b28 f_X6_arrays_b33 f_X6_arrays_b63
  show ∃ M', _ ∧ SE M0 M' x (sB (if op < 79 then .inr s else if op = 83 then sB (sRef s) fun a => .inr a.2 else sWant (xH_ x) (if op = 79 then 1 else 2) s) fun s => sB (sWant (xH_ x) 1 s) fun s => sB (sArr (if op = 46 ∨ op = 79 then 3 else if op = 47 ∨ op = 80 then 4 else 32) s) fun a => if 79 ≤ op then .inr a.2 else sPush (rS (xm_ x)) (if op = 46 then 1 else if op = 47 then 2 else if a.1 = 5 then 5 else a.1 - 64 + 32) a.2)
  rw [← sB_a, ← sB_a]
  rcases hop with rfl | rfl | rfl | rfl | rfl | rfl
  · exact tail 0 3 M _ h (by omega)
  · exact tail 1 4 M _ h (by omega)
  · exact tail 2 32 M _ h (by omega)
  · obtain ⟨M1, e1, k1⟩ := m_want (r := .inr s) (w := 1) c h (tyV_1 _ _)
    obtain ⟨M', e', k'⟩ := tail 0 3 M1 _ k1 (by omega)
    refine ⟨M', ?_, k'⟩
    rw [← e']
    show mB (f_X6_want ((1 : Nat) : Int) M) _ = _
    rw [e1]
    rfl
  · obtain ⟨M1, e1, k1⟩ := m_want (r := .inr s) (w := 2) c h (tyV_2 _ _)
    obtain ⟨M', e', k'⟩ := tail 1 4 M1 _ k1 (by omega)
    refine ⟨M', ?_, k'⟩
    rw [← e']
    show mB (f_X6_want ((2 : Nat) : Int) M) _ = _
    rw [e1]
    rfl
  · obtain ⟨v, M1, e1, k1⟩ := m_ref (r := .inr s) c h
    have k1' : SE M0 M1 x (sB (sRef s) fun a => .inr a.2) := by
      rw [sB_i] at k1
      generalize sRef s = q at k1 ⊢
      cases q with
      | inl b => exact k1
      | inr q => exact k1.2.1
    obtain ⟨M', e', k'⟩ := tail 2 32 M1 _ k1' (by omega)
    refine ⟨M', ?_, k'⟩
    rw [← e']
    show mB (f_X6_popReference M) _ = _
    rw [e1]
    rfl
