/-! LAYER C: the component's pops and pushes -/
theorem SimC.k {C0 C : CW} {x : VC} {s : TS} {qf qs : List Nat} {qm p : Nat} (c : SCx C0 x qf qs qm p) (h : SimC C0 C x s) : hB C = hB C0 ∧ hK C (hB C0 + 8) = 6 ∧ hR C (hB C0 + 8) 0 = some (hB C0 + 9) ∧ hR C (hB C0 + 8) 1 = some (hB C0 + 10) ∧ hK C (hB C0 + 9) = 64 ∧ hL C (hB C0 + 9) = 12 ∧ hK C (hB C0 + 10) = 64 ∧ hL C (hB C0 + 10) = 12 := by
  obtain ⟨f1, f2, f3, f4, f5, f6, f7, f8, f9, fa, fb, fc⟩ := h.1
  obtain ⟨e1, e2, e3, e4, e5, e6, e7⟩ := c.2.2.2.2.2.1
  rw [f4, f5, f8]
  exact ⟨f9, e1, e2, e3, e4, e5, e6, e7⟩
theorem SCx.rS {C : CW} {x : VC} {qf qs : List Nat} {qm p : Nat} (c : SCx C x qf qs qm p) : rS (xm_ x) ≤ 12 := c.2.2.2.1.2.2.1.2.2.2.2.1
theorem SCx.rL {C : CW} {x : VC} {qf qs : List Nat} {qm p : Nat} (c : SCx C x qf qs qm p) : rL (xm_ x) ≤ 12 := c.2.2.2.1.2.2.1.2.2.2.2.2.1
theorem SCx.xz {C : CW} {x : VC} {qf qs : List Nat} {qm p : Nat} (c : SCx C x qf qs qm p) : xz x ≤ 120 := c.2.2.2.1.2.2.1.2.2.2.1
theorem SCx.n16 {C : CW} {x : VC} {qf qs : List Nat} {qm p : Nat} (c : SCx C x qf qs qm p) : hn (xH_ x) ≤ 16 := c.1.1.1.2
theorem c_pop {C0 C : CW} {x : VC} {s : TS} {qf qs : List Nat} {qm p : Nat} (c : SCx C0 x qf qs qm p) (h : SimC C0 C x s) : RV C0 x p (sPop s) (f_X3_pop C) := by
  obtain ⟨hb, k8, r8, r8', k9, l9, k10, l10⟩ := h.k c
  have hS := c.rS
  obtain ⟨L, l⟩ := s
  obtain ⟨h1, h2, h3, h4, h5, h6, h7, h8⟩ := h
  dsimp only at h2 h3 h4 h5 h7 h8
  have hl := wds_len l
  unfold f_X3_pop
  rw [hb, dr_k, gd_e k8, rd_k, h4, w32_n _ (by omega)]
  unfold f_X3_pop_b16
  cases l with
  | nil =>
    rw [if_pos (by decide)]
    rcases c_need c h1 false 6 with ⟨z, _⟩ | ⟨_, q, C', e, f⟩
    · cases z
    · have e' : f_X3_need 0 6 C = some (.inl q, C') := e
      rw [e', xB_l]
      exact ⟨q, C', rfl, f⟩
  | cons t l =>
    have hlen : (t :: l).length = l.length + 1 := rfl
    have hw : wds (t :: l) = (if t = 2 then 2 else 1) + wds l := rfl
    rw [hlen] at h4 hl
    rw [hlen, if_neg (by omega)]
    have tl := tyV_lt (h6.2 t (List.mem_cons_self ..)) c.n16 c.xz
    rcases c_need c h1 true 6 with ⟨_, e⟩ | ⟨z, _⟩
    · have e' : f_X3_need 1 6 C = some (.inr (), C) := e
      rw [e', xB_r, hb, dr_k, gd_e k8, rd_k, h4, dr_k, gd_e k8, rd_k, hB_hsI, hb, dr_k, hK_hsI, gd_e k8, rd_k, hR_hsI, r8', dr_k, gd_e k8, rd_k, hI_shsI rfl, dr_k, gd_e k10, hL_hsI, l10, ax_k (by omega), rd_k, show (((l.length + 1 : Nat) : Int) - 1).toNat = l.length by omega, hI_ohsI (by omega), h3 l.length (by omega), nth_top, dr_k, gd_e k8, rd_k, hI_ohsI (by omega), h5, w32_n t (by omega), show w32 2 = 2 by decide, hw]
      -- the world behind it
      have fin : ∀ w : Int, w = (wds l : Int) → ∃ C', some ((Sum.inr (t : Int) : Nat ⊕ Int), hsI (hsI C (hB C0 + 8) 2 (((l.length + 1 : Nat) : Int) - 1)) (hB C0 + 8) 3 w) = some (.inr (t : Int), C') ∧ SimC C0 C' x (L, l) ∧ tyV (hn (xH_ x)) (xz x) t := by
        intro w hw2
        refine ⟨_, rfl, ⟨(h1.st (Or.inl rfl)).st (Or.inl rfl), fun k hk => ?_, fun k hk => ?_, ?_, ?_, h6.cons.1, ?_, h8⟩, h6.cons.2⟩
        · rw [hI_ohsI (by omega), hI_ohsI (by omega)]; exact h2 k hk
        · rw [hI_ohsI (by omega), hI_ohsI (by omega), h3 k (Nat.lt_succ_of_lt hk), nth_lt hk]
        · rw [hI_ohsI (by omega), hI_shsI rfl]
          dsimp only
          omega
        · rw [hI_shsI rfl]; exact hw2
        · dsimp only
          rw [hw] at h7
          omega
      by_cases t2 : t = 2
      · rw [if_pos (by omega), if_pos t2, dr_k, gd_e k8, rd_k]
        exact fin _ (by omega)
      · rw [if_neg (by omega), if_neg t2, dr_k, gd_e k8, rd_k]
        exact fin _ (by omega)
    · cases z
theorem c_push {C0 C : CW} {x : VC} {s : TS} {qf qs : List Nat} {qm p : Nat} (c : SCx C0 x qf qs qm p) (h : SimC C0 C x s) (t : Nat) (ht : tyV (hn (xH_ x)) (xz x) t) (z : Int) (hz : z = (t : Int)) : RX C0 x p (sPush (rS (xm_ x)) t s) (f_X3_push z C) := by
  subst hz
  obtain ⟨hb, k8, r8, r8', k9, l9, k10, l10⟩ := h.k c
  have hS := c.rS
  have cC := c.mv h.1
  have tl := tyV_lt ht c.n16 c.xz
  obtain ⟨L, l⟩ := s
  obtain ⟨h1, h2, h3, h4, h5, h6, h7, h8⟩ := h
  dsimp only at h2 h3 h4 h5 h7 h8
  have hl := wds_len l
  have hw : wds (t :: l) = (if t = 2 then 2 else 1) + wds l := rfl
  -- the words are counted first
  have e0 : ∃ w : Int, w = (wds (t :: l) : Int) ∧ f_X3_push (t : Int) C = (if w32 (rS (xm_ x) : Int) < w32 w then f_X3_push_b45 t 0 (hsI C (hB C0 + 8) 3 w) else f_X3_push_b45 t 1 (hsI C (hB C0 + 8) 3 w)) := by
    unfold f_X3_push f_X3_push_b18
    obtain ⟨d1, d2, d3, d4⟩ := cC.2.2.2.1
    have m8 : hK C qm = 7 := d2.1
    have m3 : hI C qm 3 = (rS (xm_ x) : Int) := d2.2.2.2.2.2.1
    have ne : qm ≠ hB C0 + 8 := by intro e; rw [e] at m8; omega
    rw [hb, dr_k, gd_e k8, rd_k, h5, w32_n t (by omega), show w32 2 = 2 by decide]
    by_cases t2 : t = 2
    · refine ⟨(wds l : Int) + 2, by rw [hw, if_pos t2]; omega, ?_⟩
      rw [if_pos (by omega), dr_k, gd_e k8, rd_k, hB_hsI, hb, dr_k, hK_hsI, gd_e k8, rd_k, hI_shsI rfl, rd_k, cR_hsI, d1, dr_k, gd_e m8, rd_k, hI_ohsI (Or.inl ne), m3]
    · refine ⟨(wds l : Int) + 1, by rw [hw, if_neg t2]; omega, ?_⟩
      rw [if_neg (by omega), dr_k, gd_e k8, rd_k, hB_hsI, hb, dr_k, hK_hsI, gd_e k8, rd_k, hI_shsI rfl, rd_k, cR_hsI, d1, dr_k, gd_e m8, rd_k, hI_ohsI (Or.inl ne), m3]
  obtain ⟨w, hw2, e0⟩ := e0
  have hl2 : l.length + 1 ≤ wds (t :: l) := wds_len (t :: l)
  have wl : wds (t :: l) ≤ 14 := by rw [hw]; split <;> omega
  rw [e0, hw2, w32_n _ (by omega), w32_n _ (by omega)]
  have f1 : FrN C0 (hsI C (hB C0 + 8) 3 ((wds (t :: l) : Nat) : Int)) := h1.st (Or.inl rfl)
  unfold f_X3_push_b45
  show RX C0 x p (if wds (t :: l) ≤ rS (xm_ x) then .inr (L, t :: l) else .inl 7) _
  by_cases e : wds (t :: l) ≤ rS (xm_ x)
  · rw [if_pos e, if_neg (by omega)]
    rcases c_need c f1 true 7 with ⟨_, e'⟩ | ⟨z, _⟩
    · have e2 : f_X3_need 1 7 (hsI C (hB C0 + 8) 3 ((wds (t :: l) : Nat) : Int)) = some (.inr (), hsI C (hB C0 + 8) 3 ((wds (t :: l) : Nat) : Int)) := e'
      rw [e2, xB_r, hB_hsI, hb, dr_k, hK_hsI, gd_e k8, rd_k, hR_hsI, r8', dr_k, gd_e k8, rd_k, hI_ohsI (by omega), h4, dr_k, gd_e k10, hL_hsI, l10, ax_k (by omega), Int.toNat_natCast, rd_k, hB_hsI, hB_hsI, hb, dr_k, hK_hsI, hK_hsI, gd_e k8, rd_k, hI_ohsI (by omega), hI_ohsI (by omega), h4, dr_k, gd_e k8, rd_k]
      refine ⟨_, rfl, ((f1.st (Or.inr (Or.inr rfl))).st (Or.inl rfl)), fun k hk => ?_, fun k hk => ?_, ?_, ?_, ⟨h6.1, fun u hu => ?_⟩, e, h8⟩
      · rw [hI_ohsI (by omega), hI_ohsI (by omega), hI_ohsI (by omega)]; exact h2 k hk
      · rw [hI_ohsI (by omega)]
        have hk' : k < l.length + 1 := hk
        by_cases ek : k = l.length
        · rw [hI_shsI ek, ek]
          dsimp only
          rw [nth_top]
        · rw [hI_ohsI (by omega), hI_ohsI (by omega), h3 k (by omega)]
          dsimp only
          rw [nth_lt (by omega)]
      · rw [hI_shsI rfl]
        show (l.length : Int) + 1 = ((l.length + 1 : Nat) : Int)
        omega
      · rw [hI_ohsI (by omega), hI_ohsI (by omega), hI_shsI rfl]
      · rcases List.mem_cons.mp hu with e | e
        · rw [e]; exact ht
        · exact h6.2 u e
    · cases z
  · rw [if_neg e, if_pos (by omega)]
    rcases c_need c f1 false 7 with ⟨z, _⟩ | ⟨_, q, C', e', f⟩
    · cases z
    · have e2 : f_X3_need 0 7 (hsI C (hB C0 + 8) 3 ((wds (t :: l) : Nat) : Int)) = some (.inl q, C') := e'
      rw [e2, xB_l]
      exact ⟨q, C', rfl, f⟩
def sWantV (H : HT) (w : Nat) (s : TS) : Nat ⊕ (Nat × TS) := sB (sPop s) fun a => if fit H a.1 w = true then .inr a else .inl 6
theorem c_want {C0 C : CW} {x : VC} {s : TS} {qf qs : List Nat} {qm p : Nat} (c : SCx C0 x qf qs qm p) (h : SimC C0 C x s) (w : Nat) (hw : tyV (hn (xH_ x)) (xz x) w) (z : Int) (hz : z = (w : Int)) : RV C0 x p (sWantV (xH_ x) w s) (f_X3_pop_2 z C) := by
  subst hz
  unfold f_X3_pop_2 sWantV
  refine (c_pop c h).bindV fun t s C' _ hs ht => ?_
  rw [c_fits (c.mv hs.1).1 c.xz ht hw, cB_k]
  exact RV.need c hs.1 (fit (xH_ x) t w) 6 _ rfl 6 rfl (fun _ => ⟨C', rfl, hs, ht⟩)
theorem c_ref {C0 C : CW} {x : VC} {s : TS} {qf qs : List Nat} {qm p : Nat} (c : SCx C0 x qf qs qm p) (h : SimC C0 C x s) : RV C0 x p (sRef s) (f_X3_popReference C) := by
  unfold f_X3_popReference sRef
  refine (c_pop c h).bindV fun t s C' _ hs ht => ?_
  have tl := tyV_lt ht c.n16 c.xz
  rw [c_isReference (by omega), cB_k]
  exact RV.need c hs.1 (rfc t) 6 _ rfl 6 rfl (fun _ => ⟨C', rfl, hs, ht⟩)
theorem c_one {C0 C : CW} {x : VC} {s : TS} {qf qs : List Nat} {qm p : Nat} (c : SCx C0 x qf qs qm p) (h : SimC C0 C x s) : RV C0 x p (sOne s) (f_X3_popOne C) := by
  unfold f_X3_popOne f_X3_popOne_b16 sOne
  refine (c_pop c h).bindV fun t s C' _ hs ht => ?_
  have tl := tyV_lt ht c.n16 c.xz
  rw [w32_n t (by omega), show w32 2 = 2 by decide]
  dsimp only
  by_cases t2 : t = 2
  · rw [if_pos t2, if_pos (by omega)]
    exact RV.need (r := .inr (t, s)) c hs.1 false 6 0 rfl 6 rfl (fun e => by cases e)
  · rw [if_neg t2, if_neg (by omega)]
    exact RV.need (r := .inr (t, s)) c hs.1 true 6 1 rfl 6 rfl (fun _ => ⟨C', rfl, hs, ht⟩)
theorem c_arr {C0 C : CW} {x : VC} {s : TS} {qf qs : List Nat} {qm p : Nat} (c : SCx C0 x qf qs qm p) (h : SimC C0 C x s) (k : Nat) (hk : k = 3 ∨ k = 4 ∨ k = 32) : RV C0 x p (sArr k s) (f_X3_popArray (k : Int) C) := by
  unfold f_X3_popArray f_X3_popArray_b32 f_X3_popArray_b36 f_X3_popArray_b37 sArr
  refine (c_pop c h).bindV fun t s C' _ hs ht => ?_
  have tl := tyV_lt ht c.n16 c.xz
  rw [c_isArrayOf (by omega), cB_k, ite_d, w32_n t (by omega), w32_n k (by omega), show w32 5 = 5 by decide, show w32 32 = 32 by decide]
  dsimp only
  have T := RV.need (r := .inr (t, s)) c hs.1 true 6 1 rfl 6 rfl (κ := fun _ C1 => some (.inr (t : Int), C1)) (fun _ => ⟨C', rfl, hs, ht⟩)
  have F := RV.need (r := .inr (t, s)) c hs.1 false 6 0 rfl 6 rfl (κ := fun _ C1 => some (.inr (t : Int), C1)) (fun e => by cases e)
  by_cases q : t = 5 ∨ (k = 32 ∧ 64 ≤ t ∧ t < 1000) ∨ (k ≠ 32 ∧ t = k)
  · rw [if_pos q]
    repeat' split
    all_goals first | exact T | omega
  · rw [if_neg q]
    repeat' split
    all_goals first | exact F | omega
