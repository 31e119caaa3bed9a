/-! LAYER C: the model's second pass -/
theorem m_row {M : MW} {a N p e : Nat} {T : Nat → Option TS} {z : BS} (h : P2 M a N T z) (hp : p < e) (he : e ≤ N) (k2 : Int → MW → Option (Int × MW)) : ∃ M', f_X6_buries_b293 k2 (p : Int) (e : Int) M = k2 (e : Int) M' ∧ P2 M' a N T (rowS p e z) ∧ ChM M M' (Kb2 a) := by
  obtain ⟨⟨q1, q2, q0, h0⟩, q3, q4, q5, q6, q7⟩ := id h
  unfold f_X6_buries_b293 f_X6_buries_b347
  let M1 := msI M 27 (120 * a + p) 1
  have s1 : mI M1 0 33 = (a : Int) := by show mI (msI M 27 _ _) 0 33 = _; rw [mI_o (by omega)]; exact q3
  have s2 : mI M1 11 a = (z.2.2.2 : Int) := by show mI (msI M 27 _ _) 11 a = _; rw [mI_o (by omega)]; exact q5
  let M2 := msI M1 11 a ((if z.2.2.2 = 0 then 1 else z.2.2.2 : Nat) : Int)
  have s3 : mI M2 0 33 = (a : Int) := by show mI (msI M1 11 _ _) 0 33 = _; rw [mI_o (by omega)]; exact s1
  obtain ⟨M3, e1, a1, a2⟩ := m_b350 (p := p) q1 (show e ≤ 120 by omega) k2 FU p M2 (by rw [FU_v]; omega) (Nat.le_refl _) (by omega) s3
  obtain ⟨M4, e2, b1, b2⟩ := m_b391 (p := p) q1 (show e ≤ 120 by omega) k2 FU p M3 (by rw [FU_v]; omega) (Nat.le_refl _) (by omega) (by rw [a2.2 _ _ (by omega)]; exact s3)
  have oM2 : ∀ k j, (k = 27 → j ≠ 120 * a + p) → (k = 11 → j ≠ a) → mI M2 k j = mI M k j := by
    intro k j h1 h2
    show mI (msI M1 11 _ _) k j = _
    rw [mI_o (by omega)]
    show mI (msI M 27 _ _) k j = _
    rw [mI_o (by omega)]
  have o4 : ∀ k j, k ≠ 10 → k ≠ 22 → mI M4 k j = mI M2 k j := fun k j h1 h2 => by rw [b2.2 _ _ (by omega), a2.2 _ _ (by omega)]
  have c2 : ChM M M2 (Kb2 a) := ((ChM.r M (Kb2 a)).st (by unfold Kb2; omega)).st (by unfold Kb2; omega)
  have c4 : ChM M M4 (Kb2 a) := (c2.tr (a2.mono (fun k j h => by unfold Kb2; omega))).tr (b2.mono (fun k j h => by unfold Kb2; omega))
  refine ⟨M4, ?_, ⟨⟨q1, q2, ?_, fun k => ?_⟩, ?_, ?_, ?_, fun k hk => ⟨?_, ?_, ?_⟩, fun k hk => ?_⟩, c4⟩
  · have fin : f_X6_buries_b417 k2 (p : Int) (e : Int) M4 = k2 (e : Int) M4 := by
      unfold f_X6_buries_b417 f_X6_buries_b440
      rw [w32_n _ (by omega), w32_n _ (by omega), if_neg (by omega)]
    have go : f_X6_buries_b350 k2 FU (p : Int) (e : Int) (p : Int) M2 = k2 (e : Int) M4 := (e1.trans e2).trans fin
    rw [w32_n _ (by omega), w32_n _ (by omega), if_neg (by omega), rd_k (mI M 0 33), q3, ax_k (by omega), show (120 * (a : Int) + (p : Int)).toNat = 120 * a + p by omega, iAnd_11, rd_k, rd_k, show mI (msI M 27 (120 * a + p) 1) 0 33 = _ from s1, rd_k, ax_k (by omega), Int.toNat_natCast, rd_k, show mI (msI M 27 (120 * a + p) 1) 11 a = _ from s2, w32_n _ (by omega)]
    by_cases ez : z.2.2.2 = 0
    · rw [if_pos (by omega), ax_k (by omega), Int.toNat_natCast, rd_k, ← go]
      show f_X6_buries_b350 k2 FU (p : Int) (e : Int) (p : Int) (msI M1 11 a 1) = f_X6_buries_b350 k2 FU (p : Int) (e : Int) (p : Int) (msI M1 11 a ((if z.2.2.2 = 0 then 1 else z.2.2.2 : Nat) : Int))
      rw [if_pos ez]; rfl
    · rw [if_neg (by omega), rd_k, ax_k (by omega), Int.toNat_natCast, rd_k, show mI (msI M 27 (120 * a + p) 1) 11 a = _ from s2, ax_k (by omega), Int.toNat_natCast, rd_k, ← go]
      show f_X6_buries_b350 k2 FU (p : Int) (e : Int) (p : Int) (msI M1 11 a (z.2.2.2 : Int)) = f_X6_buries_b350 k2 FU (p : Int) (e : Int) (p : Int) (msI M1 11 a ((if z.2.2.2 = 0 then 1 else z.2.2.2 : Nat) : Int))
      rw [if_neg ez]
  · show (if z.2.2.2 = 0 then 1 else z.2.2.2) ≤ 12
    split <;> omega
  · show (if p ≤ k ∧ k < e then (if k + 1 = e then 191 else 0) else z.1 k) < 256
    have := h0 k
    split
    · split <;> omega
    · omega
  · rw [o4 _ _ (by omega) (by omega)]; exact s3
  · rw [o4 _ _ (by omega) (by omega), oM2 _ _ (by omega) (by omega)]; exact q4
  · rw [o4 _ _ (by omega) (by omega)]
    show mI (msI M1 11 _ _) 11 a = _
    rw [mI_s rfl]; rfl
  · rw [b2.2 _ _ (by omega), a1 k hk, oM2 _ _ (by omega) (by omega), (q6 k hk).1]
    show _ = (((if p ≤ k ∧ k < e then (if k + 1 = e then 191 else 0) else z.1 k : Nat)) : Int)
    by_cases c : p ≤ k ∧ k < e
    · rw [if_pos c, if_pos c]
      split <;> rfl
    · rw [if_neg c, if_neg c]
  · rw [b1 k hk, a2.2 _ _ (by omega), oM2 _ _ (by omega) (by omega), (q6 k hk).2.1]
    show _ = b2i (if p ≤ k ∧ k < e then false else z.2.1 k)
    by_cases c : p ≤ k ∧ k < e
    · rw [if_pos c, if_pos c]; rfl
    · rw [if_neg c, if_neg c]
  · rw [o4 _ _ (by omega) (by omega)]
    show mI (msI M1 11 _ _) 27 _ = b2i (if k = p then true else z.2.2.1 k)
    rw [mI_o (by omega)]
    by_cases c : k = p
    · rw [if_pos c, c]; exact mI_s rfl
    · rw [if_neg c]; show mI (msI M 27 _ _) 27 _ = _; rw [mI_o (by omega)]; exact (q6 k hk).2.2
  · have := q7 k hk
    rw [o4 _ _ (by omega) (by omega), oM2 _ _ (by omega) (by omega)]; exact this
theorem m_bu2 {x : VC} {a : Nat} {B : Nat → Bool} {T : Nat → Option TS} (hB : FB1 x (rN (xm_ x)) B) : ∀ (n' n p : Nat) (z : BS) (M : MW), rN (xm_ x) < n' + p → rN (xm_ x) < n + p → p ≤ rN (xm_ x) → (p < rN (xm_ x) → B p = true) → P2 M a (rN (xm_ x)) T z → Frm x B p z →
    ∃ M', f_X6_buries_b263 n (p : Int) M = some (1, M') ∧ P2 M' a (rN (xm_ x)) T (bu2 (rN (xm_ x)) B T n' p z) ∧ ChM M M' (Kb2 a) := by
  intro n'
  induction n' with
  | zero => intro n p z M h1 h2 h3; omega
  | succ n' ih =>
    intro n p z M h1 h2 hp hbp h hz
    obtain ⟨⟨q1, q2, q0, h0⟩, q3, q4, _, q6, q7⟩ := id h
    obtain ⟨n, rfl⟩ : ∃ k, n = k + 1 := ⟨n - 1, by omega⟩
    rw [show f_X6_buries_b263 (n + 1) (p : Int) M = f_X6_buries_s263 (f_X6_buries_b263 n) (p : Int) M from rfl]
    unfold f_X6_buries_s263
    rw [rd_k (mI M 0 33), q3, ax_k (by omega), Int.toNat_natCast, rd_k, q4, w32_n _ (by omega), w32_n _ (by omega)]
    by_cases e : rN (xm_ x) ≤ p
    · rw [if_pos (by omega), show bu2 (rN (xm_ x)) B T (n' + 1) p z = z from if_pos e]
      exact ⟨M, rfl, h, ChM.r _ _⟩
    · have bp := hbp (by omega)
      obtain ⟨_, c2, _, c4, c5⟩ := hB.2.2 p bp
      obtain ⟨z1, z2, _⟩ := wrg_z c2
      have ed : ded z.2.1 T p = ded B T p := by unfold ded; rw [(hz p (by omega)).2]
      rw [if_neg (by omega), m_isDead2 h (by omega), mB_k, ite_b, ed]
      cases d : ded B T p with
      | false =>
        have sk : bu2 (rN (xm_ x)) B T (n' + 1) p z = bu2 (rN (xm_ x)) B T n' (p + szo (rC (xm_ x) p)) z := bu2_s _ _ _ _ h1 (by omega) z2 (fun r r1 r2 => by
          by_cases er : r = p
          · rw [er]; exact d
          · unfold ded; rw [c5 r (by omega) r2]; rfl)
        have R := ih n (p + szo (rC (xm_ x) p)) z M (by omega) (by omega) z2 c4 h (fun k hk => hz k (by omega))
        rw [if_neg (by decide), sk]
        unfold f_X6_buries_b293 f_X6_buries_b417 f_X6_buries_b440
        rw [w32_n _ (by omega), if_pos (Int.le_refl _), if_pos (Int.le_refl _), rd_k (mI M 0 33), q3, m_at2 h (by omega), mB_k, m_length (h0 p), mB_k, (hz p (by omega)).1]
        rw [Int.natCast_add] at R
        exact R
      | true =>
        have gt := rend_gt d (show p < rN (xm_ x) by omega)
        have le := rend_le (N := rN (xm_ x)) (B := B) (T := T) 121 p hp
        have re : f_X6_rowEnd (p : Int) M = some ((rend (rN (xm_ x)) B T 121 p : Int), M) := m_rowEnd2 hB h hz FU p (by rw [FU_v]; omega) hp hbp (by omega)
        have lv : rend (rN (xm_ x)) B T 121 p < rN (xm_ x) → B (rend (rN (xm_ x)) B T 121 p) = true := fun hlt => by
          have := rend_lv (N := rN (xm_ x)) (B := B) (T := T) 121 p (by omega) hlt
          unfold liv at this
          rw [Bool.and_eq_true] at this
          exact this.1
        obtain ⟨M1, g1, g2, g3⟩ := m_row h gt le (f_X6_buries_b263 n)
        rw [if_pos rfl, re, mB_k, g1, show bu2 (rN (xm_ x)) B T (n' + 1) p z = bu2 (rN (xm_ x)) B T n' (rend (rN (xm_ x)) B T 121 p) (rowS p (rend (rN (xm_ x)) B T 121 p) z) from (if_neg e).trans (if_pos d)]
        obtain ⟨M', r1, r2, r3⟩ := ih n (rend (rN (xm_ x)) B T 121 p) _ M1 (by omega) (by omega) le lv g2 (fun k hk => by
          have := hz k (by omega)
          refine ⟨?_, ?_⟩
          · show (if p ≤ k ∧ k < _ then _ else z.1 k) = _
            rw [if_neg (by omega)]; exact this.1
          · show (if p ≤ k ∧ k < _ then false else z.2.1 k) = _
            rw [if_neg (by omega)]; exact this.2)
        exact ⟨M', r1, r2, g3.tr r3⟩
def KBu (a k j : Nat) : Prop := KC2 k j ∨ KHd a k j ∨ Kb2 a k j ∨ (k = 13 ∧ j = a)
/-- code, begins, dead rows, maxStack at first -/
def bz0 (x : VC) (B : Nat → Bool) : BS := (rC (xm_ x), B, fun _ => false, rS (xm_ x))
theorem m_buries {M : MW} {x : VC} {a : Nat} {B : Nat → Bool} {T : Nat → Option TS} (hB : FB1 x (rN (xm_ x)) B) (h0 : 0 < rN (xm_ x)) (h : P2 M a (rN (xm_ x)) T (bz0 x B)) (hm : MHd M a (rH (xm_ x))) (hl : (rH (xm_ x)).length ≤ 12) (hw : ∀ h ∈ rH (xm_ x), HdB h) :
    match bu1 (rN (xm_ x)) B T 121 0 (rH (xm_ x)) with
    | .inl e => ∃ M', f_X6_buries M = some (0, M') ∧ mI M' 0 35 = (e.1 : Int) ∧ mI M' 0 36 = (e.2 : Int) ∧ ChM M M' KC2
    | .inr hs => ∃ M', f_X6_buries M = some (1, M') ∧ P2 M' a (rN (xm_ x)) T (bu2 (rN (xm_ x)) B T 121 0 (bz0 x B)) ∧ MHd M' a hs ∧ hs.length ≤ 12 ∧ (∀ h ∈ hs, HdB h) ∧ ChM M M' (KBu a) := by
  obtain ⟨⟨q1, q2, q0, _⟩, q3, q4, _, q6, q7⟩ := id h
  let M1 := msI M 0 45 0
  have c1 : ChM M M1 KCt := (ChM.r M KCt).st (Or.inr ⟨rfl, rfl⟩)
  have h33 : mI M1 0 33 = (a : Int) := by rw [c1.2 _ _ (by unfold KCt; omega)]; exact q3
  have hm1 : MHd M1 a (rH (xm_ x)) := ⟨by rw [c1.2 _ _ (by unfold KCt; omega)]; exact hm.1, fun i h hi => by
    rw [c1.2 _ _ (by unfold KCt; omega), c1.2 _ _ (by unfold KCt; omega), c1.2 _ _ (by unfold KCt; omega), c1.2 _ _ (by unfold KCt; omega)]
    exact hm.2 i h hi⟩
  obtain ⟨M2, e2, t2, c2⟩ := m_b13 q1 (show (rH (xm_ x)).length ≤ 16 by omega) (rH (xm_ x)) 0 FU M1 rfl (by omega) (by rw [FU_v]; omega) hm1 h33 ⟨mI_s rfl, fun i h hi => by cases hi⟩
  have c12 := c1.tr c2
  have hP2 : P2 M2 a (rN (xm_ x)) T (bz0 x B) := h.mv c12 (fun k j hk => by unfold KCt at hk; omega)
  have G := m_bu1 (a := a) (T := T) (z := bz0 x B) hB (fun k _ => ⟨rfl, rfl⟩) 121 FU 0 (rH (xm_ x)) M2 (by omega) (by rw [FU_v]; omega) (by omega) (fun _ => hB.2.1 h0) hP2 t2 hl hw
  have top : f_X6_buries M = f_X6_buries_b70 FU ((0 : Nat) : Int) M2 := by
    unfold f_X6_buries
    rw [rd_k (msI M 0 45 0), rd_k, show mI (msI M 0 45 0) 0 33 = _ from h33, rd_k]
    exact e2
  rw [top]
  generalize bu1 (rN (xm_ x)) B T 121 0 (rH (xm_ x)) = r at G ⊢
  cases r with
  | inl er =>
    obtain ⟨M3, r1, r2, r3, r4⟩ := G
    exact ⟨M3, r1, r2, r3, (c12.mono (fun _ _ h => Or.inl h)).tr r4⟩
  | inr hs =>
    obtain ⟨M3, r1, r2, r3, r4, r5⟩ := G
    let M4 := msI M3 13 a (hs.length : Int)
    have c13 := c12.tr r5
    have h4 : mI M4 0 33 = (a : Int) := by show mI (msI M3 13 _ _) 0 33 = _; rw [mI_o (by omega), c13.2 _ _ (by unfold KCt; omega)]; exact q3
    obtain ⟨M5, i1, i2, i3⟩ := m_b167 (hs := hs) q1 r3 hs.length 0 FU M4 (by omega) (by omega) (by rw [FU_v]; omega) h4 ⟨by show mI (msI M3 13 _ _) 0 45 = _; rw [mI_o (by omega)]; exact r2.1, fun k h hk => by
      show mI (msI M3 13 _ _) 34 k = _ ∧ mI (msI M3 13 _ _) 35 k = _ ∧ mI (msI M3 13 _ _) 36 k = _ ∧ mI (msI M3 13 _ _) 37 k = _
      rw [mI_o (by omega), mI_o (by omega), mI_o (by omega), mI_o (by omega)]
      exact r2.2 k h hk⟩ (mI_s rfl) (fun k h hk => by omega)
    have c4 : ChM M3 M4 (KBu a) := (ChM.r M3 (KBu a)).st (by unfold KBu; omega)
    have c35 : ChM M M5 (KBu a) := ((c13.mono (fun k j h => Or.inl (Or.inl h))).tr c4).tr (i3.mono (fun k j h => Or.inr (Or.inl h)))
    have c5 : ChM M M5 (fun k j => KCt k j ∨ KHd a k j ∨ (k = 13 ∧ j = a)) := ((c13.mono (fun k j h => Or.inl h)).tr ((ChM.r M3 (fun k j => KCt k j ∨ KHd a k j ∨ (k = 13 ∧ j = a))).st (Or.inr (Or.inr ⟨rfl, rfl⟩)))).tr (i3.mono (fun k j h => Or.inr (Or.inl h)))
    have hP5 : P2 M5 a (rN (xm_ x)) T (bz0 x B) := h.mv c5 (fun k j hk => by unfold KCt KHd at hk; omega)
    obtain ⟨M6, j1, j2, j3⟩ := m_bu2 (a := a) (T := T) hB 121 FU 0 (bz0 x B) M5 (by omega) (by rw [FU_v]; omega) (by omega) (fun _ => hB.2.1 h0) hP5 (fun k _ => ⟨rfl, rfl⟩)
    refine ⟨M6, ?_, j2, ⟨by rw [j3.2 _ _ (by unfold Kb2; omega)]; exact i2.1, fun k h hk => ?_⟩, r3, r4, c35.tr (j3.mono (fun k j h => Or.inr (Or.inr (Or.inl h))))⟩
    · exact (r1.trans i1).trans j1
    · rw [j3.2 _ _ (by unfold Kb2; omega), j3.2 _ _ (by unfold Kb2; omega), j3.2 _ _ (by unfold Kb2; omega), j3.2 _ _ (by unfold Kb2; omega)]
      exact i2.2 k h hk
