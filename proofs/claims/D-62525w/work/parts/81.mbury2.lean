/-! LAYER C: the model's dead rows, passes -/
theorem cut1_B {a b : Nat} {h : HD} (ha : a ≤ 120) (hb : b ≤ 120) (hh : HdB h) : ∀ g ∈ cut1 a b h, HdB g := by
  obtain ⟨h1, h2, h3, h4, h5⟩ := hh
  intro g hg
  unfold cut1 at hg
  split at hg
  · rw [List.mem_singleton.mp hg]; exact ⟨h1, h2, h3, h4, h5⟩
  · rcases List.mem_append.mp hg with h | h
    · split at h
      · rw [List.mem_singleton.mp h]; exact ⟨h1, ha, h3, h4, h5⟩
      · exact absurd h (List.not_mem_nil)
    · split at h
      · rw [List.mem_singleton.mp h]; exact ⟨hb, h2, h3, h4, h5⟩
      · exact absurd h (List.not_mem_nil)
theorem cuts_B {a b : Nat} {hs : List HD} (ha : a ≤ 120) (hb : b ≤ 120) (hh : ∀ h ∈ hs, HdB h) : ∀ g ∈ cuts a b hs, HdB g := by
  intro g hg
  obtain ⟨h, h1, h2⟩ := List.mem_flatMap.mp hg
  exact cut1_B ha hb (hh h h1) g h2
/-- the cells of a method's code, begins, dead rows -/
def P2 (M : MW) (a N : Nat) (T : Nat → Option TS) (z : BS) : Prop := (a < 8 ∧ N ≤ 120 ∧ z.2.2.2 ≤ 12 ∧ ∀ k, z.1 k < 256) ∧ mI M 0 33 = (a : Int) ∧ mI M 9 a = (N : Int) ∧ mI M 11 a = (z.2.2.2 : Int) ∧ (∀ k, k < 120 → mI M 10 (120 * a + k) = (z.1 k : Int) ∧ mI M 22 (120 * a + k) = b2i (z.2.1 k) ∧ mI M 27 (120 * a + k) = b2i (z.2.2.1 k)) ∧ ∀ k, k < 120 → match T k with
    | none => mI M 23 (120 * a + k) = -1
    | some s => mI M 23 (120 * a + k) = (s.2.length : Int) ∧ s.2.length ≤ 12
theorem P2.mv {M M' : MW} {a N : Nat} {T : Nat → Option TS} {z : BS} {K : Nat → Nat → Prop} (h : P2 M a N T z) (c : ChM M M' K) (hK : ∀ k j, K k j → (k ≠ 0 ∨ j ≠ 33) ∧ k ≠ 9 ∧ k ≠ 10 ∧ k ≠ 11 ∧ k ≠ 22 ∧ k ≠ 23 ∧ k ≠ 27) : P2 M' a N T z := by
  obtain ⟨h1, h2, h3, h4, h5, h6⟩ := h
  have o : ∀ k j, (k = 0 ∧ j = 33 ∨ k = 9 ∨ k = 10 ∨ k = 11 ∨ k = 22 ∨ k = 23 ∨ k = 27) → mI M' k j = mI M k j := fun k j hkj => c.2 k j (fun hn => by have := hK k j hn; omega)
  refine ⟨h1, by rw [o _ _ (by omega)]; exact h2, by rw [o _ _ (by omega)]; exact h3, by rw [o _ _ (by omega)]; exact h4, fun k hk => ?_, fun k hk => ?_⟩
  · rw [o _ _ (by omega), o _ _ (by omega), o _ _ (by omega)]; exact h5 k hk
  · rw [o _ _ (by omega)]; exact h6 k hk
theorem m_at2 {M : MW} {a N k : Nat} {T : Nat → Option TS} {z : BS} (h : P2 M a N T z) (hk : k < 120) : f_X6_at (a : Int) (k : Int) M = some ((z.1 k : Int), M) := by
  have := h.1.1
  unfold f_X6_at
  rw [ax_k (by omega), show (120 * (a : Int) + (k : Int)).toNat = 120 * a + k by omega, rd_k, (h.2.2.2.2.1 k hk).1]
theorem m_isBeg2 {M : MW} {a N k : Nat} {T : Nat → Option TS} {z : BS} (h : P2 M a N T z) (hk : k ≤ 120) : f_X6_isBeginning (a : Int) (k : Int) M = some (b2i (decide (k < N) && z.2.1 k), M) := by
  obtain ⟨⟨h1, h2, _⟩, _, h4, _, h6, _⟩ := h
  unfold f_X6_isBeginning f_X6_isBeginning_b41
  rw [w32_n _ (by omega), if_neg (by omega), ax_k (by omega), Int.toNat_natCast, rd_k, h4, w32_n _ (by omega)]
  by_cases e2 : N ≤ k
  · rw [if_pos (by omega), decide_eq_false (by omega)]; rfl
  · rw [if_neg (by omega), if_neg (by omega), ax_k (by omega), Int.toNat_natCast, rd_k, h4, w32_n _ (by omega), if_neg (by omega), ax_k (by omega), show (120 * (a : Int) + (k : Int)).toNat = 120 * a + k by omega, rd_k, (h6 k (by omega)).2.1, ite_b, decide_eq_true (by omega), Bool.true_and]
    cases z.2.1 k <;> rfl
theorem m_isDead2 {M : MW} {a N k : Nat} {T : Nat → Option TS} {z : BS} (h : P2 M a N T z) (hk : k < N) : f_X6_isDead (k : Int) M = some (b2i (ded z.2.1 T k), M) := by
  obtain ⟨⟨h1, h2, _⟩, h3, h4, _, h6, h7⟩ := id h
  unfold f_X6_isDead
  rw [rd_k (mI M 0 33), h3, m_isBeg2 h (by omega), mB_k, ite_b, decide_eq_true hk, Bool.true_and]
  unfold ded
  cases e : z.2.1 k with
  | false => rw [if_neg (by decide)]; rfl
  | true =>
    rw [if_pos rfl, rd_k (mI M 0 33), h3, ax_k (by omega), show (120 * (a : Int) + (k : Int)).toNat = 120 * a + k by omega, rd_k]
    have t := h7 k (by omega)
    cases eT : T k with
    | none => rw [eT] at t; rw [show mI M 23 (120 * a + k) = -1 from t, show w32 (-1) = -1 by decide, if_neg (by decide)]; rfl
    | some s => rw [eT] at t; rw [t.1, w32_n _ (by omega), if_pos (by omega)]; rfl
/-- what stands still from p on -/
def Frm (x : VC) (B : Nat → Bool) (p : Nat) (z : BS) : Prop := ∀ k, p ≤ k → z.1 k = rC (xm_ x) k ∧ z.2.1 k = B k
theorem m_rowEnd2 {M : MW} {x : VC} {a : Nat} {B : Nat → Bool} {T : Nat → Option TS} {z : BS} {p : Nat} (hB : FB1 x (rN (xm_ x)) B) (h : P2 M a (rN (xm_ x)) T z) (hf : Frm x B p z) : ∀ (n e : Nat), rN (xm_ x) < n + e → e ≤ rN (xm_ x) → (e < rN (xm_ x) → B e = true) → p ≤ e → f_X6_rowEnd_b2 n (e : Int) M = some ((rend (rN (xm_ x)) B T 121 e : Int), M) := by
  obtain ⟨⟨h1, h2, _, h0⟩, h3, h4, _, h6, h7⟩ := id h
  intro n
  induction n with
  | zero => intro e g1 g2; omega
  | succ n ih =>
    intro e g1 g2 g3 g4
    show f_X6_rowEnd_s2 (f_X6_rowEnd_b2 n) (e : Int) M = _
    unfold f_X6_rowEnd_s2
    rw [rd_k (mI M 0 33), h3, ax_k (by omega), Int.toNat_natCast, rd_k, h4, w32_n _ (by omega), w32_n _ (by omega)]
    by_cases c : rN (xm_ x) ≤ e
    · rw [if_pos (by omega), show rend (rN (xm_ x)) B T 121 e = e from if_pos c]
    · rw [if_neg (by omega), m_isDead2 h (by omega), mB_k, ite_b]
      have eB := g3 (by omega)
      have ed : ded z.2.1 T e = ded B T e := by unfold ded; rw [(hf e g4).2]
      rw [ed]
      cases d : ded B T e with
      | false =>
        have lv : liv B T e = true := by
          unfold ded at d
          unfold liv
          rw [eB, Bool.true_and] at d ⊢
          cases eT : T e with
          | none => rw [eT] at d; cases d
          | some s => rfl
        rw [if_neg (by decide), show rend (rN (xm_ x)) B T 121 e = e from (if_neg c).trans (if_pos lv)]
      | true =>
        obtain ⟨_, c2, _, c4, c5⟩ := hB.2.2 e eB
        obtain ⟨z1, z2, _⟩ := wrg_z c2
        have o256 := h0 e
        rw [if_pos rfl, rd_k (mI M 0 33), h3, m_at2 h (by omega), mB_k, m_length o256, mB_k, rd_k, (hf e g4).1]
        have R := ih (e + szo (rC (xm_ x) e)) (by omega) z2 c4 (by omega)
        rw [Int.natCast_add] at R
        rw [R, rend_s (szo (rC (xm_ x) e)) 121 121 e (by omega) (by omega) z2 (fun r r1 r2 => by
          by_cases er : r = e
          · rw [er]; exact liv_ded d
          · unfold liv; rw [c5 r (by omega) r2]; rfl)]
def KC2 (k j : Nat) : Prop := KCt k j ∨ (k = 0 ∧ (j = 35 ∨ j = 36))
theorem m_bu1 {x : VC} {a : Nat} {B : Nat → Bool} {T : Nat → Option TS} {z : BS} (hB : FB1 x (rN (xm_ x)) B) (hz : Frm x B 0 z) : ∀ (n' n p : Nat) (hs : List HD) (M : MW), rN (xm_ x) < n' + p → rN (xm_ x) < n + p → p ≤ rN (xm_ x) → (p < rN (xm_ x) → B p = true) → P2 M a (rN (xm_ x)) T z → CtM M hs → hs.length ≤ 12 → (∀ h ∈ hs, HdB h) →
    match bu1 (rN (xm_ x)) B T n' p hs with
    | .inl e => ∃ M', f_X6_buries_b70 n (p : Int) M = some (0, M') ∧ mI M' 0 35 = (e.1 : Int) ∧ mI M' 0 36 = (e.2 : Int) ∧ ChM M M' KC2
    | .inr hs' => ∃ M', f_X6_buries_b70 n (p : Int) M = f_X6_buries_b167 FU 0 (msI M' 13 a (hs'.length : Int)) ∧ CtM M' hs' ∧ hs'.length ≤ 12 ∧ (∀ h ∈ hs', HdB h) ∧ ChM M M' KCt := by
  intro n'
  induction n' with
  | zero => intro n p hs M h1 h2 h3; omega
  | succ n' ih =>
    intro n p hs M h1 h2 hp hbp h ct hl hw
    obtain ⟨⟨q1, q2, _, h0⟩, q3, q4, _, q6, q7⟩ := id h
    obtain ⟨n, rfl⟩ : ∃ k, n = k + 1 := ⟨n - 1, by omega⟩
    rw [show f_X6_buries_b70 (n + 1) (p : Int) M = f_X6_buries_s70 (f_X6_buries_b70 n) (p : Int) M from rfl]
    unfold f_X6_buries_s70
    rw [rd_k (mI M 0 33), q3, ax_k (by omega), Int.toNat_natCast, rd_k, q4, w32_n _ (by omega), w32_n _ (by omega)]
    by_cases e : rN (xm_ x) ≤ p
    · rw [if_pos (by omega), show bu1 (rN (xm_ x)) B T (n' + 1) p hs = .inr hs from if_pos e, rd_k, rd_k, ct.1, ax_k (by omega), Int.toNat_natCast, rd_k]
      exact ⟨M, rfl, ct, hl, hw, ChM.r _ _⟩
    · have bp := hbp (by omega)
      obtain ⟨_, c2, _, c4, c5⟩ := hB.2.2 p bp
      obtain ⟨z1, z2, _⟩ := wrg_z c2
      have ed : ded z.2.1 T p = ded B T p := by unfold ded; rw [(hz p (by omega)).2]
      rw [if_neg (by omega), m_isDead2 h (by omega), mB_k, ite_b, ed]
      cases d : ded B T p with
      | false =>
        have sk : bu1 (rN (xm_ x)) B T (n' + 1) p hs = bu1 (rN (xm_ x)) B T n' (p + szo (rC (xm_ x) p)) hs := bu1_s _ _ _ _ h1 (by omega) z2 (fun r r1 r2 => by
          by_cases er : r = p
          · rw [er]; exact d
          · unfold ded; rw [c5 r (by omega) r2]; rfl)
        have R := ih n (p + szo (rC (xm_ x) p)) hs M (by omega) (by omega) z2 c4 h ct hl hw
        rw [if_neg (by decide), sk]
        unfold f_X6_buries_b101 f_X6_buries_b148
        rw [rd_k (mI M 0 45), ct.1, w32_n _ (by omega), show w32 12 = 12 by decide, if_pos (by omega), m_isDead2 h (by omega), mB_k, ite_b, ed, d, if_neg (by decide), rd_k (mI M 0 33), q3, m_at2 h (by omega), mB_k, m_length (h0 p), mB_k, (hz p (by omega)).1]
        rw [Int.natCast_add] at R
        exact R
      | true =>
        have gt := rend_gt d (show p < rN (xm_ x) by omega)
        have le := rend_le (N := rN (xm_ x)) (B := B) (T := T) 121 p hp
        have re : f_X6_rowEnd (p : Int) M = some ((rend (rN (xm_ x)) B T 121 p : Int), M) := m_rowEnd2 hB h hz FU p (by rw [FU_v]; omega) hp hbp (by omega)
        have lv : rend (rN (xm_ x)) B T 121 p < rN (xm_ x) → B (rend (rN (xm_ x)) B T 121 p) = true := fun hlt => by
          have := rend_lv (N := rN (xm_ x)) (B := B) (T := T) 121 p (by omega) hlt
          unfold liv at this
          rw [Bool.and_eq_true] at this
          exact this.1
        obtain ⟨M1, g1, g2, g3⟩ := m_cut (show p ≤ 120 by omega) (show rend (rN (xm_ x)) B T 121 p ≤ 120 by omega) hw hl ct
        have hP1 : P2 M1 a (rN (xm_ x)) T z := h.mv g3 (fun k j hk => by unfold KCt at hk; omega)
        have len := cuts_len (a := p) (b := rend (rN (xm_ x)) B T 121 p) hs
        rw [if_pos rfl, re, mB_k, g1, mB_k]
        unfold f_X6_buries_b101 f_X6_buries_b148
        rw [rd_k (mI M1 0 45), g2.1, w32_n _ (by omega), show w32 12 = 12 by decide]
        by_cases e3 : 12 < (cuts p (rend (rN (xm_ x)) B T 121 p) hs).length
        · rw [if_neg (by omega), show bu1 (rN (xm_ x)) B T (n' + 1) p hs = .inl (10, p) from (if_neg e).trans ((if_pos d).trans (if_pos e3)), m_faulty, mB_k, isZ_0, gd_t]
          refine ⟨_, rfl, ?_, mI_s rfl, (((g3.mono (fun _ _ h => Or.inl h)).st (Or.inr ⟨rfl, Or.inl rfl⟩)).st (Or.inr ⟨rfl, Or.inr rfl⟩))⟩
          rw [mI_o (by omega), mI_s rfl]; rfl
        · have R := ih n (rend (rN (xm_ x)) B T 121 p) (cuts p (rend (rN (xm_ x)) B T 121 p) hs) M1 (by omega) (by omega) le lv hP1 g2 (by omega) (cuts_B (by omega) (by omega) hw)
          have re1 : f_X6_rowEnd (p : Int) M1 = some ((rend (rN (xm_ x)) B T 121 p : Int), M1) := m_rowEnd2 hB hP1 hz FU p (by rw [FU_v]; omega) hp hbp (by omega)
          rw [if_pos (by omega), m_isDead2 hP1 (by omega), mB_k, ite_b, ed, d, if_pos rfl, re1, mB_k, show bu1 (rN (xm_ x)) B T (n' + 1) p hs = bu1 (rN (xm_ x)) B T n' (rend (rN (xm_ x)) B T 121 p) (cuts p (rend (rN (xm_ x)) B T 121 p) hs) from (if_neg e).trans ((if_pos d).trans (if_neg e3))]
          generalize bu1 (rN (xm_ x)) B T n' (rend (rN (xm_ x)) B T 121 p) (cuts p (rend (rN (xm_ x)) B T 121 p) hs) = r at R ⊢
          cases r with
          | inl er =>
            obtain ⟨M', r1, r2, r3, r4⟩ := R
            exact ⟨M', r1, r2, r3, (g3.mono (fun _ _ h => Or.inl h)).tr r4⟩
          | inr hs' =>
            obtain ⟨M', r1, r2, r3, r4, r5⟩ := R
            exact ⟨M', r1, r2, r3, r4, g3.tr r5⟩
