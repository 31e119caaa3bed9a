/-! LAYER C: where frames are, in plain words; the model finds them -/
def fs1 (N : Nat) (z : BS) (p : Nat) (X : Nat → Bool) : Nat → Bool := if z.2.2.1 p = true then up1 X p true else X
def fs2 (N : Nat) (z : BS) (p : Nat) (X : Nat → Bool) : Nat → Bool := if (z.2.1 p && isBr (z.1 p)) = true then up1 X (tgt z.1 p).toNat true else X
def fs3 (N : Nat) (z : BS) (p : Nat) (X : Nat → Bool) : Nat → Bool := if (z.2.1 p && isLa (z.1 p) && decide (p + szo (z.1 p) < N)) = true then up1 X (p + szo (z.1 p)) true else X
def fr2 (N : Nat) (z : BS) : Nat → Nat → (Nat → Bool) → Nat → Bool
  | 0, _, X => X
  | n + 1, p, X => if N ≤ p then X else fr2 N z n (p + 1) (fs3 N z p (fs2 N z p (fs1 N z p X)))
def frH : List HD → (Nat → Bool) → Nat → Bool
  | [], X => X
  | h :: l, X => frH l (up1 X (dP h) true)
def frX (N : Nat) (z : BS) (hs : List HD) : Nat → Bool := frH hs (fr2 N z 121 0 (fun _ => false))
def cnF (X : Nat → Bool) : Nat → Nat
  | 0 => 0
  | n + 1 => cnF X n + (if X n = true then 1 else 0)
def FrM (M : MW) (a : Nat) (X : Nat → Bool) : Prop := ∀ k, k < 120 → mI M 28 (120 * a + k) = b2i (X k)
def K28 (a k j : Nat) : Prop := k = 28 ∧ 120 * a ≤ j ∧ j < 120 * a + 120
theorem m_frame {M : MW} {a q : Nat} {X : Nat → Bool} {z : Int} (ha : a < 8) (h33 : mI M 0 33 = (a : Int)) (hX : FrM M a X) (hq : q < 120) (hz : z = (q : Int)) : ∃ M', f_X6_frame z M = some ((), M') ∧ FrM M' a (up1 X q true) ∧ ChM M M' (K28 a) := by
  subst hz
  unfold f_X6_frame
  rw [rd_k (mI M 0 33), h33, ax_k (by omega), show (120 * (a : Int) + (q : Int)).toNat = 120 * a + q by omega, iAnd_11, rd_k]
  refine ⟨_, rfl, fun k hk => ?_, (ChM.r M _).st (by unfold K28; omega)⟩
  show _ = b2i (if k = q then true else X k)
  by_cases e : k = q
  · rw [if_pos e, e, mI_s rfl]; rfl
  · rw [if_neg e, mI_o (by omega)]; exact hX k hk
/-- of code that lost its dead rows: what branches to, where instructions end -/
def CdZ (N : Nat) (z : BS) : Prop := ∀ q, q < N → z.2.1 q = true → (isBr (z.1 q) = true → 0 ≤ tgt z.1 q ∧ tgt z.1 q < N ∧ q + 2 < N) ∧ 0 < szo (z.1 q) ∧ q + szo (z.1 q) ≤ N
theorem m_fr2 {N a : Nat} {T : Nat → Option TS} {z : BS} (cz : CdZ N z) : ∀ (n' n p : Nat) (X : Nat → Bool) (M : MW), N < n' + p → N < n + p → p ≤ N → P2 M a N T z → FrM M a X → ∃ M', f_X6_findFrames_b2 n (p : Int) M = f_X6_findFrames_b134 FU ((16 * a : Nat) : Int) M' ∧ FrM M' a (fr2 N z n' p X) ∧ ChM M M' (K28 a) := by
  intro n'
  induction n' with
  | zero => intro n p X M h1 h2 h3; omega
  | succ n' ih =>
    intro n p X M h1 h2 hp h hX
    obtain ⟨⟨q1, q2, q0, h0⟩, q3, q4, _, q6, q7⟩ := id h
    obtain ⟨n, rfl⟩ : ∃ k, n = k + 1 := ⟨n - 1, by omega⟩
    show ∃ M', f_X6_findFrames_s2 (f_X6_findFrames_b2 n) (p : Int) M = _ ∧ _
    unfold f_X6_findFrames_s2
    rw [rd_k (mI M 0 33), q3, ax_k (by omega), Int.toNat_natCast, rd_k, q4, w32_n _ (by omega), w32_n _ (by omega)]
    by_cases e : N ≤ p
    · rw [if_pos (by omega), rd_k, rd_k, show fr2 N z (n' + 1) p X = X from if_pos e]
      exact ⟨M, rfl, hX, ChM.r _ _⟩
    · have K : ∀ M1, ChM M M1 (K28 a) → P2 M1 a N T z := fun M1 c => h.mv c (fun k j hk => by unfold K28 at hk; omega)
      rw [show fr2 N z (n' + 1) p X = fr2 N z n' (p + 1) (fs3 N z p (fs2 N z p (fs1 N z p X))) from if_neg e]
      -- the last part
      have p3 : ∀ M1 X1, ChM M M1 (K28 a) → FrM M1 a X1 → ∃ M', f_X6_findFrames_b81 (f_X6_findFrames_b2 n) (p : Int) (z.1 p : Int) (b2i (z.2.1 p)) M1 = f_X6_findFrames_b134 FU ((16 * a : Nat) : Int) M' ∧ FrM M' a (fr2 N z n' (p + 1) (fs3 N z p X1)) ∧ ChM M M' (K28 a) := by
        intro M1 X1 c1 hX1
        have h1' := K M1 c1
        obtain ⟨_, r3, r4, _⟩ := id h1'
        have nx : ∀ M2 X2, ChM M M2 (K28 a) → FrM M2 a X2 → X2 = fs3 N z p X1 → ∃ M', f_X6_findFrames_b120 (f_X6_findFrames_b2 n) (p : Int) M2 = f_X6_findFrames_b134 FU ((16 * a : Nat) : Int) M' ∧ FrM M' a (fr2 N z n' (p + 1) (fs3 N z p X1)) ∧ ChM M M' (K28 a) := by
          intro M2 X2 c2 hX2 e2
          obtain ⟨M', g1, g2, g3⟩ := ih n (p + 1) X2 M2 (by omega) (by omega) (by omega) (K M2 c2) hX2
          exact ⟨M', g1, by rw [← e2]; exact g2, c2.tr g3⟩
        unfold f_X6_findFrames_b81
        rw [ite_b]
        cases eb : z.2.1 p with
        | false =>
          rw [if_neg (by decide)]
          exact nx M1 X1 c1 hX1 (by unfold fs3; rw [eb]; rfl)
        | true =>
          obtain ⟨_, z1, z2⟩ := cz p (by omega) eb
          rw [if_pos rfl, m_stops (h0 p), mB_k, ite_b]
          cases el : isLa (z.1 p) with
          | false =>
            rw [if_neg (by decide)]
            exact nx M1 X1 c1 hX1 (by unfold fs3; rw [el, Bool.and_false]; rfl)
          | true =>
            rw [if_pos rfl, m_length (h0 p), mB_k, rd_k (mI M1 0 33), r3, ax_k (by omega), Int.toNat_natCast, rd_k, r4, w32_n _ (by omega), w32_i (by omega)]
            by_cases e3 : p + szo (z.1 p) < N
            · obtain ⟨M2, g1, g2, g3⟩ := m_frame (q := p + szo (z.1 p)) (z := (p : Int) + (szo (z.1 p) : Int)) q1 r3 hX1 (by omega) (by omega)
              rw [if_neg (by omega), m_length (h0 p), mB_k, g1, mB_k]
              exact nx M2 _ (c1.tr g3) g2 (by unfold fs3; rw [eb, el, decide_eq_true e3]; rfl)
            · rw [if_pos (by omega)]
              exact nx M1 X1 c1 hX1 (by unfold fs3; rw [decide_eq_false e3, Bool.and_false]; rfl)
      have p2 : ∀ M1 X1, ChM M M1 (K28 a) → FrM M1 a X1 → ∃ M', f_X6_findFrames_b57 (f_X6_findFrames_b2 n) (p : Int) (z.1 p : Int) (b2i (z.2.1 p)) M1 = f_X6_findFrames_b134 FU ((16 * a : Nat) : Int) M' ∧ FrM M' a (fr2 N z n' (p + 1) (fs3 N z p (fs2 N z p X1))) ∧ ChM M M' (K28 a) := by
        intro M1 X1 c1 hX1
        have h1' := K M1 c1
        obtain ⟨_, r3, r4, _⟩ := id h1'
        unfold f_X6_findFrames_b57
        rw [ite_b]
        cases eb : z.2.1 p with
        | false =>
          have R := p3 M1 X1 c1 hX1
          rw [eb] at R
          rw [if_neg (by decide), show fs2 N z p X1 = X1 by unfold fs2; rw [eb]; rfl]
          exact R
        | true =>
          obtain ⟨z0, _, _⟩ := cz p (by omega) eb
          rw [if_pos rfl, m_branches (h0 p), mB_k, ite_b]
          cases el : isBr (z.1 p) with
          | false =>
            have R := p3 M1 X1 c1 hX1
            rw [eb] at R
            rw [if_neg (by decide), show fs2 N z p X1 = X1 by unfold fs2; rw [el, Bool.and_false]; rfl]
            exact R
          | true =>
            obtain ⟨t1, t2, t3⟩ := z0 el
            have et : f_X6_target (a : Int) (p : Int) M1 = some (tgt z.1 p, M1) := by
              unfold f_X6_target
              rw [show (p : Int) + 1 = ((p + 1 : Nat) : Int) by omega, m_at2 h1' (by omega), mB_k, show (p : Int) + 2 = ((p + 2 : Nat) : Int) by omega, m_at2 h1' (by omega), mB_k]
              rfl
            obtain ⟨M2, g1, g2, g3⟩ := m_frame (q := (tgt z.1 p).toNat) (z := tgt z.1 p) q1 r3 hX1 (by omega) (by omega)
            have R := p3 M2 _ (c1.tr g3) g2
            rw [eb] at R
            rw [if_pos rfl, rd_k (mI M1 0 33), r3, et, mB_k, g1, mB_k, show fs2 N z p X1 = up1 X1 (tgt z.1 p).toNat true by unfold fs2; rw [eb, el]; rfl]
            exact R
      rw [if_neg (by omega), rd_k, m_at2 h (by omega), mB_k, rd_k (mI M 0 33), q3, m_isBeg2 h (by omega), mB_k, rd_k (mI M 0 33), q3, ax_k (by omega), show (120 * (a : Int) + (p : Int)).toNat = 120 * a + p by omega, rd_k, (q6 p (by omega)).2.2, ite_b, decide_eq_true (by omega), Bool.true_and]
      cases ed : z.2.2.1 p with
      | false =>
        rw [if_neg (by decide), show fs1 N z p X = X by unfold fs1; rw [ed]; rfl]
        exact p2 M X (ChM.r _ _) hX
      | true =>
        obtain ⟨M2, g1, g2, g3⟩ := m_frame (q := p) (z := (p : Int)) q1 q3 hX (by omega) rfl
        rw [if_pos rfl, g1, mB_k, show fs1 N z p X = up1 X p true by unfold fs1; rw [ed]; rfl]
        exact p2 M2 _ g3 g2
theorem m_frH {a : Nat} (ha : a < 8) {hs : List HD} (hl : hs.length ≤ 16) (hw : ∀ h ∈ hs, dP h < 120) : ∀ (l : List HD) (i n : Nat) (X : Nat → Bool) (M : MW), hs.drop i = l → i ≤ hs.length → hs.length < n + i → MHd M a hs → mI M 0 33 = (a : Int) → FrM M a X → ∃ M', f_X6_findFrames_b134 n ((16 * a + i : Nat) : Int) M = f_X6_findFrames_b175 FU 0 0 M' ∧ FrM M' a (frH l X) ∧ ChM M M' (K28 a) := by
  intro l
  induction l with
  | nil =>
    intro i n X M hd hi hn hm h33 hX
    obtain ⟨n, rfl⟩ : ∃ k, n = k + 1 := ⟨n - 1, by omega⟩
    have ei : i = hs.length := by
      have := congrArg List.length hd
      rw [List.length_drop] at this
      have e0 : ([] : List HD).length = 0 := rfl
      omega
    show ∃ M', f_X6_findFrames_s134 (f_X6_findFrames_b134 n) ((16 * a + i : Nat) : Int) M = _ ∧ _
    unfold f_X6_findFrames_s134
    rw [rd_k (mI M 0 33), h33, rd_k, ax_k (by omega), Int.toNat_natCast, rd_k, hm.1, w32_i (by omega), w32_n _ (by omega), if_pos (by omega)]
    exact ⟨M, rfl, hX, ChM.r _ _⟩
  | cons h l ih =>
    intro i n X M hd hi hn hm h33 hX
    obtain ⟨n, rfl⟩ : ∃ k, n = k + 1 := ⟨n - 1, by omega⟩
    have hk : i < hs.length := by
      have := congrArg List.length hd
      rw [List.length_drop] at this
      have e0 : (h :: l).length = l.length + 1 := rfl
      omega
    have ht : hs[i]? = some h := by
      have : (hs.drop i)[0]? = some h := by rw [hd]; rfl
      rw [List.getElem?_drop] at this
      exact this
    have hd2 : hs.drop (i + 1) = l := by
      rw [← List.drop_drop, hd]; rfl
    obtain ⟨_, _, c3, _⟩ := hm.2 i h ht
    have hp := hw h (List.mem_of_getElem? ht)
    obtain ⟨M1, g1, g2, g3⟩ := m_frame (q := dP h) (z := (dP h : Int)) ha h33 hX hp rfl
    show ∃ M', f_X6_findFrames_s134 (f_X6_findFrames_b134 n) ((16 * a + i : Nat) : Int) M = _ ∧ _
    unfold f_X6_findFrames_s134
    rw [rd_k (mI M 0 33), h33, rd_k, ax_k (by omega), Int.toNat_natCast, rd_k, hm.1, w32_i (by omega), w32_n _ (by omega), if_neg (by omega), ax_k (by omega), Int.toNat_natCast, rd_k, c3, g1, mB_k]
    obtain ⟨M', r1, r2, r3⟩ := ih (i + 1) n _ M1 hd2 (by omega) (by omega) ⟨by rw [g3.2 _ _ (by unfold K28; omega)]; exact hm.1, fun j h' hj => by
      rw [g3.2 _ _ (by unfold K28; omega), g3.2 _ _ (by unfold K28; omega), g3.2 _ _ (by unfold K28; omega), g3.2 _ _ (by unfold K28; omega)]
      exact hm.2 j h' hj⟩ (by rw [g3.2 _ _ (by unfold K28; omega)]; exact h33) g2
    exact ⟨M', r1, r2, g3.tr r3⟩
theorem cnF_le (X : Nat → Bool) : ∀ n, cnF X n ≤ n
  | 0 => Nat.le_refl _
  | n + 1 => by
    have := cnF_le X n
    unfold cnF
    split <;> omega
theorem m_cnF {M : MW} {a N : Nat} {X : Nat → Bool} (ha : a < 8) (hN : N ≤ 120) (h33 : mI M 0 33 = (a : Int)) (h9 : mI M 9 a = (N : Int)) (hX : FrM M a X) : ∀ (n k : Nat), N < n + k → k ≤ N → f_X6_findFrames_b175 n (cnF X k : Int) (k : Int) M = some ((cnF X N : Int), M) := by
  intro n
  induction n with
  | zero => intro k h1 h2; omega
  | succ n ih =>
    intro k h1 h2
    show f_X6_findFrames_s175 (f_X6_findFrames_b175 n) (cnF X k : Int) (k : Int) M = _
    unfold f_X6_findFrames_s175 f_X6_findFrames_b211
    rw [rd_k (mI M 0 33), h33, ax_k (by omega), Int.toNat_natCast, rd_k, h9, w32_n _ (by omega), w32_n _ (by omega)]
    by_cases e : N ≤ k
    · have : k = N := by omega
      rw [if_pos (by omega), this]
    · have R := ih (k + 1) (by omega) (by omega)
      have ec : cnF X (k + 1) = cnF X k + (if X k = true then 1 else 0) := rfl
      rw [if_neg (by omega), rd_k, ax_k (by omega), show (120 * (a : Int) + (k : Int)).toNat = 120 * a + k by omega, rd_k, hX k (by omega), ite_b]
      cases eX : X k with
      | false =>
        rw [ec, eX] at R
        rw [if_neg (by decide), rd_k]; exact R
      | true =>
        rw [ec, eX] at R
        rw [if_pos rfl, rd_k]; exact R
theorem m_findFrames {M : MW} {a N : Nat} {T : Nat → Option TS} {z : BS} {hs : List HD} (cz : CdZ N z) (h : P2 M a N T z) (hm : MHd M a hs) (hl : hs.length ≤ 16) (hw : ∀ h ∈ hs, dP h < 120) (hX : FrM M a (fun _ => false)) : ∃ M', f_X6_findFrames M = some ((cnF (frX N z hs) N : Int), M') ∧ FrM M' a (frX N z hs) ∧ ChM M M' (K28 a) := by
  obtain ⟨⟨q1, q2, q0, h0⟩, q3, q4, _⟩ := id h
  obtain ⟨M1, e1, f1, c1⟩ := m_fr2 cz 121 FU 0 _ M (by omega) (by rw [FU_v]; omega) (by omega) h hX
  obtain ⟨M2, e2, f2, c2⟩ := m_frH q1 hl hw hs 0 FU _ M1 rfl (by omega) (by rw [FU_v]; omega) ⟨by rw [c1.2 _ _ (by unfold K28; omega)]; exact hm.1, fun j h' hj => by
      rw [c1.2 _ _ (by unfold K28; omega), c1.2 _ _ (by unfold K28; omega), c1.2 _ _ (by unfold K28; omega), c1.2 _ _ (by unfold K28; omega)]
      exact hm.2 j h' hj⟩ (by rw [c1.2 _ _ (by unfold K28; omega)]; exact q3) f1
  have c := c1.tr c2
  have e3 := m_cnF (M := M2) (a := a) (N := N) q1 q2 (by rw [c.2 _ _ (by unfold K28; omega)]; exact q3) (by rw [c.2 _ _ (by unfold K28; omega)]; exact q4) f2 FU 0 (by rw [FU_v]; omega) (by omega)
  refine ⟨M2, ?_, f2, c⟩
  unfold f_X6_findFrames
  exact ((show _ = _ from e1).trans e2).trans e3
