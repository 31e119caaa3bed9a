/-! LAYER C: the model's form, loops -/
def K22 (a k j : Nat) : Prop := k = 22 ∧ 120 * a ≤ j ∧ j < 120 * a + 120
def KFm (a k j : Nat) : Prop := K22 a k j ∨ (k = 0 ∧ (j = 35 ∨ j = 36))
def HdW (n : Nat) (h : HD) : Prop := dF h ≤ 120 ∧ dT h ≤ 120 ∧ dP h ≤ 120 ∧ (dC h = -1 ∨ (0 ≤ dC h ∧ dC h < (n : Int)))
def FmX (M : MW) (x : VC) (a : Nat) : Prop := SMx M x a ∧ MHd M a (rH (xm_ x)) ∧ (rH (xm_ x)).length ≤ 16 ∧ ∀ h ∈ rH (xm_ x), HdW (hn (xH_ x)) h
def BgM (M : MW) (a : Nat) (b : Nat → Bool) : Prop := ∀ q, q < 120 → mI M 22 (120 * a + q) = b2i (b q)
theorem FmX.mv {M M' : MW} {x : VC} {a : Nat} (h : FmX M x a) (k : ChM M M' (KFm a)) : FmX M' x a := by
  obtain ⟨h1, ⟨h2, h3⟩, h4, h5⟩ := h
  refine ⟨h1.ch (fun c j _ _ => k.2 c j (by unfold KFm K22; omega)) (fun j _ => k.2 0 j (by unfold KFm K22; omega)), ⟨by rw [k.2 _ _ (by unfold KFm K22; omega)]; exact h2, fun i h hi => ?_⟩, h4, h5⟩
  rw [k.2 _ _ (by unfold KFm K22; omega), k.2 _ _ (by unfold KFm K22; omega), k.2 _ _ (by unfold KFm K22; omega), k.2 _ _ (by unfold KFm K22; omega)]
  exact h3 i h hi
theorem m_isBeg {M : MW} {x : VC} {a : Nat} {B : Nat → Bool} (cS : SMx M x a) (hb : BgM M a B) {t : Int} (ht : -40000 < t ∧ t < 40000) : f_X6_isBeginning (a : Int) t M = some (b2i (stB x B t), M) := by
  have ha := cS.2.2.2.1
  have hN : rN (xm_ x) ≤ 120 := cS.so.1.2.2.2.1
  unfold f_X6_isBeginning f_X6_isBeginning_b41 stB
  rw [w32_i (by omega)]
  by_cases e : t < 0
  · rw [if_pos e, decide_eq_false (by omega)]; rfl
  · rw [if_neg e, ax_k (by omega), Int.toNat_natCast, rd_k, cS.so.2.2.2.2.1, w32_n _ (by omega)]
    by_cases e2 : (rN (xm_ x) : Int) ≤ t
    · rw [if_pos e2, decide_eq_false (by omega)]; rfl
    · rw [if_neg e2, if_neg e, ax_k (by omega), Int.toNat_natCast, rd_k, cS.so.2.2.2.2.1, w32_n _ (by omega), if_neg e2, ax_k (by omega), show (120 * (a : Int) + t).toNat = 120 * a + t.toNat by omega, rd_k, hb _ (by omega), ite_b, decide_eq_true (by omega), Bool.true_and]
      cases B t.toNat <;> rfl
theorem wrg_le {x : VC} {p : Nat} : wrg x p ≤ 3 := by
  unfold wrg w70 w125 w184 w232 w264 w305
  repeat' split
  all_goals omega
theorem m_fo1 {x : VC} {a : Nat} : ∀ (n' n p : Nat) (b : Nat → Bool) (M : MW), rN (xm_ x) < n' + p → rN (xm_ x) < n + p → p ≤ rN (xm_ x) → FmX M x a → BgM M a b →
    match fo1 x n' p b with
    | .inl e => ∃ M', f_X6_isFormed_b2 n (a : Int) (p : Int) M = some (0, M') ∧ mI M' 0 35 = (e.1 : Int) ∧ mI M' 0 36 = (e.2 : Int) ∧ ChM M M' (KFm a)
    | .inr B => ∃ M', f_X6_isFormed_b2 n (a : Int) (p : Int) M = f_X6_isFormed_b59 FU (a : Int) 0 M' ∧ BgM M' a B ∧ ChM M M' (K22 a) := by
  intro n'
  induction n' with
  | zero => intro n p b M h1 h2 h3; omega
  | succ n' ih =>
    intro n p b M h1 h2 hp cx hb
    have cS := cx.1
    have ha := cS.2.2.2.1
    have hN : rN (xm_ x) ≤ 120 := cS.so.1.2.2.2.1
    obtain ⟨n, rfl⟩ : ∃ k, n = k + 1 := ⟨n - 1, by omega⟩
    rw [show f_X6_isFormed_b2 (n + 1) (a : Int) (p : Int) M = f_X6_isFormed_s2 (f_X6_isFormed_b2 n) (a : Int) (p : Int) M from rfl]
    unfold f_X6_isFormed_s2
    rw [ax_k (by omega), Int.toNat_natCast, rd_k, cS.so.2.2.2.2.1, w32_n _ (by omega), w32_n p (by omega)]
    by_cases e : rN (xm_ x) ≤ p
    · rw [if_pos (by omega), show fo1 x (n' + 1) p b = .inr b from if_pos e]
      exact ⟨M, rfl, hb, ChM.r _ _⟩
    · rw [if_neg (by omega), m_wrong cS (by omega), mB_k]
      have oplt := cS.so.1.2.2.2.2.2.2 p
      by_cases e2 : wrg x p = 0
      · obtain ⟨z1, z2, _⟩ := wrg_z e2
        have c1 : ChM M (msI M 22 (120 * a + p) 1) (K22 a) := (ChM.r _ _).st (by unfold K22; omega)
        have cx1 := cx.mv (c1.mono (fun _ _ h => Or.inl h))
        rw [show fo1 x (n' + 1) p b = fo1 x n' (p + szo (rC (xm_ x) p)) (up1 b p true) from (if_neg e).trans (if_pos e2), e2, if_pos (by decide), ax_k (by omega), show (120 * (a : Int) + (p : Int)).toNat = 120 * a + p by omega, rd_k, iAnd_11, m_at cx1.1 (k := p) (by omega) rfl, mB_k, m_length oplt, mB_k, rd_k]
        have G := ih n (p + szo (rC (xm_ x) p)) (up1 b p true) (msI M 22 (120 * a + p) 1) (by omega) (by omega) z2 cx1 (fun q hq => by
          show _ = b2i (if q = p then true else b q)
          by_cases e3 : q = p
          · rw [if_pos e3, e3, mI_s rfl]; rfl
          · rw [if_neg e3, mI_o (by omega)]; exact hb q hq)
        rw [Int.natCast_add] at G
        generalize fo1 x n' (p + szo (rC (xm_ x) p)) (up1 b p true) = r at G ⊢
        cases r with
        | inl e3 =>
          obtain ⟨M', g1, g2, g3, g4⟩ := G
          exact ⟨M', g1, g2, g3, (c1.mono (fun _ _ h => Or.inl h)).tr g4⟩
        | inr B =>
          obtain ⟨M', g1, g2, g3⟩ := G
          exact ⟨M', g1, g2, c1.tr g3⟩
      · rw [show fo1 x (n' + 1) p b = .inl (wrg x p, p) from (if_neg e).trans (if_neg e2)]
        have hw3 : wrg x p ≤ 3 := wrg_le
        rw [w32_n _ (by omega), if_neg (by omega), m_faulty, mB_k, isZ_0, gd_t]
        refine ⟨_, rfl, ?_, mI_s rfl, ((ChM.r _ _).st (Or.inr ⟨rfl, Or.inl rfl⟩)).st (Or.inr ⟨rfl, Or.inr rfl⟩)⟩
        rw [mI_o (by omega), mI_s rfl]
/-- between places where instructions begin there is no bad branch -/
theorem fo2_f {x : VC} {B : Nat → Bool} : ∀ (n n' p : Nat), rN (xm_ x) < n + p → rN (xm_ x) < n' + p → fo2 x B n p = fo2 x B n' p
  | 0, 0, _, _, _ => rfl
  | 0, n' + 1, p, h, _ => by unfold fo2; rw [if_pos (by omega)]
  | n + 1, 0, p, _, h => by unfold fo2; rw [if_pos (by omega)]
  | n + 1, n' + 1, p, h, h' => by
    unfold fo2
    rw [fo2_f n n' (p + 1) (by omega) (by omega)]
theorem fo2_s {x : VC} {B : Nat → Bool} : ∀ (d n n' p : Nat), rN (xm_ x) < n + p → rN (xm_ x) < n' + (p + d) → p + d ≤ rN (xm_ x) → (∀ r, p ≤ r → r < p + d → brBad x B r = false) → fo2 x B n p = fo2 x B n' (p + d)
  | 0, n, n', p, h, h', _, _ => fo2_f n n' p h h'
  | d + 1, 0, n', p, h, h', hd, hr => by omega
  | d + 1, n + 1, n', p, h, h', hd, hr => by
    have e : p + (d + 1) = p + 1 + d := by omega
    have b0 := hr p (Nat.le_refl _) (by omega)
    rw [e, ← fo2_s d n n' (p + 1) (by omega) (by omega) (by omega) (fun r h1 h2 => hr r (by omega) (by omega))]
    show (if rN (xm_ x) ≤ p then none else if brBad x B p = true then some p else fo2 x B n (p + 1)) = _
    rw [if_neg (by omega), b0, if_neg (by decide)]
theorem m_fo2 {x : VC} {a : Nat} {B : Nat → Bool} (hB : FB1 x (rN (xm_ x)) B) : ∀ (d n n' p : Nat) (M : MW), rN (xm_ x) ≤ d + p → rN (xm_ x) < n + p → rN (xm_ x) < n' + p → p ≤ rN (xm_ x) → (p < rN (xm_ x) → B p = true) → FmX M x a → BgM M a B →
    match fo2 x B n' p with
    | some q => ∃ M', f_X6_isFormed_b59 n (a : Int) (p : Int) M = some (0, M') ∧ mI M' 0 35 = 4 ∧ mI M' 0 36 = (q : Int) ∧ ChM M M' (KFm a)
    | none => f_X6_isFormed_b59 n (a : Int) (p : Int) M = f_X6_isFormed_b122 FU (a : Int) ((16 * a : Nat) : Int) M := by
  intro d
  induction d with
  | zero =>
    intro n n' p M h1 h2 h3 hp hbp cx hb
    have cS := cx.1
    have ha := cS.2.2.2.1
    have hN : rN (xm_ x) ≤ 120 := cS.so.1.2.2.2.1
    obtain ⟨n, rfl⟩ : ∃ k, n = k + 1 := ⟨n - 1, by omega⟩
    obtain ⟨n', rfl⟩ : ∃ k, n' = k + 1 := ⟨n' - 1, by omega⟩
    rw [show f_X6_isFormed_b59 (n + 1) (a : Int) (p : Int) M = f_X6_isFormed_s59 (f_X6_isFormed_b59 n) (a : Int) (p : Int) M from rfl, show fo2 x B (n' + 1) p = none from if_pos (by omega)]
    unfold f_X6_isFormed_s59
    rw [ax_k (by omega), Int.toNat_natCast, rd_k, cS.so.2.2.2.2.1, w32_n _ (by omega), w32_n p (by omega), if_pos (by omega), rd_k]
    rfl
  | succ d ih =>
    intro n n' p M h1 h2 h3 hp hbp cx hb
    have cS := cx.1
    have ha := cS.2.2.2.1
    have hN : rN (xm_ x) ≤ 120 := cS.so.1.2.2.2.1
    obtain ⟨n, rfl⟩ : ∃ k, n = k + 1 := ⟨n - 1, by omega⟩
    rw [show f_X6_isFormed_b59 (n + 1) (a : Int) (p : Int) M = f_X6_isFormed_s59 (f_X6_isFormed_b59 n) (a : Int) (p : Int) M from rfl]
    unfold f_X6_isFormed_s59
    rw [ax_k (by omega), Int.toNat_natCast, rd_k, cS.so.2.2.2.2.1, w32_n _ (by omega), w32_n p (by omega)]
    by_cases e : rN (xm_ x) ≤ p
    · obtain ⟨n', rfl⟩ : ∃ k, n' = k + 1 := ⟨n' - 1, by omega⟩
      rw [if_pos (by omega), rd_k, show fo2 x B (n' + 1) p = none from if_pos (by omega)]
      rfl
    · have bp := hbp (by omega)
      obtain ⟨c1, c2, c3, c4, c5⟩ := hB.2.2 p bp
      obtain ⟨z1, z2, _⟩ := wrg_z c2
      have oplt := cS.so.1.2.2.2.2.2.2 p
      have nx : f_X6_isFormed_b102 (f_X6_isFormed_b59 n) (a : Int) (p : Int) M = f_X6_isFormed_b59 n (a : Int) ((p + szo (rC (xm_ x) p) : Nat) : Int) M := by
        unfold f_X6_isFormed_b102
        rw [m_at cS (k := p) (by omega) rfl, mB_k, m_length oplt, mB_k, rd_k]
        rfl
      have R := ih n n' (p + szo (rC (xm_ x) p)) M (by omega) (by omega) (by omega) z2 c4 cx hb
      have sk : brBad x B p = false → fo2 x B n' p = fo2 x B n' (p + szo (rC (xm_ x) p)) := fun hbr => fo2_s _ _ _ _ h3 (by omega) z2 (fun r h1 h2 => by
        by_cases er : r = p
        · rw [er]; exact hbr
        · unfold brBad; rw [c5 r (by omega) h2]; rfl)
      rw [if_neg (by omega), m_at cS (k := p) (by omega) rfl, mB_k, m_branches oplt, mB_k, ite_b, nx]
      cases ebr : isBr (rC (xm_ x) p) with
      | false =>
        rw [if_neg (by decide), sk (by unfold brBad; rw [ebr, Bool.and_false]; rfl)]
        exact R
      | true =>
        have s3 : szo (rC (xm_ x) p) = 3 := szo_br ebr
        rw [if_pos rfl, m_target cS (by omega), mB_k, m_isBeg cS hb (tgt_b _ _ (by omega)), mB_k, ite_b]
        cases est : stB x B (tgt (rC (xm_ x)) p) with
        | true =>
          rw [if_pos rfl, nx, sk (by unfold brBad; rw [est, Bool.not_true, Bool.and_false])]
          exact R
        | false =>
          obtain ⟨n', rfl⟩ : ∃ k, n' = k + 1 := ⟨n' - 1, by omega⟩
          rw [if_neg (by decide), show fo2 x B (n' + 1) p = some p from (if_neg e).trans (if_pos (by unfold brBad; rw [bp, ebr, est]; rfl)), m_faulty, mB_k, isZ_0, gd_t]
          refine ⟨_, rfl, ?_, mI_s rfl, ((ChM.r _ _).st (Or.inr ⟨rfl, Or.inl rfl⟩)).st (Or.inr ⟨rfl, Or.inr rfl⟩)⟩
          rw [mI_o (by omega), mI_s rfl]
theorem m_fo3 {x : VC} {a : Nat} {B : Nat → Bool} {M : MW} (cx : FmX M x a) (hb : BgM M a B) : ∀ (l : List HD) (i n : Nat), (rH (xm_ x)).drop i = l → i ≤ (rH (xm_ x)).length → (rH (xm_ x)).length < n + i →
    match fo3 x B i l with
    | some h => ∃ M', f_X6_isFormed_b122 n (a : Int) ((16 * a + i : Nat) : Int) M = some (0, M') ∧ mI M' 0 35 = 5 ∧ mI M' 0 36 = (h : Int) ∧ ChM M M' (KFm a)
    | none => f_X6_isFormed_b122 n (a : Int) ((16 * a + i : Nat) : Int) M = some (1, M) := by
  have cS := cx.1
  have ha := cS.2.2.2.1
  have hN : rN (xm_ x) ≤ 120 := cS.so.1.2.2.2.1
  obtain ⟨_, ⟨m1, m2⟩, m3, m4⟩ := cx
  intro l
  induction l with
  | nil =>
    intro i n hd hi hn
    obtain ⟨n, rfl⟩ : ∃ k, n = k + 1 := ⟨n - 1, by omega⟩
    have ei : i = (rH (xm_ x)).length := by
      have := congrArg List.length hd
      rw [List.length_drop] at this
      have e0 : ([] : List HD).length = 0 := rfl
      omega
    show f_X6_isFormed_s122 (f_X6_isFormed_b122 n) (a : Int) ((16 * a + i : Nat) : Int) M = some (1, M)
    unfold f_X6_isFormed_s122
    rw [ax_k (by omega), Int.toNat_natCast, rd_k, m1, w32_i (by omega), w32_n _ (by omega), if_pos (by omega)]
  | cons h l ih =>
    intro i n hd hi hn
    obtain ⟨n, rfl⟩ : ∃ k, n = k + 1 := ⟨n - 1, by omega⟩
    have hk : i < (rH (xm_ x)).length := by
      have := congrArg List.length hd
      rw [List.length_drop] at this
      have e0 : (h :: l).length = l.length + 1 := rfl
      omega
    have ht : (rH (xm_ x))[i]? = some h := by
      have : ((rH (xm_ x)).drop i)[0]? = some h := by rw [hd]; rfl
      rw [List.getElem?_drop] at this
      exact this
    have hd2 : (rH (xm_ x)).drop (i + 1) = l := by
      rw [← List.drop_drop, hd]; rfl
    obtain ⟨g1, g2, g3, g4⟩ := m2 i h ht
    obtain ⟨b1, b2, b3, _⟩ := m4 h (List.mem_of_getElem? ht)
    have R := ih (i + 1) n hd2 (by omega) (by omega)
    have bad : ∃ M', f_X6_isFormed_b219 (a : Int) ((16 * a + i : Nat) : Int) M = some (0, M') ∧ mI M' 0 35 = 5 ∧ mI M' 0 36 = (i : Int) ∧ ChM M M' (KFm a) := by
      unfold f_X6_isFormed_b219
      rw [m_faulty, mB_k, isZ_0, gd_t]
      refine ⟨_, rfl, ?_, ?_, ((ChM.r _ _).st (Or.inr ⟨rfl, Or.inl rfl⟩)).st (Or.inr ⟨rfl, Or.inr rfl⟩)⟩
      · rw [mI_o (by omega), mI_s rfl]
      · rw [mI_s rfl]; omega
    have core : ∀ z : Bool, f_X6_isFormed_b171 (f_X6_isFormed_b122 n) (a : Int) ((16 * a + i : Nat) : Int) (b2i z) M = if (decide (dF h < dT h) && (stB x B (dF h) && (stB x B (dP h) && z))) = true then f_X6_isFormed_b122 n (a : Int) ((16 * a + (i + 1) : Nat) : Int) M else f_X6_isFormed_b219 (a : Int) ((16 * a + i : Nat) : Int) M := by
      intro z
      unfold f_X6_isFormed_b171
      rw [ax_k (by omega), Int.toNat_natCast, rd_k, g1, ax_k (by omega), Int.toNat_natCast, rd_k, g2, w32_n _ (by omega), w32_n _ (by omega)]
      by_cases e : dF h < dT h
      · rw [if_neg (by omega), ax_k (by omega), Int.toNat_natCast, rd_k, g1, m_isBeg cS hb (by omega), mB_k, ite_b, decide_eq_true e, Bool.true_and]
        cases e1 : stB x B (dF h : Int) with
        | false => rw [if_neg (by decide), Bool.false_and, if_neg (by decide)]
        | true =>
          rw [if_pos rfl, Bool.true_and, ax_k (by omega), Int.toNat_natCast, rd_k, g3, m_isBeg cS hb (by omega), mB_k, ite_b]
          cases e2 : stB x B (dP h : Int) with
          | false => rw [if_neg (by decide), Bool.false_and, if_neg (by decide)]
          | true =>
            rw [if_pos rfl, Bool.true_and, ite_b]
            cases z with
            | false => rw [if_neg (by decide), if_neg (by decide)]
            | true => rw [if_pos rfl, if_pos rfl]; rfl
      · rw [if_pos (by omega), decide_eq_false e, Bool.false_and, if_neg (by decide)]
    have top : f_X6_isFormed_b122 (n + 1) (a : Int) ((16 * a + i : Nat) : Int) M = if hdOk x B h = true then f_X6_isFormed_b122 n (a : Int) ((16 * a + (i + 1) : Nat) : Int) M else f_X6_isFormed_b219 (a : Int) ((16 * a + i : Nat) : Int) M := by
      show f_X6_isFormed_s122 (f_X6_isFormed_b122 n) (a : Int) ((16 * a + i : Nat) : Int) M = _
      unfold f_X6_isFormed_s122 f_X6_isFormed_b166 hdOk
      rw [ax_k (by omega), Int.toNat_natCast, rd_k, m1, w32_i (by omega), w32_n _ (by omega), if_neg (by omega), ax_k (by omega), Int.toNat_natCast, rd_k, g2, m_isBeg cS hb (by omega), mB_k, ite_b]
      cases e1 : stB x B (dT h : Int) with
      | true =>
        rw [if_pos rfl, Bool.or_true]
        exact core true
      | false =>
        rw [if_neg (by decide), Bool.or_false, ax_k (by omega), Int.toNat_natCast, rd_k, g2, ax_k (by omega), Int.toNat_natCast, rd_k, cS.so.2.2.2.2.1, w32_n _ (by omega), w32_n _ (by omega)]
        by_cases e : dT h = rN (xm_ x)
        · rw [if_pos (by omega), decide_eq_true e]
          exact core true
        · rw [if_neg (by omega), decide_eq_false e]
          exact core false
    cases eh : hdOk x B h with
    | true =>
      rw [eh, if_pos rfl] at top
      rw [top, show fo3 x B i (h :: l) = fo3 x B (i + 1) l from if_pos eh]
      exact R
    | false =>
      rw [eh, if_neg (by decide)] at top
      rw [top, show fo3 x B i (h :: l) = some i from if_neg (by rw [eh]; decide)]
      exact bad
theorem m_form {M : MW} {x : VC} {a : Nat} (cx : FmX M x a) (hb : BgM M a (fun _ => false)) :
    match form x with
    | .inl e => ∃ M', f_X6_isFormed (a : Int) M = some (0, M') ∧ mI M' 0 35 = (e.1 : Int) ∧ mI M' 0 36 = (e.2 : Int) ∧ ChM M M' (KFm a)
    | .inr B => ∃ M', f_X6_isFormed (a : Int) M = some (1, M') ∧ BgM M' a B ∧ ChM M M' (K22 a) := by
  have cS := cx.1
  have hN : rN (xm_ x) ≤ 120 := cS.so.1.2.2.2.1
  have G := m_fo1 (x := x) (a := a) 121 FU 0 (fun _ => false) M (by omega) (by rw [FU_v]; omega) (by omega) cx hb
  unfold form f_X6_isFormed
  cases e : fo1 x 121 0 (fun _ => false) with
  | inl e1 => rw [e] at G; exact G
  | inr B =>
    rw [e] at G
    dsimp only
    obtain ⟨M1, g1, g2, g3⟩ := G
    have fB := fo1_B 121 0 _ _ (by omega) (⟨by omega, fun h => by omega, fun q hq => by cases hq⟩) e
    have c1 := g3.mono (L := KFm a) (fun _ _ h => Or.inl h)
    have cx1 := cx.mv c1
    have G2 := m_fo2 (a := a) fB 121 FU 121 0 M1 (by omega) (by rw [FU_v]; omega) (by omega) (by omega) (fun h => fB.2.1 h) cx1 g2
    rw [show f_X6_isFormed_b2 FU (a : Int) 0 M = f_X6_isFormed_b59 FU (a : Int) 0 M1 from g1]
    cases e2 : fo2 x B 121 0 with
    | some p =>
      rw [e2] at G2
      obtain ⟨M2, i1, i2, i3, i4⟩ := G2
      exact ⟨M2, i1, i2, i3, c1.tr i4⟩
    | none =>
      rw [e2] at G2
      dsimp only at G2 ⊢
      rw [show f_X6_isFormed_b59 FU (a : Int) 0 M1 = f_X6_isFormed_b122 FU (a : Int) ((16 * a : Nat) : Int) M1 from G2]
      have G3 := m_fo3 cx1 g2 (rH (xm_ x)) 0 FU rfl (by omega) (by have := cx.2.2.1; rw [FU_v]; omega)
      cases e3 : fo3 x B 0 (rH (xm_ x)) with
      | some h =>
        rw [e3] at G3
        obtain ⟨M2, i1, i2, i3, i4⟩ := G3
        exact ⟨M2, i1, i2, i3, c1.tr i4⟩
      | none =>
        rw [e3] at G3
        exact ⟨M1, G3, g2, g3⟩
