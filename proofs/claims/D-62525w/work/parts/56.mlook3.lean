/-! LAYER C: the model looks at a place: all -/
theorem szo_br_all : ∀ op : Fin 256, isBr op.val = true → szo op.val = 3 := by decide +kernel
theorem szo_br {op : Nat} (h : isBr op = true) : szo op = 3 := szo_br_all ⟨op, by have := of_decide_eq_true h; omega⟩ h
theorem m_at {M : MW} {x : VC} {a k : Nat} (cS : SMx M x a) (hk : k < 120) {z : Int} (hz : z = (k : Int)) : f_X6_at (a : Int) z M = some ((rC (xm_ x) k : Int), M) := by
  subst hz
  have ha := cS.2.2.2.1
  unfold f_X6_at
  rw [ax_k (by omega), rd_k, show (120 * (a : Int) + (k : Int)).toNat = 120 * a + k by omega, cS.so.2.2.2.2.2.2.2 k hk]
theorem m_target {M : MW} {x : VC} {a p : Nat} (cS : SMx M x a) (hp : p + 2 < 120) : f_X6_target (a : Int) (p : Int) M = some (tgt (rC (xm_ x)) p, M) := by
  unfold f_X6_target
  rw [m_at cS (k := p + 1) (by omega) (by omega), mB_k, m_at cS (k := p + 2) (by omega) (by omega), mB_k]
  rfl
theorem m_lk87 {x : VC} {a p z : Nat} {s : TS} (hz : z < 960) (hl : s.2.length ≤ 12) : ∀ (n k : Nat) (M : MW), mI M 0 40 = (s.2.length : Int) → (∀ j, j < s.2.length → mI M 25 (12 * z + j) = (nth s.2 j : Int)) → k ≤ s.2.length → s.2.length < n + k → (∀ j, j < k → mI M 31 j = (nth s.2 j : Int)) → ∃ M', f_X6_look_b87 n (p : Int) ((12 * z : Nat) : Int) (k : Int) M = f_X6_look_b87 1 (p : Int) ((12 * z : Nat) : Int) (s.2.length : Int) M' ∧ (∀ j, j < s.2.length → mI M' 31 j = (nth s.2 j : Int)) ∧ ChM M M' (fun q j => q = 31) := by
  intro n
  induction n with
  | zero => intro k M _ _ h1 h2; omega
  | succ n ih =>
    intro k M h40 h25 h1 h2 h3
    by_cases e : s.2.length ≤ k
    · have ek : k = s.2.length := by omega
      subst ek
      refine ⟨M, ?_, h3, ChM.r _ _⟩
      show f_X6_look_s87 (f_X6_look_b87 n) _ _ _ M = f_X6_look_s87 (f_X6_look_b87 0) _ _ _ M
      unfold f_X6_look_s87
      rw [rd_k (mI M 0 40), rd_k (mI M 0 40), h40, if_pos (Int.le_refl _), if_pos (Int.le_refl _)]
    · show ∃ M', f_X6_look_s87 (f_X6_look_b87 n) _ _ _ M = _ ∧ _
      unfold f_X6_look_s87
      rw [rd_k, h40, w32_n _ (by omega), w32_n k (by omega), if_neg (show ¬ (s.2.length : Int) ≤ (k : Int) by omega), ax_k (by omega), rd_k, show (((12 * z : Nat) : Int) + (k : Int)).toNat = 12 * z + k by omega, h25 k (by omega), ax_k (by omega), Int.toNat_natCast, rd_k]
      obtain ⟨M', f1, f2, f3⟩ := ih (k + 1) (msI M 31 k (nth s.2 k : Int)) (by rw [mI_o (by omega)]; exact h40) (fun j hj => by rw [mI_o (by omega)]; exact h25 j hj) (by omega) (by omega) (fun j hj => by
        by_cases ej : j = k
        · rw [ej, mI_s rfl]
        · rw [mI_o (by omega)]; exact h3 j (by omega))
      exact ⟨M', f1, f2, ((ChM.r M _).st (K := fun q j => q = 31) rfl).tr f3⟩
theorem m_lk38 {x : VC} {a p z : Nat} {s : TS} (hz : z < 960) : ∀ (n k : Nat) (M : MW), SMx M x a → (∀ j, j < rL (xm_ x) → mI M 24 (12 * z + j) = (s.1 j : Int)) → k ≤ rL (xm_ x) → rL (xm_ x) < n + k → (∀ j, j < k → mI M 29 j = (s.1 j : Int) ∧ mI M 30 j = (s.1 j : Int)) → ∃ M', f_X6_look_b38 n (p : Int) ((12 * z : Nat) : Int) (k : Int) M = f_X6_look_b87 FU (p : Int) ((12 * z : Nat) : Int) 0 M' ∧ (∀ j, j < rL (xm_ x) → mI M' 29 j = (s.1 j : Int) ∧ mI M' 30 j = (s.1 j : Int)) ∧ ChM M M' (fun q j => q = 29 ∨ q = 30) := by
  intro n
  induction n with
  | zero => intro k M _ _ h1 h2; omega
  | succ n ih =>
    intro k M cS h24 h1 h2 h3
    have ha := cS.2.2.2.1
    have hL := cS.rL
    show ∃ M', f_X6_look_s38 (f_X6_look_b38 n) _ _ _ M = _ ∧ _
    unfold f_X6_look_s38
    rw [rd_k, cS.2.2.2.2.1, ax_k (by omega), Int.toNat_natCast, rd_k, cS.so.2.2.2.2.2.2.1, w32_n _ (by omega), w32_n k (by omega)]
    by_cases e : rL (xm_ x) ≤ k
    · rw [if_pos (by omega)]
      exact ⟨M, rfl, fun j hj => h3 j (by omega), ChM.r _ _⟩
    · have i24 : (((12 * z : Nat) : Int) + (k : Int)).toNat = 12 * z + k := by omega
      rw [if_neg (by omega), ax_k (by omega), rd_k, i24, h24 k (by omega), ax_k (by omega), Int.toNat_natCast, rd_k, ax_k (by omega), rd_k, i24, mI_o (by omega), h24 k (by omega), ax_k (by omega), Int.toNat_natCast, rd_k]
      have c1 : ChM M (msI (msI M 29 k (s.1 k : Int)) 30 k (s.1 k : Int)) (fun q j => q = 29 ∨ q = 30) := ((ChM.r M _).st (Or.inl rfl)).st (Or.inr rfl)
      obtain ⟨M', f1, f2, f3⟩ := ih (k + 1) _ (cS.ch (fun q j _ _ => c1.2 q j (by omega)) (fun j _ => c1.2 0 j (by omega))) (fun j hj => by rw [c1.2 _ _ (by omega)]; exact h24 j hj) (by omega) (by omega) (fun j hj => by
        by_cases ej : j = k
        · rw [ej, mI_o (by omega), mI_s rfl, mI_s rfl]; exact ⟨rfl, rfl⟩
        · rw [mI_o (by omega), mI_o (by omega), mI_o (by omega), mI_o (by omega)]; exact h3 j (by omega))
      exact ⟨M', f1, f2, c1.tr f3⟩
theorem m_lk345 {p op nx : Int} {s : TS} (hl : s.2.length ≤ 13) : ∀ (n k : Nat) (M : MW), mI M 0 40 = (s.2.length : Int) → (∀ j, j < s.2.length → mI M 31 j = (nth s.2 j : Int)) → k ≤ s.2.length → s.2.length < n + k → (∀ j, j < k → mI M 33 j = (nth s.2 j : Int)) → ∃ M', f_X6_look_b345 n p op nx (k : Int) M = f_X6_look_b345 1 p op nx (s.2.length : Int) M' ∧ (∀ j, j < s.2.length → mI M' 33 j = (nth s.2 j : Int)) ∧ ChM M M' (fun q j => q = 33) := by
  intro n
  induction n with
  | zero => intro k M _ _ h1 h2; omega
  | succ n ih =>
    intro k M h40 h31 h1 h2 h3
    by_cases e : s.2.length ≤ k
    · have ek : k = s.2.length := by omega
      subst ek
      refine ⟨M, ?_, h3, ChM.r _ _⟩
      show f_X6_look_s345 (f_X6_look_b345 n) _ _ _ _ M = f_X6_look_s345 (f_X6_look_b345 0) _ _ _ _ M
      unfold f_X6_look_s345
      rw [rd_k, h40, if_pos (Int.le_refl _), rd_k, if_pos (Int.le_refl _)]
    · show ∃ M', f_X6_look_s345 (f_X6_look_b345 n) _ _ _ _ M = _ ∧ _
      unfold f_X6_look_s345
      rw [rd_k, h40, w32_n _ (by omega), w32_n k (by omega), if_neg (show ¬ (s.2.length : Int) ≤ (k : Int) by omega), ax_k (by omega), Int.toNat_natCast, rd_k, h31 k (by omega), ax_k (by omega), Int.toNat_natCast, rd_k]
      obtain ⟨M', f1, f2, f3⟩ := ih (k + 1) (msI M 33 k (nth s.2 k : Int)) (by rw [mI_o (by omega)]; exact h40) (fun j hj => by rw [mI_o (by omega)]; exact h31 j hj) (by omega) (by omega) (fun j hj => by
        by_cases ej : j = k
        · rw [ej, mI_s rfl]
        · rw [mI_o (by omega)]; exact h3 j (by omega))
      exact ⟨M', f1, f2, ((ChM.r M _).st (K := fun q j => q = 33) rfl).tr f3⟩
/-- the end of a look: what is given on to the next place and a target -/
theorem m_lkEnd {M : MW} {x : VC} {a p : Nat} {s : TS} {fs : FS} (cx : FlC M x a) (hp : p + szo (rC (xm_ x) p) ≤ rN (xm_ x)) (hnx : isLa (rC (xm_ x) p) = false → p + szo (rC (xm_ x) p) < rN (xm_ x)) (htg : isBr (rC (xm_ x) p) = true → 0 ≤ tgt (rC (xm_ x)) p ∧ tgt (rC (xm_ x)) p < rN (xm_ x)) (l1 : ∀ j, j < rL (xm_ x) → mI M 29 j = (s.1 j : Int)) (l2 : ∀ j, j < s.2.length → mI M 31 j = (nth s.2 j : Int)) (l3 : mI M 0 40 = (s.2.length : Int)) (hs : SOk x s) (hf : FOk x fs) (hm : MFS M (rL (xm_ x)) a fs) :
    match sB (if isLa (rC (xm_ x) p) = true then .inr fs else gv x (p + szo (rC (xm_ x) p)) s fs) (fun fs => if isBr (rC (xm_ x) p) = true then gv x (tgt (rC (xm_ x)) p).toNat s fs else .inr fs) with
    | .inr fs' => ∃ M', lkEnd (p : Int) (rC (xm_ x) p : Int) ((p : Int) + (szo (rC (xm_ x) p) : Int)) M = some (1, M') ∧ MFS M' (rL (xm_ x)) a fs' ∧ ChM M M' (KHn a)
    | .inl e => ∃ M', lkEnd (p : Int) (rC (xm_ x) p : Int) ((p : Int) + (szo (rC (xm_ x) p) : Int)) M = some (0, M') ∧ FltM M M' a e := by
  obtain ⟨cS, cH⟩ := cx
  have ha := cS.2.2.2.1
  have hL := cS.rL
  have hS := cS.rS
  have hN : rN (xm_ x) ≤ 120 := cS.xz
  have oplt : rC (xm_ x) p < 256 := cS.so.1.2.2.2.2.2.2 p
  have slen : s.2.length ≤ 12 := by have := wds_len s.2; have := hs.2.1; omega
  unfold lkEnd f_X6_giveLocals
  obtain ⟨M1, e1, f1, f2⟩ := m_giveLocals (c := 29) (Or.inl rfl) FU 0 M cS (by omega) (by rw [FU_v]; omega)
  have e1' : f_X6_giveLocals_b2 FU 29 0 M = some ((), M1) := e1
  rw [e1', mB_k, rd_k, f2.2 _ _ (by omega), l3, rd_k]
  have c2 : ChM M (msI M1 0 43 (s.2.length : Int)) (KHn a) := (f2.mono (fun q j h => by unfold KHn; omega)).st (by unfold KHn; omega)
  obtain ⟨M3, e3, g1, g2⟩ := m_lk345 (p := (p : Int)) (op := (rC (xm_ x) p : Int)) (nx := (p : Int) + (szo (rC (xm_ x) p) : Int)) (s := s) (by omega) FU 0 (msI M1 0 43 (s.2.length : Int)) (by rw [c2.2 _ _ (by unfold KHn; omega)]; exact l3) (fun j hj => by rw [c2.2 _ _ (by unfold KHn; omega)]; exact l2 j hj) (by omega) (by rw [FU_v]; omega) (fun j hj => by omega)
  have e3' : f_X6_look_b345 FU (p : Int) (rC (xm_ x) p : Int) ((p : Int) + (szo (rC (xm_ x) p) : Int)) 0 (msI M1 0 43 (s.2.length : Int)) = f_X6_look_b345 1 (p : Int) (rC (xm_ x) p : Int) ((p : Int) + (szo (rC (xm_ x) p) : Int)) (s.2.length : Int) M3 := e3
  rw [e3']
  have c3 : ChM M M3 (KHn a) := c2.tr (g2.mono (fun q j h => by unfold KHn; omega))
  have cS3 : SMx M3 x a := cS.ch (fun q j _ _ => c3.2 q j (by unfold KHn; omega)) (fun j _ => c3.2 0 j (by unfold KHn; omega))
  have un : f_X6_look_b345 1 (p : Int) (rC (xm_ x) p : Int) ((p : Int) + (szo (rC (xm_ x) p) : Int)) (s.2.length : Int) M3 = f_X6_look_s345 (f_X6_look_b345 0) (p : Int) (rC (xm_ x) p : Int) ((p : Int) + (szo (rC (xm_ x) p) : Int)) (s.2.length : Int) M3 := rfl
  rw [un]
  unfold f_X6_look_s345
  rw [rd_k, c3.2 _ _ (by unfold KHn; omega), l3, if_pos (Int.le_refl _), m_stops oplt, mB_k, ite_b]
  have gg : GvM M3 (rL (xm_ x)) s := ⟨by rw [g2.2 _ _ (by omega), mI_s rfl], fun j hj => by rw [g2.2 _ _ (by omega), mI_o (by omega), f1 j (by omega) hj]; exact l1 j hj, g1⟩
  have mm : MFS M3 (rL (xm_ x)) a fs := hm.ch hL ha (hf.len hS) (fun k j hk => by
    rw [g2.2 k j (by omega), mI_o (by omega)]
    exact f2.2 k j (by omega))
  -- the target
  have tg : ∀ (M4 : MW) (fs1 : FS), ChM M M4 (KHn a) → GvM M4 (rL (xm_ x)) s → FOk x fs1 → MFS M4 (rL (xm_ x)) a fs1 → match (if isBr (rC (xm_ x) p) = true then gv x (tgt (rC (xm_ x)) p).toNat s fs1 else .inr fs1) with
      | .inr fs' => ∃ M', f_X6_look_b390 (p : Int) (rC (xm_ x) p : Int) M4 = some (1, M') ∧ MFS M' (rL (xm_ x)) a fs' ∧ ChM M M' (KHn a)
      | .inl e => ∃ M', f_X6_look_b390 (p : Int) (rC (xm_ x) p : Int) M4 = some (0, M') ∧ FltM M M' a e := by
    intro M4 fs1 c4 gg4 hf4 mm4
    have cS4 : SMx M4 x a := cS.ch (fun q j _ _ => c4.2 q j (by unfold KHn; omega)) (fun j _ => c4.2 0 j (by unfold KHn; omega))
    unfold f_X6_look_b390
    rw [m_branches oplt, mB_k, ite_b]
    by_cases hb : isBr (rC (xm_ x) p) = true
    · have ht := htg hb
      have hsz : szo (rC (xm_ x) p) = 3 := szo_br hb
      have te : tgt (rC (xm_ x)) p = (((tgt (rC (xm_ x)) p).toNat : Nat) : Int) := by omega
      rw [if_pos hb, if_pos hb, rd_k, cS4.2.2.2.2.1, m_target cS4 (by omega), mB_k]
      have G := m_give cS4.1 cS4.xz hS hL ha cS4.2.2.2.2.1 cS4.so.2.2.2.2.2.2.1 (q := (tgt (rC (xm_ x)) p).toNat) (by omega) gg4 hs hf4 mm4
      rw [← te] at G
      generalize gv x (tgt (rC (xm_ x)) p).toNat s fs1 = r at G ⊢
      cases r with
      | inr fs' =>
        obtain ⟨M', j1, j2, j3⟩ := G
        rw [j1, mB_k, if_neg (show ¬ w32 1 = 0 by decide)]
        exact ⟨M', rfl, j2, c4.tr (j3.mono (fun k j h => h.hn (by omega)))⟩
      | inl e =>
        obtain ⟨j0, M', j1, j2, j3, j4⟩ := G
        rw [j1, mB_k, if_pos (show w32 0 = 0 by decide)]
        refine ⟨M', rfl, ?_, ?_, (c4.mono (fun k j h => h.fl)).tr (j4.mono (fun k j h => h.elim (fun h => h.fl (by omega)) (fun h => h.fl)))⟩
        · rw [j0]; exact j2
        · rw [j0]
          exact j3.trans te
    · rw [if_neg hb, if_neg hb]
      exact ⟨M4, rfl, mm4, c4⟩
  cases hla : isLa (rC (xm_ x) p) with
  | true =>
    rw [if_pos rfl, if_pos rfl, sB_i]
    exact tg M3 fs c3 gg hf mm
  | false =>
    have hn := hnx hla
    rw [if_neg (by decide), if_neg (by decide)]
    have G := m_give cS3.1 cS3.xz hS hL ha cS3.2.2.2.2.1 cS3.so.2.2.2.2.2.2.1 (q := p + szo (rC (xm_ x) p)) (by omega) gg hs hf mm
    have en : ((p + szo (rC (xm_ x) p) : Nat) : Int) = (p : Int) + (szo (rC (xm_ x) p) : Int) := by omega
    rw [en] at G
    cases e : gv x (p + szo (rC (xm_ x) p)) s fs with
    | inr fs' =>
      rw [e] at G
      obtain ⟨M', j1, j2, j3⟩ := G
      rw [j1, mB_k, if_neg (show ¬ w32 1 = 0 by decide), sB_i]
      exact tg M' fs' (c3.tr (j3.mono (fun k j h => h.hn (by omega)))) (gg.mv j3) (gv_ok cS.1.1 (by omega) hs hf e) j2
    | inl er =>
      rw [e] at G
      obtain ⟨j0, M', j1, j2, j3, j4⟩ := G
      rw [j1, mB_k, if_pos (show w32 0 = 0 by decide), sB_l]
      refine ⟨M', rfl, ?_, ?_, (c3.mono (fun k j h => h.fl)).tr (j4.mono (fun k j h => h.elim (fun h => h.fl (by omega)) (fun h => h.fl)))⟩
      · rw [j0]; exact j2
      · rw [j0]; exact j3
