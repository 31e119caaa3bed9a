/-! LAYER C: the model looks at a place -/
/-- the cells that the flow of method a changes -/
def KFl (a : Nat) (k j : Nat) : Prop := (k = 23 ∧ 120 * a ≤ j ∧ j < 120 * a + 120) ∨ ((k = 24 ∨ k = 25) ∧ 1440 * a ≤ j ∧ j < 1440 * a + 1440) ∨ (26 ≤ k ∧ k ≤ 33 ∧ k ≠ 27 ∧ k ≠ 28) ∨ (k = 0 ∧ (j = 34 ∨ j = 35 ∨ j = 36 ∨ j = 40 ∨ j = 43))
theorem KGv.fl {a q k j : Nat} (hq : q < 120) (h : KGv (120 * a + q) q k j) : KFl a k j := by
  unfold KGv at h
  unfold KFl
  omega
theorem KBad.fl {a k j : Nat} (h : KBad k j) : KFl a k j := by
  unfold KBad at h
  unfold KFl
  omega
def MHd (M : MW) (a : Nat) (hs : List HD) : Prop := mI M 13 a = (hs.length : Int) ∧ ∀ i h, hs[i]? = some h → mI M 14 (16 * a + i) = (dF h : Int) ∧ mI M 15 (16 * a + i) = (dT h : Int) ∧ mI M 16 (16 * a + i) = (dP h : Int) ∧ mI M 17 (16 * a + i) = dC h
def HdO (n : Nat) (h : HD) : Prop := dF h ≤ 120 ∧ dT h ≤ 120 ∧ dP h < 120 ∧ (dC h = -1 ∨ (0 ≤ dC h ∧ dC h < (n : Int)))
/-- the flow's context -/
def FlC (M : MW) (x : VC) (a : Nat) : Prop := SMx M x a ∧ MHd M a (rH (xm_ x)) ∧ (rH (xm_ x)).length ≤ 16 ∧ ∀ h ∈ rH (xm_ x), HdO (hn (xH_ x)) h
theorem SMx.ch {M M' : MW} {x : VC} {a : Nat} (h : SMx M x a) (f1 : ∀ k j, k ≤ 12 → k ≠ 0 → mI M' k j = mI M k j) (f2 : ∀ j, j ≤ 33 → mI M' 0 j = mI M 0 j) : SMx M' x a := by
  obtain ⟨⟨a1, a2, a3, a4⟩, ⟨⟨b1, b2⟩, b3⟩, ⟨c1, c2, c3⟩, d1, d2, d3⟩ := h
  refine ⟨⟨a1, by rw [f2 _ (by omega)]; exact a2, fun k hk => by rw [f1 _ _ (by omega) (by omega)]; exact a3 k hk, fun k hk => by rw [f1 _ _ (by omega) (by omega)]; exact a4 k hk⟩, ⟨⟨by rw [f2 _ (by omega)]; exact b1, fun i hi => ?_⟩, b3⟩, ⟨by rw [f2 _ (by omega)]; exact c1, c2, fun i m hm => ?_⟩, d1, by rw [f2 _ (by omega)]; exact d2, d3⟩
  · rw [f1 _ _ (by omega) (by omega), f1 _ _ (by omega) (by omega), f1 _ _ (by omega) (by omega)]
    exact b2 i hi
  · obtain ⟨e0, e1, e2, e3, e4, e5, e6, e7⟩ := c3 i m hm
    refine ⟨e0, by rw [f1 _ _ (by omega) (by omega)]; exact e1, fun k t ht => by rw [f1 _ _ (by omega) (by omega)]; exact e2 k t ht, by rw [f1 _ _ (by omega) (by omega)]; exact e3, by rw [f1 _ _ (by omega) (by omega)]; exact e4, by rw [f1 _ _ (by omega) (by omega)]; exact e5, by rw [f1 _ _ (by omega) (by omega)]; exact e6, fun p hp => by rw [f1 _ _ (by omega) (by omega)]; exact e7 p hp⟩
theorem FlC.mv {M M' : MW} {x : VC} {a : Nat} (h : FlC M x a) (k : ChM M M' (KFl a)) : FlC M' x a := by
  obtain ⟨h1, ⟨h2, h3⟩, h4, h5⟩ := h
  refine ⟨h1.ch (fun c j _ _ => k.2 c j (by unfold KFl; omega)) (fun j _ => k.2 0 j (by unfold KFl; omega)), ⟨by rw [k.2 _ _ (by unfold KFl; omega)]; exact h2, fun i h hi => ?_⟩, h4, h5⟩
  rw [k.2 14 _ (by unfold KFl; omega), k.2 15 _ (by unfold KFl; omega), k.2 16 _ (by unfold KFl; omega), k.2 17 _ (by unfold KFl; omega)]
  exact h3 i h hi
theorem m_giveLocals {x : VC} {a c : Nat} (hc : c = 29 ∨ c = 30) : ∀ (n k : Nat) (M : MW), SMx M x a → k ≤ rL (xm_ x) → rL (xm_ x) < n + k → ∃ M', f_X6_giveLocals_b2 n c (k : Int) M = some ((), M') ∧ (∀ j, k ≤ j → j < rL (xm_ x) → mI M' 32 j = mI M c j) ∧ ChM M M' (fun q j => q = 32 ∧ k ≤ j) := by
  intro n
  induction n with
  | zero => intro k M _ h1 h2; omega
  | succ n ih =>
    intro k M cx h1 h2
    have hL := cx.rL
    have ha := cx.2.2.2.1
    show ∃ M', f_X6_giveLocals_s2 (f_X6_giveLocals_b2 n) _ _ M = _ ∧ _
    unfold f_X6_giveLocals_s2
    rw [rd_k, cx.2.2.2.2.1, ax_k (by omega), Int.toNat_natCast, rd_k, cx.so.2.2.2.2.2.2.1, w32_n _ (by omega), w32_n k (by omega)]
    by_cases e : rL (xm_ x) ≤ k
    · rw [if_pos (by omega)]
      exact ⟨M, rfl, fun j hj hj2 => by omega, ChM.r _ _⟩
    · have gd : (Nat.blt c 200 && sKind c == 64) = true := by rcases hc with rfl | rfl <;> decide
      have sl : 12 ≤ sLen c ∧ sLen c ≤ 13 := by rcases hc with rfl | rfl <;> decide
      rw [if_neg (by omega), gd, gd_t, ax_k (by omega), Int.toNat_natCast, rd_k, ax_k (by omega), Int.toNat_natCast, rd_k]
      obtain ⟨M', f1, f2, f3⟩ := ih (k + 1) (msI M 32 k (mI M c k)) (cx.ch (fun q j _ _ => mI_o (by omega)) (fun j _ => mI_o (by omega))) (by omega) (by omega)
      refine ⟨M', f1, fun j hj hj2 => ?_, ((ChM.r M _).st (show 32 = 32 ∧ k ≤ k from ⟨rfl, Nat.le_refl _⟩)).tr (f3.mono (fun q j h => ⟨h.1, by omega⟩))⟩
      by_cases ej : j = k
      · rw [ej, f3.2 32 k (by omega), mI_s rfl]
      · rw [f2 j (by omega) hj2, mI_o (by omega)]
/-- the handlers' part of a look: what it changes -/
def KHn (a : Nat) (k j : Nat) : Prop := (k = 23 ∧ 120 * a ≤ j ∧ j < 120 * a + 120) ∨ ((k = 24 ∨ k = 25) ∧ 1440 * a ≤ j ∧ j < 1440 * a + 1440) ∨ k = 26 ∨ k = 32 ∨ k = 33 ∨ (k = 0 ∧ j = 43)
theorem KHn.fl {a k j : Nat} (h : KHn a k j) : KFl a k j := by
  unfold KHn at h
  unfold KFl
  omega
theorem KGv.hn {a q k j : Nat} (hq : q < 120) (h : KGv (120 * a + q) q k j) : KHn a k j := by
  unfold KGv at h
  unfold KHn
  omega
theorem MFS.ch {M M' : MW} {rl a : Nat} {fs : FS} (h : MFS M rl a fs) (hr : rl ≤ 12) (ha : a < 8) (hf : ∀ p s, fs.1 p = some s → s.2.length ≤ 12) (o : ∀ k j, (k = 23 ∨ k = 24 ∨ k = 25 ∨ k = 26) → mI M' k j = mI M k j) : MFS M' rl a fs := by
  intro p hp
  have := h p hp
  rw [o 26 p (by omega)]
  refine ⟨?_, this.2⟩
  have t1 := this.1
  cases e : fs.1 p with
  | none => rw [e] at t1; dsimp only at t1 ⊢; rw [o 23 _ (by omega)]; exact t1
  | some s =>
    rw [e] at t1
    dsimp only at t1 ⊢
    obtain ⟨k1, k2, k3⟩ := t1
    exact ⟨by rw [o 23 _ (by omega)]; exact k1, fun k hk => by rw [o 24 _ (by omega)]; exact k2 k hk, fun k hk => by rw [o 25 _ (by omega)]; exact k3 k hk⟩
theorem FOk.len {x : VC} {fs : FS} (hf : FOk x fs) (hS : rS (xm_ x) ≤ 12) : ∀ p s, fs.1 p = some s → s.2.length ≤ 12 := fun p s hp => by
  have := wds_len s.2
  have := (hf p s hp).2.2.1
  omega
/-- what a faulty look leaves -/
def FltM (M M' : MW) (a : Nat) (e : Nat × Nat) : Prop := mI M' 0 35 = (e.1 : Int) ∧ mI M' 0 36 = (e.2 : Int) ∧ ChM M M' (KFl a)
theorem m_toHandler {M : MW} {x : VC} {a c p i : Nat} {h : HD} {s : TS} {fs : FS} (cx : FlC M x a) (hc : c = 29 ∨ c = 30) (hp34 : mI M 0 34 = (p : Int)) (hi : (rH (xm_ x))[i]? = some h) (hl : ∀ j, j < rL (xm_ x) → mI M c j = (s.1 j : Int)) (hs : SOk x s) (hf : FOk x fs) (hm : MFS M (rL (xm_ x)) a fs) :
    match (if 0 < rS (xm_ x) then gv x (dP h) (s.1, [32 + dK h]) fs else .inl (7, p)) with
    | .inr fs' => ∃ M', f_X6_toHandler ((16 * a + i : Nat) : Int) c M = some (1, M') ∧ MFS M' (rL (xm_ x)) a fs' ∧ ChM M M' (KHn a)
    | .inl e => ∃ M', f_X6_toHandler ((16 * a + i : Nat) : Int) c M = some (0, M') ∧ FltM M M' a e := by
  obtain ⟨cS, ⟨cH1, cH2⟩, cH3, cH4⟩ := cx
  have ha := cS.2.2.2.1
  have hS := cS.rS
  have hL := cS.rL
  have n16 := cS.n16
  have il := (List.getElem?_eq_some_iff.mp hi).1
  have ho := cH4 h (List.mem_of_getElem? hi)
  have hh := cH2 i h hi
  unfold f_X6_toHandler
  rw [rd_k, cS.2.2.2.2.1, ax_k (by omega), Int.toNat_natCast, rd_k, cS.so.2.2.2.2.2.1, w32_n _ (by omega)]
  by_cases r0 : 0 < rS (xm_ x)
  · rw [if_pos r0, if_neg (show ¬ (rS (xm_ x) : Int) = 0 by omega)]
    unfold f_X6_giveLocals
    obtain ⟨M1, e1, f1, f2⟩ := m_giveLocals hc FU 0 M cS (by omega) (by rw [FU_v]; omega)
    have e1' : f_X6_giveLocals_b2 FU c 0 M = some ((), M1) := e1
    rw [e1', mB_k]
    have v17 : mI M1 17 (16 * a + i) = dC h := by rw [f2.2 _ _ (by omega)]; exact hh.2.2.2
    have k1 : ∀ w : Int, w = 32 + (dK h : Int) → match gv x (dP h) (s.1, [32 + dK h]) fs with
        | .inr fs' => ∃ M', (rd (msI M1 33 0 w) fun M1 => rd (msI M1 0 43 1) fun M2 => ax ((16 * a + i : Nat) : Int) 128 fun j => rd (mI M2 16 j) fun v3 => mB (f_X6_give v3 M2) fun v5 M4 => gdB (isZ v5) (some (v5, M4))) = some (1, M') ∧ MFS M' (rL (xm_ x)) a fs' ∧ ChM M M' (KHn a)
        | .inl e => ∃ M', (rd (msI M1 33 0 w) fun M1 => rd (msI M1 0 43 1) fun M2 => ax ((16 * a + i : Nat) : Int) 128 fun j => rd (mI M2 16 j) fun v3 => mB (f_X6_give v3 M2) fun v5 M4 => gdB (isZ v5) (some (v5, M4))) = some (0, M') ∧ FltM M M' a e := by
      intro w hw
      have c2 : ChM M (msI (msI M1 33 0 w) 0 43 1) (KHn a) := ((f2.mono (fun q j h => by unfold KHn; omega)).st (by unfold KHn; omega)).st (by unfold KHn; omega)
      rw [rd_k, rd_k, ax_k (by omega), Int.toNat_natCast, rd_k, c2.2 16 _ (by unfold KHn; omega), hh.2.2.1]
      have cS2 : SMx (msI (msI M1 33 0 w) 0 43 1) x a := cS.ch (fun q j _ _ => c2.2 q j (by unfold KHn; omega)) (fun j _ => c2.2 0 j (by unfold KHn; omega))
      have dKn : dK h < hn (xH_ x) := by
        unfold dK
        have := cS.1.1.1
        have := ho.2.2.2
        split <;> omega
      have os : SOk x (s.1, [32 + dK h]) := by
        refine ⟨⟨hs.1.1, fun t ht => ?_⟩, ?_, hs.2.2.1, fun t ht => ?_⟩
        · have : t = 32 + dK h := List.mem_singleton.mp ht
          rw [this]; exact Or.inr (Or.inl (by omega))
        · show (if 32 + dK h = 2 then 2 else 1) + 0 ≤ _
          rw [if_neg (by omega)]; omega
        · have : t = 32 + dK h := List.mem_singleton.mp ht
          omega
      have gg : GvM (msI (msI M1 33 0 w) 0 43 1) (rL (xm_ x)) (s.1, [32 + dK h]) := by
        refine ⟨mI_s rfl, fun j hj => ?_, fun j hj => ?_⟩
        · rw [mI_o (by omega), mI_o (by omega), f1 j (by omega) hj]; exact hl j hj
        · have : j = 0 := by
            have : j < 1 := hj
            omega
          subst this
          rw [mI_o (by omega), mI_s rfl, hw]
          show 32 + (dK h : Int) = ((32 + dK h : Nat) : Int)
          omega
      have mm : MFS (msI (msI M1 33 0 w) 0 43 1) (rL (xm_ x)) a fs := hm.ch hL ha (hf.len hS) (fun k j hk => by
        rw [mI_o (by omega), mI_o (by omega)]
        exact f2.2 k j (by omega))
      have G := m_give cS2.1 cS.xz hS hL ha cS2.2.2.2.2.1 cS2.so.2.2.2.2.2.2.1 ho.2.2.1 gg os hf mm
      generalize gv x (dP h) (s.1, [32 + dK h]) fs = r at G ⊢
      cases r with
      | inr fs' =>
        dsimp only at G ⊢
        obtain ⟨M', g1, g2, g3⟩ := G
        rw [g1, mB_k, isZ_1, gd_t]
        exact ⟨M', rfl, g2, c2.tr (g3.mono (fun k j h => h.hn ho.2.2.1))⟩
      | inl e =>
        dsimp only at G ⊢
        obtain ⟨g0, M', g1, g2, g3, g4⟩ := G
        rw [g1, mB_k, isZ_0, gd_t]
        refine ⟨M', rfl, ?_, ?_, (c2.mono (fun k j h => h.fl)).tr (g4.mono (fun k j h => h.elim (fun h => h.fl ho.2.2.1) (fun h => h.fl)))⟩
        · rw [g0]; exact g2
        · rw [g0]; exact g3
    unfold f_X6_toHandler_b55
    rw [ax_k (i := ((16 * a + i : Nat) : Int)) (n := 128) (by omega), Int.toNat_natCast, rd_k, v17, w32_i (by have := ho.2.2.2; omega), show w32 (-1) = -1 by decide]
    by_cases hc1 : dC h = -1
    · rw [if_pos hc1, ax_k (i := 0) (n := 20) (by omega)]
      exact k1 _ (by unfold dK; rw [if_pos hc1]; rfl)
    · rw [if_neg hc1, ax_k (i := ((16 * a + i : Nat) : Int)) (n := 128) (by omega), Int.toNat_natCast, rd_k, v17, ax_k (i := 0) (n := 20) (by omega)]
      refine k1 _ ?_
      unfold dK
      rw [if_neg hc1]
      have := ho.2.2.2
      omega
  · rw [if_neg r0, if_pos (show (rS (xm_ x) : Int) = 0 by omega), rd_k, hp34, m_faulty, mB_k, isZ_0, gd_t]
    exact ⟨_, rfl, by rw [mI_o (by omega), mI_s rfl]; rfl, mI_s rfl, ((ChM.r _ _).st (Or.inr (Or.inr (Or.inr ⟨rfl, by omega⟩)))).st (Or.inr (Or.inr (Or.inr ⟨rfl, by omega⟩)))⟩
