/-! LAYER C: the model verifies a method -/
def KVf (k j : Nat) : Prop := (k = 0 ∧ (j = 0 ∨ 33 ≤ j)) ∨ (10 ≤ k ∧ k ≤ 37 ∧ k ≠ 12 ∧ k ≠ 21)
/-- what a verification of method a may change -/
def KVa (a k j : Nat) : Prop := (k = 0 ∧ (j = 0 ∨ 33 ≤ j)) ∨ ((k = 11 ∨ k = 13 ∨ (18 ≤ k ∧ k ≤ 20)) ∧ j = a) ∨ ((k = 10 ∨ k = 22 ∨ k = 23 ∨ k = 27 ∨ k = 28) ∧ 120 * a ≤ j ∧ j < 120 * a + 120) ∨ (14 ≤ k ∧ k ≤ 17 ∧ 16 * a ≤ j ∧ j < 16 * a + 16) ∨ ((k = 24 ∨ k = 25) ∧ 1440 * a ≤ j ∧ j < 1440 * a + 1440) ∨ k = 26 ∨ (29 ≤ k ∧ k ≤ 37)
def LimM (m : MR) : Prop := (rH m).length ≤ 16 ∧ ∀ p s, rT m p = some s → s.2.length ≤ 12
theorem RMm.set {M M' : MW} {H : HT} {F : FT} {ms : List MR} {a : Nat} {m m' : MR} (R : RMm M H F ms) (lim : ∀ (i : Nat) m, ms[i]? = some m → LimM m) (hm : ms[a]? = some m) (c : ChM M M' (KVa a)) (h1 : SgO (hn H) m') (h2 : MRec M' a m') : RMm M' H F (ms.set a m') := by
  obtain ⟨r1, ⟨r2, r3⟩, ⟨r4, r5⟩, r6, r7⟩ := R
  have ha : a < ms.length := (List.getElem?_eq_some_iff.mp hm).1
  have o : ∀ k j, k ≤ 9 → (k = 0 → j ≠ 0 ∧ j < 33) → mI M' k j = mI M k j := fun k j hk hj => c.2 k j (by unfold KVa; omega)
  have mv : ∀ i m0, i < 8 → i ≠ a → SgO (hn H) m0 → LimM m0 → MRec M i m0 → MRec M' i m0 := by
    intro i m0 hi hia so l h
    exact h.mv hi ⟨l.1, so.1, so.2.2.2.2.2.1, l.2⟩ (fun k hk _ => c.2 _ _ (by unfold KVa; omega)) (fun j h1 h2 => c.2 _ _ (by unfold KVa; omega)) (fun k j hk h1 h2 => c.2 _ _ (by unfold KVa; omega)) (fun k j h1 h2 h3 h4 => c.2 _ _ (by unfold KVa; omega)) (fun k j hk h1 h2 => c.2 _ _ (by unfold KVa; omega))
  refine ⟨⟨r1.1, by rw [o _ _ (by omega) (by omega)]; exact r1.2.1, fun k hk => by rw [o _ _ (by omega) (by omega)]; exact r1.2.2.1 k hk, fun k hk => by rw [o _ _ (by omega) (by omega)]; exact r1.2.2.2 k hk⟩, ⟨⟨by rw [o _ _ (by omega) (by omega)]; exact r2.1, fun i hi => by rw [o _ _ (by omega) (by omega), o _ _ (by omega) (by omega), o _ _ (by omega) (by omega)]; exact r2.2 i hi⟩, r3⟩, ⟨by rw [o _ _ (by omega) (by omega), List.length_set]; exact r4, by rw [List.length_set]; exact r5⟩, fun i m0 hi => ?_, fun i hi hi8 => ?_⟩
  · rw [List.getElem?_set] at hi
    by_cases e : a = i
    · rw [if_pos e, if_pos ha] at hi
      cases hi
      rw [← e]; exact ⟨h1, h2⟩
    · rw [if_neg e] at hi
      have hil : i < ms.length := (List.getElem?_eq_some_iff.mp hi).1
      obtain ⟨s1, s2⟩ := r6 i m0 hi
      exact ⟨s1, mv i m0 (by omega) (fun h => e h.symm) s1 (lim i m0 hi) s2⟩
  · rw [List.length_set] at hi
    refine mv i mr0 hi8 (by omega) ⟨Nat.zero_le _, fun t h => absurd h List.not_mem_nil, Or.inl rfl, Nat.zero_le _, Nat.zero_le _, Nat.zero_le _, fun p => by show 0 < 256; omega⟩ ⟨Nat.zero_le _, fun p s h => (by cases h)⟩ (r7 i hi hi8)
theorem HdW.b {n : Nat} {h : HD} (hn' : n ≤ 16) (k : HdW n h) : HdB h := by
  obtain ⟨a, b, c, d⟩ := k
  exact ⟨a, b, c, by omega, by omega⟩
theorem m_isMethod {M : MW} {n : Nat} (h8 : mI M 0 8 = (n : Int)) (hn8 : n ≤ 8) {z : Int} (hz : w32 z = z) : f_X6_isMethod z M = some (b2i (decide (0 ≤ z ∧ z < n)), M) := by
  unfold f_X6_isMethod
  rw [hz]
  by_cases e : z < 0
  · rw [if_pos e, decide_eq_false (by omega)]; rfl
  · rw [if_neg e, rd_k, h8, w32_n _ (by omega)]
    by_cases e2 : (n : Int) ≤ z
    · rw [if_pos e2, decide_eq_false (by omega)]; rfl
    · rw [if_neg e2, decide_eq_true (by omega)]; rfl
/-- a fault is told of -/
theorem m_bad {M : MW} {H : HT} {F : FT} {ms : List MR} {a : Nat} {m : MR} {M0 : MW} {e : Nat × Nat} (R : RMm M0 H F ms) (lim : ∀ (i : Nat) m, ms[i]? = some m → LimM m) (hm : ms[a]? = some m) (hv : rV m = false) (c : ChM M0 M (KVa a)) (hk : MSg M a m ∧ MHd M a (rH m) ∧ FrM M a (rX m) ∧ mI M 18 a = 1) (e1 : mI M 0 35 = (e.1 : Int)) (e2 : mI M 0 36 = (e.2 : Int)) (he : 0 < e.1) : ∃ M', f_X6_verify_b98 (a : Int) M = some (0, M') ∧ RMm M' H F (ms.set a (vfB m e)) ∧ mI M' 0 0 = 3 ∧ ChM M0 M' (KVa a) := by
  have ha : a < ms.length := (List.getElem?_eq_some_iff.mp hm).1
  have ha8 : a < 8 := by have := R.2.2.1.2; omega
  obtain ⟨so, rec⟩ := R.2.2.2.1 a m hm
  obtain ⟨k1, k2, k3, k4⟩ := hk
  unfold f_X6_verify_b98 f_X6_verify_b99 f_X6_fails
  let M1 := msI M 19 a (e.1 : Int)
  have q36 : mI M1 0 36 = (e.2 : Int) := by show mI (msI M 19 _ _) 0 36 = _; rw [mI_o (by omega)]; exact e2
  let M2 := msI M1 20 a (e.2 : Int)
  let M3 := msI M2 0 0 3
  have c3 : ChM M M3 (fun k j => ((k = 19 ∨ k = 20) ∧ j = a) ∨ (k = 0 ∧ j = 0)) := (((ChM.r M _).st (by omega)).st (by omega)).st (by omega)
  have cc : ChM M0 M3 (KVa a) := c.tr (c3.mono (fun k j h => by unfold KVa; omega))
  have o : ∀ k j, ¬ (((k = 19 ∨ k = 20) ∧ j = a) ∨ (k = 0 ∧ j = 0)) → mI M3 k j = mI M k j := fun k j h => c3.2 k j h
  refine ⟨M3, ?_, R.set lim hm cc so ?_, mI_s rfl, cc⟩
  · rw [if_pos (by decide), rd_k, e1, ax_k (by omega), Int.toNat_natCast, rd_k, rd_k, show mI (msI M 19 a (e.1 : Int)) 0 36 = _ from q36, ax_k (by omega), Int.toNat_natCast, rd_k, rd_k, mB_k]
  · obtain ⟨a1, a2, a3, a4, a5, a6, a7⟩ := k1
    refine ⟨⟨by rw [o _ _ (by omega)]; exact a1, fun k t ht => by rw [o _ _ (by omega)]; exact a2 k t ht, by rw [o _ _ (by omega)]; exact a3, by rw [o _ _ (by omega)]; exact a4, by rw [o _ _ (by omega)]; exact a5, by rw [o _ _ (by omega)]; exact a6, fun p hp => by rw [o _ _ (by omega)]; exact a7 p hp⟩, ⟨by rw [o _ _ (by omega)]; exact k2.1, fun i h hi => by rw [o _ _ (by omega), o _ _ (by omega), o _ _ (by omega), o _ _ (by omega)]; exact k2.2 i h hi⟩, by rw [o _ _ (by omega)]; exact k4, ?_, ?_, fun k hk => by rw [o _ _ (by omega)]; exact k3 k hk, fun h => ?_, fun h => ?_⟩
    · show mI (msI M2 0 0 3) 19 a = _
      rw [mI_o (by omega)]
      show mI (msI M1 20 a _) 19 a = _
      rw [mI_o (by omega)]
      exact mI_s rfl
    · show mI (msI M2 0 0 3) 20 a = _
      rw [mI_o (by omega)]
      exact mI_s rfl
    · cases h
    · have : e.1 = 0 := h.2
      omega
theorem form_pos {x : VC} {e : Nat × Nat} (h : form x = .inl e) : 0 < e.1 := by
  have f1 : ∀ (n p : Nat) (b : Nat → Bool) (e : Nat × Nat), fo1 x n p b = .inl e → 0 < e.1 := by
    intro n
    induction n with
    | zero => intro p b e h; cases h
    | succ n ih =>
      intro p b e h
      unfold fo1 at h
      split at h
      · cases h
      · split at h
        · exact ih _ _ _ h
        · rename_i hw
          cases h
          show 0 < wrg x p
          omega
  unfold form at h
  cases e1 : fo1 x 121 0 (fun _ => false) with
  | inl e2 => rw [e1] at h; cases h; exact f1 _ _ _ _ e1
  | inr B =>
    rw [e1] at h
    dsimp only at h
    split at h
    · cases h; show 0 < 4; omega
    · split at h
      · cases h; show 0 < 5; omega
      · cases h
theorem bu1_pos {N : Nat} {B : Nat → Bool} {T : Nat → Option TS} {e : Nat × Nat} : ∀ (n p : Nat) (hs : List HD), bu1 N B T n p hs = .inl e → 0 < e.1 := by
  intro n
  induction n with
  | zero => intro p hs h; cases h
  | succ n ih =>
    intro p hs h
    unfold bu1 at h
    split at h
    · cases h
    · split at h
      · split at h
        · cases h; show 0 < 10; omega
        · exact ih _ _ h
      · exact ih _ _ h
theorem gv_pos {x : VC} {q : Nat} {s : TS} {fs : FS} {e : Nat × Nat} (h : gv x q s fs = .inl e) : 0 < e.1 := by
  unfold gv at h
  split at h
  · cases h
  · split at h
    · split at h
      · cases h; show 0 < 9; omega
      · cases h
    · cases h; show 0 < 9; omega
theorem sB_pos {α β : Type} {r : (Nat × Nat) ⊕ α} {κ : α → (Nat × Nat) ⊕ β} {e : Nat × Nat} (h : sB r κ = .inl e) (h1 : ∀ e, r = .inl e → 0 < e.1) (h2 : ∀ a e, κ a = .inl e → 0 < e.1) : 0 < e.1 := by
  cases r with
  | inl e1 => cases h; exact h1 _ rfl
  | inr a => exact h2 a e h
theorem gvH_pos {x : VC} {p : Nat} {s s' : TS} {st : Bool} {e : Nat × Nat} : ∀ (l : List HD) (fs : FS), gvH x p s s' st l fs = .inl e → 0 < e.1
  | [], fs, h => by cases h
  | g :: l, fs, h => by
    unfold gvH at h
    split at h
    · split at h
      · refine sB_pos h (fun e he => gv_pos he) (fun a e1 he => sB_pos he (fun e2 h2 => ?_) (fun b e2 h2 => ?_))
        · split at h2
          · exact gv_pos h2
          · cases h2
        · exact gvH_pos l b h2
      · cases h; show 0 < 7; omega
    · exact gvH_pos l fs h
