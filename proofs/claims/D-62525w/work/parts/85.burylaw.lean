/-! LAYER C: plain laws of dead rows -/
def BuI (x : VC) (B : Nat → Bool) (T : Nat → Option TS) (p : Nat) (z : BS) : Prop := Frm x B p z ∧ ∀ q, q < p → z.2.1 q = true → liv B T q = true ∧ ∀ k, q ≤ k → k < q + szo (rC (xm_ x) q) → z.1 k = rC (xm_ x) k
theorem bu2_i {x : VC} {B : Nat → Bool} {T : Nat → Option TS} (hB : FB1 x (rN (xm_ x)) B) : ∀ (n p : Nat) (z : BS), rN (xm_ x) < n + p → p ≤ rN (xm_ x) → BuI x B T p z → BuI x B T (rN (xm_ x)) (bu2 (rN (xm_ x)) B T n p z) := by
  intro n
  induction n with
  | zero => intro p z h1 h2; omega
  | succ n ih =>
    intro p z h1 hp h
    unfold bu2
    by_cases e : rN (xm_ x) ≤ p
    · have : p = rN (xm_ x) := by omega
      rw [if_pos e, ← this]; exact h
    rw [if_neg e]
    cases d : ded B T p with
    | false =>
      rw [if_neg (by decide)]
      refine ih (p + 1) z (by omega) (by omega) ⟨fun k hk => h.1 k (by omega), fun q hq hb => ?_⟩
      by_cases eq : q = p
      · subst eq
        have hbq : B q = true := by rw [← (h.1 q (Nat.le_refl _)).2]; exact hb
        refine ⟨?_, fun k hk _ => (h.1 k hk).1⟩
        unfold ded at d
        unfold liv
        rw [hbq, Bool.true_and] at d ⊢
        cases eT : T q with
        | none => rw [eT] at d; cases d
        | some s => rfl
      · exact h.2 q (by omega) hb
    | true =>
      have gt := rend_gt d (show p < rN (xm_ x) by omega)
      have le := rend_le (N := rN (xm_ x)) (B := B) (T := T) 121 p hp
      have bp : B p = true := by
        unfold ded at d
        rw [Bool.and_eq_true] at d
        exact d.1
      rw [if_pos rfl]
      refine ih (rend (rN (xm_ x)) B T 121 p) _ (by omega) le ⟨fun k hk => ?_, fun q hq hb => ?_⟩
      · have := h.1 k (by omega)
        refine ⟨?_, ?_⟩
        · show (if p ≤ k ∧ k < rend (rN (xm_ x)) B T 121 p then (if k + 1 = rend (rN (xm_ x)) B T 121 p then 191 else 0) else z.1 k) = _
          rw [if_neg (by omega)]; exact this.1
        · show (if p ≤ k ∧ k < rend (rN (xm_ x)) B T 121 p then false else z.2.1 k) = _
          rw [if_neg (by omega)]; exact this.2
      · have hb' : (if p ≤ q ∧ q < rend (rN (xm_ x)) B T 121 p then false else z.2.1 q) = true := hb
        by_cases c : p ≤ q ∧ q < rend (rN (xm_ x)) B T 121 p
        · rw [if_pos c] at hb'; cases hb'
        · rw [if_neg c] at hb'
          obtain ⟨g1, g2⟩ := h.2 q (by omega) hb'
          refine ⟨g1, fun k hk1 hk2 => ?_⟩
          have bq : B q = true := by
            unfold liv at g1
            rw [Bool.and_eq_true] at g1
            exact g1.1
          have gap : q + szo (rC (xm_ x) q) ≤ p := by
            apply Classical.byContradiction
            intro hc
            have := (hB.2.2 q bq).2.2.2.2 p (by omega) (by omega)
            rw [bp] at this; cases this
          show (if p ≤ k ∧ k < rend (rN (xm_ x)) B T 121 p then (if k + 1 = rend (rN (xm_ x)) B T 121 p then 191 else 0) else z.1 k) = _
          rw [if_neg (by omega)]; exact g2 k hk1 hk2
/-- what remains of code lives, and is as it was -/
theorem bu2_l {x : VC} {B : Nat → Bool} {T : Nat → Option TS} (hB : FB1 x (rN (xm_ x)) B) (hN : rN (xm_ x) ≤ 120) {q : Nat} (hq : q < rN (xm_ x)) (hb : (bu2 (rN (xm_ x)) B T 121 0 (bz0 x B)).2.1 q = true) : liv B T q = true ∧ B q = true ∧ ∀ k, q ≤ k → k < q + szo (rC (xm_ x) q) → (bu2 (rN (xm_ x)) B T 121 0 (bz0 x B)).1 k = rC (xm_ x) k := by
  obtain ⟨g1, g2⟩ := (bu2_i (T := T) hB 121 0 (bz0 x B) (by omega) (by omega) ⟨fun k _ => ⟨rfl, rfl⟩, fun q hq => by omega⟩).2 q hq hb
  have bq : B q = true := by
    have := g1
    unfold liv at this
    rw [Bool.and_eq_true] at this
    exact this.1
  exact ⟨g1, bq, g2⟩
theorem CdZ.mk {x : VC} {B : Nat → Bool} {T : Nat → Option TS} (hB : FB1 x (rN (xm_ x)) B) (hF : FormP x B) (hN : rN (xm_ x) ≤ 120) : CdZ (rN (xm_ x)) (bu2 (rN (xm_ x)) B T 121 0 (bz0 x B)) := by
  intro q hq hb
  obtain ⟨g1, bq, g2⟩ := bu2_l (T := T) hB hN hq hb
  obtain ⟨_, c2, _⟩ := hB.2.2 q bq
  obtain ⟨z1, z2, _⟩ := wrg_z c2
  have e0 := g2 q (Nat.le_refl _) (by omega)
  rw [e0]
  refine ⟨fun hbr => ?_, z1, z2⟩
  have s3 : szo (rC (xm_ x) q) = 3 := szo_br hbr
  have et : tgt (bu2 (rN (xm_ x)) B T 121 0 (bz0 x B)).1 q = tgt (rC (xm_ x)) q := by
    unfold tgt
    rw [g2 (q + 1) (by omega) (by omega), g2 (q + 2) (by omega) (by omega)]
  rw [et]
  have := (hF.2 q bq).2.1.2 hbr
  exact ⟨this.1, this.2, by omega⟩
theorem cuts_P {a b : Nat} {hs : List HD} : ∀ g ∈ cuts a b hs, ∃ h ∈ hs, dP g = dP h ∧ dC g = dC h := by
  intro g hg
  obtain ⟨h, h1, h2⟩ := List.mem_flatMap.mp hg
  refine ⟨h, h1, ?_⟩
  unfold cut1 at h2
  split at h2
  · rw [List.mem_singleton.mp h2]; exact ⟨rfl, rfl⟩
  · rcases List.mem_append.mp h2 with k | k
    · split at k
      · rw [List.mem_singleton.mp k]; exact ⟨rfl, rfl⟩
      · exact absurd k (List.not_mem_nil)
    · split at k
      · rw [List.mem_singleton.mp k]; exact ⟨rfl, rfl⟩
      · exact absurd k (List.not_mem_nil)
theorem bu1_P {N : Nat} {B : Nat → Bool} {T : Nat → Option TS} : ∀ (n p : Nat) (hs hs' : List HD), bu1 N B T n p hs = .inr hs' → ∀ g ∈ hs', ∃ h ∈ hs, dP g = dP h ∧ dC g = dC h := by
  intro n
  induction n with
  | zero => intro p hs hs' h g hg; cases h; exact ⟨g, hg, rfl, rfl⟩
  | succ n ih =>
    intro p hs hs' h g hg
    unfold bu1 at h
    split at h
    · cases h; exact ⟨g, hg, rfl, rfl⟩
    · split at h
      · split at h
        · cases h
        · obtain ⟨k, k1, k2⟩ := ih _ _ _ h g hg
          obtain ⟨k', k3, k4⟩ := cuts_P k k1
          exact ⟨k', k3, k2.1.trans k4.1, k2.2.trans k4.2⟩
      · exact ih _ _ _ h g hg
/-! verification, in plain words -/
def vfE (x : VC) : (Nat × Nat) ⊕ (List HD × BS × (Nat → Option TS)) := match form x with
  | .inl e => .inl e
  | .inr B => match flw x NFl (fsA x) with
    | none => .inl (0, 0)
    | some (.inl e) => .inl e
    | some (.inr fs) => match bu1 (rN (xm_ x)) B fs.1 121 0 (rH (xm_ x)) with
      | .inl e => .inl e
      | .inr hs => .inr (hs, bu2 (rN (xm_ x)) B fs.1 121 0 (bz0 x B), fs.1)
def vfB (m : MR) (e : Nat × Nat) : MR := (rA m, rR m, rN m, rC m, rS m, rL m, rH m, true, e.1, (e.2 : Int), rB m, rT m, rD m, rX m)
def vfG (m : MR) (r : List HD × BS × (Nat → Option TS)) : MR := (rA m, rR m, rN m, r.2.1.1, r.2.1.2.2.2, rL m, r.1, true, 0, -1, r.2.1.2.1, r.2.2, r.2.1.2.2.1, frX (rN m) r.2.1 r.1)
def vfM (x : VC) : MR := match vfE x with
  | .inl e => vfB (xm_ x) e
  | .inr r => vfG (xm_ x) r
/-! a method in the model's cells -/
def StsM (M : MW) (i rl : Nat) (T : Nat → Option TS) : Prop := ∀ p, p < 120 → match T p with
  | none => mI M 23 (120 * i + p) = -1
  | some s => StM M rl (120 * i + p) s
def MRec (M : MW) (i : Nat) (m : MR) : Prop := MSg M i m ∧ MHd M i (rH m) ∧ mI M 18 i = b2i (rV m) ∧ mI M 19 i = (rF m : Int) ∧ mI M 20 i = rP m ∧ FrM M i (rX m) ∧ (rV m = false → ∀ k, k < 120 → mI M 22 (120 * i + k) = 0 ∧ mI M 27 (120 * i + k) = 0 ∧ rX m k = false) ∧ (rV m = true ∧ rF m = 0 → (∀ k, k < 120 → mI M 22 (120 * i + k) = b2i (rB m k) ∧ mI M 27 (120 * i + k) = b2i (rD m k)) ∧ StsM M i (rL m) (rT m))
def mr0 : MR := ([], 0, 0, fun _ => 0, 0, 0, [], false, 0, -1, fun _ => false, fun _ => none, fun _ => false, fun _ => false)
def RMm (M : MW) (H : HT) (F : FT) (ms : List MR) : Prop := MH M H ∧ (MF M F ∧ FOK F H) ∧ (mI M 0 8 = (ms.length : Int) ∧ ms.length ≤ 8) ∧ (∀ (i : Nat) m, ms[i]? = some m → SgO (hn H) m ∧ MRec M i m) ∧ ∀ i, ms.length ≤ i → i < 8 → MRec M i mr0
/-- all that is of method i stands -/
theorem MRec.mv {M M' : MW} {i : Nat} {m : MR} (h : MRec M i m) (hi : i < 8) (hl : (rH m).length ≤ 16 ∧ (rA m).length ≤ 4 ∧ rL m ≤ 12 ∧ ∀ p s, rT m p = some s → s.2.length ≤ 12) (o1 : ∀ k, (7 ≤ k ∧ k ≤ 13) ∨ (18 ≤ k ∧ k ≤ 20) → k ≠ 10 → mI M' k i = mI M k i) (o2 : ∀ j, 4 * i ≤ j → j < 4 * i + 4 → mI M' 6 j = mI M 6 j) (o3 : ∀ k j, (k = 10 ∨ k = 22 ∨ k = 23 ∨ k = 27 ∨ k = 28) → 120 * i ≤ j → j < 120 * i + 120 → mI M' k j = mI M k j) (o4 : ∀ k j, 14 ≤ k → k ≤ 17 → 16 * i ≤ j → j < 16 * i + 16 → mI M' k j = mI M k j) (o5 : ∀ k j, (k = 24 ∨ k = 25) → 1440 * i ≤ j → j < 1440 * i + 1440 → mI M' k j = mI M k j) : MRec M' i m := by
  obtain ⟨⟨a1, a2, a3, a4, a5, a6, a7⟩, ⟨b1, b2⟩, c, d, e, f, g, h⟩ := h
  obtain ⟨l1, l2, l3, l4⟩ := hl
  refine ⟨⟨by rw [o1 _ (by omega) (by omega)]; exact a1, fun k t ht => ?_, by rw [o1 _ (by omega) (by omega)]; exact a3, by rw [o1 _ (by omega) (by omega)]; exact a4, by rw [o1 _ (by omega) (by omega)]; exact a5, by rw [o1 _ (by omega) (by omega)]; exact a6, fun p hp => by rw [o3 _ _ (by omega) (by omega) (by omega)]; exact a7 p hp⟩, ⟨by rw [o1 _ (by omega) (by omega)]; exact b1, fun k h' hk => ?_⟩, by rw [o1 _ (by omega) (by omega)]; exact c, by rw [o1 _ (by omega) (by omega)]; exact d, by rw [o1 _ (by omega) (by omega)]; exact e, fun k hk => by rw [o3 _ _ (by omega) (by omega) (by omega)]; exact f k hk, fun hv k hk => by rw [o3 _ _ (by omega) (by omega) (by omega), o3 _ _ (by omega) (by omega) (by omega)]; exact g hv k hk, fun hv => ⟨fun k hk => by rw [o3 _ _ (by omega) (by omega) (by omega), o3 _ _ (by omega) (by omega) (by omega)]; exact (h hv).1 k hk, fun p hp => ?_⟩⟩
  · have : k < (rA m).length := (List.getElem?_eq_some_iff.mp ht).1
    rw [o2 _ (by omega) (by omega)]; exact a2 k t ht
  · have : k < (rH m).length := (List.getElem?_eq_some_iff.mp hk).1
    rw [o4 _ _ (by omega) (by omega) (by omega) (by omega), o4 _ _ (by omega) (by omega) (by omega) (by omega), o4 _ _ (by omega) (by omega) (by omega) (by omega), o4 _ _ (by omega) (by omega) (by omega) (by omega)]
    exact b2 k h' hk
  · have := (h hv).2 p hp
    cases eT : rT m p with
    | none => rw [eT] at this; dsimp only at this ⊢; rw [o3 _ _ (by omega) (by omega) (by omega)]; exact this
    | some s =>
      have l5 := l4 p s eT
      rw [eT] at this
      dsimp only at this ⊢
      obtain ⟨t1, t2, t3⟩ := this
      exact ⟨by rw [o3 _ _ (by omega) (by omega) (by omega)]; exact t1, fun k hk => by rw [o5 _ _ (by omega) (by omega) (by omega)]; exact t2 k hk, fun k hk => by rw [o5 _ _ (by omega) (by omega) (by omega)]; exact t3 k hk⟩
