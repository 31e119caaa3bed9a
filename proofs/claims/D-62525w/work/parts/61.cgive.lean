/-! LAYER C: the component's states: copies, new ones -/
/-- the shape of a state's three cells q, q + 1, q + 2 -/
def StSh (C : CW) (q : Nat) : Prop := hK C q = 6 ∧ hR C q 0 = some (q + 1) ∧ hR C q 1 = some (q + 2) ∧ hK C (q + 1) = 64 ∧ hL C (q + 1) = 12 ∧ hK C (q + 2) = 64 ∧ hL C (q + 2) = 12
/-- a state in its cells -/
def StA (C : CW) (q : Nat) (s : TS) : Prop := StSh C q ∧ hI C q 2 = (s.2.length : Int) ∧ hI C q 3 = (wds s.2 : Int) ∧ (∀ k, k < 12 → hI C (q + 1) k = (s.1 k : Int)) ∧ ∀ k, k < s.2.length → hI C (q + 2) k = (nth s.2 k : Int)
theorem StSh.hi {C C' : CW} {q : Nat} {A : Nat → Prop} (h : StSh C q) (k : HiO C C' A) : StSh C' q := by
  obtain ⟨k1, k2, k3, k4, k5, k6, k7, k8, k9, ka, kb, kc⟩ := k
  unfold StSh at *
  rw [k4, k5, k8]
  exact h
theorem StA.hi {C C' : CW} {q : Nat} {s : TS} {A : Nat → Prop} (h : StA C q s) (k : HiO C C' A) (n0 : ¬ A q) (n1 : ¬ A (q + 1)) (n2 : ¬ A (q + 2)) : StA C' q s := by
  have o := k.2.2.2.2.2.1
  obtain ⟨h1, h2, h3, h4, h5⟩ := h
  exact ⟨h1.hi k, by rw [o _ n0]; exact h2, by rw [o _ n0]; exact h3, fun j hj => by rw [o _ n1]; exact h4 j hj, fun j hj => by rw [o _ n2]; exact h5 j hj⟩
/-- the three cells of a state -/
def St3 (q : Nat) (z : Nat) : Prop := z = q ∨ z = q + 1 ∨ z = q + 2
theorem c_copy_b2 {q q' : Nat} {s : TS} (hd : q + 3 ≤ q' ∨ q' + 3 ≤ q) (hl : s.2.length ≤ 12) : ∀ (n k : Nat) (C : CW), StSh C q → StA C q' s → k ≤ 12 → 12 < n + k → (∀ j, j < k → hI C (q + 1) j = (s.1 j : Int)) → (∀ j, j < k → j < s.2.length → hI C (q + 2) j = (nth s.2 j : Int)) → ∃ C', f_X4_copy_b2 n (some q) (some q') (k : Int) C = some ((), C') ∧ StA C' q s ∧ HiO C C' (St3 q) := by
  intro n
  induction n with
  | zero => intro k C _ _ h1 h2; omega
  | succ n ih =>
    intro k C hq hs h1 h2 h3 h4
    have hq0 := hq
    have hs0 := hs
    obtain ⟨a1, a2, a3, a4, a5, a6, a7⟩ := hq
    obtain ⟨⟨b1, b2, b3, b4, b5, b6, b7⟩, c1, c2, c3, c4⟩ := hs
    show ∃ C', f_X4_copy_s2 (f_X4_copy_b2 n) _ _ _ C = _ ∧ _
    unfold f_X4_copy_s2
    rw [w32_n k (by omega), show w32 12 = 12 by decide]
    by_cases e : 12 ≤ k
    · rw [if_pos (by omega), dr_k, gd_e b1, rd_k, c1, dr_k, gd_e a1, rd_k, dr_k, hK_hsI, gd_e b1, rd_k, hI_ohsI (by omega), c2, dr_k, gd_e a1, rd_k]
      have h : HiO C (hsI (hsI C q 2 (s.2.length : Int)) q 3 (wds s.2 : Int)) (St3 q) := ((HiO.r _ _).st (Or.inl rfl)).st (Or.inl rfl)
      refine ⟨_, rfl, ⟨hq0.hi h, ?_, hI_shsI rfl, fun j hj => ?_, fun j hj => ?_⟩, h⟩
      · rw [hI_ohsI (by omega), hI_shsI rfl]
      · rw [hI_ohsI (by omega), hI_ohsI (by omega)]; exact h3 j (by omega)
      · rw [hI_ohsI (by omega), hI_ohsI (by omega)]; exact h4 j (by omega) hj
    · rw [if_neg (by omega), dr_k, gd_e a1, rd_k, a2, dr_k, gd_e b1, rd_k, b2, dr_k, gd_e b4, b5, ax_k (by omega), Int.toNat_natCast, rd_k, c3 k (by omega), dr_k, gd_e a4, a5, ax_k (by omega), Int.toNat_natCast, rd_k, dr_k, hK_hsI, gd_e a1, rd_k, hR_hsI, a3, dr_k, gd_e b1, rd_k, b3, dr_k, gd_e b6, hL_hsI, b7, ax_k (by omega), Int.toNat_natCast, rd_k, dr_k, gd_e a6, a7, ax_k (by omega), Int.toNat_natCast, rd_k]
      have h : HiO C (hsI (hsI C (q + 1) k (s.1 k : Int)) (q + 2) k (hI (hsI C (q + 1) k (s.1 k : Int)) (q' + 2) k)) (St3 q) := ((HiO.r _ _).st (Or.inr (Or.inl rfl))).st (Or.inr (Or.inr rfl))
      obtain ⟨C', f1, f2, f3⟩ := ih (k + 1) _ (hq0.hi h) (hs0.hi h (by unfold St3; omega) (by unfold St3; omega) (by unfold St3; omega)) (by omega) (by omega) (fun j hj => by
        rw [hI_ohsI (by omega)]
        by_cases ej : j = k
        · rw [ej, hI_shsI rfl]
        · rw [hI_ohsI (by omega)]; exact h3 j (by omega)) (fun j hj hj2 => by
        by_cases ej : j = k
        · rw [ej, hI_shsI rfl, hI_ohsI (by omega)]; exact c4 k (by omega)
        · rw [hI_ohsI (by omega), hI_ohsI (by omega)]; exact h4 j (by omega) hj2)
      exact ⟨C', f1, f2, h.tr f3⟩
theorem c_copy {C : CW} {q q' : Nat} {s : TS} (hd : q + 3 ≤ q' ∨ q' + 3 ≤ q) (hl : s.2.length ≤ 12) (hq : StSh C q) (hs : StA C q' s) : ∃ C', f_X4_copy q (some q') C = some ((), C') ∧ StA C' q s ∧ HiO C C' (St3 q) := by
  unfold f_X4_copy
  exact c_copy_b2 hd hl FU 0 C hq hs (by omega) (by rw [FU_v]; omega) (fun j hj => by omega) (fun j hj => by omega)
/-- old cells keep what they hold but for ints at A, references at R; statics but at K -/
def ChC (C C' : CW) (K : Nat → Nat → Prop) (A R : Nat → Prop) : Prop :=
  (∀ k j, ¬ K k j → cI C' k j = cI C k j ∧ cJ C' k j = cJ C k j) ∧ cR C' = cR C ∧ hB C' = hB C ∧ hE C' = hE C ∧ hZ C ≤ hZ C' ∧ hS C ≤ hS C' ∧
  (∀ q, q < hB C + hZ C → hK C' q = hK C q ∧ hL C' q = hL C q ∧ hJ C' q = hJ C q ∧ (¬ A q → hI C' q = hI C q) ∧ (¬ R q → hR C' q = hR C q)) ∧ ∀ q, hB C' + hZ C' ≤ q → hK C' q = hK C q
theorem ChC.r (C : CW) (K : Nat → Nat → Prop) (A R : Nat → Prop) : ChC C C K A R := ⟨fun _ _ _ => ⟨rfl, rfl⟩, rfl, rfl, rfl, Nat.le_refl _, Nat.le_refl _, fun _ _ => ⟨rfl, rfl, rfl, fun _ => rfl, fun _ => rfl⟩, fun _ _ => rfl⟩
theorem ChC.tr {C C1 C2 : CW} {K : Nat → Nat → Prop} {A R : Nat → Prop} (h : ChC C C1 K A R) (k : ChC C1 C2 K A R) : ChC C C2 K A R := by
  obtain ⟨h1, h2, h3, h4, h5, h6, h7, h8⟩ := h
  obtain ⟨k1, k2, k3, k4, k5, k6, k7, k8⟩ := k
  refine ⟨fun a b c => ⟨(k1 a b c).1.trans (h1 a b c).1, (k1 a b c).2.trans (h1 a b c).2⟩, k2.trans h2, k3.trans h3, k4.trans h4, by omega, by omega, fun q hq => ?_, fun q hq => (k8 q hq).trans (h8 q (by omega))⟩
  obtain ⟨a1, a2, a3, a4, a5⟩ := h7 q hq
  obtain ⟨b1, b2, b3, b4, b5⟩ := k7 q (by omega)
  exact ⟨b1.trans a1, b2.trans a2, b3.trans a3, fun n => (b4 n).trans (a4 n), fun n => (b5 n).trans (a5 n)⟩
theorem ChC.mono {C C' : CW} {K K' : Nat → Nat → Prop} {A A' R R' : Nat → Prop} (h : ChC C C' K A R) (k1 : ∀ a b, K a b → K' a b) (k2 : ∀ q, q < hB C + hZ C → A q → A' q) (k3 : ∀ q, q < hB C + hZ C → R q → R' q) : ChC C C' K' A' R' := by
  obtain ⟨h1, h2, h3, h4, h5, h6, h7, h8⟩ := h
  exact ⟨fun a b c => h1 a b (fun d => c (k1 a b d)), h2, h3, h4, h5, h6, fun q hq => ⟨(h7 q hq).1, (h7 q hq).2.1, (h7 q hq).2.2.1, fun n => (h7 q hq).2.2.2.1 (fun d => n (k2 q hq d)), fun n => (h7 q hq).2.2.2.2 (fun d => n (k3 q hq d))⟩, h8⟩
theorem HiO.ch {C C' : CW} {A : Nat → Prop} (h : HiO C C' A) (K : Nat → Nat → Prop) (R : Nat → Prop) : ChC C C' K A R := by
  obtain ⟨k1, k2, k3, k4, k5, k6, k7, k8, k9, ka, kb, kc⟩ := h
  exact ⟨fun a b _ => ⟨by rw [k1], by rw [k2]⟩, k3, k9, kc, by rw [ka]; exact Nat.le_refl _, by rw [kb]; exact Nat.le_refl _, fun q _ => ⟨by rw [k4], by rw [k5], by rw [k7], fun n => k6 q n, fun _ => by rw [k8]⟩, fun q _ => by rw [k4]⟩
theorem NwX.ch {C C' : CW} {q K w : Nat} (h : NwX C C' q K w) (K' : Nat → Nat → Prop) (A R : Nat → Prop) : ChC C C' K' A R := by
  obtain ⟨k1, k2, k3, k4, k5, k6, k7, k8, k9, ka⟩ := h
  exact ⟨fun a b _ => ⟨by rw [k3], by rw [k4]⟩, k5, k6, k9, by omega, by omega, fun q' hq => by
    have := ka q' (by omega)
    exact ⟨this.1, this.2.1, this.2.2.2.1, fun _ => this.2.2.1, fun _ => this.2.2.2.2⟩, fun q' hq => (ka q' (by omega)).1⟩
theorem ChC.csI {C C' : CW} {K : Nat → Nat → Prop} {A R : Nat → Prop} (h : ChC C C' K A R) {k j : Nat} {v : Int} (hk : K k j) : ChC C (csI C' k j v) K A R := by
  obtain ⟨h1, h2, h3, h4, h5, h6, h7, h8⟩ := h
  exact ⟨fun a b c => ⟨by
    rw [← (h1 a b c).1]
    refine cI_ocsI ?_
    apply Classical.byContradiction
    intro hn
    apply c
    have e1 : a = k := by omega
    have e2 : b = j := by omega
    rw [e1, e2]; exact hk, (h1 a b c).2⟩, h2, h3, h4, h5, h6, h7, h8⟩
theorem ChC.csJ {C C' : CW} {K : Nat → Nat → Prop} {A R : Nat → Prop} (h : ChC C C' K A R) {k j : Nat} {v : Int} (hk : K k j) : ChC C (csJ C' k j v) K A R := by
  obtain ⟨h1, h2, h3, h4, h5, h6, h7, h8⟩ := h
  exact ⟨fun a b c => ⟨(h1 a b c).1, by
    rw [← (h1 a b c).2]
    refine cJ_ocsJ ?_
    apply Classical.byContradiction
    intro hn
    apply c
    have e1 : a = k := by omega
    have e2 : b = j := by omega
    rw [e1, e2]; exact hk⟩, h2, h3, h4, h5, h6, h7, h8⟩
/-- State(): three new cells -/
theorem c_stNew {C : CW} (r1 : hZ C + 3 ≤ 600384) (r2 : hS C + 28 ≤ 7290858) : ∃ C', (∀ {β : Type} (κ : Nat → CW → Option β), (al C 4 fun q64 => rd (hNew C 6 0 4) fun C65 => dr (some q64) fun q67 => cB (f_X4_init q67 C65) fun _ C66 => κ q64 C66) = κ (hB C + hZ C) C') ∧ StA C' (hB C + hZ C) ((fun _ => 0), []) ∧ hZ C' = hZ C + 3 ∧ hS C' = hS C + 28 ∧ ∀ K A R, ChC C C' K A R := by
  have e0 : hB (hNew C 6 0 4) = hB C := rfl
  have e1 : hZ (hNew C 6 0 4) = hZ C + 1 := rfl
  have e2 : hS (hNew C 6 0 4) = hS C + 4 := rfl
  have k0 : hK (hNew C 6 0 4) (hB C + hZ C) = 6 := hK_sN rfl
  let C2 := hNew (hNew C 6 0 4) (64 + 0) 12 12
  let C3 := hsR C2 (hB C + hZ C) 0 (some (hB C + (hZ C + 1)))
  let C4 := hNew C3 (64 + 0) 12 12
  let C5 := hsR C4 (hB C + hZ C) 1 (some (hB C + (hZ C + 1 + 1)))
  have k2 : hK C2 (hB C + hZ C) = 6 := by
    show hK (hNew (hNew C 6 0 4) (64 + 0) 12 12) _ = 6
    rw [hK_oN (by rw [e0, e1]; omega)]; exact k0
  have k4 : hK C4 (hB C + hZ C) = 6 := by
    show hK (hNew C3 (64 + 0) 12 12) _ = 6
    rw [hK_oN (show hB C + hZ C ≠ hB C + (hZ C + 1 + 1) by omega)]; exact k2
  refine ⟨C5, ?_, ⟨⟨k4, ?_, ?_, ?_, ?_, ?_, ?_⟩, ?_, ?_, fun k hk => ?_, fun k hk => absurd hk (Nat.not_lt_zero _)⟩, rfl, ?_, ?_⟩
  · intro β κ
    unfold f_X4_init
    have w12 : (w32 12).toNat = 12 := by decide
    have g12 : decide (0 ≤ w32 12) = true := by decide
    rw [al_k (by omega), rd_k, dr_k, g12, gd_t, w12, al_k (by rw [e1, e2]; omega), rd_k, dr_k, gd_e k2, rd_k, gd_t, al_k (by show hZ C + 1 + 1 + 1 ≤ 600384 ∧ hS C + 4 + 12 + 12 ≤ 7290858; omega), rd_k, dr_k, gd_p (by rw [beq_iff_eq]; exact k4), rd_k, cB_k]
    rfl
  · show hR (hsR C4 (hB C + hZ C) 1 _) (hB C + hZ C) 0 = some (hB C + hZ C + 1)
    rw [hR_ohsR (by omega)]
    show hR (hNew C3 (64 + 0) 12 12) (hB C + hZ C) 0 = _
    rw [hR_oN (show hB C + hZ C ≠ hB C + (hZ C + 1 + 1) by omega)]
    show hR (hsR C2 (hB C + hZ C) 0 _) (hB C + hZ C) 0 = _
    rw [hR_shsR rfl]; rfl
  · show hR (hsR C4 (hB C + hZ C) 1 _) (hB C + hZ C) 1 = some (hB C + hZ C + 2)
    rw [hR_shsR rfl]; rfl
  · show hK (hNew C3 (64 + 0) 12 12) (hB C + hZ C + 1) = 64
    rw [hK_oN (show hB C + hZ C + 1 ≠ hB C + (hZ C + 1 + 1) by omega)]
    show hK (hNew (hNew C 6 0 4) (64 + 0) 12 12) (hB C + hZ C + 1) = 64
    rw [hK_sN (show hB C + hZ C + 1 = hB C + (hZ C + 1) by omega)]
  · show hL (hNew C3 (64 + 0) 12 12) (hB C + hZ C + 1) = 12
    rw [hL_oN (show hB C + hZ C + 1 ≠ hB C + (hZ C + 1 + 1) by omega)]
    show hL (hNew (hNew C 6 0 4) (64 + 0) 12 12) (hB C + hZ C + 1) = 12
    rw [hL_sN (show hB C + hZ C + 1 = hB C + (hZ C + 1) by omega)]
  · show hK (hNew C3 (64 + 0) 12 12) (hB C + hZ C + 2) = 64
    rw [hK_sN (show hB C + hZ C + 2 = hB C + (hZ C + 1 + 1) by omega)]
  · show hL (hNew C3 (64 + 0) 12 12) (hB C + hZ C + 2) = 12
    rw [hL_sN (show hB C + hZ C + 2 = hB C + (hZ C + 1 + 1) by omega)]
  · show hI (hNew C3 (64 + 0) 12 12) (hB C + hZ C) 2 = 0
    rw [hI_oN (show hB C + hZ C ≠ hB C + (hZ C + 1 + 1) by omega)]
    show hI (hNew (hNew C 6 0 4) (64 + 0) 12 12) (hB C + hZ C) 2 = 0
    rw [hI_oN (show hB C + hZ C ≠ hB C + (hZ C + 1) by omega), hI_sN rfl]
  · show hI (hNew C3 (64 + 0) 12 12) (hB C + hZ C) 3 = 0
    rw [hI_oN (show hB C + hZ C ≠ hB C + (hZ C + 1 + 1) by omega)]
    show hI (hNew (hNew C 6 0 4) (64 + 0) 12 12) (hB C + hZ C) 3 = 0
    rw [hI_oN (show hB C + hZ C ≠ hB C + (hZ C + 1) by omega), hI_sN rfl]
  · show hI (hNew C3 (64 + 0) 12 12) (hB C + hZ C + 1) k = 0
    rw [hI_oN (show hB C + hZ C + 1 ≠ hB C + (hZ C + 1 + 1) by omega)]
    show hI (hNew (hNew C 6 0 4) (64 + 0) 12 12) (hB C + hZ C + 1) k = 0
    rw [hI_sN (show hB C + hZ C + 1 = hB C + (hZ C + 1) by omega)]
  · show hS C + 4 + 12 + 12 = hS C + 28
    omega
  · intro K A R
    have kk : ∀ q, q ≠ hB C + hZ C → q ≠ hB C + (hZ C + 1) → q ≠ hB C + (hZ C + 1 + 1) → hK C5 q = hK C q := by
      intro q n0 n1 n2
      show hK (hNew C3 (64 + 0) 12 12) q = _
      rw [hK_oN n2]
      show hK (hNew (hNew C 6 0 4) (64 + 0) 12 12) q = _
      rw [hK_oN n1, hK_oN n0]
    refine ⟨fun a b _ => ⟨rfl, rfl⟩, rfl, rfl, rfl, ?_, ?_, fun q hq => ⟨kk q (by omega) (by omega) (by omega), ?_, ?_, fun _ => ?_, fun _ => ?_⟩, fun q hq => ?_⟩
    · show hZ C ≤ hZ C + 1 + 1 + 1
      omega
    · show hS C ≤ hS C + 4 + 12 + 12
      omega
    · show hL (hNew C3 (64 + 0) 12 12) q = _
      rw [hL_oN (show q ≠ hB C + (hZ C + 1 + 1) by omega)]
      show hL (hNew (hNew C 6 0 4) (64 + 0) 12 12) q = _
      rw [hL_oN (show q ≠ hB C + (hZ C + 1) by omega), hL_oN (by omega)]
    · show hJ (hNew C3 (64 + 0) 12 12) q = _
      rw [hJ_oN (show q ≠ hB C + (hZ C + 1 + 1) by omega)]
      show hJ (hNew (hNew C 6 0 4) (64 + 0) 12 12) q = _
      rw [hJ_oN (show q ≠ hB C + (hZ C + 1) by omega), hJ_oN (by omega)]
    · show hI (hNew C3 (64 + 0) 12 12) q = _
      rw [hI_oN (show q ≠ hB C + (hZ C + 1 + 1) by omega)]
      show hI (hNew (hNew C 6 0 4) (64 + 0) 12 12) q = _
      rw [hI_oN (show q ≠ hB C + (hZ C + 1) by omega), hI_oN (by omega)]
    · funext j
      show hR (hsR C4 (hB C + hZ C) 1 _) q j = _
      rw [hR_ohsR (by omega)]
      show hR (hNew C3 (64 + 0) 12 12) q j = _
      rw [hR_oN (show q ≠ hB C + (hZ C + 1 + 1) by omega)]
      show hR (hsR C2 (hB C + hZ C) 0 _) q j = _
      rw [hR_ohsR (by omega)]
      show hR (hNew (hNew C 6 0 4) (64 + 0) 12 12) q j = _
      rw [hR_oN (show q ≠ hB C + (hZ C + 1) by omega), hR_oN (by omega)]
    · have hq' : hB C + (hZ C + 1 + 1 + 1) ≤ q := hq
      exact kk q (by omega) (by omega) (by omega)
