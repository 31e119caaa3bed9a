/-! LAYER C: the component's form -/
def CsE (C1 C : CW) : Prop := (∀ k j, k ≠ 205 → ¬ (k = 204 ∧ j = 8) → cI C k j = cI C1 k j) ∧ cJ C = cJ C1 ∧ HpE C1 C
def BgC (C : CW) (b : Nat → Bool) : Prop := ∀ j, j < 121 → cI C 205 j = b2i (b j)
theorem CsE.r (C : CW) : CsE C C := ⟨fun _ _ _ _ => rfl, rfl, HpE.r _⟩
theorem CsE.st {C1 C : CW} (h : CsE C1 C) {k j : Nat} {v : Int} (hk : k = 205 ∨ (k = 204 ∧ j = 8)) : CsE C1 (csI C k j v) := ⟨fun a b h1 h2 => by
  rw [cI_ocsI (by omega)]; exact h.1 a b h1 h2, h.2.1, h.2.2⟩
theorem HpE.vk {C C' : CW} (h : HpE C C') (qm : Nat) : VK C C' qm := by
  obtain ⟨k1, k2, k3, k4, k5, k6, k7, k8, k9⟩ := h
  exact ⟨k6, fun q _ => ⟨by rw [k1], by rw [k2]⟩, fun q _ _ => by rw [k3], fun q _ _ j _ => by rw [k5]⟩
theorem FCp.cs {C C' : CW} {x : VC} {qf qs qh : List Nat} {qm hl : Nat} (h : FCp C x qf qs qm hl qh) (k : CsE C C') : FCp C' x qf qs qm hl qh := by
  obtain ⟨k1, k2, k3⟩ := k
  have k4 := k3
  obtain ⟨a1, _, _, _, _, a6, a7, _, _, a10⟩ := k3
  exact h.vk (k4.vk qm) (fun q hq => by rw [a1]; exact h.1 q (by rw [a6, a7] at hq; exact hq)) (by omega) (fun a b hab => k1 a b (by omega) (by omega)) (by rw [a10]; exact h.2.2.2.2.2.1.1)
theorem FCp.sc {C : CW} {x : VC} {qf qs qh : List Nat} {qm hl p : Nat} (h : FCp C x qf qs qm hl qh) (hp : cI C 204 8 = (p : Int)) (r1 : hZ C + 1 ≤ 600384) (r2 : hS C + 8 ≤ 7290858) : SCx C x qf qs qm p := by
  obtain ⟨z, z2, c1, f, m, o, ⟨s1, _, _⟩, _⟩ := h
  exact ⟨c1, f, m, o, hp, s1, z2, r1, r2⟩
theorem c_isStart {C : CW} {x : VC} {qf qs qh : List Nat} {qm hl : Nat} {B : Nat → Bool} (h : FCp C x qf qs qm hl qh) (hb : BgC C B) {t : Int} (ht : -40000 < t ∧ t < 40000) : f_X3_isStart t C = some (b2i (stB x B t), C) := by
  obtain ⟨z, z2, c1, f, m, ⟨o1, o2, o3, o4⟩, _⟩ := h
  obtain ⟨ac, a1, a2, a3, _⟩ := o2.2.2.2.2.1 o4
  have hN : rN (xm_ x) ≤ 120 := o3.2.2.2.1
  unfold f_X3_isStart stB
  rw [w32_i (by omega)]
  by_cases e : t < 0
  · rw [if_pos e, decide_eq_false (by omega)]; rfl
  · rw [if_neg e, rd_k, o1, dr_k, gd_e o2.1, rd_k, a1, dr_k, gd_l (by omega), rd_k, a3, w32_n _ (by omega)]
    by_cases e2 : (rN (xm_ x) : Int) ≤ t
    · rw [if_pos e2, decide_eq_false (by omega)]; rfl
    · rw [if_neg e2, ax_k (by omega), rd_k, hb _ (by omega), ite_b, decide_eq_true (by omega), Bool.true_and]
      cases B t.toNat <;> rfl
