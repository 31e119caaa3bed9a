/-! LAYER C: the component cuts handlers, loop -/
def NoN : Nat → Prop := fun _ => False
def NoK : Nat → Nat → Prop := fun _ _ => False
/-- old cells stand -/
def OldE (C C' : CW) : Prop := ∀ q, hK C q ≠ 0 → hK C' q = hK C q ∧ hL C' q = hL C q ∧ hI C' q = hI C q ∧ hR C' q = hR C q
theorem ChC.oe {C C' : CW} {K : Nat → Nat → Prop} {A R : Nat → Prop} (h : ChC C C' K A R) (z : ∀ q, hB C + hZ C ≤ q → hK C q = 0) (hA : ∀ q, q < hB C + hZ C → ¬ A q) (hR' : ∀ q, q < hB C + hZ C → ¬ R q) : OldE C C' := fun q hq => by
  have ho : q < hB C + hZ C := by
    apply Classical.byContradiction
    intro hc
    exact hq (z q (by omega))
  obtain ⟨a1, a2, a3, a4, a5⟩ := h.2.2.2.2.2.2.1 q ho
  exact ⟨a1, a2, a4 (hA q ho), a5 (hR' q ho)⟩
theorem ALs.oe {C C' : CW} {q : Nat} {l : List Nat} (h : ALs C q l) (k : OldE C C') : ALs C' q l := by
  obtain ⟨a1, a2, a3, a, a4, a5, a6, a7, a8⟩ := h
  obtain ⟨b1, b2, b3, b4⟩ := k q (by omega)
  obtain ⟨c1, c2, c3, c4⟩ := k a (by omega)
  exact ⟨by rw [b1]; exact a1, by rw [b3]; exact a2, a3, a, by rw [b4]; exact a4, by rw [c1]; exact a5, by rw [c2]; exact a6, by rw [c2]; exact a7, fun i r hi => by rw [c4]; exact a8 i r hi⟩
theorem HdC.oe {C C' : CW} {q : Nat} {g : HD} (h : HdC C q g) (k : OldE C C') : HdC C' q g := by
  have := h.1
  obtain ⟨b1, b2, b3, b4⟩ := k q (by omega)
  unfold HdC at h ⊢
  rw [b1, b3]; exact h
theorem HsC.oe {C C' : CW} {hl : Nat} {qh : List Nat} {hs : List HD} (h : HsC C hl qh hs) (k : OldE C C') : HsC C' hl qh hs := ⟨h.1.oe k, h.2.1, fun i q g a b => (h.2.2 i q g a b).oe k⟩
/-- the list that is being filled: new since C0 -/
def LfC (C0 C : CW) (ql : Nat) (qd : List Nat) (ds : List HD) : Prop := HsC C ql qd ds ∧ hB C0 + hZ C0 ≤ ql ∧ ql < hB C + hZ C ∧ (∀ q, hB C + hZ C ≤ q → hK C q = 0) ∧ ∃ a, hR C ql 1 = some a ∧ ((hL C a = 0 ∧ hE C 0 = some a) ∨ (hB C0 + hZ C0 ≤ a ∧ 0 < hL C a))
theorem HsC.ok {C : CW} {hl : Nat} {qh : List Nat} {hs : List HD} (h : HsC C hl qh hs) : ∀ r ∈ qh, OkL C r := by
  intro r hr
  obtain ⟨i, hi, e⟩ := List.getElem_of_mem hr
  have e1 : qh[i]? = some r := by rw [List.getElem?_eq_getElem hi, e]
  have e2 : hs[i]? = some (hs[i]'(by rw [← h.2.1]; exact hi)) := List.getElem?_eq_getElem _
  exact Or.inr (Or.inr (Or.inl (h.2.2 i r _ e1 e2).1))
/-- a handler goes into the list -/
theorem c_push1 {C0 C : CW} {ql : Nat} {qd : List Nat} {ds : List HD} {g : HD} (h : LfC C0 C ql qd ds) (hb : hB C = hB C0) (hz : hZ C0 ≤ hZ C) (hl : ds.length ≤ 40) (r1 : hZ C + 2 ≤ 600384) (r2 : hS C + 264 ≤ 7290858) : ∃ D C', f_X9_init (hB C + hZ C) (dF g : Int) (dT g : Int) (dP g : Int) (dC g) (hNew C 9 0 4) = some ((), D) ∧ hK D ql = 15 ∧ f_J2_add ql (some (hB C + hZ C)) D = some (1, C') ∧ LfC C0 C' ql (qd ++ [hB C + hZ C]) (ds ++ [g]) ∧ hZ C' ≤ hZ C + 2 ∧ hS C' ≤ hS C + 264 ∧ ChC C C' NoK (fun q => hB C0 + hZ C0 ≤ q) (fun q => hB C0 + hZ C0 ≤ q) := by
  obtain ⟨h1, h2, h3, z, a, h4, h5⟩ := h
  obtain ⟨D, e1, d1, d2, d3, d4⟩ := c_newHd (C := C) (g := g) (by omega) (by omega)
  have oe : OldE C D := (d4 NoK NoN NoN).oe z (fun _ _ h => h) (fun _ _ h => h)
  have bD : hB D = hB C := (d4 NoK NoN NoN).2.2.1
  have eD : hE D = hE C := (d4 NoK NoN NoN).2.2.2.1
  have zD : ∀ q, hB D + hZ D ≤ q → hK D q = 0 := fun q hq => by
    rw [(d4 NoK NoN NoN).2.2.2.2.2.2.2 q hq]; exact z q (by omega)
  have h1D := h1.oe oe
  have kql : hK C ql ≠ 0 := by rw [h1.1.1]; decide
  have rD : hR D ql 1 = some a := by rw [(oe ql kql).2.2.2]; exact h4
  have ka : hK C a = 68 := by
    obtain ⟨_, _, _, a', a4, a5, _⟩ := h1.1
    rw [h4] at a4; cases a4; exact a5
  have la : hL D a = hL C a := (oe a (by rw [ka]; decide)).2.1
  obtain ⟨C', f1, f2, f3, f4, f5, a', f6, f7, f8⟩ := c_add (C := D) (q := ql) (r0 := hB C + hZ C) (l := qd) zD h1D.1 (by rw [h1D.2.1]; omega) (Or.inr (Or.inr (Or.inl d1.1))) h1D.ok (fun b hb1 hb2 => by
    rw [rD] at hb1
    cases hb1
    rw [la] at hb2
    rw [eD]
    rcases h5 with g1 | g1
    · exact g1.2
    · omega) (by omega) (by omega)
  have c2 : ChC D C' NoK (fun q => hB C0 + hZ C0 ≤ q) (fun q => hB C0 + hZ C0 ≤ q) := (f5 NoK).mono (fun _ _ h => h) (fun q _ h => by rw [h]; exact h2) (fun q _ h => by
    rcases h with h | ⟨h, h'⟩
    · rw [h]; exact h2
    · rw [rD] at h
      cases h
      rcases h5 with g1 | g1
      · omega
      · exact g1.1)
  have bC' : hB C' = hB D := c2.2.2.1
  have zC' : hZ D ≤ hZ C' := c2.2.2.2.2.1
  refine ⟨D, C', e1, by rw [(oe ql kql).1]; exact h1.1.1, f1, ⟨⟨f2, by rw [List.length_append, List.length_append, h1.2.1]; rfl, fun i q g' hq hg => ?_⟩, h2, by omega, fun q hq => ?_, a', f6, ?_⟩, by omega, by omega, (d4 NoK _ _).tr c2⟩
  · -- handlers stand: adding changes no ints but the list's
    have old9 : ∀ q g', HdC D q g' → HdC C' q g' := by
      intro q g' hd
      have hq9 := hd.1
      have ho : q < hB D + hZ D := by
        apply Classical.byContradiction
        intro hc
        rw [zD q (by omega)] at hq9; cases hq9
      have nq : q ≠ ql := fun e => by
        rw [e, h1D.1.1] at hq9; cases hq9
      obtain ⟨u1, u2, u3, u4, u5⟩ := (f5 NoK).2.2.2.2.2.2.1 q ho
      unfold HdC at hd ⊢
      rw [u1, u4 nq]; exact hd
    rcases getE_app hq with ⟨i1, i2⟩ | ⟨i1, i2⟩
    · rcases getE_app hg with ⟨j1, j2⟩ | ⟨j1, j2⟩
      · exact old9 q g' (h1D.2.2 i q g' i2 j2)
      · have := h1.2.1; omega
    · rcases getE_app hg with ⟨j1, j2⟩ | ⟨j1, j2⟩
      · have := h1.2.1; omega
      · rw [i2, j2]; exact old9 _ _ d1
  · rw [c2.2.2.2.2.2.2.2 q hq]; exact zD q (by omega)
  · rcases f8 with ⟨g1, g2⟩ | g1
    · rw [rD] at g1
      cases g1
      rcases h5 with g3 | g3
      · omega
      · exact Or.inr ⟨g3.1, f7⟩
    · exact Or.inr ⟨by omega, f7⟩
