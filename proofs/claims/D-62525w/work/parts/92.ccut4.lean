/-! LAYER C: the component cuts handlers, whole -/
theorem ccuts_e {a b : Nat} (hab : a < b) : ∀ (hs : List HD), (∀ h ∈ hs, dF h < dT h) → ccuts a b hs = cuts a b hs
  | [], _ => rfl
  | h :: l, hw => by
    have e1 : ccuts a b (h :: l) = ccut1 a b h ++ ccuts a b l := rfl
    have e2 : cuts a b (h :: l) = cut1 a b h ++ cuts a b l := rfl
    rw [e1, e2, ccut1_e hab (hw h (List.mem_cons_self ..)), ccuts_e hab l (fun g hg => hw g (List.mem_cons_of_mem _ hg))]
theorem NwX.z {C C' : CW} {q K w : Nat} (h : NwX C C' q K w) (z : ∀ q, hB C + hZ C ≤ q → hK C q = 0) : ∀ q, hB C' + hZ C' ≤ q → hK C' q = 0 := by
  obtain ⟨n1, n2, _, _, _, n6, n7, _, _, n10⟩ := h
  intro x hx
  rw [n6, n7] at hx
  rw [(n10 x (by omega)).1]
  exact z x (by omega)
theorem c_cutW {C : CW} {qm hl a b : Nat} {qh : List Nat} {hs : List HD} (z : ∀ q, hB C + hZ C ≤ q → hK C q = 0) (e0 : E0 C) (o1 : cR C 204 7 = some qm) (o2 : hK C qm = 7) (o3 : hR C qm 5 = some hl) (hh : HsC C hl qh hs) (hw : ∀ h ∈ hs, HdB h ∧ dF h < dT h) (hlen : hs.length ≤ 12) (hab : a < b) (hb : b ≤ 120) (rz : hZ C + 70 ≤ 600384) (rs : hS C + 7100 ≤ 7290858) :
    if 12 < (cuts a b hs).length then ∃ q1 C', f_X3_cut (a : Int) (b : Int) C = some (.inl q1, C') ∧ hK C' q1 = 13 ∧ hI C' q1 6 = 10 ∧ hI C' q1 7 = (a : Int) ∧ ChC C C' NoK (NwQ C) (NwQ C) ∧ hZ C' ≤ hZ C + 60 ∧ hS C' ≤ hS C + 6400
    else ∃ C' ql qd, f_X3_cut (a : Int) (b : Int) C = some (.inr (), C') ∧ HsC C' ql qd (cuts a b hs) ∧ hR C' qm 5 = some ql ∧ (∀ j, j ≠ 5 → hR C' qm j = hR C qm j) ∧ NwQ C ql ∧ ChC C C' NoK (NwQ C) (fun q => q = qm ∨ NwQ C q) ∧ (∃ ar, hR C' ql 1 = some ar ∧ ((hL C' ar = 0 ∧ hE C' 0 = some ar) ∨ (NwQ C ar ∧ 0 < hL C' ar))) ∧ hZ C' ≤ hZ C + 60 ∧ hS C' ≤ hS C + 6400 := by
  have oqm : qm < hB C + hZ C := by
    apply Classical.byContradiction
    intro hc
    rw [z qm (by omega)] at o2; cases o2
  obtain ⟨C1, e1, l1, z1, s1, ch1, x0, x1, x2, x3⟩ := c_newList z e0 (by omega) (by omega)
  have k1 : ChC C C1 NoK (NwQ C) (NwQ C) := ch1 _ _ _
  have zC1 : ∀ q, hB C1 + hZ C1 ≤ q → hK C1 q = 0 := fun q hq => by
    have b1 := k1.2.2.1
    rw [k1.2.2.2.2.2.2.2 q hq]; exact z q (by omega)
  have lf : LfC C C1 (hB C + hZ C) [] [] := by
    have b1 := k1.2.2.1
    refine ⟨⟨l1, rfl, fun i q h hi => by cases hi⟩, Nat.le_refl _, by omega, zC1, ?_⟩
    exact ⟨x0, x1, Or.inl ⟨x2, x3⟩⟩
  obtain ⟨C2, qd, e2, k2, lf2, z2, s2⟩ := c_cut11 (qm := qm) (hl := hl) (ql := hB C + hZ C) (a := a) (b := b) (zz := hZ C1) (ss := hS C1) z o1 o2 o3 hh (fun h hm => (hw h hm).1) hlen (by omega) hb (by omega) (by omega) hs 0 FU [] [] C1 rfl (by omega) (by rw [FU_v]; omega) k1 lf (by show 0 ≤ 0; omega) (by omega) (by omega)
  rw [List.nil_append] at e2 lf2
  rw [ccuts_e hab hs (fun h hm => (hw h hm).2)] at e2 lf2
  have top : f_X3_cut (a : Int) (b : Int) C = f_X3_cut_b163 (a : Int) (some (hB C + hZ C)) (b2i (decide ((cuts a b hs).length ≤ 12))) C2 := by
    unfold f_X3_cut
    exact (e1 (fun q58 C60 => f_X3_cut_b11 FU (a : Int) (b : Int) (some q58) 0 C60)).trans e2
  have b2 := k2.2.2.1
  have zz2 := k2.2.2.2.2.1
  have qm2 := k2.2.2.2.2.2.2.1 qm oqm
  have rq2 : hR C2 qm = hR C qm := qm2.2.2.2.2 (by unfold NwQ; omega)
  rw [top]
  unfold f_X3_cut_b163
  rcases c_hold (C := C2) (decide ((cuts a b hs).length ≤ 12)) 10 a (by omega) (by omega) with ⟨h1, h2⟩ | ⟨h1, C3, h2, h3, h4, h5⟩
  · have hle := of_decide_eq_true h1
    rw [if_neg (by omega), h2, xB_r, rd_k, k2.2.1, o1, dr_k, gd_e (show hK C2 qm = 7 by rw [qm2.1]; exact o2), rd_k]
    obtain ⟨g1, g2, g3, g4, ar, g5, g6⟩ := lf2
    have nq : hB C + hZ C ≠ qm := by omega
    refine ⟨_, hB C + hZ C, qd, rfl, ⟨?_, g1.2.1, g1.2.2⟩, hR_shsR rfl, fun j hj => ?_, Nat.le_refl _, ?_, ⟨ar, ?_, g6⟩, by show hZ C2 ≤ _; omega, by show hS C2 ≤ _; omega⟩
    · obtain ⟨a1, a2, a3, ar', a4, a5, a6, a7, a8⟩ := g1.1
      have na : ar' ≠ qm := fun e => by rw [e, qm2.1, o2] at a5; cases a5
      exact ⟨a1, a2, a3, ar', by rw [hR_ohsR (Or.inl nq)]; exact a4, a5, a6, a7, fun i r hi => by rw [hR_ohsR (Or.inl na)]; exact a8 i r hi⟩
    · rw [hR_ohsR (Or.inr hj), rq2]
    · exact chc_hsRn (k2.mono (fun _ _ h => h) (fun _ _ h => h) (fun _ _ h => Or.inr h)) (Or.inr (Or.inl rfl))
    · rw [hR_ohsR (Or.inl nq)]; exact g5
  · have hle := of_decide_eq_false h1
    have n7 := h3.2.2.2.2.2.2.1
    have n8 := h3.2.2.2.2.2.2.2.1
    rw [if_pos (by omega), h2, xB_l]
    exact ⟨_, C3, rfl, h3.2.1, h4, h5, k2.tr (h3.ch _ _ _), by omega, by omega⟩
