/-! LAYER C: what a verification leaves as it was; the context without the row of states -/
/-- all old cells stand, but the single states' ints, rows of states and the method's row of states -/
def VK (C C' : CW) (qm : Nat) : Prop := hB C' = hB C ∧ (∀ q, hK C q ≠ 0 → hK C' q = hK C q ∧ hL C' q = hL C q) ∧ (∀ q, hK C q ≠ 0 → ((hK C q ≠ 6 ∧ hK C q ≠ 64) ∨ hB C + 17 < q) → hI C' q = hI C q) ∧ ∀ q, hK C q ≠ 0 → hK C q ≠ 69 → ∀ j, (q = qm → j ≠ 10) → hR C' q j = hR C q j
theorem VK.r (C : CW) (qm : Nat) : VK C C qm := ⟨rfl, fun _ _ => ⟨rfl, rfl⟩, fun _ _ _ => rfl, fun _ _ _ _ _ => rfl⟩
theorem VK.tr {C C1 C2 : CW} {qm : Nat} (h : VK C C1 qm) (k : VK C1 C2 qm) : VK C C2 qm := by
  obtain ⟨h1, h2, h3, h4⟩ := h
  obtain ⟨k1, k2, k3, k4⟩ := k
  refine ⟨k1.trans h1, fun q hq => ?_, fun q hq ho => ?_, fun q hq h9 j hj => ?_⟩
  · have a := h2 q hq
    have b := k2 q (by rw [a.1]; exact hq)
    exact ⟨b.1.trans a.1, b.2.trans a.2⟩
  · have a := h2 q hq
    exact (k3 q (by rw [a.1]; exact hq) (by rw [a.1, h1]; exact ho)).trans (h3 q hq ho)
  · have a := h2 q hq
    exact (k4 q (by rw [a.1]; exact hq) (by rw [a.1]; exact h9) j hj).trans (h4 q hq h9 j hj)
theorem ALs.vk {C C' : CW} {qm q : Nat} {l : List Nat} (h : ALs C q l) (k : VK C C' qm) (hqm : hK C qm = 7) : ALs C' q l := by
  obtain ⟨a1, a2, a3, a, a4, a5, a6, a7, a8⟩ := h
  obtain ⟨k1, k2, k3, k4⟩ := k
  refine ⟨by rw [(k2 q (by omega)).1]; exact a1, by rw [k3 q (by omega) (Or.inl (by omega))]; exact a2, a3, a, by rw [k4 q (by omega) (by omega) _ (by omega)]; exact a4, by rw [(k2 a (by omega)).1]; exact a5, by rw [(k2 a (by omega)).2]; exact a6, by rw [(k2 a (by omega)).2]; exact a7, fun i r hi => ?_⟩
  rw [k4 a (by omega) (by omega) _ (fun e => by rw [e] at a5; omega)]; exact a8 i r hi
theorem MsC.vk {C C' : CW} {qm q : Nat} {m : MR} (h : MsC C q m) (k : VK C C' qm) : MsC C' q m := by
  obtain ⟨g1, ⟨aa, g2, g3, g4, g5, g6⟩, g7, g8, g9, ga, gb⟩ := h
  obtain ⟨k1, k2, k3, k4⟩ := k
  have eI := k3 q (by omega) (Or.inl (by omega))
  have eR : ∀ j, j ≠ 10 → hR C' q j = hR C q j := fun j hj => k4 q (by omega) (by omega) j (fun _ => hj)
  refine ⟨by rw [(k2 q (by omega)).1]; exact g1, ⟨aa, by rw [eR _ (by omega)]; exact g2, by rw [k1]; exact g3, by rw [(k2 aa (by omega)).1]; exact g4, by rw [(k2 aa (by omega)).2]; exact g5, fun i t ht => ?_⟩, by rw [eI]; exact g7, fun h => by rw [eR _ (by omega)]; exact g8 h, fun h => ?_, by rw [eI]; exact ga, by rw [eI]; exact gb⟩
  · rw [k3 aa (by omega) (Or.inr (by omega))]; exact g6 i t ht
  · obtain ⟨ac, p1, p2, p3, p4⟩ := g9 h
    exact ⟨ac, by rw [eR _ (by omega)]; exact p1, by rw [(k2 ac (by omega)).1]; exact p2, by rw [(k2 ac (by omega)).2]; exact p3, fun p hp => by rw [k3 ac (by omega) (Or.inl (by omega))]; exact p4 p hp⟩
theorem FdC.vk {C C' : CW} {qm q i : Nat} {F : FT} (h : FdC C q F i) (k : VK C C' qm) : FdC C' q F i := by
  have g := h.1
  unfold FdC at h ⊢
  rw [(k.2.1 q (by omega)).1, k.2.2.1 q (by omega) (Or.inl (by omega))]
  exact h
theorem HdC.vk {C C' : CW} {qm q : Nat} {x : HD} (h : HdC C q x) (k : VK C C' qm) : HdC C' q x := by
  have g := h.1
  unfold HdC at h ⊢
  rw [(k.2.1 q (by omega)).1, k.2.2.1 q (by omega) (Or.inl (by omega))]
  exact h
theorem StSh.vk {C C' : CW} {qm q : Nat} (h : StSh C q) (k : VK C C' qm) (hqm : hK C qm = 7) : StSh C' q := by
  obtain ⟨a1, a2, a3, a4, a5, a6, a7⟩ := h
  obtain ⟨k1, k2, k3, k4⟩ := k
  exact ⟨by rw [(k2 q (by omega)).1]; exact a1, by rw [k4 q (by omega) (by omega) _ (by omega)]; exact a2, by rw [k4 q (by omega) (by omega) _ (by omega)]; exact a3, by rw [(k2 _ (by omega)).1]; exact a4, by rw [(k2 _ (by omega)).2]; exact a5, by rw [(k2 _ (by omega)).1]; exact a6, by rw [(k2 _ (by omega)).2]; exact a7⟩
theorem CH.k {C C' : CW} {H : HT} (h : CH C H) (k : ∀ a b, a < 204 → cI C' a b = cI C a b) : CH C' H := by
  obtain ⟨a1, a2, a3, a4, a5⟩ := h
  exact ⟨a1, by rw [k _ _ (by omega)]; exact a2, by rw [k _ _ (by omega)]; exact a3, fun j h0 h => by rw [k _ _ (by omega)]; exact a4 j h0 h, fun j h => by rw [k _ _ (by omega)]; exact a5 j h⟩
/-- what stands all through a verification -/
def FCp (C : CW) (x : VC) (qf qs : List Nat) (qm hl : Nat) (qh : List Nat) : Prop :=
  (∀ q, hB C + hZ C ≤ q → hK C q = 0) ∧ 77 < hZ C ∧ CH C (xH_ x) ∧
  (ALs C (hB C + 4) qf ∧ qf.length = fN (xF_ x) ∧ (∀ (i q : Nat), qf[i]? = some q → FdC C q (xF_ x) i) ∧ FOK (xF_ x) (xH_ x)) ∧
  (ALs C (hB C + 5) qs ∧ qs.length = (xM_ x).length ∧ (xM_ x).length ≤ 8 ∧ (∀ (i q : Nat) m, qs[i]? = some q → (xM_ x)[i]? = some m → MsC C q m) ∧ ∀ (i : Nat) m, (xM_ x)[i]? = some m → SgO (hn (xH_ x)) m) ∧
  (cR C 204 7 = some qm ∧ MsC C qm (xm_ x) ∧ SgO (hn (xH_ x)) (xm_ x) ∧ 0 < rN (xm_ x)) ∧ (StSh C (hB C + 8) ∧ StSh C (hB C + 11) ∧ StSh C (hB C + 15)) ∧
  (hR C qm 5 = some hl ∧ ALs C hl qh ∧ qh.length = (rH (xm_ x)).length ∧ qh.length ≤ 16 ∧ ∀ (i q : Nat) h, qh[i]? = some q → (rH (xm_ x))[i]? = some h → HdC C q h)
theorem FCp.vk {C C' : CW} {x : VC} {qf qs qh : List Nat} {qm hl : Nat} (h : FCp C x qf qs qm hl qh) (k : VK C C' qm) (z : ∀ q, hB C' + hZ C' ≤ q → hK C' q = 0) (z2 : hZ C ≤ hZ C') (kI : ∀ a b, a < 204 → cI C' a b = cI C a b) (kR : cR C' 204 7 = some qm) : FCp C' x qf qs qm hl qh := by
  obtain ⟨z', z2', c1, ⟨f1, f2, f3, f4⟩, ⟨m1, m2, m3, m4, m5⟩, ⟨o1, o2, o3, o4⟩, ⟨s1, s2, s3⟩, h1, h2, h3, h4, h5⟩ := h
  have hqm := o2.1
  have k1 := k.1
  exact ⟨z, by omega, c1.k kI, ⟨by rw [k1]; exact f1.vk k hqm, f2, fun i q hq => (f3 i q hq).vk k, f4⟩, ⟨by rw [k1]; exact m1.vk k hqm, m2, m3, fun i q m a b => (m4 i q m a b).vk k, m5⟩, ⟨kR, o2.vk k, o3, o4⟩, ⟨by rw [k1]; exact s1.vk k hqm, by rw [k1]; exact s2.vk k hqm, by rw [k1]; exact s3.vk k hqm⟩, by rw [k.2.2.2 qm (by omega) (by omega) _ (by omega)]; exact h1, h2.vk k hqm, h3, h4, fun i q h a b => (h5 i q h a b).vk k⟩
theorem FCp.f {C : CW} {x : VC} {qf qs qh : List Nat} {qm hl sa : Nat} (h : FCp C x qf qs qm hl qh) (h1 : hR C qm 10 = some sa) (h2 : hK C sa = 69) (h3 : hL C sa = rN (xm_ x)) (hd : ∀ h ∈ rH (xm_ x), HdO (hn (xH_ x)) h) : FC0 C x qf qs qm sa hl qh := by
  obtain ⟨z, z2, c1, f1, m1, o1, s1, g1, g2, g3, g4, g5⟩ := h
  exact ⟨z, z2, c1, f1, m1, o1, s1, ⟨h1, h2, h3⟩, g1, g2, g3, g4, g5, hd⟩
/-- single states' cells -/
def S3B (C : CW) (q : Nat) : Prop := St3 (hB C + 8) q ∨ St3 (hB C + 11) q ∨ St3 (hB C + 15) q
theorem ChC.vk {C C' : CW} {K : Nat → Nat → Prop} {A R : Nat → Prop} {qm : Nat} (k : ChC C C' K A R) (z : ∀ q, hB C + hZ C ≤ q → hK C q = 0) (hA : ∀ q, q < hB C + hZ C → A q → (hK C q = 6 ∨ hK C q = 64) ∧ q ≤ hB C + 17) (hR' : ∀ q, q < hB C + hZ C → R q → hK C q = 69 ∨ q = qm) (hq : ∀ j, j ≠ 10 → hR C' qm j = hR C qm j) : VK C C' qm := by
  obtain ⟨k1, k2, k3, k4, k5, k6, k7, k8⟩ := k
  have old : ∀ q, hK C q ≠ 0 → q < hB C + hZ C := fun q hq => by
    apply Classical.byContradiction
    intro hc
    exact hq (z q (by omega))
  refine ⟨k3, fun q hq => ⟨(k7 q (old q hq)).1, (k7 q (old q hq)).2.1⟩, fun q hq ho => (k7 q (old q hq)).2.2.2.1 (fun a => ?_), fun q h0 h9 j hj => ?_⟩
  · have := hA q (old q hq) a
    omega
  · by_cases e : q = qm
    · rw [e]; exact hq j (hj e)
    · rw [(k7 q (old q h0)).2.2.2.2 (fun a => ?_)]
      rcases hR' q (old q h0) a with e2 | e2
      · exact h9 e2
      · exact e e2
theorem S3B.k {C : CW} {q : Nat} (h : S3B C q) (s1 : StSh C (hB C + 8)) (s2 : StSh C (hB C + 11)) (s3 : StSh C (hB C + 15)) : (hK C q = 6 ∨ hK C q = 64) ∧ q ≤ hB C + 17 := by
  obtain ⟨p1, _, _, p2, _, p3, _⟩ := s1
  obtain ⟨p4, _, _, p5, _, p6, _⟩ := s2
  obtain ⟨p7, _, _, p8, _, p9, _⟩ := s3
  unfold S3B St3 at h
  rcases h with (e | e | e) | (e | e | e) | (e | e | e)
  · exact ⟨by rw [e]; exact Or.inl p1, by omega⟩
  · exact ⟨by rw [e]; exact Or.inr p2, by omega⟩
  · exact ⟨by rw [e]; exact Or.inr p3, by omega⟩
  · exact ⟨by rw [e]; exact Or.inl p4, by omega⟩
  · exact ⟨by rw [e]; exact Or.inr p5, by omega⟩
  · exact ⟨by rw [e]; exact Or.inr p6, by omega⟩
  · exact ⟨by rw [e]; exact Or.inl p7, by omega⟩
  · exact ⟨by rw [e]; exact Or.inr p8, by omega⟩
  · exact ⟨by rw [e]; exact Or.inr p9, by omega⟩
