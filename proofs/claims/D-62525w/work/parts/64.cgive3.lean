/-! LAYER C: the component gives a state to a place -/
def HdC (C : CW) (q : Nat) (h : HD) : Prop := hK C q = 9 ∧ hI C q 0 = (dF h : Int) ∧ hI C q 1 = (dT h : Int) ∧ hI C q 2 = (dP h : Int) ∧ hI C q 3 = dC h
/-- what stands all through a flow: at its beginning -/
def FC0 (C : CW) (x : VC) (qf qs : List Nat) (qm sa hl : Nat) (qh : List Nat) : Prop :=
  (∀ q, hB C + hZ C ≤ q → hK C q = 0) ∧ 77 < hZ C ∧ CH C (xH_ x) ∧
  (ALs C (hB C + 4) qf ∧ qf.length = fN (xF_ x) ∧ (∀ (i q : Nat), qf[i]? = some q → FdC C q (xF_ x) i) ∧ FOK (xF_ x) (xH_ x)) ∧
  (ALs C (hB C + 5) qs ∧ qs.length = (xM_ x).length ∧ (xM_ x).length ≤ 8 ∧ (∀ (i q : Nat) m, qs[i]? = some q → (xM_ x)[i]? = some m → MsC C q m) ∧ ∀ (i : Nat) m, (xM_ x)[i]? = some m → SgO (hn (xH_ x)) m) ∧
  (cR C 204 7 = some qm ∧ MsC C qm (xm_ x) ∧ SgO (hn (xH_ x)) (xm_ x) ∧ 0 < rN (xm_ x)) ∧ (StSh C (hB C + 8) ∧ StSh C (hB C + 11) ∧ StSh C (hB C + 15)) ∧
  (hR C qm 10 = some sa ∧ hK C sa = 69 ∧ hL C sa = rN (xm_ x)) ∧
  (hR C qm 5 = some hl ∧ ALs C hl qh ∧ qh.length = (rH (xm_ x)).length ∧ qh.length ≤ 16 ∧ (∀ (i q : Nat) h, qh[i]? = some q → (rH (xm_ x))[i]? = some h → HdC C q h) ∧ ∀ h ∈ rH (xm_ x), HdO (hn (xH_ x)) h)
def KF (k j : Nat) : Prop := (k = 204 ∧ j = 8) ∨ k = 206
def AF (C0 : CW) (q : Nat) : Prop := St3 (hB C0 + 8) q ∨ St3 (hB C0 + 11) q ∨ St3 (hB C0 + 15) q ∨ hB C0 + hZ C0 ≤ q
def RF (C0 : CW) (sa q : Nat) : Prop := q = sa ∨ hB C0 + hZ C0 ≤ q
theorem FC0.fc {C0 C : CW} {x : VC} {qf qs qh : List Nat} {qm sa hl : Nat} (h : FC0 C0 x qf qs qm sa hl qh) (k : ChC C0 C KF (AF C0) (RF C0 sa)) :
    CH C (xH_ x) ∧ (ALs C (hB C + 4) qf ∧ ∀ (i q : Nat), qf[i]? = some q → FdC C q (xF_ x) i) ∧ (ALs C (hB C + 5) qs ∧ ∀ (i q : Nat) m, qs[i]? = some q → (xM_ x)[i]? = some m → MsC C q m) ∧ (cR C 204 7 = some qm ∧ MsC C qm (xm_ x)) ∧ (StSh C (hB C + 8) ∧ StSh C (hB C + 11) ∧ StSh C (hB C + 15)) ∧ (hR C qm 10 = some sa ∧ hK C sa = 69 ∧ hL C sa = rN (xm_ x)) ∧ (hR C qm 5 = some hl ∧ ALs C hl qh ∧ ∀ (i q : Nat) h, qh[i]? = some q → (rH (xm_ x))[i]? = some h → HdC C q h) ∧ hB C = hB C0 := by
  obtain ⟨z, z2, c1, ⟨f1, f2, f3, f4⟩, ⟨m1, m2, m3, m4, m5⟩, ⟨o1, o2, o3, o4⟩, ⟨s1, s2, s3⟩, ⟨t1, t2, t3⟩, ⟨h1, h2, h3, h4, h5, h6⟩⟩ := h
  obtain ⟨k1, k2, k3, k4, k5, k6, k7, k8⟩ := k
  have old : ∀ q, hK C0 q ≠ 0 → q < hB C0 + hZ C0 := fun q hq => by
    apply Classical.byContradiction
    intro hc
    exact hq (z q (by omega))
  have st6 : ∀ q, AF C0 q → q < hB C0 + hZ C0 → (hK C0 q = 6 ∨ hK C0 q = 64) ∧ q ≤ hB C0 + 17 := by
    intro q a b
    obtain ⟨p1, _, _, p2, _, p3, _⟩ := s1
    obtain ⟨p4, _, _, p5, _, p6, _⟩ := s2
    obtain ⟨p7, _, _, p8, _, p9, _⟩ := s3
    unfold AF St3 at a
    rcases a with (e | e | e) | (e | e | e) | (e | e | e) | e
    · exact ⟨by rw [e]; exact Or.inl p1, by omega⟩
    · exact ⟨by rw [e]; exact Or.inr p2, by omega⟩
    · exact ⟨by rw [e]; exact Or.inr p3, by omega⟩
    · exact ⟨by rw [e]; exact Or.inl p4, by omega⟩
    · exact ⟨by rw [e]; exact Or.inr p5, by omega⟩
    · exact ⟨by rw [e]; exact Or.inr p6, by omega⟩
    · exact ⟨by rw [e]; exact Or.inl p7, by omega⟩
    · exact ⟨by rw [e]; exact Or.inr p8, by omega⟩
    · exact ⟨by rw [e]; exact Or.inr p9, by omega⟩
    · omega
  have kp : ∀ q, hK C0 q ≠ 0 → hK C q = hK C0 q ∧ hL C q = hL C0 q := fun q hq => ⟨(k7 q (old q hq)).1, (k7 q (old q hq)).2.1⟩
  have kr : ∀ q, hK C0 q ≠ 0 → hK C0 q ≠ 69 → hR C q = hR C0 q := fun q h0 h9 => (k7 q (old q h0)).2.2.2.2 (fun a => by
    rcases a with e | e
    · rw [e] at h9; exact h9 t2
    · have := old q h0; omega)
  have ki : ∀ q, hK C0 q ≠ 0 → ((hK C0 q ≠ 6 ∧ hK C0 q ≠ 64) ∨ hB C0 + 17 < q) → hI C q = hI C0 q := fun q h0 h1 => (k7 q (old q h0)).2.2.2.1 (fun a => by
    have := st6 q a (old q h0)
    omega)
  have al : ∀ q l, ALs C0 q l → ALs C q l := by
    intro q l ⟨a1, a2, a3, a, a4, a5, a6, a7, a8⟩
    refine ⟨by rw [(kp q (by omega)).1]; exact a1, by rw [ki q (by omega) (Or.inl (by omega))]; exact a2, a3, a, by rw [kr q (by omega) (by omega)]; exact a4, by rw [(kp a (by omega)).1]; exact a5, by rw [(kp a (by omega)).2]; exact a6, by rw [(kp a (by omega)).2]; exact a7, fun i r hi => by rw [kr a (by omega) (by omega)]; exact a8 i r hi⟩
  have mm : ∀ q m, MsC C0 q m → MsC C q m := by
    intro q m ⟨g1, ⟨aa, g2, g3, g4, g5, g6⟩, g7, g8, g9, ga, gb⟩
    have eI := ki q (by omega) (Or.inl (by omega))
    have eR := kr q (by omega) (by omega)
    refine ⟨by rw [(kp q (by omega)).1]; exact g1, ⟨aa, by rw [eR]; exact g2, by rw [k3]; exact g3, by rw [(kp aa (by omega)).1]; exact g4, by rw [(kp aa (by omega)).2]; exact g5, fun k t ht => ?_⟩, by rw [eI]; exact g7, fun h => by rw [eR]; exact g8 h, fun h => ?_, by rw [eI]; exact ga, by rw [eI]; exact gb⟩
    · rw [ki aa (by omega) (Or.inr (by omega))]; exact g6 k t ht
    · obtain ⟨ac, p1, p2, p3, p4⟩ := g9 h
      exact ⟨ac, by rw [eR]; exact p1, by rw [(kp ac (by omega)).1]; exact p2, by rw [(kp ac (by omega)).2]; exact p3, fun p hp => by rw [ki ac (by omega) (Or.inl (by omega))]; exact p4 p hp⟩
  have ss : ∀ q, StSh C0 q → StSh C q := by
    intro q ⟨a1, a2, a3, a4, a5, a6, a7⟩
    refine ⟨by rw [(kp q (by omega)).1]; exact a1, by rw [kr q (by omega) (by omega)]; exact a2, by rw [kr q (by omega) (by omega)]; exact a3, by rw [(kp _ (by omega)).1]; exact a4, by rw [(kp _ (by omega)).2]; exact a5, by rw [(kp _ (by omega)).1]; exact a6, by rw [(kp _ (by omega)).2]; exact a7⟩
  have qm7 : hK C0 qm = 7 := o2.1
  refine ⟨⟨c1.1, ?_, ?_, fun k h0 h => ?_, fun k h => ?_⟩, ⟨by rw [k3]; exact al _ _ f1, fun i q hq => ?_⟩, ⟨by rw [k3]; exact al _ _ m1, fun i q m a b => mm q m (m4 i q m a b)⟩, ⟨by rw [k2]; exact o1, mm _ _ o2⟩, ⟨by rw [k3]; exact ss _ s1, by rw [k3]; exact ss _ s2, by rw [k3]; exact ss _ s3⟩, ⟨by rw [kr qm (by omega) (by omega)]; exact t1, by rw [(kp sa (by omega)).1]; exact t2, by rw [(kp sa (by omega)).2]; exact t3⟩, ⟨by rw [kr qm (by omega) (by omega)]; exact h1, al _ _ h2, fun i q h a b => ?_⟩, k3⟩
  · rw [(k1 _ _ (by unfold KF; omega)).1]; exact c1.2.1
  · rw [(k1 _ _ (by unfold KF; omega)).1]; exact c1.2.2.1
  · rw [(k1 _ _ (by unfold KF; omega)).1]; exact c1.2.2.2.1 k h0 h
  · rw [(k1 _ _ (by unfold KF; omega)).1]; exact c1.2.2.2.2 k h
  · obtain ⟨g1, g2, g3, g4, g5⟩ := f3 i q hq
    unfold FdC
    rw [(kp q (by omega)).1, ki q (by omega) (Or.inl (by omega))]
    exact ⟨g1, g2, g3, g4, g5⟩
  · obtain ⟨g1, g2, g3, g4, g5⟩ := h5 i q h a b
    unfold HdC
    rw [(kp q (by omega)).1, ki q (by omega) (Or.inl (by omega))]
    exact ⟨g1, g2, g3, g4, g5⟩
theorem FC0.sc {C0 C : CW} {x : VC} {qf qs qh : List Nat} {qm sa hl p : Nat} (h : FC0 C0 x qf qs qm sa hl qh) (k : ChC C0 C KF (AF C0) (RF C0 sa)) (hp : cI C 204 8 = (p : Int)) (r1 : hZ C + 1 ≤ 600384) (r2 : hS C + 8 ≤ 7290858) : SCx C x qf qs qm p := by
  obtain ⟨g1, ⟨g2, g3⟩, ⟨g4, g5⟩, ⟨g6, g7⟩, ⟨g8, _, _⟩, _, _, gb⟩ := h.fc k
  obtain ⟨z, z2, c1, ⟨f1, f2, f3, f4⟩, ⟨m1, m2, m3, m4, m5⟩, ⟨o1, o2, o3, o4⟩, _⟩ := h
  have := k.2.2.2.2.1
  exact ⟨g1, ⟨g2, f2, g3, f4⟩, ⟨g4, m2, m3, g5, m5⟩, ⟨g6, g7, o3, o4⟩, hp, g8, by omega, r1, r2⟩
/-- the flow's states in the component: the row of states sa, all of them new since C0 -/
def CFS (C0 C : CW) (x : VC) (sa : Nat) (fs : FS) : Prop :=
  (∀ p, p < rN (xm_ x) → match fs.1 p with
    | none => hR C sa p = none
    | some s => ∃ q, hR C sa p = some q ∧ hB C0 + hZ C0 ≤ q ∧ q + 3 ≤ hB C + hZ C ∧ StA C q s) ∧
  ∀ p p' q q', p < rN (xm_ x) → p' < rN (xm_ x) → p ≠ p' → hR C sa p = some q → hR C sa p' = some q' → q + 3 ≤ q' ∨ q' + 3 ≤ q
/-- how many places have states -/
def cn (o : Option TS) : Nat := match o with
  | none => 0
  | some _ => 1
theorem cn_b (o : Option TS) : cn o ≤ 1 := by
  cases o
  · exact Nat.zero_le _
  · exact Nat.le_refl _
def cnt (fs : FS) : Nat := sumU 120 fun p => cn (fs.1 p)
def Rm (C : CW) (z0 s0 : Nat) (fs : FS) : Prop := hZ C ≤ z0 + 3 * cnt fs ∧ hS C ≤ s0 + 28 * cnt fs ∧ z0 + 370 ≤ 600384 ∧ s0 + 3400 ≤ 7290858
theorem cnt_b (fs : FS) : cnt fs ≤ 120 := sumU_b (b := 1) 120 (fun p _ => cn_b _)
theorem sumU_up {f : Nat → Nat} {k v : Nat} : ∀ n, sumU n (up1 f k v) + (if k < n then f k else 0) = sumU n f + (if k < n then v else 0)
  | 0 => rfl
  | n + 1 => by
    have ih := sumU_up (f := f) (k := k) (v := v) n
    show sumU n (up1 f k v) + (if n = k then v else f n) + _ = sumU n f + f n + _
    by_cases e : n = k
    · subst e
      rw [if_neg (Nat.lt_irrefl _), if_neg (Nat.lt_irrefl _)] at ih
      rw [if_pos rfl, if_pos (Nat.lt_succ_self _), if_pos (Nat.lt_succ_self _)]
      omega
    · rw [if_neg e]
      by_cases l : k < n
      · rw [if_pos l, if_pos l] at ih
        rw [if_pos (by omega), if_pos (by omega)]
        omega
      · rw [if_neg l, if_neg l] at ih
        rw [if_neg (by omega), if_neg (by omega)]
        omega
theorem cnt_up {fs : FS} {q : Nat} {g : TS} {w : Nat → Bool} (hq : q < 120) : cnt (up1 fs.1 q (some g), w) + cn (fs.1 q) = cnt fs + 1 := by
  have h := sumU_up (f := fun p => cn (fs.1 p)) (k := q) (v := 1) 120
  rw [if_pos hq, if_pos hq] at h
  have e : (fun p => cn (up1 fs.1 q (some g) p)) = up1 (fun p => cn (fs.1 p)) q 1 := by
    funext p
    dsimp only [up1]
    by_cases ep : p = q
    · rw [if_pos ep, if_pos ep]; rfl
    · rw [if_neg ep, if_neg ep]
  show sumU 120 (fun p => cn (up1 fs.1 q (some g) p)) + cn (fs.1 q) = sumU 120 _ + 1
  rw [e]
  exact h
/-- what giving to a place changes: what waits, states, the row of states -/
def ChG (C0 C C' : CW) (sa : Nat) : Prop := ChC C C' (fun k _ => k = 206) (fun q => hB C0 + hZ C0 ≤ q) (fun q => q = sa ∨ hB C0 + hZ C0 ≤ q)
/-- a fault b at p was thrown: the exception's cell is q -/
def FlX (C0 C C' : CW) (sa q b : Nat) (p : Int) : Prop := hK C' q = 13 ∧ hI C' q 6 = (b : Int) ∧ hI C' q 7 = p ∧ ChC C C' KF (AF C0) (RF C0 sa)
theorem StA.ch {C C' : CW} {q : Nat} {s : TS} {K : Nat → Nat → Prop} {A R : Nat → Prop} (h : StA C q s) (k : ChC C C' K A R) (ho : q + 3 ≤ hB C + hZ C) (n0 : ¬ A q) (n1 : ¬ A (q + 1)) (n2 : ¬ A (q + 2)) (nr : ¬ R q) : StA C' q s := by
  obtain ⟨k1, k2, k3, k4, k5, k6, k7, k8⟩ := k
  obtain ⟨⟨a1, a2, a3, a4, a5, a6, a7⟩, c1, c2, c3, c4⟩ := h
  have o0 := k7 q (by omega)
  have o1 := k7 (q + 1) (by omega)
  have o2 := k7 (q + 2) (by omega)
  refine ⟨⟨by rw [o0.1]; exact a1, by rw [o0.2.2.2.2 nr]; exact a2, by rw [o0.2.2.2.2 nr]; exact a3, by rw [o1.1]; exact a4, by rw [o1.2.1]; exact a5, by rw [o2.1]; exact a6, by rw [o2.2.1]; exact a7⟩, by rw [o0.2.2.2.1 n0]; exact c1, by rw [o0.2.2.2.1 n0]; exact c2, fun j hj => by rw [o1.2.2.2.1 n1]; exact c3 j hj, fun j hj => by rw [o2.2.2.2.1 n2]; exact c4 j hj⟩
theorem ChC.hsR {C C' : CW} {K : Nat → Nat → Prop} {A R : Nat → Prop} (h : ChC C C' K A R) {q j : Nat} {v : Option Nat} (hq : R q) : ChC C (hsR C' q j v) K A R := by
  obtain ⟨h1, h2, h3, h4, h5, h6, h7, h8⟩ := h
  refine ⟨h1, h2, h3, h4, h5, h6, fun z hz => ⟨(h7 z hz).1, (h7 z hz).2.1, (h7 z hz).2.2.1, (h7 z hz).2.2.2.1, fun n => ?_⟩, h8⟩
  rw [← (h7 z hz).2.2.2.2 n]
  funext i
  exact hR_ohsR (Or.inl (fun e => n (by rw [e]; exact hq)))
theorem c_give {C0 C : CW} {x : VC} {qf qs qh : List Nat} {qm sa hl q q' z0 s0 : Nat} {s : TS} {fs : FS} (hc : FC0 C0 x qf qs qm sa hl qh) (hk : ChC C0 C KF (AF C0) (RF C0 sa)) (hf : FOk x fs) (hm : CFS C0 C x sa fs) (hw : WtC C fs.2) (rm : Rm C z0 s0 fs) (hq : q < rN (xm_ x)) (ho : q' + 3 ≤ hB C0 + hZ C0) (hs' : StA C q' s) (hs : SOk x s) :
    match gv x q s fs with
    | .inr fs' => ∃ C', f_X3_give (q : Int) (some q') C = some (.inr (), C') ∧ ChG C0 C C' sa ∧ CFS C0 C' x sa fs' ∧ WtC C' fs'.2 ∧ Rm C' z0 s0 fs'
    | .inl e => ∃ q1 C', f_X3_give (q : Int) (some q') C = some (.inl q1, C') ∧ FlX C0 C C' sa q1 e.1 e.2 ∧ hZ C' ≤ z0 + 361 ∧ hS C' ≤ s0 + 3400 := by
  obtain ⟨g1, _, _, ⟨g6, g7⟩, _, ⟨t1, t2, t3⟩, _, gb⟩ := hc.fc hk
  have hN : rN (xm_ x) ≤ 120 := hc.2.2.2.2.2.1.2.2.1.2.2.2.1
  have hSS : rS (xm_ x) ≤ 12 := hc.2.2.2.2.2.1.2.2.1.2.2.2.2.1
  have hLL : rL (xm_ x) ≤ 12 := hc.2.2.2.2.2.1.2.2.1.2.2.2.2.2.1
  have n16 := g1.1.1.2
  have k7 : hK C qm = 7 := g7.1
  have z0Z := hk.2.2.2.2.1
  have cb := cnt_b fs
  obtain ⟨rm1, rm2, rm3, rm4⟩ := rm
  have slen : s.2.length ≤ 12 := by have := wds_len s.2; have := hs.2.1; omega
  have saold : sa < hB C0 + hZ C0 := by
    apply Classical.byContradiction
    intro hn
    have := hc.1 sa (by omega)
    rw [hc.2.2.2.2.2.2.2.1.2.1] at this
    cases this
  have hp := hm.1 q hq
  have nq' : q' ≠ sa := by intro e; have := hs'.1.1; rw [e, t2] at this; cases this
  unfold f_X3_give gv
  rw [rd_k, g6, dr_k, gd_e k7, rd_k, t1, dr_k, gd_e t2, t3, ax_k (by omega), Int.toNat_natCast, rd_k]
  cases e : fs.1 q with
  | none =>
    rw [e] at hp
    dsimp only at hp ⊢
    rw [hp]
    dsimp only
    obtain ⟨C1, e1, a1, a2, a3, a4⟩ := c_stNew (C := C) (by omega) (by omega)
    have c1 : ChG C0 C C1 sa := a4 _ _ _
    have lt1 : hB C0 + hZ C0 ≤ hB C + hZ C := by omega
    have b1 : hB C1 = hB C := c1.2.2.1
    have sak1 : hK C1 sa = 69 := by rw [(c1.2.2.2.2.2.2.1 sa (by omega)).1]; exact t2
    have sal1 : hL C1 sa = rN (xm_ x) := by rw [(c1.2.2.2.2.2.2.1 sa (by omega)).2.1]; exact t3
    have g7' : (hK C1 sa == 69 && okN (some (hB C + hZ C)) fun w => okE 5 (hK C1 w)) = true := by
      rw [sak1]
      show (true && okE 5 (hK C1 (hB C + hZ C))) = true
      rw [a1.1.1]
      rfl
    let C2 := hsR C1 sa q (some (hB C + hZ C))
    have c2 : ChG C0 C C2 sa := ChC.hsR c1 (Or.inl rfl)
    have qmold : qm < hB C + hZ C := by
      apply Classical.byContradiction
      intro hn
      have := hc.1 qm (by omega)
      rw [hc.2.2.2.2.2.1.2.1.1] at this
      cases this
    have nqm : qm ≠ sa := by intro e; rw [e, t2] at k7; cases k7
    have m1 : hK C2 qm = 7 := by rw [(c2.2.2.2.2.2.2.1 qm qmold).1]; exact k7
    have nr : ¬ (qm = sa ∨ hB C0 + hZ C0 ≤ qm) := by
      rintro (h | h)
      · exact nqm h
      · have := hc.1 qm h
        rw [hc.2.2.2.2.2.1.2.1.1] at this
        cases this
    have m2 : hR C2 qm 10 = some sa := by rw [(c2.2.2.2.2.2.2.1 qm qmold).2.2.2.2 nr]; exact t1
    have m3 : cR C2 204 7 = some qm := by rw [c2.2.1]; exact g6
    have sak2 : hK C2 sa = 69 := sak1
    have sal2 : hL C2 sa = rN (xm_ x) := sal1
    have n2 : StA C2 (hB C + hZ C) ((fun _ => 0), []) := by
      obtain ⟨⟨p1, p2, p3, p4, p5, p6, p7⟩, p8, p9, pa, pb⟩ := a1
      exact ⟨⟨p1, (hR_ohsR (Or.inl (by omega))).trans p2, (hR_ohsR (Or.inl (by omega))).trans p3, p4, p5, p6, p7⟩, p8, p9, pa, pb⟩
    have s2 : StA C2 q' s := hs'.ch c2 (by omega) (by omega) (by omega) (by omega) (by omega)
    obtain ⟨C3, e3, f3, f4⟩ := c_copy (q := hB C + hZ C) (q' := q') (by omega) slen n2.1 s2
    have c3 : ChG C0 C C3 sa := c2.tr ((f4.ch (fun k _ => k = 206) (fun q => q = sa ∨ hB C0 + hZ C0 ≤ q)).mono (fun _ _ h => h) (fun z _ h => by unfold St3 at h; omega) (fun _ _ h => h))
    have w3 : WtC C3 fs.2 := fun i k hi hk => by
      rw [f4.2.1]
      have : cJ C2 206 i = cJ C 206 i := by
        have e206 : cJ C2 = cJ C1 := rfl
        rw [e206]
        exact ((a4 (fun _ _ => False) (fun _ => False) (fun _ => False)).1 206 i (fun h => h)).2
      rw [this]
      exact hw i k hi hk
    obtain ⟨v, e4, w4⟩ := c_wait (C := C3) (by omega : q < 120) w3
    rw [rd_k, dr_k, gd_e k7, rd_k, t1, e1 (fun q64 C66 => dr (some sa) fun q69 => gdB (hK C66 q69 == 64 + 5 && okN (some q64) (fun w => okE 5 (hK C66 w))) <| ax (q : Int) (hL C66 q69) fun j => rd (hsR C66 q69 j (some q64)) fun C68 => rd (cR C68 204 7) fun v70 => dr v70 fun q71 => gdB (hK C68 q71 == 7) <| rd (hR C68 q71 10) fun v72 => dr v72 fun q74 => gdB (hK C68 q74 == 64 + 5) <| ax (q : Int) (hL C68 q74) fun j => rd (hR C68 q74 j) fun v73 => dr v73 fun q76 => gdB (hK C68 q76 == 6) <| cB (f_X4_copy q76 (some q') C68) fun _ C75 => cB (f_X3_wait (q : Int) C75) fun _ C77 => some (Sum.inr (), C77))]
    have r2 : hR C2 sa q = some (hB C + hZ C) := hR_shsR rfl
    rw [dr_k, g7', gd_t, sal1, ax_k (by omega), Int.toNat_natCast, rd_k, rd_k]
    rw [show cR (hsR C1 sa q (some (hB C + hZ C))) 204 7 = some qm from m3, dr_k, gd_e (show hK (hsR C1 sa q (some (hB C + hZ C))) qm = 7 from m1), rd_k, show hR (hsR C1 sa q (some (hB C + hZ C))) qm 10 = some sa from m2, dr_k, gd_e (show hK (hsR C1 sa q (some (hB C + hZ C))) sa = 64 + 5 from sak2), show hL (hsR C1 sa q (some (hB C + hZ C))) sa = rN (xm_ x) from sal2, ax_k (by omega), Int.toNat_natCast, rd_k, show hR (hsR C1 sa q (some (hB C + hZ C))) sa q = some (hB C + hZ C) from r2, dr_k, gd_e (show hK (hsR C1 sa q (some (hB C + hZ C))) (hB C + hZ C) = 6 from n2.1.1), e3, cB_k, e4, cB_k]
    have b3 : hB C3 = hB C := c3.2.2.1
    have z3 : hZ C3 = hZ C + 3 := by rw [f4.2.2.2.2.2.2.2.2.2.1]; exact a2
    have s3 : hS C3 = hS C + 28 := by rw [f4.2.2.2.2.2.2.2.2.2.2.1]; exact a3
    have r3 : ∀ p, hR C3 sa p = if p = q then some (hB C + hZ C) else hR C sa p := by
      intro p
      rw [f4.2.2.2.2.2.2.2.1]
      show hR (hsR C1 sa q (some (hB C + hZ C))) sa p = _
      by_cases ep : p = q
      · rw [if_pos ep, hR_shsR ep]
      · rw [if_neg ep, hR_ohsR (Or.inr ep), ((a4 (fun _ _ => False) (fun _ => False) (fun _ => False)).2.2.2.2.2.2.1 sa (by omega)).2.2.2.2 (fun h => h)]
    refine ⟨_, rfl, c3.csJ (K := fun k _ => k = 206) rfl, ⟨fun p hp2 => ?_, fun p p' x1 x2 h1 h2 h3 h4 h5 => ?_⟩, w4, ?_, ?_, rm3, rm4⟩
    · show (match (if p = q then some s else fs.1 p) with
        | none => hR C3 sa p = none
        | some s => ∃ q, hR C3 sa p = some q ∧ hB C0 + hZ C0 ≤ q ∧ q + 3 ≤ hB C3 + hZ C3 ∧ StA C3 q s)
      rw [r3 p]
      by_cases ep : p = q
      · rw [if_pos ep, if_pos ep]
        exact ⟨_, rfl, lt1, by omega, f3⟩
      · rw [if_neg ep, if_neg ep]
        have := hm.1 p hp2
        cases eq : fs.1 p with
        | none => rw [eq] at this; exact this
        | some t =>
          rw [eq] at this
          obtain ⟨y, y1, y2, y3, y4⟩ := this
          have ny : y ≠ sa := by omega
          have y5 : StA C2 y t := (y4.ch (a4 (fun _ _ => False) (fun _ => False) (fun _ => False)) y3 (fun h => h) (fun h => h) (fun h => h) (fun h => h)).ch (C' := C2) (K := fun _ _ => False) (A := fun _ => False) (R := fun q => q = sa) ((ChC.r _ _ _ _).hsR rfl) (by omega) (fun h => h) (fun h => h) (fun h => h) ny
          exact ⟨y, y1, y2, by omega, y5.hi f4 (by unfold St3; omega) (by unfold St3; omega) (by unfold St3; omega)⟩
    · have h4' : hR C3 sa p = some x1 := h4
      have h5' : hR C3 sa p' = some x2 := h5
      rw [r3] at h4' h5'
      have old : ∀ p y, p < rN (xm_ x) → hR C sa p = some y → y + 3 ≤ hB C + hZ C := by
        intro p y hp2 hy
        have := hm.1 p hp2
        cases eq : fs.1 p with
        | none => rw [eq] at this; dsimp only at this; rw [this] at hy; cases hy
        | some t =>
          rw [eq] at this
          obtain ⟨y', y1, y2, y3, y4⟩ := this
          rw [y1] at hy
          cases hy
          exact y3
      by_cases ep : p = q
      · rw [if_pos ep] at h4'
        cases h4'
        rw [if_neg (by omega)] at h5'
        have := old p' x2 h2 h5'
        omega
      · rw [if_neg ep] at h4'
        by_cases ep' : p' = q
        · rw [if_pos ep'] at h5'
          cases h5'
          have := old p x1 h1 h4'
          omega
        · rw [if_neg ep'] at h5'
          exact hm.2 p p' x1 x2 h1 h2 h3 h4' h5'
    · have := cnt_up (fs := fs) (q := q) (g := s) (w := up1 fs.2 q true) (by omega)
      rw [e] at this
      have e0 : cn none = 0 := rfl
      show hZ C3 ≤ z0 + 3 * cnt (up1 fs.1 q (some s), up1 fs.2 q true)
      omega
    · have := cnt_up (fs := fs) (q := q) (g := s) (w := up1 fs.2 q true) (by omega)
      rw [e] at this
      have e0 : cn none = 0 := rfl
      show hS C3 ≤ s0 + 28 * cnt (up1 fs.1 q (some s), up1 fs.2 q true)
      omega
  | some g =>
    rw [e] at hp
    obtain ⟨qh', y1, y2, y3, y4⟩ := hp
    rw [y1]
    dsimp only
    have og := (hf q g e).2
    have glen : g.2.length ≤ 12 := by have := wds_len g.2; have := og.2.1; omega
    have hd : qh' + 3 ≤ q' ∨ q' + 3 ≤ qh' := by omega
    have nq : qh' ≠ sa := by omega
    rw [dr_k, gd_e y4.1.1, rd_k, y4.2.1, dr_k, gd_e hs'.1.1, rd_k, hs'.2.1, w32_n _ (by omega), w32_n _ (by omega)]
    unfold f_X3_give_b65
    by_cases hlen : g.2.length = s.2.length
    · rw [if_pos hlen, if_pos (show (g.2.length : Int) = (s.2.length : Int) by omega)]
      have e1 : f_X1_hold 1 9 (q : Int) C = some (.inr (), C) := rfl
      rw [e1, xB_r]
      have gx : GvX C (xH_ x) qm qh' q' (rL (xm_ x)) s := ⟨g1, g6, k7, g7.2.2.2.2.2.2, y4.1, hs'⟩
      obtain ⟨b1, C1, f1, f2, f3, f4⟩ := c_gv77 (H := xH_ x) (sz := xz x) (p := q) (g := g) hd hLL hN og.1.1 hs.1.1 FU 0 false C gx (by omega) (by rw [FU_v]; omega) (fun j hj => by rw [if_neg (by omega)]; exact y4.2.2.2.1 j hj)
      have f1' : f_X3_give_b77 FU (q : Int) (some q') (some qh') 0 0 C = f_X3_give_b152 FU (q : Int) (some q') (some qh') (b2i b1) 0 C1 := f1
      rw [f1']
      have gx1 := gx.hi f4 (fun z h => Or.inl h) hd
      have zc1 : hZ C1 = hZ C := f4.2.2.2.2.2.2.2.2.2.1
      have sc1 : hS C1 = hS C := f4.2.2.2.2.2.2.2.2.2.2.1
      have bc1 : hB C1 = hB C := f4.2.2.2.2.2.2.2.2.1
      rcases c_gv152 (H := xH_ x) (sz := xz x) (p := q) (g := g) hd hN hlen slen og.1.2 hs.1.2 og.2.2.2 FU 0 b1 C1 gx1 (by omega) (by omega) (by omega) (by rw [FU_v]; omega) (fun j hj => by rw [if_neg (by omega), f4.2.2.2.2.2.1 _ (by omega)]; exact y4.2.2.2.2 j (by omega)) (fun j hj => by omega) with ⟨⟨j, j1, j2⟩, C2, C', i1, i2, i3, i4, i5⟩ | ⟨i0, b2, C2, i1, i2, i3, i4⟩
      · have hm0 : 0 ∈ (mrgS (xH_ x) g s).2 := (mem_nthz hlen).mpr ⟨j, by omega, j2⟩
        rw [if_pos hm0]
        have c1 : ChC C C2 KF (AF C0) (RF C0 sa) := ((f4.ch KF (RF C0 sa)).mono (fun _ _ h => h) (fun z _ h => Or.inr (Or.inr (Or.inr (by omega)))) (fun _ _ h => h)).tr ((i1.ch KF (RF C0 sa)).mono (fun _ _ h => h) (fun z _ h => Or.inr (Or.inr (Or.inr (by omega)))) (fun _ _ h => h))
        have z2 : hZ C2 = hZ C1 := i1.2.2.2.2.2.2.2.2.2.1
        have s2 : hS C2 = hS C1 := i1.2.2.2.2.2.2.2.2.2.2.1
        have z3 : hZ C' = hZ C2 + 1 := i3.2.2.2.2.2.2.1
        have s3 : hS C' = hS C2 + 8 := i3.2.2.2.2.2.2.2.1
        exact ⟨_, C', i2, ⟨i3.2.1, i4, i5, c1.tr (i3.ch _ _ _)⟩, by omega, by omega⟩
      · have hm0 : ¬ 0 ∈ (mrgS (xH_ x) g s).2 := by
          intro hm0
          obtain ⟨j, j1, j2⟩ := (mem_nthz hlen).mp hm0
          exact i0 j (by omega) j2
        rw [if_neg hm0]
        have c2 : HiO C C2 (fun z => z = qh' + 1 ∨ z = qh' + 2) := (f4.mono (fun _ h => Or.inl h)).tr (i4.mono (fun _ h => Or.inr h))
        have c2g : ChG C0 C C2 sa := (c2.ch (fun k _ => k = 206) (fun q => q = sa ∨ hB C0 + hZ C0 ≤ q)).mono (fun _ _ h => h) (fun z _ h => by rcases h with h | h <;> omega) (fun _ _ h => h)
        have zc2 : hZ C2 = hZ C := c2.2.2.2.2.2.2.2.2.2.1
        have sc2 : hS C2 = hS C := c2.2.2.2.2.2.2.2.2.2.2.1
        have bc2 : hB C2 = hB C := c2.2.2.2.2.2.2.2.2.1
        have wl : wds (mrgS (xH_ x) g s).2 = wds g.2 := wds_zip _ _ hlen hm0
        have ll : (mrgS (xH_ x) g s).2.length = g.2.length := zip_len hlen
        have ns : StA C2 qh' (mrgS (xH_ x) g s) := by
          refine ⟨y4.1.hi c2, ?_, ?_, fun j hj => ?_, fun j hj => ?_⟩
          · rw [c2.2.2.2.2.2.1 _ (by omega), y4.2.1, ll]
          · rw [c2.2.2.2.2.2.1 _ (by omega), y4.2.2.1, wl]
          · rw [i4.2.2.2.2.2.1 _ (by omega), f3 j hj]
            show _ = ((mrg (xH_ x) (g.1 j) (s.1 j) : Nat) : Int)
            by_cases jl : j < rL (xm_ x)
            · rw [if_pos jl]
            · rw [if_neg jl, og.2.2.1 j (by omega), hs.2.2.1 j (by omega), mrg_self]
          · rw [ll] at hj
            rw [i3 j (by omega)]
            show _ = ((nth (List.zipWith (mrg (xH_ x)) g.2 s.2) j : Nat) : Int)
            rw [nth_zip _ _ hlen j hj]
        have cf : ∀ w, CFS C0 C2 x sa (up1 fs.1 q (some (mrgS (xH_ x) g s)), w) := by
          intro w
          refine ⟨fun p hp2 => ?_, fun p p' x1 x2 h1 h2 h3 h4 h5 => ?_⟩
          · show (match (if p = q then some (mrgS (xH_ x) g s) else fs.1 p) with
              | none => hR C2 sa p = none
              | some s => ∃ q, hR C2 sa p = some q ∧ hB C0 + hZ C0 ≤ q ∧ q + 3 ≤ hB C2 + hZ C2 ∧ StA C2 q s)
            rw [c2.2.2.2.2.2.2.2.1]
            by_cases ep : p = q
            · rw [if_pos ep, ep, y1]
              exact ⟨qh', rfl, y2, by omega, ns⟩
            · rw [if_neg ep]
              have := hm.1 p hp2
              cases eq : fs.1 p with
              | none => rw [eq] at this; exact this
              | some t =>
                rw [eq] at this
                obtain ⟨y, u1, u2, u3, u4⟩ := this
                have dd := hm.2 p q y qh' hp2 hq ep u1 y1
                exact ⟨y, u1, u2, by omega, u4.hi c2 (by omega) (by omega) (by omega)⟩
          · rw [c2.2.2.2.2.2.2.2.1] at h4 h5
            exact hm.2 p p' x1 x2 h1 h2 h3 h4 h5
        have w2 : WtC C2 fs.2 := fun i k hi hk => by rw [c2.2.1]; exact hw i k hi hk
        have ec : cnt (up1 fs.1 q (some (mrgS (xH_ x) g s)), fs.2) = cnt fs := by
          have := cnt_up (fs := fs) (q := q) (g := mrgS (xH_ x) g s) (w := fs.2) (by omega)
          rw [e] at this
          have e0 : cn (some g) = 1 := rfl
          omega
        have eb : b2 = chgd g (mrgS (xH_ x) g s) := by
          rw [Bool.eq_iff_iff, i2, f2]
          unfold chgd
          rw [Bool.or_eq_true, decide_eq_true_eq, any12]
          have hz := zip_ne (f := mrg (xH_ x)) hlen
          show _ ↔ (List.zipWith (mrg (xH_ x)) g.2 s.2 ≠ g.2) ∨ _
          rw [hz]
          constructor
          · rintro ((h | ⟨j, j1, j2, j3⟩) | ⟨j, j1, j2, j3⟩)
            · cases h
            · exact Or.inr ⟨j, by omega, decide_eq_true j3⟩
            · exact Or.inl ⟨j, by omega, j3⟩
          · rintro (⟨j, j1, j2⟩ | ⟨j, j1, j2⟩)
            · exact Or.inr ⟨j, by omega, by omega, j2⟩
            · have j3 : mrg (xH_ x) (g.1 j) (s.1 j) ≠ g.1 j := of_decide_eq_true j2
              refine Or.inl (Or.inr ⟨j, by omega, ?_, j3⟩)
              apply Classical.byContradiction
              intro hc2
              apply j3
              rw [og.2.2.1 j (by omega), hs.2.2.1 j (by omega), mrg_self]
        have i1' : f_X3_give_b152 FU (q : Int) (some q') (some qh') (b2i b1) 0 C1 = (if b2 = true then cB (f_X3_wait (q : Int) C2) fun _ C26 => some (.inr (), C26) else some (.inr (), C2)) := i1
        rw [i1', ← eb]
        have rm' : ∀ w, hZ C2 ≤ z0 + 3 * cnt (up1 fs.1 q (some (mrgS (xH_ x) g s)), w) ∧ hS C2 ≤ s0 + 28 * cnt (up1 fs.1 q (some (mrgS (xH_ x) g s)), w) := by
          intro w
          have ec' : cnt (up1 fs.1 q (some (mrgS (xH_ x) g s)), w) = cnt fs := ec
          omega
        cases b2 with
        | true =>
          obtain ⟨v, e4, w4⟩ := c_wait (C := C2) (by omega : q < 120) w2
          rw [if_pos rfl, e4, cB_k, Bool.or_true]
          exact ⟨_, rfl, c2g.csJ (K := fun k _ => k = 206) rfl, cf _, w4, (rm' _).1, (rm' _).2, rm3, rm4⟩
        | false =>
          rw [if_neg (by decide), Bool.or_false]
          have ew : up1 fs.2 q (fs.2 q) = fs.2 := by
            funext k
            show (if k = q then fs.2 q else fs.2 k) = fs.2 k
            split
            · rename_i h; rw [h]
            · rfl
          rw [ew]
          exact ⟨_, rfl, c2g, cf _, w2, (rm' _).1, (rm' _).2, rm3, rm4⟩
    · rw [if_neg hlen, if_neg (show ¬ (g.2.length : Int) = (s.2.length : Int) by omega)]
      rcases c_hold (C := C) false 9 (q : Int) (by omega) (by omega) with ⟨z, _⟩ | ⟨_, C', e1, e2, e3, e4⟩
      · cases z
      · have e1' : f_X1_hold 0 9 (q : Int) C = some (.inl (hB C + hZ C), C') := e1
        rw [e1', xB_l]
        have z3 : hZ C' = hZ C + 1 := e2.2.2.2.2.2.2.1
        have s3 : hS C' = hS C + 8 := e2.2.2.2.2.2.2.2.1
        exact ⟨_, C', rfl, ⟨e2.2.1, e3, e4, e2.ch _ _ _⟩, by omega, by omega⟩
