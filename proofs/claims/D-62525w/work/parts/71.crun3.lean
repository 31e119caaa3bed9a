/-! LAYER C: the component's flow, whole -/
def AVf (C : CW) (q : Nat) : Prop := S3B C q ∨ hB C + hZ C ≤ q
def RVf (C : CW) (qm q : Nat) : Prop := q = qm ∨ hB C + hZ C ≤ q
def runT (C29 : CW) : Option ((Nat ⊕ Unit) × CW) :=
  rd (cR C29 204 7) fun v30 =>
  rd (cR C29 204 7) fun v31 =>
  dr v31 fun q32 => gdB (hK C29 q32 == 7) <| rd (hR C29 q32 2) fun v33 =>
  dr v33 fun q35 => gdB (Nat.ble 64 (hK C29 q35)) <| rd (hL C29 q35 : Int) fun v34 =>
  gdB (decide (0 ≤ w32 v34)) <| al C29 (w32 v34).toNat fun q36 => rd (hNew C29 (64 + 5) (w32 v34).toNat (w32 v34).toNat) fun C37 =>
  dr v30 fun q39 => gdB (hK C37 q39 == 7) <| rd (hsR C37 q39 10 (some q36)) fun C38 =>
  al C38 4 fun q40 => rd (hNew C38 6 0 4) fun C41 =>
  dr (some q40) fun q43 => cB (f_X4_init q43 C41) fun _ C42 =>
  f_X3_run_b36 FU (some q40) 0 0 C42
theorem c_runE (x1 : Option Nat) (C : CW) : f_X3_run x1 C = xB (f_X3_form x1 C) fun _ C29 => runT C29 := rfl
/-- the states that a verification left -/
def StsC (C0 C : CW) (x : VC) (qm : Nat) (fs : FS) : Prop := ∃ sa, hR C qm 10 = some sa ∧ hK C sa = 69 ∧ hL C sa = rN (xm_ x) ∧ hB C0 + hZ C0 ≤ sa ∧ sa < hB C + hZ C ∧ CFS C0 C x sa fs
theorem c_runT {C1 : CW} {x : VC} {qf qs qh : List Nat} {qm hl : Nat} {B : Nat → Bool} {M : MW} {a : Nat} (cx : FlC M x a) (hB' : FormP x B) (hw : wds (rA (xm_ x)) ≤ rL (xm_ x)) (hc : FCp C1 x qf qs qm hl qh) (r1 : hZ C1 + 400 ≤ 600384) (r2 : hS C1 + 4000 ≤ 7290858) : ∀ r, flw x NFl (fsA x) = some r →
    match r with
    | .inr fs' => ∃ C', runT C1 = some (.inr (), C') ∧ ChC C1 C' KF (AVf C1) (RVf C1 qm) ∧ (∀ j, j ≠ 10 → hR C' qm j = hR C1 qm j) ∧ StsC C1 C' x qm fs' ∧ hZ C' ≤ hZ C1 + 370 ∧ hS C' ≤ hS C1 + 3600
    | .inl e => ∃ q1 C', runT C1 = some (.inl q1, C') ∧ ChC C1 C' KF (AVf C1) (RVf C1 qm) ∧ (∀ j, j ≠ 10 → hR C' qm j = hR C1 qm j) ∧ hK C' q1 = 13 ∧ hI C' q1 6 = (e.1 : Int) ∧ hI C' q1 7 = (e.2 : Int) ∧ hZ C' ≤ hZ C1 + 370 ∧ hS C' ≤ hS C1 + 3600 := by
  intro r hr
  have cS := cx.1
  have hL' := cS.rL
  obtain ⟨z, z2, c1, ⟨f1, f2, f3, f4⟩, ⟨m1, m2, m3, m4, m5⟩, ⟨o1, o2, o3, o4⟩, ⟨s1, s2, s3⟩, h1, h2, h3, h4, h5⟩ := id hc
  obtain ⟨k7, ⟨aa, ra, ra2, ka, la, ia⟩, _, _, rc, _, _⟩ := o2
  obtain ⟨ac, rc, kc, lc, _⟩ := rc o4
  have n120 := o3.2.2.2.1
  have old : ∀ q, hK C1 q ≠ 0 → q < hB C1 + hZ C1 := fun q hq => by
    apply Classical.byContradiction
    intro hc
    exact hq (z q (by omega))
  have oqm := old qm (by omega)
  have oaa := old aa (by omega)
  let D1 := hNew C1 (64 + 5) (rN (xm_ x)) (rN (xm_ x))
  let D2 := hsR D1 qm 10 (some (hB C1 + hZ C1))
  have e1 : hZ D2 = hZ C1 + 1 := rfl
  have e2 : hS D2 = hS C1 + rN (xm_ x) := rfl
  have e3 : hB D2 = hB C1 := rfl
  obtain ⟨D3, E, st3, z3, s3', ch3⟩ := c_stNew (C := D2) (by omega) (by omega)
  have c12 : ChC C1 D2 KF (AVf C1) (RVf C1 qm) := (ChC.new (ChC.r C1 KF (AVf C1) (RVf C1 qm)) _ _ _).hsR (Or.inl rfl)
  have k7D : hK D1 qm = 7 := by show hK (hNew C1 (64 + 5) (rN (xm_ x)) (rN (xm_ x))) qm = 7; rw [hK_oN (by omega)]; exact k7
  have e4 : f_X3_run_b36 FU (some (hB D2 + hZ D2)) 0 0 D3 = runT C1 := by
    unfold runT
    rw [rd_k, rd_k, o1, dr_k, gd_e k7, rd_k, rc, dr_k, gd_l (by omega), rd_k, lc, w32_n _ (by omega), gd_d (by omega), Int.toNat_natCast, al_k (by omega), rd_k, dr_k, gd_e k7D, rd_k]
    exact (E (fun q C => f_X3_run_b36 FU (some q) 0 0 C)).symm
  have oD : ∀ q, q < hB C1 + hZ C1 → hK D3 q = hK C1 q ∧ hL D3 q = hL C1 q ∧ hI D3 q = hI C1 q ∧ (q ≠ qm → hR D3 q = hR C1 q) := by
    intro q hq
    have a := c12.2.2.2.2.2.2.1 q hq
    have b := (ch3 (fun _ _ => False) (fun _ => False) (fun _ => False)).2.2.2.2.2.2.1 q (by omega)
    have eI : hI D2 q = hI C1 q := by
      show hI (hNew C1 (64 + 5) (rN (xm_ x)) (rN (xm_ x))) q = _
      rw [hI_oN (by omega)]
    refine ⟨b.1.trans a.1, b.2.1.trans a.2.1, (b.2.2.2.1 (fun h => h)).trans eI, fun hn => (b.2.2.2.2 (fun h => h)).trans ?_⟩
    funext j
    show hR (hsR (hNew C1 (64 + 5) (rN (xm_ x)) (rN (xm_ x))) qm 10 _) q j = _
    rw [hR_ohsR (Or.inl hn), hR_oN (by omega)]
  have b3 := ch3 (fun _ _ => False) (fun _ => False) (fun _ => False)
  have R7 : cR D3 204 7 = some qm := by rw [b3.2.1]; exact o1
  have rqm : ∀ j, j ≠ 10 → hR D3 qm j = hR C1 qm j := by
    intro j hj
    rw [(b3.2.2.2.2.2.2.1 qm (by omega)).2.2.2.2 (fun h => h)]
    show hR (hsR (hNew C1 (64 + 5) (rN (xm_ x)) (rN (xm_ x))) qm 10 _) qm j = _
    rw [hR_ohsR (Or.inr hj), hR_oN (by omega)]
  have r10 : hR D3 qm 10 = some (hB C1 + hZ C1) := by
    rw [(b3.2.2.2.2.2.2.1 qm (by omega)).2.2.2.2 (fun h => h)]
    show hR (hsR (hNew C1 (64 + 5) (rN (xm_ x)) (rN (xm_ x))) qm 10 _) qm 10 = _
    rw [hR_shsR rfl]
  have ksa : hK D3 (hB C1 + hZ C1) = 69 ∧ hL D3 (hB C1 + hZ C1) = rN (xm_ x) ∧ ∀ p, hR D3 (hB C1 + hZ C1) p = none := by
    have b := b3.2.2.2.2.2.2.1 (hB C1 + hZ C1) (by omega)
    refine ⟨b.1.trans ?_, b.2.1.trans ?_, fun p => ?_⟩
    · show hK (hNew C1 (64 + 5) (rN (xm_ x)) (rN (xm_ x))) _ = _
      rw [hK_sN rfl]
    · show hL (hNew C1 (64 + 5) (rN (xm_ x)) (rN (xm_ x))) _ = _
      rw [hL_sN rfl]
    · rw [b.2.2.2.2 (fun h => h)]
      show hR (hsR (hNew C1 (64 + 5) (rN (xm_ x)) (rN (xm_ x))) qm 10 _) _ p = _
      rw [hR_ohsR (Or.inl (by omega)), hR_sN rfl]
  obtain ⟨D4, e5, g1, g2⟩ := c_b36 (x := x) (qm := qm) (f := hB D2 + hZ D2) (aa := aa) o3 cS.n16 (by omega) (rA (xm_ x)) 0 0 FU (fun _ => 0) D3 rfl (by omega) (by have := o3.1; rw [FU_v]; omega) (by omega) R7 (by rw [(oD qm oqm).1]; exact k7) (by rw [rqm 0 (by omega)]; exact ra) (by rw [(oD aa oaa).1]; exact ka) (by rw [(oD aa oaa).2.1]; exact la) (fun k t ht => by rw [(oD aa oaa).2.2.1]; exact ia k t ht) st3.1 (fun j hj => by rw [st3.2.2.2.1 j hj]) (fun _ _ => rfl) (Or.inl rfl) (fun _ => by omega)
  obtain ⟨D5, e6, w5, hp5, ch5⟩ := c_b95 (f := hB D2 + hZ D2) D4
  have ch : ChC C1 D5 KF (AVf C1) (RVf C1 qm) := ((c12.tr (ch3 _ _ _)).tr ((g2.ch KF (RVf C1 qm)).mono (fun _ _ h => h) (fun q _ h => Or.inr (by omega)) (fun _ _ h => h))).tr (ch5 _ _)
  have b5 : hB D5 = hB C1 := ch.2.2.1
  have h5z : hZ D5 = hZ D2 + 3 ∧ hS D5 = hS D2 + 28 := by
    obtain ⟨_, _, _, _, _, _, p7, p8, _⟩ := hp5
    obtain ⟨_, _, _, _, _, _, _, _, _, q7, q8, _⟩ := g2
    exact ⟨by rw [p7, q7, z3], by rw [p8, q8, s3']⟩
  have hR5 : hR D5 = hR D3 := by
    obtain ⟨_, _, _, _, p5, _⟩ := hp5
    obtain ⟨_, _, _, _, _, _, _, q5, _⟩ := g2
    rw [p5, q5]
  have kl5 : hK D5 = hK D3 ∧ hL D5 = hL D3 := by
    obtain ⟨p1, p2, _⟩ := hp5
    obtain ⟨_, _, _, q1, q2, _⟩ := g2
    exact ⟨by rw [p1, q1], by rw [p2, q2]⟩
  have z5 : ∀ q, hB D5 + hZ D5 ≤ q → hK D5 q = 0 := fun q hq => by
    rw [ch.2.2.2.2.2.2.2 q hq]
    have := ch.2.2.2.2.1
    exact z q (by omega)
  have r5 : ∀ j, j ≠ 10 → hR D5 qm j = hR C1 qm j := fun j hj => by rw [hR5]; exact rqm j hj
  have vk : VK C1 D5 qm := ch.vk z (fun q hq h => by
    rcases h with h | h
    · exact h.k s1 s2 s3
    · omega) (fun q hq h => by
    rcases h with h | h
    · exact Or.inr h
    · omega) r5
  have hc5 : FCp D5 x qf qs qm hl qh := hc.vk vk z5 (by omega) (fun a b hab => (ch.1 a b (by unfold KF; omega)).1) (by rw [ch.2.1]; exact o1)
  have fc : FC0 D5 x qf qs qm (hB C1 + hZ C1) hl qh := hc5.f (by rw [hR5]; exact r10) (by rw [kl5.1]; exact ksa.1) (by rw [kl5.2]; exact ksa.2.1) cx.2.2.2
  have stA : StA D5 (hB D2 + hZ D2) (st0 x) := by
    refine StA.hp ⟨st3.1.hi g2, ?_, ?_, fun k hk => g1 k hk, fun k hk => absurd hk (Nat.not_lt_zero _)⟩ hp5
    · rw [g2.2.2.2.2.2.1 _ (by omega)]; exact st3.2.1
    · rw [g2.2.2.2.2.2.1 _ (by omega)]; exact st3.2.2.1
  have sok := st0_ok (x := x) o3 hw
  have fsI := fsA_i (x := x) o3 hw
  have c0 : cnt (fs0) = 0 := by
    unfold cnt fs0 cn
    decide +kernel
  have G := c_give (C := D5) (q := 0) (q' := hB D2 + hZ D2) (z0 := hZ D5) (s0 := hS D5) (fs := fs0) fc (ChC.r _ _ _ _) (fun p s h => by cases h) ⟨fun p hp => by
    show hR D5 _ p = none
    rw [hR5]; exact ksa.2.2 p, fun p p' q q' hp hp' _ h => by rw [hR5, ksa.2.2 p] at h; cases h⟩ w5 ⟨by rw [c0]; omega, by rw [c0]; omega, by omega, by omega⟩ o4 (by omega) stA sok
  have eg : gv x 0 (st0 x) fs0 = .inr (fsA x) := rfl
  rw [eg] at G
  obtain ⟨D6, i1, i2, i3, i4, i5⟩ := G
  obtain ⟨D7, i6, n1, n2, n3⟩ := c_nx (C := D6) (w := (fsA x).2) (fun k hk => by
    show up1 (fun _ => false) 0 true k = false
    show (if k = 0 then true else false) = false
    rw [if_neg (by omega)]) i4 (f_X3_run_b129 FU)
  have c56 : ChC D5 D6 KF (AF D5) (RF D5 (hB C1 + hZ C1)) := ChC.mono i2 (fun k j h => Or.inr h) (fun q _ h => Or.inr (Or.inr (Or.inr h))) (fun q _ h => h)
  have c57 := c56.tr (n3 (AF D5) (RF D5 (hB C1 + hZ C1)))
  have F := c_flw cx fc hB' NFl FU (fsA x) D7 r hr (by rw [FU_v]; unfold NFl; omega) c57 fsI (fsA_b hB'.1) (i3.hp n2) n1 (i5.hp n2)
  have E5 : runT C1 = f_X3_run_b129 FU D7 := by
    rw [← e4]
    refine (e5.trans e6).trans ?_
    rw [show f_X3_give 0 (some (hB D2 + hZ D2)) D5 = some (.inr (), D6) from i1, xB_r, i6]
  have up : ∀ C', ChC D7 C' KF (AF D5) (RF D5 (hB C1 + hZ C1)) → ChC C1 C' KF (AVf C1) (RVf C1 qm) ∧ (∀ j, j ≠ 10 → hR C' qm j = hR C1 qm j) ∧ hR C' qm 10 = some (hB C1 + hZ C1) ∧ hK C' (hB C1 + hZ C1) = 69 ∧ hL C' (hB C1 + hZ C1) = rN (xm_ x) ∧ hZ D5 ≤ hZ C' := by
    intro C' h
    have c58 := c57.tr h
    have hq : hR C' qm = hR D5 qm := (c58.2.2.2.2.2.2.1 qm (by omega)).2.2.2.2 (by unfold RF; omega)
    have hs := c58.2.2.2.2.2.2.1 (hB C1 + hZ C1) (by omega)
    refine ⟨ch.tr (c58.mono (fun _ _ h => h) (fun q _ h => ?_) (fun q _ h => Or.inr ?_)), fun j hj => by rw [hq]; exact r5 j hj, by rw [hq, hR5]; exact r10, by rw [hs.1, kl5.1]; exact ksa.1, by rw [hs.2.1, kl5.2]; exact ksa.2.1, c58.2.2.2.2.1⟩
    · unfold AF at h
      rw [b5] at h
      rcases h with h | h | h | h
      · exact Or.inl (Or.inl h)
      · exact Or.inl (Or.inr (Or.inl h))
      · exact Or.inl (Or.inr (Or.inr h))
      · exact Or.inr (by omega)
    · unfold RF at h; omega
  rw [E5]
  cases r with
  | inr fs' =>
    obtain ⟨C', j1, j2, ⟨j3, j3'⟩, j4⟩ := F
    obtain ⟨u1, u2, u3, u4, u5, u6⟩ := up C' j2
    have b' : hB C' = hB C1 := u1.2.2.1
    obtain ⟨v1, v2, _⟩ := j4
    have := cnt_b fs'
    refine ⟨C', j1, u1, u2, ⟨_, u3, u4, u5, Nat.le_refl _, by omega, fun p hp => ?_, j3'⟩, by omega, by omega⟩
    have := j3 p hp
    cases e : fs'.1 p with
    | none => rw [e] at this; exact this
    | some s =>
      rw [e] at this
      obtain ⟨q, a1, a2, a3, a4⟩ := this
      exact ⟨q, a1, by omega, a3, a4⟩
  | inl e =>
    obtain ⟨q1, C', j1, ⟨j2, j3, j4, j5⟩, j6, j7⟩ := F
    obtain ⟨u1, u2, _⟩ := up C' j5
    exact ⟨q1, C', j1, u1, u2, j2, j3, j4, by omega, by omega⟩
