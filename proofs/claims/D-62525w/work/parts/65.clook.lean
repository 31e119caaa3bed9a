/-! LAYER C: the component looks at a place: handlers -/
/-- what handlers change -/
def ChH (C0 C C' : CW) (sa : Nat) : Prop := ChC C C' (fun k _ => k = 206) (fun q => St3 (hB C0 + 15) q ∨ hB C0 + hZ C0 ≤ q) (fun q => q = sa ∨ hB C0 + hZ C0 ≤ q)
theorem ChG.h {C0 C C' : CW} {sa : Nat} (h : ChG C0 C C' sa) : ChH C0 C C' sa := ChC.mono h (fun _ _ h => h) (fun _ _ h => Or.inr h) (fun _ _ h => h)
theorem ChH.f {C0 C C' : CW} {sa : Nat} (h : ChH C0 C C' sa) : ChC C C' KF (AF C0) (RF C0 sa) := ChC.mono h (fun _ _ h => Or.inr h) (fun _ _ h => h.elim (fun h => Or.inr (Or.inr (Or.inl h))) (fun h => Or.inr (Or.inr (Or.inr h)))) (fun _ _ h => h)
theorem c_caught {C : CW} {q : Nat} {h : HD} {n : Nat} (hh : HdC C q h) (ho : HdO n h) (n16 : n ≤ 16) : f_X9_caught q C = some ((dK h : Int), C) := by
  obtain ⟨g1, g2, g3, g4, g5⟩ := hh
  have := ho.2.2.2
  unfold f_X9_caught dK
  rw [dr_k, gd_e g1, rd_k, g5, w32_i (by omega), show w32 (-1) = -1 by decide]
  by_cases e : dC h = -1
  · rw [if_pos e, if_pos e]; rfl
  · rw [if_neg e, if_neg e, dr_k, gd_e g1, rd_k, g5]
    congr 2
    omega
theorem c_covers {C : CW} {q p : Nat} {h : HD} {n : Nat} (hh : HdC C q h) (ho : HdO n h) (hp : p < 121) : f_X9_covers q (p : Int) C = some (b2i (decide (dF h ≤ p ∧ p < dT h)), C) := by
  obtain ⟨g1, g2, g3, g4, g5⟩ := hh
  have h1 := ho.1
  have h2 := ho.2.1
  unfold f_X9_covers
  rw [dr_k, gd_e g1, rd_k, g2, w32_n p (by omega), w32_n _ (by omega), dr_k, gd_e g1, rd_k, g3, w32_n _ (by omega)]
  by_cases a : p < dF h
  · rw [if_pos (by omega), decide_eq_false (by omega)]; rfl
  · rw [if_neg (by omega)]
    by_cases b : dT h ≤ p
    · rw [if_pos (by omega), decide_eq_false (by omega)]; rfl
    · rw [if_neg (by omega), decide_eq_true (by omega)]; rfl
theorem CFS.hi {C0 C C' : CW} {x : VC} {sa : Nat} {fs : FS} {A : Nat → Prop} (h : CFS C0 C x sa fs) (k : HiO C C' A) (hA : ∀ q, A q → q < hB C0 + hZ C0) : CFS C0 C' x sa fs := by
  have eb : hB C' = hB C := k.2.2.2.2.2.2.2.2.1
  have ez : hZ C' = hZ C := k.2.2.2.2.2.2.2.2.2.1
  refine ⟨fun p hp => ?_, fun p p' q q' h1 h2 h3 h4 h5 => ?_⟩
  · have := h.1 p hp
    cases e : fs.1 p with
    | none => rw [e] at this; dsimp only at this ⊢; rw [k.2.2.2.2.2.2.2.1]; exact this
    | some s =>
      rw [e] at this
      obtain ⟨q, q1, q2, q3, q4⟩ := this
      exact ⟨q, by rw [k.2.2.2.2.2.2.2.1]; exact q1, q2, by omega, q4.hi k (fun a => by have := hA _ a; omega) (fun a => by have := hA _ a; omega) (fun a => by have := hA _ a; omega)⟩
  · rw [k.2.2.2.2.2.2.2.1] at h4 h5
    exact h.2 p p' q q' h1 h2 h3 h4 h5
theorem c_handle {C0 C : CW} {x : VC} {qf qs qh : List Nat} {qm sa hl i q src z0 s0 : Nat} {h : HD} {s : TS} {fs : FS} (hc : FC0 C0 x qf qs qm sa hl qh) (hk : ChC C0 C KF (AF C0) (RF C0 sa)) (hf : FOk x fs) (hm : CFS C0 C x sa fs) (hw : WtC C fs.2) (rm : Rm C z0 s0 fs) (hsrc : src = hB C0 + 8 ∨ src = hB C0 + 11) (hs' : StA C src s) (hs : SOk x s) (r0 : 0 < rS (xm_ x)) (hi : qh[i]? = some q) (hi2 : (rH (xm_ x))[i]? = some h) (hpl : dP h < rN (xm_ x)) :
    match gv x (dP h) (s.1, [32 + dK h]) fs with
    | .inr fs' => ∃ C', f_X3_handle (some q) (some src) C = some (.inr (), C') ∧ ChH C0 C C' sa ∧ CFS C0 C' x sa fs' ∧ WtC C' fs'.2 ∧ Rm C' z0 s0 fs'
    | .inl e => ∃ q1 C', f_X3_handle (some q) (some src) C = some (.inl q1, C') ∧ FlX C0 C C' sa q1 e.1 e.2 ∧ hZ C' ≤ z0 + 361 ∧ hS C' ≤ s0 + 3400 := by
  obtain ⟨g1, _, _, _, ⟨_, _, g15⟩, _, ⟨_, _, gH⟩, gb⟩ := hc.fc hk
  have ho := hc.2.2.2.2.2.2.2.2.2.2.2.2.2 h (List.mem_of_getElem? hi2)
  have hh := gH i q h hi hi2
  have n16 := g1.1.1.2
  have z77 := hc.2.1
  have slen : s.2.length ≤ 12 := by
    have := wds_len s.2
    have := hs.2.1
    have : rS (xm_ x) ≤ 12 := hc.2.2.2.2.2.1.2.2.1.2.2.2.2.1
    omega
  rw [gb] at g15
  have cS15 : ∀ {C1 : CW} {A : Nat → Prop}, HiO C C1 A → (∀ z, A z → St3 (hB C0 + 15) z) → ChH C0 C C1 sa := fun k hA => (k.ch (fun k _ => k = 206) (fun q => q = sa ∨ hB C0 + hZ C0 ≤ q)).mono (fun _ _ h => h) (fun z _ h => Or.inl (hA z h)) (fun _ _ h => h)
  unfold f_X3_handle f_X4_empty
  obtain ⟨C1, e1, f1, f2⟩ := c_copy (q := hB C0 + 15) (q' := src) (by omega) slen g15 hs'
  have b1 : hB C1 = hB C := f2.2.2.2.2.2.2.2.2.1
  obtain ⟨⟨a1, a2, a3, a4, a5, a6, a7⟩, a8, a9, aa, ab⟩ := f1
  have hh1 : HdC C1 q h := by
    obtain ⟨p1, p2⟩ := hh
    have nq : ¬ St3 (hB C0 + 15) q := fun a => by
      have k9 : hK C1 q = 9 := by rw [f2.2.2.2.1]; exact p1
      unfold St3 at a
      rcases a with e | e | e <;> rw [e] at k9 <;> omega
    unfold HdC
    rw [f2.2.2.2.1, f2.2.2.2.2.2.1 _ nq]
    exact ⟨p1, p2⟩
  have nq : q ≠ hB C0 + 15 ∧ q ≠ hB C0 + 15 + 2 := ⟨fun e => by have := hh1.1; rw [e] at this; omega, fun e => by have := hh1.1; rw [e] at this; omega⟩
  rw [gb, dr_k, gd_e g15.1, e1, cB_k, b1, gb, dr_k, gd_e a1, dr_k, gd_e a1, rd_k, dr_k, hK_hsI, gd_e a1, rd_k, cB_k, hB_hsI, hB_hsI, b1, gb, dr_k, hK_hsI, hK_hsI, gd_e a1, rd_k, hR_hsI, hR_hsI, a3, dr_k, gd_e hh1.1]
  have hh2 : HdC (hsI (hsI C1 (hB C0 + 15) 2 0) (hB C0 + 15) 3 0) q h := by
    obtain ⟨p1, p2, p3, p4, p5⟩ := hh1
    exact ⟨p1, by rw [hI_ohsI (by omega), hI_ohsI (by omega)]; exact p2, by rw [hI_ohsI (by omega), hI_ohsI (by omega)]; exact p3, by rw [hI_ohsI (by omega), hI_ohsI (by omega)]; exact p4, by rw [hI_ohsI (by omega), hI_ohsI (by omega)]; exact p5⟩
  rw [c_caught hh2 ho n16, cB_k, dr_k, hK_hsI, hK_hsI, gd_e a6, hL_hsI, hL_hsI, a7, ax_k (by omega), rd_k, show (0 : Int).toNat = 0 from rfl, hB_hsI, hB_hsI, hB_hsI, b1, gb, dr_k, hK_hsI, hK_hsI, hK_hsI, gd_e a1, rd_k, hB_hsI, hB_hsI, hB_hsI, hB_hsI, b1, gb, dr_k, hK_hsI, hK_hsI, hK_hsI, hK_hsI, gd_e a1, rd_k, dr_k, hK_hsI, hK_hsI, hK_hsI, hK_hsI, hK_hsI, gd_e hh1.1, rd_k, hI_ohsI (by omega), hI_ohsI (by omega), hI_ohsI (by omega), hh2.2.2.2.1, hB_hsI, hB_hsI, hB_hsI, hB_hsI, hB_hsI, b1, gb]
  have w6 : ∀ (C6 : CW), C6 = hsI (hsI (hsI (hsI (hsI C1 (hB C0 + 15) 2 0) (hB C0 + 15) 3 0) (hB C0 + 15 + 2) 0 (32 + (dK h : Int))) (hB C0 + 15) 2 1) (hB C0 + 15) 3 1 → match gv x (dP h) (s.1, [32 + dK h]) fs with
    | .inr fs' => ∃ C', xB (f_X3_give (dP h : Int) (some (hB C0 + 15)) C6) (fun _ C18 => some (.inr (), C18)) = some (.inr (), C') ∧ ChH C0 C C' sa ∧ CFS C0 C' x sa fs' ∧ WtC C' fs'.2 ∧ Rm C' z0 s0 fs'
    | .inl e => ∃ q1 C', xB (f_X3_give (dP h : Int) (some (hB C0 + 15)) C6) (fun _ C18 => some (.inr (), C18)) = some (.inl q1, C') ∧ FlX C0 C C' sa q1 e.1 e.2 ∧ hZ C' ≤ z0 + 361 ∧ hS C' ≤ s0 + 3400 := by
    intro C6 e6
    have k6 : HiO C C6 (St3 (hB C0 + 15)) := by
      rw [e6]
      exact ((((f2.st (Or.inl rfl)).st (Or.inl rfl)).st (Or.inr (Or.inr rfl))).st (Or.inl rfl)).st (Or.inl rfl)
    have c6 := cS15 k6 (fun _ h => h)
    have s6 : StA C6 (hB C0 + 15) (s.1, [32 + dK h]) := by
      rw [e6]
      refine ⟨⟨a1, a2, a3, a4, a5, a6, a7⟩, ?_, ?_, fun j hj => ?_, fun j hj => ?_⟩
      · rw [hI_ohsI (by omega), hI_shsI rfl]; rfl
      · rw [hI_shsI rfl]
        show (1 : Int) = (((if 32 + dK h = 2 then 2 else 1) + 0 : Nat) : Int)
        rw [if_neg (by omega)]; rfl
      · rw [hI_ohsI (by omega), hI_ohsI (by omega), hI_ohsI (by omega), hI_ohsI (by omega), hI_ohsI (by omega)]
        exact aa j hj
      · have : j = 0 := by
          have : j < 1 := hj
          omega
        subst this
        rw [hI_ohsI (by omega), hI_ohsI (by omega), hI_shsI rfl]
        show 32 + (dK h : Int) = ((32 + dK h : Nat) : Int)
        omega
    have G := c_give (q := dP h) (q' := hB C0 + 15) hc (hk.tr c6.f) hf (hm.hi k6 (fun z hz => by unfold St3 at hz; omega)) (fun i k a b => by rw [k6.2.1]; exact hw i k a b) (z0 := z0) (s0 := s0) ⟨by rw [k6.2.2.2.2.2.2.2.2.2.1]; exact rm.1, by rw [k6.2.2.2.2.2.2.2.2.2.2.1]; exact rm.2.1, rm.2.2⟩ hpl (by omega) s6 (hv_ok n16 g1.1 r0 hs ho)
    generalize gv x (dP h) (s.1, [32 + dK h]) fs = r at G ⊢
    cases r with
    | inr fs' =>
      obtain ⟨C', i1, i2, i3, i4, i5⟩ := G
      rw [i1, xB_r]
      exact ⟨C', rfl, c6.tr i2.h, i3, i4, i5⟩
    | inl e =>
      obtain ⟨q1, C', i1, ⟨i2, i3, i4, i5⟩, i6, i7⟩ := G
      rw [i1, xB_l]
      exact ⟨q1, C', rfl, ⟨i2, i3, i4, c6.f.tr i5⟩, i6, i7⟩
  exact w6 _ rfl
/-- the handlers of a look -/
theorem c_gvH {C0 : CW} {x : VC} {qf qs qh : List Nat} {qm sa hl p z0 s0 : Nat} {s s' : TS} {B : Nat → Bool} (hc : FC0 C0 x qf qs qm sa hl qh) (hs : SOk x s) (hs' : SOk x s') (hp : p < rN (xm_ x)) (hpl : ∀ h ∈ rH (xm_ x), dP h < rN (xm_ x)) : ∀ (hs2 : List HD) (i n : Nat) (C : CW) (fs : FS), (rH (xm_ x)).drop i = hs2 → i ≤ (rH (xm_ x)).length → (rH (xm_ x)).length < n + i → ChC C0 C KF (AF C0) (RF C0 sa) → cI C 204 8 = (p : Int) → StA C (hB C0 + 11) s → StA C (hB C0 + 8) s' → FOk x fs → CFS C0 C x sa fs → WtC C fs.2 → Rm C z0 s0 fs →
    match gvH x p s s' (isSt (rC (xm_ x) p)) hs2 fs with
    | .inr fs' => ∃ C', f_X3_giveHandlers_b2 n (some (hB C0 + 11)) (i : Int) C = some (.inr (), C') ∧ ChH C0 C C' sa ∧ CFS C0 C' x sa fs' ∧ WtC C' fs'.2 ∧ Rm C' z0 s0 fs' ∧ FOk x fs'
    | .inl e => ∃ q1 C', f_X3_giveHandlers_b2 n (some (hB C0 + 11)) (i : Int) C = some (.inl q1, C') ∧ FlX C0 C C' sa q1 e.1 e.2 ∧ hZ C' ≤ z0 + 361 ∧ hS C' ≤ s0 + 3400 := by
  have hN : rN (xm_ x) ≤ 120 := hc.2.2.2.2.2.1.2.2.1.2.2.2.1
  have hSS : rS (xm_ x) ≤ 12 := hc.2.2.2.2.2.1.2.2.1.2.2.2.2.1
  have hlen : qh.length = (rH (xm_ x)).length := hc.2.2.2.2.2.2.2.2.2.2.1
  have hl16 := hc.2.2.2.2.2.2.2.2.2.2.2.1
  have hHO := hc.2.2.2.2.2.2.2.2.2.2.2.2.2
  have oplt : rC (xm_ x) p < 256 := hc.2.2.2.2.2.1.2.2.1.2.2.2.2.2.2 p
  intro hs2
  induction hs2 with
  | nil =>
    intro i n C fs hd h1 h2 hk hpl8 k1 k2 hf hm hw rm
    have hi : i = (rH (xm_ x)).length := by
      have := congrArg List.length hd
      rw [List.length_drop] at this
      have e0 : ([] : List HD).length = 0 := rfl
      omega
    obtain ⟨n, rfl⟩ : ∃ k, n = k + 1 := ⟨n - 1, by omega⟩
    obtain ⟨_, _, _, ⟨g6, g7⟩, _, _, ⟨gh1, gh2, gh3⟩, gb⟩ := hc.fc hk
    show ∃ C', f_X3_giveHandlers_s2 (f_X3_giveHandlers_b2 n) _ _ C = _ ∧ _
    unfold f_X3_giveHandlers_s2
    rw [rd_k, g6, dr_k, gd_e g7.1, rd_k, gh1, dr_k, gd_e gh2.1, c_size gh2, cB_k, w32_n _ (by omega), w32_n i (by omega), if_pos (by omega)]
    exact ⟨C, rfl, ChC.r _ _ _ _, hm, hw, rm, hf⟩
  | cons h hs2 ih =>
    intro i n C fs hd h1 h2 hk hpl8 k1 k2 hf hm hw rm
    have hil : i < (rH (xm_ x)).length := by
      have := congrArg List.length hd
      rw [List.length_drop] at this
      have e0 : (h :: hs2).length = hs2.length + 1 := rfl
      omega
    have hi : (rH (xm_ x))[i]? = some h := by
      have : ((rH (xm_ x)).drop i)[0]? = some h := by rw [hd]; rfl
      rw [List.getElem?_drop] at this
      exact this
    have hd2 : (rH (xm_ x)).drop (i + 1) = hs2 := by
      rw [← List.drop_drop, hd]; rfl
    obtain ⟨q, hq⟩ : ∃ q, qh[i]? = some q := ⟨qh[i]'(by omega), List.getElem?_eq_getElem _⟩
    obtain ⟨n, rfl⟩ : ∃ k, n = k + 1 := ⟨n - 1, by omega⟩
    have ho := hHO h (List.mem_of_getElem? hi)
    have hpd := hpl h (List.mem_of_getElem? hi)
    obtain ⟨g1, _, _, ⟨g6, g7⟩, _, _, ⟨gh1, gh2, gh3⟩, gb⟩ := hc.fc hk
    have n16 := g1.1.1.2
    have hh := gh3 i q h hq hi
    have un : f_X3_giveHandlers_b2 (n + 1) (some (hB C0 + 11)) (i : Int) C = f_X3_giveHandlers_s2 (f_X3_giveHandlers_b2 n) (some (hB C0 + 11)) (i : Int) C := rfl
    rw [un]
    have nxt : ∀ (C1 : CW) (fs1 : FS), ChH C0 C C1 sa → FOk x fs1 → CFS C0 C1 x sa fs1 → WtC C1 fs1.2 → Rm C1 z0 s0 fs1 → match gvH x p s s' (isSt (rC (xm_ x) p)) hs2 fs1 with
        | .inr fs' => ∃ C', f_X3_giveHandlers_b115 (f_X3_giveHandlers_b2 n) (some (hB C0 + 11)) (i : Int) C1 = some (.inr (), C') ∧ ChH C0 C C' sa ∧ CFS C0 C' x sa fs' ∧ WtC C' fs'.2 ∧ Rm C' z0 s0 fs' ∧ FOk x fs'
        | .inl e => ∃ q1 C', f_X3_giveHandlers_b115 (f_X3_giveHandlers_b2 n) (some (hB C0 + 11)) (i : Int) C1 = some (.inl q1, C') ∧ FlX C0 C C' sa q1 e.1 e.2 ∧ hZ C' ≤ z0 + 361 ∧ hS C' ≤ s0 + 3400 := by
      intro C1 fs1 c1 hf1 hm1 hw1 rm1
      unfold f_X3_giveHandlers_b115
      have z77 := hc.2.1
      have zz := hk.2.2.2.2.1
      have G := ih (i + 1) n C1 fs1 hd2 (by omega) (by omega) (hk.tr c1.f) (by rw [(c1.1 204 8 (by omega)).1]; exact hpl8) (k1.ch c1 (by omega) (by unfold St3; omega) (by unfold St3; omega) (by unfold St3; omega) (by
        have := hc.2.2.2.2.2.2.2.1.2.1
        rintro (e | e)
        · have h6 := hc.2.2.2.2.2.2.1.2.1.1
          rw [e, this] at h6
          cases h6
        · omega)) (k2.ch c1 (by omega) (by unfold St3; omega) (by unfold St3; omega) (by unfold St3; omega) (by
        have := hc.2.2.2.2.2.2.2.1.2.1
        rintro (e | e)
        · have h6 := hc.2.2.2.2.2.2.1.1.1
          rw [e, this] at h6
          cases h6
        · omega)) hf1 hm1 hw1 rm1
      have ei : (i : Int) + 1 = ((i + 1 : Nat) : Int) := by omega
      rw [ei]
      generalize gvH x p s s' (isSt (rC (xm_ x) p)) hs2 fs1 = r at G ⊢
      cases r with
      | inr fs' =>
        obtain ⟨C', i1, i2, i3⟩ := G
        exact ⟨C', i1, c1.tr i2, i3⟩
      | inl e =>
        obtain ⟨q1, C', i1, ⟨i2, i3, i4, i5⟩, i6⟩ := G
        exact ⟨q1, C', i1, ⟨i2, i3, i4, c1.f.tr i5⟩, i6⟩
    unfold f_X3_giveHandlers_s2
    rw [rd_k, g6, dr_k, gd_e g7.1, rd_k, gh1, dr_k, gd_e gh2.1, c_size gh2, cB_k, w32_n _ (by omega), w32_n i (by omega), if_neg (show ¬ (qh.length : Int) ≤ (i : Int) by omega), rd_k, g6, dr_k, gd_e g7.1, rd_k, gh1, dr_k, gd_e gh2.1, c_get gh2 hq rfl, cB_k, okN_k, gd_e hh.1, rd_k, hpl8, dr_k, gd_e hh.1, c_covers hh ho (by omega), cB_k, ite_d]
    unfold gvH
    by_cases cv : dF h ≤ p ∧ p < dT h
    · rw [if_pos cv, if_pos cv, rd_k, g6, dr_k, gd_e g7.1, rd_k, g7.2.2.2.2.2.1, w32_n _ (by omega)]
      unfold f_X3_giveHandlers_b61
      have sc := hc.sc (p := p) hk hpl8 (by have := rm.1; have := cnt_b fs; have := rm.2.2; omega) (by have := rm.2.1; have := cnt_b fs; have := rm.2.2; omega)
      by_cases r0 : 0 < rS (xm_ x)
      · rw [if_pos r0, if_neg (show ¬ (rS (xm_ x) : Int) ≤ 0 by omega)]
        rcases c_need sc (FrN.r C) true 7 with ⟨_, e7⟩ | ⟨z, _⟩
        · have e7' : f_X3_need 1 7 C = some (.inr (), C) := e7
          rw [e7', xB_r]
          have G := c_handle (q := q) (i := i) (h := h) hc hk hf hm hw rm (Or.inr rfl) k1 hs r0 hq hi hpd
          cases e1 : gv x (dP h) (s.1, [32 + dK h]) fs with
          | inl e =>
            rw [e1] at G
            obtain ⟨q1, C', i1, i2, i3⟩ := G
            rw [i1, xB_l]
            exact ⟨q1, C', rfl, i2, i3⟩
          | inr fs1 =>
            rw [e1] at G
            obtain ⟨C1, i1, i2, i3, i4, i5⟩ := G
            have f1 := gv_ok g1.1 (by omega) (hv_ok n16 g1.1 r0 hs ho) hf e1
            obtain ⟨j1, _, _, ⟨j6, j7⟩, _, _, ⟨jh1, jh2, jh3⟩, jb⟩ := hc.fc (hk.tr i2.f)
            rw [i1, xB_r, rd_k, j6, rd_k, (i2.1 204 8 (by omega)).1, hpl8, dr_k, gd_e j7.1, c_at j7 hN hp rfl, cB_k, w32_n _ (by omega), show w32 54 = 54 by decide, show w32 55 = 55 by decide, show w32 58 = 58 by decide, sB_i]
            unfold f_X3_giveHandlers_b106
            cases hst : isSt (rC (xm_ x) p) with
            | false =>
              have hst2 := of_decide_eq_false hst
              rw [if_neg (by decide), sB_i, if_neg (by omega), if_neg (by omega), if_neg (by omega)]
              have := nxt C1 fs1 i2 f1 i3 i4 i5
              rw [hst] at this
              exact this
            | true =>
              have hst2 := of_decide_eq_true hst
              rw [if_pos rfl]
              have z77 := hc.2.1
              have zz := hk.2.2.2.2.1
              have G := c_handle (q := q) (i := i) (h := h) (src := hB C0 + 8) (s := s') hc (hk.tr i2.f) f1 i3 i4 i5 (Or.inl rfl) (k2.ch i2 (by omega) (by unfold St3; omega) (by unfold St3; omega) (by unfold St3; omega) (by
                have := hc.2.2.2.2.2.2.2.1.2.1
                rintro (e | e)
                · have h6 := hc.2.2.2.2.2.2.1.1.1
                  rw [e, this] at h6
                  cases h6
                · omega)) hs' r0 hq hi hpd
              have et : ∀ T : Option ((Nat ⊕ Unit) × CW), (if (rC (xm_ x) p : Int) = 54 then T else if (rC (xm_ x) p : Int) = 55 then T else if (rC (xm_ x) p : Int) = 58 then T else f_X3_giveHandlers_b115 (f_X3_giveHandlers_b2 n) (some (hB C0 + 11)) (i : Int) C1) = T := by
                intro T
                rcases hst2 with e | e | e
                · rw [if_pos (by omega)]
                · rw [if_neg (by omega), if_pos (by omega)]
                · rw [if_neg (by omega), if_neg (by omega), if_pos (by omega)]
              rw [et, jb]
              cases e2 : gv x (dP h) (s'.1, [32 + dK h]) fs1 with
              | inl e =>
                rw [e2] at G
                obtain ⟨q1, C', m1, ⟨m2, m3, m4, m5⟩, m6⟩ := G
                rw [m1, xB_l, sB_l]
                exact ⟨q1, C', rfl, ⟨m2, m3, m4, i2.f.tr m5⟩, m6⟩
              | inr fs2 =>
                rw [e2] at G
                obtain ⟨C2, m1, m2, m3, m4, m5⟩ := G
                rw [m1, xB_r, sB_i]
                have := nxt C2 fs2 (i2.tr m2) (gv_ok g1.1 (by omega) (hv_ok n16 g1.1 r0 hs' ho) f1 e2) m3 m4 m5
                rw [hst] at this
                exact this
        · cases z
      · rw [if_neg r0, if_pos (show (rS (xm_ x) : Int) ≤ 0 by omega)]
        rcases c_need sc (FrN.r C) false 7 with ⟨z, _⟩ | ⟨_, q1, C', e7, C2, fr, nw, b6, b7⟩
        · cases z
        · have e7' : f_X3_need 0 7 C = some (.inl q1, C') := e7
          rw [e7', xB_l]
          have hfr : ChC C C2 KF (AF C0) (RF C0 sa) := by
            obtain ⟨r1, r2, r3, r4, r5, r6, r7, r8, r9, ra, rb, rc⟩ := fr
            refine ⟨fun a b _ => ⟨by rw [r1], by rw [r2]⟩, r3, r9, rc, by omega, by omega, fun z _ => ⟨by rw [r4], by rw [r5], by rw [r7], fun n => r6 z (fun e => ?_) (fun e => ?_) (fun e => ?_), fun _ => by rw [r8]⟩, fun z _ => by rw [r4]⟩
            · exact n (Or.inl (Or.inl (by rw [← gb]; exact e)))
            · exact n (Or.inl (Or.inr (Or.inl (by rw [← gb]; exact e))))
            · exact n (Or.inl (Or.inr (Or.inr (by rw [← gb]; exact e))))
          have rz : hZ C2 = hZ C := fr.2.2.2.2.2.2.2.2.2.1
          have rs : hS C2 = hS C := fr.2.2.2.2.2.2.2.2.2.2.1
          have nz : hZ C' = hZ C2 + 1 := nw.2.2.2.2.2.2.1
          have ns : hS C' = hS C2 + 8 := nw.2.2.2.2.2.2.2.1
          have := cnt_b fs
          have := rm.1
          have := rm.2.1
          exact ⟨q1, C', rfl, ⟨nw.2.1, b6, b7, hfr.tr (nw.ch _ _ _)⟩, by omega, by omega⟩
    · rw [if_neg cv, if_neg cv]
      exact nxt C fs (ChC.r _ _ _ _) hf hm hw rm
