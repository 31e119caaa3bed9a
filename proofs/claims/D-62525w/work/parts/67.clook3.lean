/-! LAYER C: the component's look -/
theorem SimC.st {C0 C : CW} {x : VC} {s : TS} {qf qs : List Nat} {qm p : Nat} (c : SCx C0 x qf qs qm p) (h : SimC C0 C x s) : StA C (hB C0 + 8) s := by
  obtain ⟨hb, k8, r8, r8', k9, l9, k10, l10⟩ := h.k c
  exact ⟨⟨k8, r8, r8', k9, l9, k10, l10⟩, h.2.2.2.1, h.2.2.2.2.1, h.2.1, h.2.2.1⟩
theorem CdO.i {x : VC} {p : Nat} (h : CdO x p) : szo (rC (xm_ x) p) = 1 ∨ szo (rC (xm_ x) p) = 2 ∨ szo (rC (xm_ x) p) = 3 := by
  have := h.1.1
  have := szo_le (rC (xm_ x) p)
  omega
/-- the end of the component's look: what is given on -/
theorem c_lkEnd {C0 C : CW} {x : VC} {qf qs qh : List Nat} {qm sa hl p z0 s0 : Nat} {s : TS} {fs : FS} (hc : FC0 C0 x qf qs qm sa hl qh) (hk : ChC C0 C KF (AF C0) (RF C0 sa)) (hp8 : cI C 204 8 = (p : Int)) (hp : p < rN (xm_ x)) (hpN : p + szo (rC (xm_ x) p) ≤ rN (xm_ x)) (hnx : isLa (rC (xm_ x) p) = false → p + szo (rC (xm_ x) p) < rN (xm_ x)) (htg : isBr (rC (xm_ x) p) = true → 0 ≤ tgt (rC (xm_ x)) p ∧ tgt (rC (xm_ x)) p < rN (xm_ x)) (k8 : StA C (hB C0 + 8) s) (hs : SOk x s) (hf : FOk x fs) (hm : CFS C0 C x sa fs) (hw : WtC C fs.2) (rm : Rm C z0 s0 fs) :
    match sB (if isLa (rC (xm_ x) p) = true then .inr fs else gv x (p + szo (rC (xm_ x) p)) s fs) (fun fs => if isBr (rC (xm_ x) p) = true then gv x (tgt (rC (xm_ x)) p).toNat s fs else .inr fs) with
    | .inr fs' => ∃ C', (cB (f_X1_isLast (rC (xm_ x) p : Int) C) fun v14 C13 => if w32 v14 = 0 then (xB (f_X3_give ((p : Int) + (szo (rC (xm_ x) p) : Int)) (some (hB C13 + 8)) C13) fun _ C15 => f_X3_look_b135 (rC (xm_ x) p : Int) C15) else f_X3_look_b135 (rC (xm_ x) p : Int) C13) = some (.inr (), C') ∧ ChG C0 C C' sa ∧ CFS C0 C' x sa fs' ∧ WtC C' fs'.2 ∧ Rm C' z0 s0 fs'
    | .inl e => ∃ q1 C', (cB (f_X1_isLast (rC (xm_ x) p : Int) C) fun v14 C13 => if w32 v14 = 0 then (xB (f_X3_give ((p : Int) + (szo (rC (xm_ x) p) : Int)) (some (hB C13 + 8)) C13) fun _ C15 => f_X3_look_b135 (rC (xm_ x) p : Int) C15) else f_X3_look_b135 (rC (xm_ x) p : Int) C13) = some (.inl q1, C') ∧ FlX C0 C C' sa q1 e.1 e.2 ∧ hZ C' ≤ z0 + 361 ∧ hS C' ≤ s0 + 3400 := by
  have hN : rN (xm_ x) ≤ 120 := hc.2.2.2.2.2.1.2.2.1.2.2.2.1
  have oplt : rC (xm_ x) p < 256 := hc.2.2.2.2.2.1.2.2.1.2.2.2.2.2.2 p
  have z77 := hc.2.1
  have gb := (hc.fc hk).2.2.2.2.2.2.2
  have g1 := (hc.fc hk).1
  rw [c_isLast oplt, cB_k, ite_b]
  have tg : ∀ (C4 : CW) (fs1 : FS), ChG C0 C C4 sa → StA C4 (hB C0 + 8) s → FOk x fs1 → CFS C0 C4 x sa fs1 → WtC C4 fs1.2 → Rm C4 z0 s0 fs1 → match (if isBr (rC (xm_ x) p) = true then gv x (tgt (rC (xm_ x)) p).toNat s fs1 else .inr fs1) with
      | .inr fs' => ∃ C', f_X3_look_b135 (rC (xm_ x) p : Int) C4 = some (.inr (), C') ∧ ChG C0 C C' sa ∧ CFS C0 C' x sa fs' ∧ WtC C' fs'.2 ∧ Rm C' z0 s0 fs'
      | .inl e => ∃ q1 C', f_X3_look_b135 (rC (xm_ x) p : Int) C4 = some (.inl q1, C') ∧ FlX C0 C C' sa q1 e.1 e.2 ∧ hZ C' ≤ z0 + 361 ∧ hS C' ≤ s0 + 3400 := by
    intro C4 fs1 c4 k84 hf4 hm4 hw4 rm4
    have hk4 := hk.tr c4.h.f
    obtain ⟨_, _, _, ⟨g6, g7⟩, _, _, _, gb4⟩ := hc.fc hk4
    unfold f_X3_look_b135
    rw [c_isBranch oplt, cB_k, ite_b]
    by_cases hb : isBr (rC (xm_ x) p) = true
    · have ht := htg hb
      have hsz : szo (rC (xm_ x) p) = 3 := szo_br hb
      have te : tgt (rC (xm_ x)) p = (((tgt (rC (xm_ x)) p).toNat : Nat) : Int) := by omega
      rw [if_pos hb, if_pos hb, rd_k, g6, rd_k, (c4.1 204 8 (by omega)).1, hp8, dr_k, gd_e g7.1, c_target g7 hN (by omega), cB_k, gb4]
      have G := c_give (q := (tgt (rC (xm_ x)) p).toNat) (q' := hB C0 + 8) hc hk4 hf4 hm4 hw4 rm4 (by omega) (by omega) k84 hs
      rw [← te] at G
      generalize gv x (tgt (rC (xm_ x)) p).toNat s fs1 = r at G ⊢
      cases r with
      | inr fs' =>
        obtain ⟨C', i1, i2, i3⟩ := G
        rw [i1, xB_r]
        exact ⟨C', rfl, ChC.tr c4 i2, i3⟩
      | inl e =>
        obtain ⟨q1, C', i1, ⟨i2, i3, i4, i5⟩, i6⟩ := G
        rw [i1, xB_l]
        exact ⟨q1, C', rfl, ⟨i2, i3, i4, c4.h.f.tr i5⟩, i6⟩
    · rw [if_neg hb, if_neg hb]
      exact ⟨C4, rfl, c4, hm4, hw4, rm4⟩
  cases hla : isLa (rC (xm_ x) p) with
  | true =>
    rw [if_pos rfl, if_pos rfl, sB_i]
    exact tg C fs (ChC.r _ _ _ _) k8 hf hm hw rm
  | false =>
    have hn := hnx hla
    rw [if_neg (by decide), if_neg (by decide), gb]
    have G := c_give (q := p + szo (rC (xm_ x) p)) (q' := hB C0 + 8) hc hk hf hm hw rm hn (by omega) k8 hs
    have en : ((p + szo (rC (xm_ x) p) : Nat) : Int) = (p : Int) + (szo (rC (xm_ x) p) : Int) := by omega
    rw [en] at G
    cases e : gv x (p + szo (rC (xm_ x) p)) s fs with
    | inr fs' =>
      rw [e] at G
      obtain ⟨C', i1, i2, i3, i4, i5⟩ := G
      rw [i1, xB_r, sB_i]
      have zz := hk.2.2.2.2.1
      exact tg C' fs' i2 (k8.ch i2 (by omega) (by omega) (by omega) (by omega) (by
        have := hc.2.2.2.2.2.2.2.1.2.1
        rintro (e | e)
        · have h6 := hc.2.2.2.2.2.2.1.1.1
          rw [e, this] at h6
          cases h6
        · omega)) (gv_ok g1.1 (by omega) hs hf e) i3 i4 i5
    | inl er =>
      rw [e] at G
      obtain ⟨q1, C', i1, i2, i3⟩ := G
      rw [i1, xB_l, sB_l]
      exact ⟨q1, C', rfl, i2, i3⟩
theorem c_look {C0 C : CW} {x : VC} {qf qs qh : List Nat} {qm sa hl p z0 s0 : Nat} {s : TS} {fs : FS} {B : Nat → Bool} {M : MW} {a : Nat} (cS : SMx M x a) (hc : FC0 C0 x qf qs qm sa hl qh) (hB' : FormP x B) (hk : ChC C0 C KF (AF C0) (RF C0 sa)) (hp8 : cI C 204 8 = (p : Int)) (hco : CdO x p) (hs : fs.1 p = some s) (hf : FOk x fs) (hb : FsB B fs) (hm : CFS C0 C x sa fs) (hw : WtC C fs.2) (rm : Rm C z0 s0 fs) :
    match lk x p s fs with
    | .inr fs' => ∃ C', f_X3_look C = some (.inr (), C') ∧ ChC C C' KF (AF C0) (RF C0 sa) ∧ CFS C0 C' x sa fs' ∧ WtC C' fs'.2 ∧ Rm C' z0 s0 fs'
    | .inl e => ∃ q1 C', f_X3_look C = some (.inl q1, C') ∧ FlX C0 C C' sa q1 e.1 e.2 ∧ hZ C' ≤ z0 + 361 ∧ hS C' ≤ s0 + 3400 := by
  obtain ⟨hpo, htg⟩ := hco
  have hco : CdO x p := ⟨hpo, htg⟩
  obtain ⟨hpN, _, hnx, hbt, hhd⟩ := hB'.2 p (hb p s hs)
  have hN : rN (xm_ x) ≤ 120 := hc.2.2.2.2.2.1.2.2.1.2.2.2.1
  have hSS : rS (xm_ x) ≤ 12 := hc.2.2.2.2.2.1.2.2.1.2.2.2.2.1
  have oplt : rC (xm_ x) p < 256 := hc.2.2.2.2.2.1.2.2.1.2.2.2.2.2.2 p
  have z77 := hc.2.1
  have zz := hk.2.2.2.2.1
  obtain ⟨g1, _, _, ⟨g6, g7⟩, ⟨g8, g11, _⟩, ⟨t1, t2, t3⟩, _, gb⟩ := hc.fc hk
  obtain ⟨_, sok⟩ := hf p s hs
  have slen : s.2.length ≤ 12 := by have := wds_len s.2; have := sok.2.1; omega
  have hpN2 : p + szo (rC (xm_ x) p) ≤ rN (xm_ x) := hpo.2.1
  have hmp := hm.1 p hpN
  rw [hs] at hmp
  obtain ⟨q, q1, q2, q3, q4⟩ := hmp
  rw [gb] at g8 g11
  unfold f_X3_look
  obtain ⟨C1, e1, f1, f2⟩ := c_copy (q := hB C0 + 11) (q' := q) (by omega) slen g11 q4
  have b1 : hB C1 = hB C := f2.2.2.2.2.2.2.2.2.1
  obtain ⟨C2, e2, f3, f4⟩ := c_copy (q := hB C0 + 8) (q' := hB C0 + 11) (by omega) slen (g8.hi f2) f1
  have b2 : hB C2 = hB C1 := f4.2.2.2.2.2.2.2.2.1
  have c2 : ChC C C2 KF (AF C0) (RF C0 sa) := (f2.af (fun q h => Or.inr (Or.inl h))).tr (f4.af (fun q h => Or.inl h))
  have f1' : StA C2 (hB C0 + 11) s := f1.hi f4 (by unfold St3; omega) (by unfold St3; omega) (by unfold St3; omega)
  have hk2 := hk.tr c2
  obtain ⟨j1, _, _, ⟨j6, j7⟩, _, _, _, jb⟩ := hc.fc hk2
  have p82 : cI C2 204 8 = (p : Int) := by rw [f4.1, f2.1]; exact hp8
  have m2 : CFS C0 C2 x sa fs := (hm.hi f2 (fun z h => by unfold St3 at h; omega)).hi f4 (fun z h => by unfold St3 at h; omega)
  have w2 : WtC C2 fs.2 := fun i k a b => by rw [f4.2.1, f2.2.1]; exact hw i k a b
  have z2 : hZ C2 = hZ C := by rw [f4.2.2.2.2.2.2.2.2.2.1, f2.2.2.2.2.2.2.2.2.2.1]
  have s2 : hS C2 = hS C := by rw [f4.2.2.2.2.2.2.2.2.2.2.1, f2.2.2.2.2.2.2.2.2.2.2.1]
  have cb := cnt_b fs
  obtain ⟨rm1, rm2, rm3, rm4⟩ := rm
  have sc := hc.sc (p := p) hk2 p82 (by omega) (by omega)
  have k8c : hK C1 (hB C0 + 8) = 6 := by rw [f2.2.2.2.1]; exact g8.1
  rw [rd_k, g6, dr_k, gd_e g7.1, rd_k, t1, rd_k, hp8, dr_k, gd_e t2, t3, ax_k (by omega), Int.toNat_natCast, rd_k, q1, gb, dr_k, gd_e g11.1, e1, cB_k, b1, gb, dr_k, gd_e k8c, e2, cB_k, rd_k, j6, rd_k, p82, dr_k, gd_e j7.1, c_at j7 hN hpN rfl, cB_k, c_sizeOf oplt, cB_k, w32_n _ (by have := szo_le (rC (xm_ x) p); omega), show w32 2 = 2 by decide]
  -- the step with its second byte
  have est : ∀ T : Int → Int → CW → Option ((Nat ⊕ Unit) × CW), (∀ z w : Int, szo (rC (xm_ x) p) = 3 → T z w C2 = T z w C2) → True := fun _ _ => trivial
  have i158 : ∃ z : Int, (if (szo (rC (xm_ x) p) : Int) = 2 then (rd (cR C2 204 7) fun v41 => rd (cI C2 204 8) fun v42 => dr v41 fun q45 => gdB (hK C2 q45 == 7) <| cB (f_X8_at q45 (v42 + 1) C2) fun v44 C43 => f_X3_look_b71 (rC (xm_ x) p : Int) (szo (rC (xm_ x) p) : Int) (rC (xm_ x) p : Int) v44 C43) else f_X3_look_b71 (rC (xm_ x) p : Int) (szo (rC (xm_ x) p) : Int) (rC (xm_ x) p : Int) 0 C2) = f_X3_look_b71 (rC (xm_ x) p : Int) (szo (rC (xm_ x) p) : Int) (rC (xm_ x) p : Int) z C2 ∧ f_X3_step (rC (xm_ x) p : Int) z C2 = f_X3_step (rC (xm_ x) p : Int) (opi (rC (xm_ x)) p : Int) C2 := by
    rcases hco.i with o | o | o
    · refine ⟨0, by rw [if_neg (by omega)], ?_⟩
      unfold opi
      rw [if_pos o]; rfl
    · refine ⟨(rC (xm_ x) (p + 1) : Int), ?_, ?_⟩
      · rw [if_pos (by omega), rd_k, j6, rd_k, p82, dr_k, gd_e j7.1, c_at j7 hN (k := p + 1) (by omega) (by omega), cB_k]
      · unfold opi
        rw [if_neg (by omega)]
    · exact ⟨0, by rw [if_neg (by omega)], c_step_z oplt o _ _⟩
  obtain ⟨z, iz1, iz2⟩ := i158
  rw [iz1]
  unfold f_X3_look_b71
  rw [iz2]
  have sim : SimC C2 C2 x s := ⟨FrN.r C2, by rw [b2, b1, gb]; exact f3.2.2.2.1, by rw [b2, b1, gb]; exact f3.2.2.2.2, by rw [b2, b1, gb]; exact f3.2.1, by rw [b2, b1, gb]; exact f3.2.2.1, sok.1, sok.2.1, sok.2.2.1⟩
  have ST := c_step sc hpo sim
  unfold lk
  cases hst : sStep x p (rC (xm_ x) p) (opi (rC (xm_ x)) p) s with
  | inl b =>
    rw [hst] at ST
    obtain ⟨q', C', st1, C3, fr, nw, n6, n7⟩ := ST
    dsimp only
    rw [st1, xB_l]
    have h8 : hB C2 = hB C0 := jb
    have zc : hZ C3 = hZ C2 := fr.2.2.2.2.2.2.2.2.2.1
    have sc3 : hS C3 = hS C2 := fr.2.2.2.2.2.2.2.2.2.2.1
    have zn : hZ C' = hZ C3 + 1 := nw.2.2.2.2.2.2.1
    have sn : hS C' = hS C3 + 8 := nw.2.2.2.2.2.2.2.1
    exact ⟨q', C', rfl, ⟨nw.2.1, n6, n7, (c2.tr (fr.hio.af (fun q h => by rw [h8] at h; exact Or.inl h))).tr (nw.ch _ _ _)⟩, by omega, by omega⟩
  | inr s' =>
    rw [hst] at ST
    obtain ⟨C3, st1, si⟩ := ST
    have sok' := sStep_ok cS hpo sok hst
    have h8 : hB C2 = hB C0 := jb
    have k83 := si.st sc
    rw [h8] at k83
    have c3 : ChC C C3 KF (AF C0) (RF C0 sa) := c2.tr (si.1.hio.af (fun q h => by rw [h8] at h; exact Or.inl h))
    have hk3 := hk.tr c3
    obtain ⟨l1, _, _, ⟨l6, l7⟩, _, _, _, lb⟩ := hc.fc hk3
    have p83 : cI C3 204 8 = (p : Int) := by rw [si.1.1]; exact p82
    have m3 : CFS C0 C3 x sa fs := m2.hi si.1.hio (fun z h => by rw [h8] at h; unfold St3 at h; omega)
    have w3 : WtC C3 fs.2 := fun i k a b => by rw [si.1.2.1]; exact w2 i k a b
    have z3 : hZ C3 = hZ C2 := si.1.2.2.2.2.2.2.2.2.2.1
    have s3 : hS C3 = hS C2 := si.1.2.2.2.2.2.2.2.2.2.2.1
    have k11 : StA C3 (hB C0 + 11) s := f1'.hi si.1.hio (by rw [h8]; unfold St3; omega) (by rw [h8]; unfold St3; omega) (by rw [h8]; unfold St3; omega)
    have sc3 := hc.sc (p := p) hk3 p83 (by omega) (by omega)
    obtain ⟨ac, ac1, ac2, ac3, ac4⟩ := l7.2.2.2.2.1 (by omega)
    dsimp only
    rw [st1, xB_r, rd_k, p83, rd_k, c_isLast oplt, cB_k, ite_b, rd_k, l6, dr_k, gd_e l7.1, rd_k, ac1, dr_k, gd_l (by rw [ac2]; omega), rd_k, ac3, w32_n _ (by omega), w32_i (by have := szo_le (rC (xm_ x) p); omega)]
    unfold f_X3_look_b101
    by_cases f8 : isLa (rC (xm_ x) p) = false ∧ rN (xm_ x) ≤ p + szo (rC (xm_ x) p)
    · rw [if_pos f8, if_neg (by rw [f8.1]; decide), if_pos (show (rN (xm_ x) : Int) ≤ (p : Int) + (szo (rC (xm_ x) p) : Int) by omega)]
      unfold f_X3_look_b106
      rcases c_need sc3 (FrN.r C3) false 8 with ⟨z, _⟩ | ⟨_, q', C', e7, C4, fr, nw, b6, b7⟩
      · cases z
      · have e7' : f_X3_need 0 8 C3 = some (.inl q', C') := e7
        rw [e7', xB_l]
        have zc : hZ C4 = hZ C3 := fr.2.2.2.2.2.2.2.2.2.1
        have scc : hS C4 = hS C3 := fr.2.2.2.2.2.2.2.2.2.2.1
        have zn : hZ C' = hZ C4 + 1 := nw.2.2.2.2.2.2.1
        have sn : hS C' = hS C4 + 8 := nw.2.2.2.2.2.2.2.1
        exact ⟨q', C', rfl, ⟨nw.2.1, b6, b7, (c3.tr (fr.hio.af (fun q h => by rw [lb] at h; exact Or.inl h))).tr (nw.ch _ _ _)⟩, by omega, by omega⟩
    · have hla : isLa (rC (xm_ x) p) = false → p + szo (rC (xm_ x) p) < rN (xm_ x) := fun h => by
        apply Classical.byContradiction
        intro hc
        exact f8 ⟨h, by omega⟩
      rw [if_neg f8]
      have e106 : (if isLa (rC (xm_ x) p) = true then f_X3_look_b106 (rC (xm_ x) p : Int) ((p : Int) + (szo (rC (xm_ x) p) : Int)) 1 C3 else if (rN (xm_ x) : Int) ≤ (p : Int) + (szo (rC (xm_ x) p) : Int) then f_X3_look_b106 (rC (xm_ x) p : Int) ((p : Int) + (szo (rC (xm_ x) p) : Int)) 0 C3 else f_X3_look_b106 (rC (xm_ x) p : Int) ((p : Int) + (szo (rC (xm_ x) p) : Int)) 1 C3) = f_X3_look_b106 (rC (xm_ x) p : Int) ((p : Int) + (szo (rC (xm_ x) p) : Int)) 1 C3 := by
        cases hl : isLa (rC (xm_ x) p) with
        | true => rw [if_pos rfl]
        | false =>
          have := hla hl
          rw [if_neg (by decide), if_neg (by omega)]
      rw [e106]
      unfold f_X3_look_b106
      rcases c_need sc3 (FrN.r C3) true 8 with ⟨_, e7⟩ | ⟨z, _⟩
      · have e7' : f_X3_need 1 8 C3 = some (.inr (), C3) := e7
        rw [e7', xB_r, lb]
        unfold f_X3_giveHandlers
        have hlen : qh.length = (rH (xm_ x)).length := hc.2.2.2.2.2.2.2.2.2.2.1
        have hl16 := hc.2.2.2.2.2.2.2.2.2.2.2.1
        have G := c_gvH (B := B) (z0 := z0) (s0 := s0) hc sok sok' hpN (fun h hh => (hB'.2 _ (hhd h hh)).1) (rH (xm_ x)) 0 FU C3 fs rfl (by omega) (by rw [FU_v]; omega) hk3 p83 k11 k83 hf m3 w3 ⟨by omega, by omega, rm3, rm4⟩
        cases hh : gvH x p s s' (isSt (rC (xm_ x) p)) (rH (xm_ x)) fs with
        | inl e =>
          rw [hh] at G
          obtain ⟨q', C', i1, ⟨i2, i3, i4, i5⟩, i6⟩ := G
          have i1' : f_X3_giveHandlers_b2 FU (some (hB C0 + 11)) 0 C3 = some (.inl q', C') := i1
          rw [i1', xB_l, sB_l]
          exact ⟨q', C', rfl, ⟨i2, i3, i4, c3.tr i5⟩, i6⟩
        | inr fs1 =>
          rw [hh] at G
          obtain ⟨C4, i1, i2, i3, i4, i5, i6⟩ := G
          have i1' : f_X3_giveHandlers_b2 FU (some (hB C0 + 11)) 0 C3 = some (.inr (), C4) := i1
          rw [i1', xB_r, sB_i]
          have zz3 := hk3.2.2.2.2.1
          have G2 := c_lkEnd (z0 := z0) (s0 := s0) (s := s') hc (hk3.tr i2.f) (by rw [(i2.1 204 8 (by omega)).1]; exact p83) hpN hpN2 hla htg (k83.ch i2 (by omega) (by unfold St3; omega) (by unfold St3; omega) (by unfold St3; omega) (by
            have := hc.2.2.2.2.2.2.2.1.2.1
            rintro (e | e)
            · have h6 := hc.2.2.2.2.2.2.1.1.1
              rw [e, this] at h6
              cases h6
            · omega)) sok' i6 i3 i4 i5
          generalize sB (if isLa (rC (xm_ x) p) = true then .inr fs1 else gv x (p + szo (rC (xm_ x) p)) s' fs1) (fun fs => if isBr (rC (xm_ x) p) = true then gv x (tgt (rC (xm_ x)) p).toNat s' fs else .inr fs) = r at G2 ⊢
          cases r with
          | inr fs' =>
            obtain ⟨C', n1, n2, n3⟩ := G2
            exact ⟨C', n1, c3.tr (i2.f.tr n2.h.f), n3⟩
          | inl e =>
            obtain ⟨q', C', n1, ⟨n2, n3, n4, n5⟩, n6⟩ := G2
            exact ⟨q', C', n1, ⟨n2, n3, n4, c3.tr (i2.f.tr n5)⟩, n6⟩
      · cases z
