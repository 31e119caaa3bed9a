/-! LAYER C: the model verifies a method, whole -/
theorem sStep_pos {M : MW} {x : VC} {a p op i b : Nat} {s : TS} (cS : SMx M x a) (ho : OpOk x p op i) (hs : SOk x s) (h : sStep x p op i s = .inl b) : 0 < b := by
  have cS2 : SMx (simW M p s) x a := cS.ch (fun k j h1 h2 => simW_o ⟨by omega, by omega, fun e => absurd e h2⟩) (fun j hj => simW_o ⟨by omega, by omega, fun _ => by omega⟩)
  have sim : SimM (simW M p s) (simW M p s) x s := ⟨FrS.rfl' _, fun k _ => rfl, fun k _ => rfl, rfl, rfl, hs.1, hs.2.1, hs.2.2.1⟩
  obtain ⟨M5, e5, se⟩ := m_simulate cS2 rfl ho sim
  rw [h] at se
  exact se.2.2.2.1
theorem lk_pos {M : MW} {x : VC} {a p : Nat} {s : TS} {fs : FS} {e : Nat × Nat} (cS : SMx M x a) (hco : CdO x p) (hs : SOk x s) (h : lk x p s fs = .inl e) : 0 < e.1 := by
  unfold lk at h
  cases es : sStep x p (rC (xm_ x) p) (opi (rC (xm_ x)) p) s with
  | inl b =>
    rw [es] at h
    cases h
    exact sStep_pos cS hco.1 hs es
  | inr s' =>
    rw [es] at h
    dsimp only at h
    split at h
    · cases h; show 0 < 8; omega
    · refine sB_pos h (fun e he => gvH_pos _ _ he) (fun fs1 e1 h1 => sB_pos h1 (fun e2 h2 => ?_) (fun fs2 e2 h2 => ?_))
      · split at h2
        · cases h2
        · exact gv_pos h2
      · split at h2
        · exact gv_pos h2
        · cases h2
theorem flw_pos {M : MW} {x : VC} {a : Nat} {B : Nat → Bool} (cx : FlC M x a) (hB : FormP x B) : ∀ (n : Nat) (fs : FS) (e : Nat × Nat), FsI x fs → FsB B fs → flw x n fs = some (.inl e) → 0 < e.1 := by
  intro n
  induction n with
  | zero => intro fs e _ _ h; cases h
  | succ n ih =>
    intro fs e hf hb h
    rw [flw_s] at h
    cases ew : lw fs.2 with
    | none => rw [ew] at h; cases h
    | some p =>
      obtain ⟨h1, h2, h3⟩ := lw_some.mp ew
      obtain ⟨s, hs⟩ := hf.2 p h2
      rw [ew] at h
      dsimp only at h
      rw [hs] at h
      dsimp only at h
      cases e2 : lk x p s (fs.1, up1 fs.2 p false) with
      | inl e1 =>
        rw [e2] at h
        cases h
        exact lk_pos cx.1 (hB.2 p (hb p s hs)).2.1 (hf.1 p s hs).2 e2
      | inr fs' =>
        rw [e2] at h
        have := lk_i cx hB (fs := (fs.1, up1 fs.2 p false)) hs (unw_i hf) hb e2
        exact ih fs' e this.1 this.2.1 h
theorem HdW.o {n : Nat} {h : HD} (k : HdW n h) (hp : dP h < 120) : HdO n h := ⟨k.1, k.2.1, hp, k.2.2.2⟩
theorem m_verify {M : MW} {H : HT} {F : FT} {ms : List MR} {a : Nat} {m : MR} (R : RMm M H F ms) (lim : ∀ (i : Nat) m, ms[i]? = some m → LimM m) (hm : ms[a]? = some m) (hv : rV m = false) (h0 : 0 < rN m) (hw : ∀ h ∈ rH m, HdW (hn H) h) (hl : (rH m).length ≤ 12) (hwd : wds (rA m) ≤ rL m) (hf0 : rF m = 0 ∧ rP m = -1) :
    ∃ v M', f_X6_verify (a : Int) M = some (v, M') ∧ RMm M' H F (ms.set a (vfM (H, F, ms, m))) ∧ ChM M M' (KVa a) ∧ match vfE (H, F, ms, m) with
      | .inl _ => mI M' 0 0 = 3
      | .inr r => mI M' 0 0 = 0 ∧ v = (cnF (frX (rN m) r.2.1 r.1) (rN m) : Int) := by
  obtain ⟨r1, ⟨r2, r3⟩, ⟨r4, r5⟩, r6, r7⟩ := id R
  have ha : a < ms.length := (List.getElem?_eq_some_iff.mp hm).1
  obtain ⟨so, ⟨k1, k2, k3, k4, k5, k6, k7, _⟩⟩ := r6 a m hm
  have hN : rN m ≤ 120 := so.2.2.2.1
  have n16 : hn H ≤ 16 := r1.1.1.2
  let x : VC := (H, F, ms, m)
  let M1 := msI M 18 a 1
  let M2 := msI M1 0 33 (a : Int)
  let M3 := msI M2 0 35 0
  let M4 := msI M3 0 36 (-1)
  have c4' : ChM M M4 (fun k j => (k = 18 ∧ j = a) ∨ (k = 0 ∧ 33 ≤ j)) := ((((ChM.r M _).st (by omega)).st (by omega)).st (by omega)).st (by omega)
  have c4 : ChM M M4 (KVa a) := c4'.mono (fun k j h => by unfold KVa; omega)
  have o : ∀ k j, ¬ ((k = 18 ∧ j = a) ∨ (k = 0 ∧ 33 ≤ j)) → mI M4 k j = mI M k j := fun k j h => c4'.2 k j h
  have v33 : mI M4 0 33 = (a : Int) := by
    show mI (msI M3 0 36 _) 0 33 = _; rw [mI_o (by omega)]; show mI (msI M2 0 35 _) 0 33 = _; rw [mI_o (by omega)]; exact mI_s rfl
  have v35 : mI M4 0 35 = 0 := by
    show mI (msI M3 0 36 _) 0 35 = _; rw [mI_o (by omega)]; exact mI_s rfl
  have v18 : mI M4 18 a = 1 := by
    show mI (msI M3 0 36 _) 18 a = _; rw [mI_o (by omega)]; show mI (msI M2 0 35 _) 18 a = _; rw [mI_o (by omega)]; show mI (msI M1 0 33 _) 18 a = _; rw [mI_o (by omega)]; exact mI_s rfl
  have msg : ∀ (i : Nat) m0, MSg M i m0 → MSg M4 i m0 := fun i m0 ⟨a1, a2, a3, a4, a5, a6, a7⟩ => ⟨by rw [o _ _ (by omega)]; exact a1, fun k t ht => by rw [o _ _ (by omega)]; exact a2 k t ht, by rw [o _ _ (by omega)]; exact a3, by rw [o _ _ (by omega)]; exact a4, by rw [o _ _ (by omega)]; exact a5, by rw [o _ _ (by omega)]; exact a6, fun p hp => by rw [o _ _ (by omega)]; exact a7 p hp⟩
  have sm4 : SMx M4 x a := ⟨⟨r1.1, by rw [o _ _ (by omega)]; exact r1.2.1, fun k hk => by rw [o _ _ (by omega)]; exact r1.2.2.1 k hk, fun k hk => by rw [o _ _ (by omega)]; exact r1.2.2.2 k hk⟩, ⟨⟨by rw [o _ _ (by omega)]; exact r2.1, fun i hi => by rw [o _ _ (by omega), o _ _ (by omega), o _ _ (by omega)]; exact r2.2 i hi⟩, r3⟩, ⟨by rw [o _ _ (by omega)]; exact r4, r5, fun i m0 hi => ⟨(r6 i m0 hi).1, msg i m0 (r6 i m0 hi).2.1⟩⟩, by omega, v33, hm⟩
  have mh4 : MHd M4 a (rH m) := ⟨by rw [o _ _ (by omega)]; exact k2.1, fun i h hi => by rw [o _ _ (by omega), o _ _ (by omega), o _ _ (by omega), o _ _ (by omega)]; exact k2.2 i h hi⟩
  have fm4 : FmX M4 x a := ⟨sm4, mh4, (show (rH m).length ≤ 16 by omega), hw⟩
  have bg4 : BgM M4 a (fun _ => false) := fun q hq => by rw [o _ _ (by omega)]; exact (k7 hv q hq).1
  have keep : ∀ M', ChM M4 M' (fun k j => KFm a k j ∨ KFl a k j ∨ KC2 k j) → MSg M' a m ∧ MHd M' a (rH m) ∧ FrM M' a (rX m) ∧ mI M' 18 a = 1 := by
    intro M' c
    have o' : ∀ k j, (k ≤ 21 ∧ k ≠ 0) ∨ k = 28 → mI M' k j = mI M4 k j := fun k j hk => c.2 k j (by unfold KFm K22 KFl KC2 KCt; omega)
    obtain ⟨a1, a2, a3, a4, a5, a6, a7⟩ := msg a m k1
    exact ⟨⟨by rw [o' _ _ (by omega)]; exact a1, fun k t ht => by rw [o' _ _ (by omega)]; exact a2 k t ht, by rw [o' _ _ (by omega)]; exact a3, by rw [o' _ _ (by omega)]; exact a4, by rw [o' _ _ (by omega)]; exact a5, by rw [o' _ _ (by omega)]; exact a6, fun p hp => by rw [o' _ _ (by omega)]; exact a7 p hp⟩, ⟨by rw [o' _ _ (by omega)]; exact mh4.1, fun i h hi => by rw [o' _ _ (by omega), o' _ _ (by omega), o' _ _ (by omega), o' _ _ (by omega)]; exact mh4.2 i h hi⟩, fun k hk => by rw [o' _ _ (by omega), o _ _ (by omega)]; exact k6 k hk, by rw [o' _ _ (by omega)]; exact v18⟩
  have up : ∀ k j, (KFm a k j ∨ KFl a k j ∨ KC2 k j) → KVa a k j := fun k j h => by unfold KFm K22 KFl KC2 KCt at h; unfold KVa; omega
  have top : f_X6_verify (a : Int) M = (mB (f_X6_isFormed (a : Int) M4) fun v8 M7 => if w32 v8 = 0 then f_X6_verify_b98 (a : Int) M7 else mB (f_X6_flows M7) fun v10 M9 => if w32 v10 = 0 then f_X6_verify_b98 (a : Int) M9 else mB (f_X6_buries M9) fun v12 M11 => if w32 v12 = 0 then f_X6_verify_b98 (a : Int) M11 else f_X6_verify_b99 (a : Int) 1 M11) := by
    unfold f_X6_verify f_X6_verify_b25
    rw [m_isMethod r4 r5 (w32_n a (by omega)), mB_k, ite_bd, if_pos (by omega), m_isMethod r4 r5 (w32_n a (by omega)), mB_k, ite_bd, if_pos (by omega), ax_k (by omega), Int.toNat_natCast, rd_k, k1.2.2.2.1, w32_n _ (by omega), if_neg (by omega), ax_k (by omega), Int.toNat_natCast, rd_k, k3, hv, ite_b, if_neg (by decide), ax_k (by omega), Int.toNat_natCast, iAnd_11, rd_k, rd_k, rd_k, rd_k]
  rw [top]
  have G := m_form fm4 bg4
  unfold vfM
  cases ef : form x with
  | inl e =>
    rw [ef] at G
    obtain ⟨M5, g1, g2, g3, g4⟩ := G
    obtain ⟨M6, i1, i2, i3, i4⟩ := m_bad (e := e) R lim hm hv (c4.tr (g4.mono (fun k j h => up k j (Or.inl h)))) (keep M5 (g4.mono (fun k j h => Or.inl h))) g2 g3 (form_pos ef)
    have ev : vfE (H, F, ms, m) = .inl e := by unfold vfE; rw [show form (H, F, ms, m) = .inl e from ef]
    refine ⟨0, M6, ?_, ?_, i4, ?_⟩
    · rw [g1, mB_k, if_pos (by decide)]; exact i1
    · rw [ev]; exact i2
    · rw [ev]; exact i3
  | inr B =>
    rw [ef] at G
    obtain ⟨M5, g1, g2, g3⟩ := G
    have hfp := form_P (x := x) so h0 so.2.2.2.2.2.2 ef
    have hN' : rN (xm_ x) ≤ 120 := hN
    obtain ⟨hB, fB⟩ := hfp
    have c5 : ChM M4 M5 (KFm a) := g3.mono (fun _ _ h => Or.inl h)
    have fm5 := fm4.mv c5
    have dpo : ∀ h ∈ rH m, dP h < 120 := fun h hh => by
      have := (form_o ef hN').2 h hh
      unfold hdOk at this
      rw [Bool.and_eq_true, Bool.and_eq_true, Bool.and_eq_true] at this
      have := (stB_i.mp this.2.2.1).1
      omega
    have fl5 : FlC M5 x a := ⟨fm5.1, fm5.2.1, fm5.2.2.1, fun h hh => (hw h hh).o (dpo h hh)⟩
    obtain ⟨r, hr, G2⟩ := m_flows fl5 hB hwd (by rw [g3.2 _ _ (by unfold K22; omega)]; exact v35)
    cases r with
    | inl e =>
      obtain ⟨M6, j1, j2, j3, j4⟩ := G2
      have c6 : ChM M4 M6 (fun k j => KFm a k j ∨ KFl a k j ∨ KC2 k j) := (c5.mono (fun k j h => Or.inl h)).tr (j4.mono (fun k j h => Or.inr (Or.inl h)))
      obtain ⟨M7, i1, i2, i3, i4⟩ := m_bad (e := e) R lim hm hv (c4.tr (c6.mono up)) (keep M6 c6) j2 j3 (flw_pos fl5 hB _ _ _ (fsA_i so hwd) (fsA_b hB.1) hr)
      have ev : vfE (H, F, ms, m) = .inl e := by unfold vfE; rw [show form (H, F, ms, m) = .inr B from ef]; dsimp only; rw [show flw (H, F, ms, m) NFl (fsA (H, F, ms, m)) = _ from hr]
      refine ⟨0, M7, ?_, ?_, i4, ?_⟩
      · rw [g1, mB_k, if_neg (by decide), j1, mB_k, if_pos (by decide)]; exact i1
      · rw [ev]; exact i2
      · rw [ev]; exact i3
    | inr fs =>
      obtain ⟨M6, j1, j2, j3, j4, j5, j6⟩ := G2
      have c6 : ChM M4 M6 (fun k j => KFm a k j ∨ KFl a k j ∨ KC2 k j) := (c5.mono (fun k j h => Or.inl h)).tr (j6.mono (fun k j h => Or.inr (Or.inl h)))
      have fl6 := fl5.mv j6
      have sm6 := fl6.1
      have so6 := sm6.so.2
      have n46 : ∀ k j, (k = 22 ∨ k = 27) → mI M6 k j = mI M5 k j := fun k j hk => j6.2 _ _ (by unfold KFl; omega)
      have hP6 : P2 M6 a (rN (xm_ x)) fs.1 (bz0 x B) := by
        refine ⟨⟨by omega, hN', so.2.2.2.2.1, so.2.2.2.2.2.2⟩, sm6.2.2.2.2.1, so6.2.2.2.1, so6.2.2.2.2.1, fun k hk => ⟨so6.2.2.2.2.2.2 k hk, ?_, ?_⟩, fun k hk => ?_⟩
        · rw [n46 _ _ (Or.inl rfl)]; exact g2 k hk
        · rw [n46 _ _ (Or.inr rfl), g3.2 _ _ (by unfold K22; omega), o _ _ (by omega)]; exact (k7 hv k hk).2.1
        · have := (j2 k hk).1
          cases eT : fs.1 k with
          | none => rw [eT] at this; exact this
          | some s =>
            rw [eT] at this
            obtain ⟨_, sok⟩ := j3.1 k s eT
            have w1 := wds_len s.2
            have w2 := sok.2.1
            have w3 : rS (xm_ x) ≤ 12 := so.2.2.2.2.1
            exact ⟨this.1, by omega⟩
      have G3 := m_buries (T := fs.1) fB h0 hP6 fl6.2.1 hl (fun h hh => (hw h hh).b n16)
      cases eb : bu1 (rN (xm_ x)) B fs.1 121 0 (rH (xm_ x)) with
      | inl e =>
        rw [eb] at G3
        obtain ⟨M7, l1, l2, l3, l4⟩ := G3
        have c7 : ChM M4 M7 (fun k j => KFm a k j ∨ KFl a k j ∨ KC2 k j) := c6.tr (l4.mono (fun k j h => Or.inr (Or.inr h)))
        obtain ⟨M8, i1, i2, i3, i4⟩ := m_bad (e := e) R lim hm hv (c4.tr (c7.mono up)) (keep M7 c7) l2 l3 (bu1_pos _ _ _ eb)
        have ev : vfE (H, F, ms, m) = .inl e := by
          unfold vfE; rw [show form (H, F, ms, m) = .inr B from ef]; dsimp only; rw [show flw (H, F, ms, m) NFl (fsA (H, F, ms, m)) = _ from hr]; dsimp only; rw [show bu1 (rN (xm_ (H, F, ms, m))) B fs.1 121 0 (rH (xm_ (H, F, ms, m))) = _ from eb]
        refine ⟨0, M8, ?_, ?_, i4, ?_⟩
        · rw [g1, mB_k, if_neg (by decide), j1, mB_k, if_neg (by decide), l1, mB_k, if_pos (by decide)]; exact i1
        · rw [ev]; exact i2
        · rw [ev]; exact i3
      | inr hs =>
        rw [eb] at G3
        obtain ⟨M7, l1, l2, l3, l4, l5, l6⟩ := G3
        let z := bu2 (rN (xm_ x)) B fs.1 121 0 (bz0 x B)
        let M8 := msI M7 0 0 0
        have c8 : ChM M7 M8 (fun k j => k = 0 ∧ j = 0) := (ChM.r M7 _).st ⟨rfl, rfl⟩
        have hP8 : P2 M8 a (rN (xm_ x)) fs.1 z := l2.mv c8 (fun k j h => by omega)
        have mh8 : MHd M8 a hs := ⟨by rw [c8.2 _ _ (by omega)]; exact l3.1, fun i h hi => by rw [c8.2 _ _ (by omega), c8.2 _ _ (by omega), c8.2 _ _ (by omega), c8.2 _ _ (by omega)]; exact l3.2 i h hi⟩
        have o28 : ∀ j, mI M8 28 j = mI M 28 j := fun j => by
          rw [c8.2 _ _ (by omega), l6.2 _ _ (by unfold KBu KC2 KCt KHd Kb2; omega), j6.2 _ _ (by unfold KFl; omega), g3.2 _ _ (by unfold K22; omega), o _ _ (by omega)]
        have fr8 : FrM M8 a (fun _ => false) := fun k hk => by
          rw [o28, k6 k hk, (k7 hv k hk).2.2]
        have dp8 : ∀ h ∈ hs, dP h < 120 := fun h hh => by
          obtain ⟨g, q1, q2, _⟩ := bu1_P _ _ _ _ eb h hh
          rw [q2]; exact dpo g q1
        obtain ⟨M9, t1, t2, t3⟩ := m_findFrames (CdZ.mk (T := fs.1) fB hB hN') hP8 mh8 (by omega) dp8 fr8
        have hP9 : P2 M9 a (rN (xm_ x)) fs.1 z := hP8.mv t3 (fun k j h => by unfold K28 at h; omega)
        have ev : vfE (H, F, ms, m) = .inr (hs, z, fs.1) := by
          unfold vfE; rw [show form (H, F, ms, m) = .inr B from ef]; dsimp only; rw [show flw (H, F, ms, m) NFl (fsA (H, F, ms, m)) = _ from hr]; dsimp only; rw [show bu1 (rN (xm_ (H, F, ms, m))) B fs.1 121 0 (rH (xm_ (H, F, ms, m))) = _ from eb]
        have c79 : ChM M7 M9 (KVa a) := (c8.mono (fun k j h => by unfold KVa; omega)).tr (t3.mono (fun k j h => by unfold K28 at h; unfold KVa; omega))
        have c9 : ChM M M9 (KVa a) := (c4.tr (c6.mono up)).tr ((l6.mono (fun k j h => by unfold KBu KC2 KCt KHd Kb2 at h; unfold KVa; omega)).tr c79)
        have oL : ∀ k j, (k = 6 ∨ k = 7 ∨ k = 8 ∨ k = 12 ∨ (18 ≤ k ∧ k ≤ 20)) → mI M9 k j = mI M4 k j := fun k j hk => by
          rw [t3.2 _ _ (by unfold K28; omega), c8.2 _ _ (by omega), l6.2 _ _ (by unfold KBu KC2 KCt KHd Kb2; omega), j6.2 _ _ (by unfold KFl; omega), g3.2 _ _ (by unfold K22; omega)]
        have oS : ∀ k j, (k = 23 ∨ k = 24 ∨ k = 25) → mI M9 k j = mI M6 k j := fun k j hk => by
          rw [t3.2 _ _ (by unfold K28; omega), c8.2 _ _ (by omega), l6.2 _ _ (by unfold KBu KC2 KCt KHd Kb2; omega)]
        obtain ⟨⟨_, _, z3, z4⟩, p3, p4, p5, p6, _⟩ := id hP9
        obtain ⟨a1, a2, a3, a4, a5, a6, a7⟩ := msg a m k1
        refine ⟨(cnF (frX (rN (xm_ x)) z hs) (rN (xm_ x)) : Int), M9, ?_, ?_, c9, ?_⟩
        · rw [g1, mB_k, if_neg (by decide), j1, mB_k, if_neg (by decide), l1, mB_k, if_neg (by decide)]
          unfold f_X6_verify_b99
          rw [if_neg (by decide), rd_k, show f_X6_findFrames (msI M7 0 0 0) = _ from t1, mB_k]
        · rw [ev]
          refine R.set lim hm c9 ⟨so.1, so.2.1, so.2.2.1, so.2.2.2.1, z3, so.2.2.2.2.2.1, z4⟩ ⟨⟨by rw [oL _ _ (by omega)]; exact a1, fun k t ht => by rw [oL _ _ (by omega)]; exact a2 k t ht, by rw [oL _ _ (by omega)]; exact a3, p4, p5, by rw [oL _ _ (by omega)]; exact a6, fun p hp => (p6 p hp).1⟩, ⟨by rw [t3.2 _ _ (by unfold K28; omega)]; exact mh8.1, fun i h hi => by rw [t3.2 _ _ (by unfold K28; omega), t3.2 _ _ (by unfold K28; omega), t3.2 _ _ (by unfold K28; omega), t3.2 _ _ (by unfold K28; omega)]; exact mh8.2 i h hi⟩, ?_, ?_, ?_, t2, fun h => ?_, fun _ => ⟨fun k hk => (p6 k hk).2, fun p hp => ?_⟩⟩
          · rw [oL _ _ (by omega)]; exact v18
          · rw [oL _ _ (by omega), o _ _ (by omega), k4, hf0.1]; rfl
          · rw [oL _ _ (by omega), o _ _ (by omega), k5, hf0.2]; rfl
          · cases h
          · have := (j2 p hp).1
            show match fs.1 p with
              | none => mI M9 23 (120 * a + p) = -1
              | some s => StM M9 (rL m) (120 * a + p) s
            cases eT : fs.1 p with
            | none => rw [eT] at this; dsimp only at this ⊢; rw [oS _ _ (by omega)]; exact this
            | some s =>
              rw [eT] at this
              obtain ⟨u1, u2, u3⟩ := this
              exact ⟨by rw [oS _ _ (by omega)]; exact u1, fun k hk => by rw [oS _ _ (by omega)]; exact u2 k hk, fun k hk => by rw [oS _ _ (by omega)]; exact u3 k hk⟩
        · rw [ev]
          refine ⟨?_, rfl⟩
          rw [t3.2 _ _ (by unfold K28; omega)]; exact mI_s rfl
