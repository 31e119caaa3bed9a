/-! LAYER C: the model's look and its flow -/
theorem szo_le (op : Nat) : szo op ≤ 3 := by
  unfold szo
  repeat' split
  all_goals omega
theorem isSt_all : ∀ op : Fin 256, 0 < szo op.val → decide ((54 : Int) ≤ (op.val : Nat) ∧ ((op.val : Nat) : Int) ≤ 58) = isSt op.val := by decide +kernel
theorem opi_lt {x : VC} {p : Nat} (h : ∀ k, rC (xm_ x) k < 256) : opi (rC (xm_ x)) p < 256 := by
  unfold opi
  split
  · omega
  · exact h _
/-- what the form says of the code: each instruction that may be reached -/
def CdO (x : VC) (p : Nat) : Prop := OpOk x p (rC (xm_ x) p) (opi (rC (xm_ x)) p) ∧ (isBr (rC (xm_ x) p) = true → 0 ≤ tgt (rC (xm_ x)) p ∧ tgt (rC (xm_ x)) p < rN (xm_ x))
theorem SimM.sok {M0 M : MW} {x : VC} {s : TS} (h : SimM M0 M x s) (z : NZ s) : SOk x s := ⟨h.2.2.2.2.2.1, h.2.2.2.2.2.2.1, h.2.2.2.2.2.2.2, z⟩
theorem m_b195f {M : MW} {p op nx : Int} {b : Nat} (hb : 0 < b ∧ b < 11) (h : mI M 0 35 = (b : Int)) : f_X6_look_b195 p op nx M = some (0, msI (msI M 0 35 b) 0 36 p) := by
  unfold f_X6_look_b195
  rw [rd_k, h, w32_n b (by omega), if_neg (by omega), rd_k, m_faulty, mB_k, isZ_0, gd_t]
theorem m_look {M : MW} {x : VC} {a p : Nat} {s : TS} {fs : FS} (cx : FlC M x a) (hco : CdO x p) (hs : fs.1 p = some s) (hf : FOk x fs) (hm : MFS M (rL (xm_ x)) a fs) (h35 : mI M 0 35 = 0) :
    match lk x p s fs with
    | .inr fs' => ∃ M', f_X6_look (p : Int) M = some (1, M') ∧ MFS M' (rL (xm_ x)) a fs' ∧ mI M' 0 35 = 0 ∧ ChM M M' (KFl a)
    | .inl e => ∃ M', f_X6_look (p : Int) M = some (0, M') ∧ FltM M M' a e := by
  obtain ⟨hpo, htg⟩ := hco
  obtain ⟨cS, cH⟩ := cx
  have cx : FlC M x a := ⟨cS, cH⟩
  have ha := cS.2.2.2.1
  have hL := cS.rL
  have hS := cS.rS
  have hN : rN (xm_ x) ≤ 120 := cS.xz
  have oplt : rC (xm_ x) p < 256 := cS.so.1.2.2.2.2.2.2 p
  obtain ⟨hp120, sok⟩ := hf p s hs
  have slen : s.2.length ≤ 12 := by have := wds_len s.2; have := sok.2.1; omega
  have hsz0 := hpo.1
  have hsz3 := szo_le (rC (xm_ x) p)
  have hpN : p + szo (rC (xm_ x) p) ≤ rN (xm_ x) := hpo.2.1
  have hmp := (hm p hp120).1
  rw [hs] at hmp
  obtain ⟨k1, k2, k3⟩ := hmp
  unfold f_X6_look
  have iz : 12 * ((120 * (a : Int)) + (p : Int)) = ((12 * (120 * a + p) : Nat) : Int) := by omega
  rw [rd_k, cS.2.2.2.2.1, rd_k, iz, rd_k, rd_k, mI_o (by omega), cS.2.2.2.2.1, ax_k (by omega), show ((120 * (a : Int)) + (p : Int)).toNat = 120 * a + p by omega, rd_k, mI_o (by omega), k1, rd_k]
  have c1 : ChM M (msI (msI M 0 34 (p : Int)) 0 40 (s.2.length : Int)) (KFl a) := ((ChM.r M _).st (by unfold KFl; omega)).st (by unfold KFl; omega)
  have cS1 := (cx.mv c1).1
  obtain ⟨M3, e3, g1, g2⟩ := m_lk38 (x := x) (a := a) (p := p) (z := 120 * a + p) (s := s) (by omega) FU 0 _ cS1 (fun j hj => by rw [mI_o (by omega), mI_o (by omega)]; exact k2 j hj) (by omega) (by rw [FU_v]; omega) (fun j hj => by omega)
  have e3' : f_X6_look_b38 FU (p : Int) ((12 * (120 * a + p) : Nat) : Int) 0 (msI (msI M 0 34 (p : Int)) 0 40 (s.2.length : Int)) = _ := e3
  have c3 : ChM M M3 (KFl a) := c1.tr (g2.mono (fun q j h => by unfold KFl; omega))
  obtain ⟨M4, e4, g3, g4⟩ := m_lk87 (x := x) (a := a) (p := p) (z := 120 * a + p) (s := s) (by omega) slen FU 0 M3 (by rw [g2.2 _ _ (by omega), mI_s rfl]) (fun j hj => by rw [g2.2 _ _ (by omega), mI_o (by omega), mI_o (by omega)]; exact k3 j hj) (by omega) (by rw [FU_v]; omega) (fun j hj => by omega)
  have e4' : f_X6_look_b87 FU (p : Int) ((12 * (120 * a + p) : Nat) : Int) 0 M3 = _ := e4
  have c4 : ChM M M4 (KFl a) := c3.tr (g4.mono (fun q j h => by unfold KFl; omega))
  have cx4 := cx.mv c4
  have cS4 := cx4.1
  rw [e3', e4']
  have un : f_X6_look_b87 1 (p : Int) ((12 * (120 * a + p) : Nat) : Int) (s.2.length : Int) M4 = f_X6_look_s87 (f_X6_look_b87 0) (p : Int) ((12 * (120 * a + p) : Nat) : Int) (s.2.length : Int) M4 := rfl
  rw [un]
  unfold f_X6_look_s87
  have h40 : mI M4 0 40 = (s.2.length : Int) := by rw [g4.2 _ _ (by omega), g2.2 _ _ (by omega), mI_s rfl]
  have h34 : mI M4 0 34 = (p : Int) := by rw [g4.2 _ _ (by omega), g2.2 _ _ (by omega), mI_o (by omega), mI_s rfl]
  have h35' : mI M4 0 35 = 0 := by rw [g4.2 _ _ (by omega), g2.2 _ _ (by omega), mI_o (by omega), mI_o (by omega)]; exact h35
  rw [rd_k, h40, if_pos (Int.le_refl _), rd_k, cS4.2.2.2.2.1, m_at cS4 hp120 rfl, mB_k, m_length oplt, mB_k, rd_k, m_length oplt, mB_k, w32_n _ (by omega), show w32 1 = 1 by decide, rd_k, cS4.2.2.2.2.1]
  -- the instruction's second byte
  have e158 : (if (szo (rC (xm_ x) p) : Int) ≤ 1 then f_X6_look_b158 (p : Int) (rC (xm_ x) p : Int) ((p : Int) + (szo (rC (xm_ x) p) : Int)) (rC (xm_ x) p : Int) 0 M4 else mB (f_X6_at (a : Int) ((p : Int) + 1) M4) fun v18 M17 => f_X6_look_b158 (p : Int) (rC (xm_ x) p : Int) ((p : Int) + (szo (rC (xm_ x) p) : Int)) (rC (xm_ x) p : Int) v18 M17) = f_X6_look_b158 (p : Int) (rC (xm_ x) p : Int) ((p : Int) + (szo (rC (xm_ x) p) : Int)) (rC (xm_ x) p : Int) (opi (rC (xm_ x)) p : Int) M4 := by
    unfold opi
    by_cases o1 : szo (rC (xm_ x) p) = 1
    · rw [if_pos (by omega), if_pos o1]; rfl
    · rw [if_neg (by omega), if_neg o1, m_at cS4 (k := p + 1) (by omega) (by omega), mB_k]
  rw [e158]
  unfold f_X6_look_b158
  have sim : SimM M4 M4 x s := ⟨FrS.rfl' M4, fun k hk => by rw [g4.2 _ _ (by omega)]; exact (g1 k hk).1, g3, h40, h35', sok.1, sok.2.1, sok.2.2.1⟩
  obtain ⟨M5, e5, se⟩ := m_simulate cS4 h34 hpo sim
  rw [e5, mB_k, rd_k]
  have nz := sStep_nz (x := x) (p := p) (op := rC (xm_ x) p) (i := opi (rC (xm_ x)) p) cS.2.1.2 (fun i m hm => (cS.2.2.1.2.2 i m hm).1) (fun h => hpo.2.2.2.2.2.2.2.1 h) sok.2.2.2
  have frK : ∀ M6, FrS M4 M6 → ChM M M6 (KFl a) := fun M6 f => c4.tr ⟨f.1, fun q j h => by
    by_cases q0 : q = 0
    · subst q0
      exact f.2.2 j (by unfold KFl at h; omega) (by unfold KFl at h; omega)
    · exact f.2.1 q j q0 (by unfold KFl at h; omega) (by unfold KFl at h; omega)⟩
  unfold lk
  cases hst : sStep x p (rC (xm_ x) p) (opi (rC (xm_ x)) p) s with
  | inl b =>
    rw [hst] at se
    dsimp only
    rw [if_neg (BadM.b se), m_b195f ⟨se.2.2.2.1, se.2.2.2.2⟩ se.2.2.1]
    exact ⟨_, rfl, by rw [mI_o (by omega), mI_s rfl], mI_s rfl, ((frK M5 se.1).st (by unfold KFl; omega)).st (by unfold KFl; omega)⟩
  | inr s' =>
    rw [hst] at se
    have sok' : SOk x s' := SimM.sok se (nz s' hst)
    have c5 := frK M5 se.1
    have cx5 := cx.mv c5
    have cS5 := cx5.1
    dsimp only
    rw [if_pos (SimM.z se), m_stops oplt, mB_k, ite_b, rd_k, cS5.2.2.2.2.1, ax_k (by omega), Int.toNat_natCast, rd_k, cS5.so.2.2.2.2.1, w32_i (by omega), w32_n _ (by omega)]
    by_cases f8 : isLa (rC (xm_ x) p) = false ∧ rN (xm_ x) ≤ p + szo (rC (xm_ x) p)
    · rw [if_pos f8, if_neg (by rw [f8.1]; decide), if_pos (show (p : Int) + (szo (rC (xm_ x) p) : Int) = (rN (xm_ x) : Int) by omega)]
      obtain ⟨M6, e6, b6⟩ := m_miss (r := .inr s') (x := x) se hS 8 (by omega)
      have e6' : f_X6_miss 8 M5 = some ((), M6) := e6
      rw [e6', mB_k, m_b195f ⟨b6.2.2.2.1, b6.2.2.2.2⟩ b6.2.2.1]
      exact ⟨_, rfl, by rw [mI_o (by omega), mI_s rfl]; rfl, mI_s rfl, ((frK M6 b6.1).st (by unfold KFl; omega)).st (by unfold KFl; omega)⟩
    · have hla : isLa (rC (xm_ x) p) = false → p + szo (rC (xm_ x) p) < rN (xm_ x) := fun h => by
        apply Classical.byContradiction
        intro hc
        exact f8 ⟨h, by omega⟩
      rw [if_neg f8]
      have e195 : (if isLa (rC (xm_ x) p) = true then f_X6_look_b195 (p : Int) (rC (xm_ x) p : Int) ((p : Int) + (szo (rC (xm_ x) p) : Int)) M5 else if (p : Int) + (szo (rC (xm_ x) p) : Int) = (rN (xm_ x) : Int) then mB (f_X6_miss 8 M5) fun _ M27 => f_X6_look_b195 (p : Int) (rC (xm_ x) p : Int) ((p : Int) + (szo (rC (xm_ x) p) : Int)) M27 else f_X6_look_b195 (p : Int) (rC (xm_ x) p : Int) ((p : Int) + (szo (rC (xm_ x) p) : Int)) M5) = f_X6_look_b195 (p : Int) (rC (xm_ x) p : Int) ((p : Int) + (szo (rC (xm_ x) p) : Int)) M5 := by
        cases hl : isLa (rC (xm_ x) p) with
        | true => rw [if_pos rfl]
        | false =>
          have := hla hl
          rw [if_neg (by decide), if_neg (by omega)]
      rw [e195]
      unfold f_X6_look_b195
      rw [rd_k, se.2.2.2.2.1, if_pos (by decide), m_in (by omega), mB_k, isSt_all ⟨_, oplt⟩ hsz0, rd_k, cS5.2.2.2.2.1, rd_k]
      have i16 : (16 * (a : Int)) = ((16 * a + 0 : Nat) : Int) := by omega
      have en : ((p + szo (rC (xm_ x) p) : Nat) : Int) = (p : Int) + (szo (rC (xm_ x) p) : Int) := by omega
      have mm5 : MFS M5 (rL (xm_ x)) a fs := hm.ch hL ha (hf.len hS) (fun k j hk => by
        rw [se.1.2.1 k j (by omega) (by omega) (by omega), g4.2 k j (by omega), g2.2 k j (by omega), mI_o (by omega), mI_o (by omega)])
      have G := m_lkH (x := x) (a := a) (p := p) (op := rC (xm_ x) p) (nx := p + szo (rC (xm_ x) p)) (s := s) (s' := s') (st := isSt (rC (xm_ x) p)) sok sok' hp120 (rH (xm_ x)) 0 FU M5 fs rfl (by omega) (by rw [FU_v]; have := cH.2.1; omega) cx5 (by rw [se.1.2.2 _ (by omega) (by omega)]; exact h34) se.2.1 (fun j hj => by rw [se.1.2.1 _ _ (by omega) (by omega) (by omega), g4.2 _ _ (by omega)]; exact (g1 j hj).2) hf mm5
      rw [← i16, en] at G
      cases hh : gvH x p s s' (isSt (rC (xm_ x) p)) (rH (xm_ x)) fs with
      | inl e =>
        rw [hh] at G
        obtain ⟨M', j1, j2, j3, j4⟩ := G
        rw [sB_l]
        exact ⟨M', j1, j2, j3, c5.tr j4⟩
      | inr fs1 =>
        rw [hh] at G
        obtain ⟨M6, j1, j2, j3⟩ := G
        have hf1 := gvH_ok cS.n16 cS.1.1 sok sok' (rH (xm_ x)) fs fs1 cH.2.2 hf hh
        have G2 := m_lkEnd (s := s') (cx5.mv (j3.mono (fun k j h => h.fl))) hpN hla htg (fun j hj => by rw [j3.2 _ _ (by unfold KHn; omega)]; exact se.2.1 j hj) (fun j hj => by rw [j3.2 _ _ (by unfold KHn; omega)]; exact se.2.2.1 j hj) (by rw [j3.2 _ _ (by unfold KHn; omega)]; exact se.2.2.2.1) sok' hf1 j2
        rw [sB_i]
        generalize sB (if isLa (rC (xm_ x) p) = true then .inr fs1 else gv x (p + szo (rC (xm_ x) p)) s' fs1) (fun fs => if isBr (rC (xm_ x) p) = true then gv x (tgt (rC (xm_ x)) p).toNat s' fs else .inr fs) = r at G2 ⊢
        cases r with
        | inr fs' =>
          obtain ⟨M', i1, i2, i3⟩ := G2
          refine ⟨M', j1.trans i1, i2, ?_, (c5.tr (j3.mono (fun k j h => h.fl))).tr (i3.mono (fun k j h => h.fl))⟩
          rw [i3.2 _ _ (by unfold KHn; omega), j3.2 _ _ (by unfold KHn; omega)]
          exact se.2.2.2.2.1
        | inl e =>
          obtain ⟨M', i1, i2, i3, i4⟩ := G2
          exact ⟨M', j1.trans i1, i2, i3, (c5.tr (j3.mono (fun k j h => h.fl))).tr i4⟩
