/-! LAYER C: the component's flow -/
/-- at the top of the loop: the least place that waits stands in the cell, and waits no more -/
def NxC (C : CW) (w : Nat → Bool) : Prop := match lw w with
  | none => cI C 204 8 = -1
  | some p => cI C 204 8 = (p : Int) ∧ WtC C (up1 w p false)
/-- the heap stands as it stood -/
def HpE (C C' : CW) : Prop := hK C' = hK C ∧ hL C' = hL C ∧ hI C' = hI C ∧ hJ C' = hJ C ∧ hR C' = hR C ∧ hB C' = hB C ∧ hZ C' = hZ C ∧ hS C' = hS C ∧ hE C' = hE C ∧ cR C' = cR C
theorem HpE.r (C : CW) : HpE C C := ⟨rfl, rfl, rfl, rfl, rfl, rfl, rfl, rfl, rfl, rfl⟩
theorem StA.hp {C C' : CW} {q : Nat} {s : TS} (h : StA C q s) (k : HpE C C') : StA C' q s := by
  obtain ⟨k1, k2, k3, k4, k5, k6, k7, k8, k9⟩ := k
  unfold StA StSh at h ⊢
  rw [k1, k2, k3, k5]; exact h
theorem CFS.hp {C0 C C' : CW} {x : VC} {sa : Nat} {fs : FS} (h : CFS C0 C x sa fs) (k : HpE C C') : CFS C0 C' x sa fs := by
  have k' := k
  obtain ⟨k1, k2, k3, k4, k5, k6, k7, k8, k9⟩ := k
  refine ⟨fun p hp => ?_, ?_⟩
  · have := h.1 p hp
    cases e : fs.1 p with
    | none => rw [e] at this; dsimp only at this ⊢; rw [k5]; exact this
    | some s =>
      rw [e] at this
      dsimp only at this ⊢
      obtain ⟨q, a1, a2, a3, a4⟩ := this
      exact ⟨q, by rw [k5]; exact a1, a2, by rw [k6, k7]; exact a3, a4.hp k'⟩
  · rw [k5]; exact h.2
theorem Rm.hp {C C' : CW} {z0 s0 : Nat} {fs : FS} (h : Rm C z0 s0 fs) (k : HpE C C') : Rm C' z0 s0 fs := by
  obtain ⟨k1, k2, k3, k4, k5, k6, k7, k8, k9⟩ := k
  unfold Rm at h ⊢
  rw [k7, k8]; exact h
theorem c_nx {C : CW} {w : Nat → Bool} (hw : ∀ k, 120 ≤ k → w k = false) (h : WtC C w) (κ : CW → Option ((Nat ⊕ Unit) × CW)) : ∃ C', (cB (f_X3_next C) fun v27 C26 => rd (csI C26 204 8 v27) fun C28 => κ C28) = κ C' ∧ NxC C' w ∧ HpE C C' ∧ ∀ A R, ChC C C' KF A R := by
  have G := c_next hw h
  unfold NxC
  cases e : lw w with
  | none =>
    rw [e] at G
    dsimp only at G ⊢
    rw [G, cB_k, rd_k]
    exact ⟨_, rfl, cI_scsI rfl, HpE.r _, fun A R => (ChC.r C KF A R).csI (Or.inl ⟨rfl, rfl⟩)⟩
  | some p =>
    rw [e] at G
    dsimp only at G ⊢
    obtain ⟨i, v, g1, g2⟩ := G
    rw [g1, cB_k, rd_k]
    refine ⟨_, rfl, ⟨cI_scsI rfl, fun a b ha hb => ?_⟩, HpE.r _, fun A R => ((ChC.r C KF A R).csJ (Or.inr rfl)).csI (Or.inl ⟨rfl, rfl⟩)⟩
    exact g2 a b ha hb
theorem c_flw {C0 : CW} {x : VC} {qf qs qh : List Nat} {qm sa hl z0 s0 : Nat} {B : Nat → Bool} {M : MW} {a : Nat} (cx : FlC M x a) (hc : FC0 C0 x qf qs qm sa hl qh) (hB : FormP x B) : ∀ (m n : Nat) (fs : FS) (C : CW) (r : (Nat × Nat) ⊕ FS), flw x m fs = some r → m ≤ n → ChC C0 C KF (AF C0) (RF C0 sa) → FsI x fs → FsB B fs → CFS C0 C x sa fs → NxC C fs.2 → Rm C z0 s0 fs →
    match r with
    | .inr fs' => ∃ C', f_X3_run_b129 n C = some (.inr (), C') ∧ ChC C C' KF (AF C0) (RF C0 sa) ∧ CFS C0 C' x sa fs' ∧ Rm C' z0 s0 fs'
    | .inl e => ∃ q1 C', f_X3_run_b129 n C = some (.inl q1, C') ∧ FlX C0 C C' sa q1 e.1 e.2 ∧ hZ C' ≤ z0 + 361 ∧ hS C' ≤ s0 + 3400 := by
  intro m
  induction m with
  | zero => intro n fs C r h; cases h
  | succ m ih =>
    intro n fs C r h hn hk hf hb hm hw rm
    obtain ⟨n, rfl⟩ : ∃ k, n = k + 1 := ⟨n - 1, by omega⟩
    rw [show f_X3_run_b129 (n + 1) C = f_X3_run_s129 (f_X3_run_b129 n) C from rfl]
    unfold f_X3_run_s129
    rw [flw_s] at h
    unfold NxC at hw
    cases e : lw fs.2 with
    | none =>
      rw [e] at h hw
      dsimp only at hw
      cases h
      refine ⟨C, ?_, ChC.r _ _ _ _, hm, rm⟩
      rw [rd_k, hw, if_pos rfl]
    | some p =>
      rw [e] at h hw
      obtain ⟨h1, h2, h3⟩ := lw_some.mp e
      obtain ⟨s, hs⟩ := hf.2 p h2
      dsimp only at h hw
      rw [hs] at h
      dsimp only at h
      obtain ⟨hp8, hw⟩ := hw
      rw [rd_k, hp8, w32_n p (by omega), show w32 (-1) = -1 by decide, if_neg (by omega)]
      have hco := (hB.2 p (hb p s hs)).2.1
      have G := c_look (s := s) (fs := (fs.1, up1 fs.2 p false)) cx.1 hc hB hk hp8 hco hs (unw_i hf).1 hb hm hw rm
      cases e2 : lk x p s (fs.1, up1 fs.2 p false) with
      | inl er =>
        rw [e2] at h G
        cases h
        obtain ⟨q1, C', g1, g2⟩ := G
        exact ⟨q1, C', by rw [g1, xB_l], g2⟩
      | inr fs' =>
        rw [e2] at h G
        dsimp only at h G
        obtain ⟨C1, g1, g2, g3, g4, g5⟩ := G
        have i := lk_i cx hB (fs := (fs.1, up1 fs.2 p false)) hs (unw_i hf) hb e2
        obtain ⟨C2, e3, n1, n3, n2⟩ := c_nx (C := C1) (w := fs'.2) (fun k hk => by
          cases ew : fs'.2 k with
          | false => rfl
          | true =>
            obtain ⟨s', hs'⟩ := i.1.2 k ew
            have := (i.1.1 k s' hs').1
            omega) g4 (f_X3_run_b129 n)
        have c12 := g2.tr (n2 (AF C0) (RF C0 sa))
        have R := ih n fs' C2 r h (by omega) (hk.tr c12) i.1 i.2.1 (g3.hp n3) n1 (g5.hp n3)
        rw [g1, xB_r, e3]
        cases r with
        | inr fs2 =>
          obtain ⟨C3, r1, r2, r3⟩ := R
          exact ⟨C3, r1, c12.tr r2, r3⟩
        | inl er =>
          obtain ⟨q1, C3, r1, ⟨r2, r3, r4, r5⟩, r6⟩ := R
          exact ⟨q1, C3, r1, ⟨r2, r3, r4, c12.tr r5⟩, r6⟩
