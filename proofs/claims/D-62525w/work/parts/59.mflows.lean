/-! LAYER C: the flow in the model -/
/-- a world in which s stands to be tried -/
def simW (M : MW) (p : Nat) (s : TS) : MW := (fun k j => if k = 29 then (s.1 j : Int) else if k = 31 then (nth s.2 j : Int) else if k = 0 ∧ j = 40 then (s.2.length : Int) else if k = 0 ∧ j = 35 then 0 else if k = 0 ∧ j = 34 then (p : Int) else mI M k j, mJ M)
theorem simW_o {M : MW} {p k j : Nat} {s : TS} (h : k ≠ 29 ∧ k ≠ 31 ∧ (k = 0 → j ≠ 40 ∧ j ≠ 35 ∧ j ≠ 34)) : mI (simW M p s) k j = mI M k j := by
  show (if k = 29 then _ else _) = _
  rw [if_neg h.1, if_neg h.2.1, if_neg (fun e => (h.2.2 e.1).1 e.2), if_neg (fun e => (h.2.2 e.1).2.1 e.2), if_neg (fun e => (h.2.2 e.1).2.2 e.2)]
theorem sStep_ok {M : MW} {x : VC} {a p op i : Nat} {s s' : TS} (cS : SMx M x a) (ho : OpOk x p op i) (hs : SOk x s) (h : sStep x p op i s = .inr s') : SOk x s' := by
  have cS2 : SMx (simW M p s) x a := cS.ch (fun k j h1 h2 => simW_o ⟨by omega, by omega, fun e => absurd e h2⟩) (fun j hj => simW_o ⟨by omega, by omega, fun _ => by omega⟩)
  have sim : SimM (simW M p s) (simW M p s) x s := ⟨FrS.rfl' _, fun k _ => rfl, fun k _ => rfl, rfl, rfl, hs.1, hs.2.1, hs.2.2.1⟩
  obtain ⟨M5, e5, se⟩ := m_simulate cS2 rfl ho sim
  rw [h] at se
  exact SimM.sok se (sStep_nz (x := x) cS.2.1.2 (fun i m hm => (cS.2.2.1.2.2 i m hm).1) (fun h => ho.2.2.2.2.2.2.2.1 h) hs.2.2.2 s' h)
/-- the form of the code, by its beginnings -/
def FormP (x : VC) (B : Nat → Bool) : Prop := B 0 = true ∧ ∀ p, B p = true → p < rN (xm_ x) ∧ CdO x p ∧ (isLa (rC (xm_ x) p) = false → p + szo (rC (xm_ x) p) < rN (xm_ x) → B (p + szo (rC (xm_ x) p)) = true) ∧ (isBr (rC (xm_ x) p) = true → B (tgt (rC (xm_ x)) p).toNat = true) ∧ ∀ h ∈ rH (xm_ x), B (dP h) = true
def FsB (B : Nat → Bool) (fs : FS) : Prop := ∀ p s, fs.1 p = some s → B p = true
theorem gv_b {x : VC} {q : Nat} {s : TS} {B : Nat → Bool} {fs fs' : FS} (hq : B q = true) (hb : FsB B fs) (h : gv x q s fs = .inr fs') : FsB B fs' := by
  have key : ∀ g : TS, ∀ w : Bool, FsB B (up1 fs.1 q (some g), up1 fs.2 q w) := by
    intro g w p t hp
    dsimp only [up1] at hp
    by_cases e : p = q
    · rw [e]; exact hq
    · rw [if_neg e] at hp
      exact hb p t hp
  unfold gv at h
  cases e : fs.1 q with
  | none => rw [e] at h; cases h; exact key s true
  | some g =>
    rw [e] at h
    dsimp only at h
    by_cases hl : g.2.length = s.2.length
    · rw [if_pos hl] at h
      by_cases h0 : 0 ∈ (mrgS (xH_ x) g s).2
      · rw [if_pos h0] at h; cases h
      · rw [if_neg h0] at h; cases h; exact key _ _
    · rw [if_neg hl] at h; cases h
theorem gvH_b {x : VC} {p : Nat} {s s' : TS} {st : Bool} {B : Nat → Bool} : ∀ (hs2 : List HD) (fs fs' : FS), (∀ h ∈ hs2, B (dP h) = true) → FsB B fs → gvH x p s s' st hs2 fs = .inr fs' → FsB B fs'
  | [], fs, fs', _, hf, e => by cases e; exact hf
  | h :: hs2, fs, fs', ho, hf, e => by
    have hh := ho h (List.mem_cons_self ..)
    have ht : ∀ h ∈ hs2, B (dP h) = true := fun g hg => ho g (List.mem_cons_of_mem _ hg)
    unfold gvH at e
    by_cases c : dF h ≤ p ∧ p < dT h
    · rw [if_pos c] at e
      by_cases r0 : 0 < rS (xm_ x)
      · rw [if_pos r0] at e
        cases e1 : gv x (dP h) (s.1, [32 + dK h]) fs with
        | inl b => rw [e1] at e; cases e
        | inr fs1 =>
          rw [e1, sB_i] at e
          cases st with
          | false => exact gvH_b hs2 fs1 fs' ht (gv_b hh hf e1) e
          | true =>
            rw [if_pos rfl] at e
            cases e2 : gv x (dP h) (s'.1, [32 + dK h]) fs1 with
            | inl b => rw [e2] at e; cases e
            | inr fs2 =>
              rw [e2, sB_i] at e
              exact gvH_b hs2 fs2 fs' ht (gv_b hh (gv_b hh hf e1) e2) e
      · rw [if_neg r0] at e; cases e
    · rw [if_neg c] at e
      exact gvH_b hs2 fs fs' ht hf e
theorem lk_i {M : MW} {x : VC} {a p : Nat} {s : TS} {B : Nat → Bool} {fs fs' : FS} (cx : FlC M x a) (hB : FormP x B) (hs : fs.1 p = some s) (hf : FsI x fs) (hb : FsB B fs) (h : lk x p s fs = .inr fs') : FsI x fs' ∧ FsB B fs' ∧ mu fs' ≤ mu fs := by
  obtain ⟨cS, cH⟩ := cx
  have hN : rN (xm_ x) ≤ 120 := cS.xz
  obtain ⟨hpN, ⟨hpo, htg⟩, hnx, hbt, hhd⟩ := hB.2 p (hb p s hs)
  have sok := (hf.1 p s hs).2
  unfold lk at h
  cases hst : sStep x p (rC (xm_ x) p) (opi (rC (xm_ x)) p) s with
  | inl b => rw [hst] at h; cases h
  | inr s' =>
    have sok' := sStep_ok cS hpo sok hst
    rw [hst] at h
    dsimp only at h
    by_cases f8 : isLa (rC (xm_ x) p) = false ∧ rN (xm_ x) ≤ p + szo (rC (xm_ x) p)
    · rw [if_pos f8] at h; cases h
    rw [if_neg f8] at h
    cases e1 : gvH x p s s' (isSt (rC (xm_ x) p)) (rH (xm_ x)) fs with
    | inl e => rw [e1] at h; cases h
    | inr fs1 =>
      rw [e1, sB_i] at h
      have i1 := gvH_i cS.n16 cS.1.1 cS.rS sok sok' (rH (xm_ x)) fs fs1 cH.2.2 hf e1
      have b1 := gvH_b (rH (xm_ x)) fs fs1 hhd hb e1
      have st : ∀ fs2, FsI x fs2 → FsB B fs2 → mu fs2 ≤ mu fs → (if isBr (rC (xm_ x) p) = true then gv x (tgt (rC (xm_ x)) p).toNat s' fs2 else .inr fs2) = .inr fs' → FsI x fs' ∧ FsB B fs' ∧ mu fs' ≤ mu fs := by
        intro fs2 i2 b2 m2 h2
        by_cases hb2 : isBr (rC (xm_ x) p) = true
        · rw [if_pos hb2] at h2
          have := htg hb2
          have hq : (tgt (rC (xm_ x)) p).toNat < 120 := by omega
          exact ⟨⟨gv_ok cS.1.1 hq sok' i2.1 h2, gv_w i2.2 h2⟩, gv_b (hbt hb2) b2 h2, by have := gv_mu cS.1.1 cS.rS hq sok' i2.1 h2; omega⟩
        · rw [if_neg hb2] at h2
          cases h2
          exact ⟨i2, b2, m2⟩
      cases hla : isLa (rC (xm_ x) p) with
      | true =>
        rw [hla, if_pos rfl, sB_i] at h
        exact st fs1 i1.1 b1 i1.2 h
      | false =>
        have hnl : p + szo (rC (xm_ x) p) < rN (xm_ x) := by
          apply Classical.byContradiction
          intro hc
          exact f8 ⟨hla, by omega⟩
        rw [hla, if_neg (by decide)] at h
        cases e2 : gv x (p + szo (rC (xm_ x) p)) s' fs1 with
        | inl e => rw [e2] at h; cases h
        | inr fs2 =>
          rw [e2, sB_i] at h
          have hq : p + szo (rC (xm_ x) p) < 120 := by omega
          have m2 := gv_mu cS.1.1 cS.rS hq sok' i1.1.1 e2
          have := i1.2
          exact st fs2 ⟨gv_ok cS.1.1 hq sok' i1.1.1 e2, gv_w i1.1.2 e2⟩ (gv_b (hnx hla hnl) b1 e2) (by omega) h
theorem lw_some {w : Nat → Bool} {q : Nat} : lw w = some q ↔ q < 120 ∧ w q = true ∧ ∀ j, j < q → w j = false := by
  unfold lw
  rw [List.find?_range_eq_some]
  constructor
  · rintro ⟨h1, h2, h3⟩
    exact ⟨List.mem_range.mp h2, h1, fun j hj => by have := h3 j hj; simpa using this⟩
  · rintro ⟨h1, h2, h3⟩
    exact ⟨h2, List.mem_range.mpr h1, fun j hj => by simpa using h3 j hj⟩
theorem lw_none {w : Nat → Bool} : lw w = none ↔ ∀ j, j < 120 → w j = false := by
  unfold lw
  rw [List.find?_range_eq_none]
  constructor
  · intro h j hj; simpa using h j hj
  · intro h j hj; simpa using h j hj
theorem unw_mu {fs : FS} {p : Nat} (hp : p < 120) (h : fs.2 p = true) : mu (fs.1, up1 fs.2 p false) < mu fs := by
  have : muW (fs.1, up1 fs.2 p false) < muW fs := sumU_lt 120 (fun k _ => by
    show wn (if k = p then false else fs.2 k) ≤ wn (fs.2 k)
    by_cases e : k = p
    · rw [if_pos e]; exact Nat.zero_le _
    · rw [if_neg e]; exact Nat.le_refl _) ⟨p, hp, by
    show wn (if p = p then false else fs.2 p) < wn (fs.2 p)
    rw [if_pos rfl, h]; decide⟩
  have : muT (fs.1, up1 fs.2 p false) = muT fs := rfl
  unfold mu
  omega
theorem unw_i {x : VC} {fs : FS} {p : Nat} (h : FsI x fs) : FsI x (fs.1, up1 fs.2 p false) := ⟨h.1, fun q hq => by
  dsimp only [up1] at hq ⊢
  by_cases e : q = p
  · rw [if_pos e] at hq; cases hq
  · rw [if_neg e] at hq
    exact h.2 q hq⟩
theorem flw_s {x : VC} {n : Nat} {fs : FS} : flw x (n + 1) fs = match lw fs.2 with
    | none => some (.inr fs)
    | some p => match fs.1 p with
      | none => none
      | some s => match lk x p s (fs.1, up1 fs.2 p false) with
        | .inl e => some (.inl e)
        | .inr fs' => flw x n fs' := rfl
theorem flw_some {M : MW} {x : VC} {a : Nat} {B : Nat → Bool} (cx : FlC M x a) (hB : FormP x B) : ∀ (n : Nat) (fs : FS), FsI x fs → FsB B fs → mu fs < n → ∃ r, flw x n fs = some r := by
  intro n
  induction n with
  | zero => intro fs _ _ h; omega
  | succ n ih =>
    intro fs hf hb h
    rw [flw_s]
    cases e : lw fs.2 with
    | none => exact ⟨_, rfl⟩
    | some p =>
      obtain ⟨h1, h2, h3⟩ := lw_some.mp e
      obtain ⟨s, hs⟩ := hf.2 p h2
      dsimp only
      rw [hs]
      dsimp only
      cases e2 : lk x p s (fs.1, up1 fs.2 p false) with
      | inl e => exact ⟨_, rfl⟩
      | inr fs' =>
        have := lk_i cx hB (fs := (fs.1, up1 fs.2 p false)) hs (unw_i hf) hb e2
        exact ih fs' this.1 this.2.1 (by have := unw_mu h1 h2; omega)
/-- the model's loop over what waits -/
theorem m_scan {M : MW} {rl a : Nat} {fs : FS} (hm : MFS M rl a fs) : ∀ (d p n : Nat), (∀ j, p ≤ j → j < p + d → fs.2 j = false) → p + d ≤ 120 → f_X6_flows_b130 (n + d) 1 (p : Int) M = f_X6_flows_b130 n 1 ((p + d : Nat) : Int) M := by
  intro d
  induction d with
  | zero => intro p n _ _; rfl
  | succ d ih =>
    intro p n h1 h2
    show f_X6_flows_s130 (f_X6_flows_b130 (n + d)) 1 (p : Int) M = _
    unfold f_X6_flows_s130
    rw [if_neg (by decide), w32_n p (by omega), show w32 120 = 120 by decide, if_neg (by omega), ax_k (by omega), Int.toNat_natCast, rd_k, (hm p (by omega)).2, h1 p (by omega) (by omega), if_pos (by decide)]
    have := ih (p + 1) n (fun j a b => h1 j (by omega) (by omega)) (by omega)
    have e : p + 1 + d = p + (d + 1) := by omega
    rw [e] at this
    exact this
theorem m_flw {x : VC} {a : Nat} {B : Nat → Bool} (hB : FormP x B) : ∀ (m n : Nat) (fs : FS) (M : MW) (r : (Nat × Nat) ⊕ FS), flw x m fs = some r → 121 * m ≤ n → FlC M x a → FsI x fs → FsB B fs → MFS M (rL (xm_ x)) a fs → mI M 0 35 = 0 →
    match r with
    | .inr fs' => ∃ M', f_X6_flows_b130 n 1 0 M = some (1, M') ∧ MFS M' (rL (xm_ x)) a fs' ∧ FsI x fs' ∧ FsB B fs' ∧ mI M' 0 35 = 0 ∧ ChM M M' (KFl a)
    | .inl e => ∃ M', f_X6_flows_b130 n 1 0 M = some (0, M') ∧ FltM M M' a e := by
  intro m
  induction m with
  | zero => intro n fs M r h; cases h
  | succ m ih =>
    intro n fs M r h hn cx hf hb hm h35
    have ha := cx.1.2.2.2.1
    have hL := cx.1.rL
    rw [flw_s] at h
    cases e : lw fs.2 with
    | none =>
      rw [e] at h
      cases h
      have sc := m_scan hm 120 0 (n - 120) (fun j _ hj => lw_none.mp e j (by omega)) (by omega)
      have en : n - 120 + 120 = n := by omega
      rw [en] at sc
      refine ⟨M, ?_, hm, hf, hb, h35, ChM.r _ _⟩
      refine sc.trans ?_
      obtain ⟨k, hk⟩ : ∃ k, n - 120 = k + 1 := ⟨n - 121, by omega⟩
      rw [hk]
      rfl
    | some p =>
      obtain ⟨h1, h2, h3⟩ := lw_some.mp e
      obtain ⟨s, hs⟩ := hf.2 p h2
      rw [e] at h
      dsimp only at h
      rw [hs] at h
      dsimp only at h
      have sc := m_scan hm p 0 (n - p) (fun j _ hj => h3 j (by omega)) (by omega)
      have en : n - p + p = n := by omega
      rw [en] at sc
      have e0 : 0 + p = p := by omega
      rw [e0] at sc
      have sc' : f_X6_flows_b130 n 1 0 M = f_X6_flows_b130 (n - p) 1 (p : Int) M := sc
      obtain ⟨k, hk⟩ : ∃ k, n - p = k + 1 := ⟨n - p - 1, by omega⟩
      rw [hk] at sc'
      have st : f_X6_flows_b130 (k + 1) 1 (p : Int) M = mB (f_X6_look (p : Int) (msI M 26 p 0)) fun v18 M17 => f_X6_flows_b130 k v18 0 M17 := by
        show f_X6_flows_s130 (f_X6_flows_b130 k) 1 (p : Int) M = _
        unfold f_X6_flows_s130
        rw [if_neg (by decide), w32_n p (by omega), show w32 120 = 120 by decide, if_neg (by omega), ax_k (by omega), Int.toNat_natCast, rd_k, (hm p h1).2, h2, if_neg (by decide), ax_k (by omega), Int.toNat_natCast, rd_k, iAnd_01]
      rw [st] at sc'
      have c1 : ChM M (msI M 26 p 0) (KFl a) := (ChM.r _ _).st (by unfold KFl; omega)
      have mm : MFS (msI M 26 p 0) (rL (xm_ x)) a (fs.1, up1 fs.2 p false) := by
        intro q hq
        have := hm q hq
        have t1 := this.1
        refine ⟨?_, ?_⟩
        · dsimp only
          cases eq : fs.1 q with
          | none => rw [eq] at t1; dsimp only at t1 ⊢; rw [mI_o (by omega)]; exact t1
          | some g =>
            rw [eq] at t1
            dsimp only at t1 ⊢
            obtain ⟨k1, k2, k3⟩ := t1
            exact ⟨by rw [mI_o (by omega)]; exact k1, fun k hk => by rw [mI_o (by omega)]; exact k2 k hk, fun k hk => by rw [mI_o (by omega)]; exact k3 k hk⟩
        · dsimp only [up1]
          by_cases eq : q = p
          · rw [if_pos eq, eq, mI_s rfl]; rfl
          · rw [if_neg eq, mI_o (by omega)]; exact this.2
      have hco := (hB.2 p (hb p s hs)).2.1
      have G := m_look (s := s) (fs := (fs.1, up1 fs.2 p false)) (cx.mv c1) hco hs (unw_i hf).1 mm (by rw [mI_o (by omega)]; exact h35)
      cases e2 : lk x p s (fs.1, up1 fs.2 p false) with
      | inl er =>
        rw [e2] at h G
        cases h
        obtain ⟨M', g1, g2, g3, g4⟩ := G
        refine ⟨M', ?_, g2, g3, c1.tr g4⟩
        rw [sc', g1, mB_k]
        obtain ⟨k2, rfl⟩ : ∃ k2, k = k2 + 1 := ⟨k - 1, by omega⟩
        rfl
      | inr fs' =>
        rw [e2] at h G
        dsimp only at h
        obtain ⟨M', g1, g2, g3, g4⟩ := G
        have i := lk_i cx hB (fs := (fs.1, up1 fs.2 p false)) hs (unw_i hf) hb e2
        have c2 := c1.tr g4
        have R := ih k fs' M' r h (by omega) (cx.mv c2) i.1 i.2.1 g2 g3
        rw [sc', g1, mB_k]
        cases r with
        | inr fs2 =>
          obtain ⟨M2, r1, r2, r3, r4, r5, r6⟩ := R
          exact ⟨M2, r1, r2, r3, r4, r5, c2.tr r6⟩
        | inl er =>
          obtain ⟨M2, r1, r2, r3, r4⟩ := R
          exact ⟨M2, r1, r2, r3, c2.tr r4⟩
