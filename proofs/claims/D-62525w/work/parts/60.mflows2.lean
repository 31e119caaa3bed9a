/-! LAYER C: the flow in the model, from its beginning -/
def NFl : Nat := 8000000
/-- the flow's first states -/
def fsA (x : VC) : FS := (up1 (fun _ => none) 0 (some (st0 x)), up1 (fun _ => false) 0 true)
theorem argL_o : ∀ (l : List Nat) (i : Nat) (L : Nat → Nat) (k : Nat), (k < i ∨ i + wds l ≤ k) → argL i l L k = L k
  | [], _, _, _, _ => rfl
  | t :: l, i, L, k, h => by
    have hw : wds (t :: l) = (if t = 2 then 2 else 1) + wds l := rfl
    rw [hw] at h
    show argL (i + (if t = 2 then 2 else 1)) l (up1 L i t) k = L k
    have hif : 1 ≤ (if t = 2 then 2 else 1) := by split <;> omega
    rw [argL_o l _ _ k (by omega)]
    show (if k = i then t else L k) = L k
    rw [if_neg (by omega)]
theorem argL_v {n sz : Nat} : ∀ (l : List Nat) (i : Nat) (L : Nat → Nat), (∀ t ∈ l, tyT n t = true) → (∀ k, tyV n sz (L k)) → ∀ k, tyV n sz (argL i l L k)
  | [], _, _, _, h => h
  | t :: l, i, L, ht, h => argL_v l _ _ (fun u hu => ht u (List.mem_cons_of_mem _ hu)) (fun k => by
    show tyV n sz (if k = i then t else L k)
    split
    · exact tyT_V (ht t (List.mem_cons_self ..))
    · exact h k)
theorem st0_ok {x : VC} (so : SgO (hn (xH_ x)) (xm_ x)) (hw : wds (rA (xm_ x)) ≤ rL (xm_ x)) : SOk x (st0 x) := by
  refine ⟨⟨argL_v _ _ _ so.2.1 (fun _ => Or.inl (by omega)), fun t ht => by cases ht⟩, Nat.zero_le _, fun k hk => ?_, fun t ht => by cases ht⟩
  exact argL_o _ _ _ k (Or.inr (by omega))
theorem fsA_i {x : VC} (so : SgO (hn (xH_ x)) (xm_ x)) (hw : wds (rA (xm_ x)) ≤ rL (xm_ x)) : FsI x (fsA x) := by
  refine ⟨fun p s hp => ?_, fun p hp => ?_⟩
  · dsimp only [fsA, up1] at hp
    by_cases e : p = 0
    · rw [if_pos e] at hp
      cases hp
      exact ⟨by omega, st0_ok so hw⟩
    · rw [if_neg e] at hp; cases hp
  · dsimp only [fsA, up1] at hp ⊢
    by_cases e : p = 0
    · rw [if_pos e]; exact ⟨_, rfl⟩
    · rw [if_neg e] at hp; cases hp
theorem fsA_b {x : VC} {B : Nat → Bool} (hB : B 0 = true) : FsB B (fsA x) := by
  intro p s hp
  dsimp only [fsA, up1] at hp
  by_cases e : p = 0
  · rw [e]; exact hB
  · rw [if_neg e] at hp; cases hp
theorem fs_mu {x : VC} {fs : FS} (hn16 : hn (xH_ x) ≤ 16) (hS : rS (xm_ x) ≤ 12) (hf : FOk x fs) : mu fs < NFl := by
  have h1 : muT fs ≤ 120 * 500 := sumU_b 120 (fun p _ => by
    show rk (fs.1 p) ≤ 500
    cases e : fs.1 p with
    | none => exact Nat.le_refl _
    | some s =>
      have := rkS_b hn16 hS (hf p s e).2
      show rkS s ≤ 500
      omega)
  have h2 := muW_b fs
  unfold mu NFl
  omega
theorem m_fl2 {x : VC} {a : Nat} : ∀ (n k : Nat) (M : MW), SMx M x a → k ≤ 120 → 120 < n + k → (∀ p, p < k → mI M 23 (120 * a + p) = -1 ∧ mI M 26 p = 0) → ∃ M', f_X6_flows_b2 n (k : Int) M = f_X6_flows_b43 FU 0 M' ∧ (∀ p, p < 120 → mI M' 23 (120 * a + p) = -1 ∧ mI M' 26 p = 0) ∧ mI M' 0 43 = 0 ∧ mI M' 0 35 = mI M 0 35 ∧ ChM M M' (KFl a) := by
  intro n
  induction n with
  | zero => intro k M _ h1 h2; omega
  | succ n ih =>
    intro k M cS h1 h2 h3
    have ha := cS.2.2.2.1
    show ∃ M', f_X6_flows_s2 (f_X6_flows_b2 n) _ M = _ ∧ _
    unfold f_X6_flows_s2
    rw [w32_n k (by omega), show w32 120 = 120 by decide]
    by_cases e : 120 ≤ k
    · rw [if_pos (by omega), rd_k]
      exact ⟨_, rfl, fun p hp => by rw [mI_o (by omega), mI_o (by omega)]; exact h3 p (by omega), mI_s rfl, mI_o (by omega), (ChM.r _ _).st (by unfold KFl; omega)⟩
    · rw [if_neg (by omega), rd_k, cS.2.2.2.2.1, ax_k (by omega), show (120 * (a : Int) + (k : Int)).toNat = 120 * a + k by omega, rd_k, ax_k (by omega), Int.toNat_natCast, rd_k, iAnd_01]
      have c1 : ChM M (msI (msI M 23 (120 * a + k) (-1)) 26 k 0) (KFl a) := ((ChM.r _ _).st (by unfold KFl; omega)).st (by unfold KFl; omega)
      obtain ⟨M', f1, f2, f3, f4, f5⟩ := ih (k + 1) _ (cS.ch (fun q j _ _ => c1.2 q j (by unfold KFl; omega)) (fun j _ => c1.2 0 j (by unfold KFl; omega))) (by omega) (by omega) (fun p hp => by
        by_cases ep : p = k
        · rw [ep, mI_o (by omega), mI_s rfl, mI_s rfl]; exact ⟨rfl, rfl⟩
        · rw [mI_o (by omega), mI_o (by omega), mI_o (by omega), mI_o (by omega)]; exact h3 p (by omega))
      exact ⟨M', f1, f2, f3, by rw [f4, mI_o (by omega), mI_o (by omega)], c1.tr f5⟩
theorem m_fl43 : ∀ (n k : Nat) (M : MW), k ≤ 12 → 12 < n + k → (∀ j, j < k → mI M 32 j = 0) → ∃ M', f_X6_flows_b43 n (k : Int) M = f_X6_flows_b66 FU 0 0 M' ∧ (∀ j, j < 12 → mI M' 32 j = 0) ∧ ChM M M' (fun q _ => q = 32) := by
  intro n
  induction n with
  | zero => intro k M h1 h2; omega
  | succ n ih =>
    intro k M h1 h2 h3
    show ∃ M', f_X6_flows_s43 (f_X6_flows_b43 n) _ M = _ ∧ _
    unfold f_X6_flows_s43
    rw [w32_n k (by omega), show w32 12 = 12 by decide]
    by_cases e : 12 ≤ k
    · rw [if_pos (by omega)]
      exact ⟨M, rfl, fun j hj => h3 j (by omega), ChM.r _ _⟩
    · rw [if_neg (by omega), ax_k (by omega), Int.toNat_natCast, rd_k]
      obtain ⟨M', f1, f2, f3⟩ := ih (k + 1) (msI M 32 k 0) (by omega) (by omega) (fun j hj => by
        by_cases ej : j = k
        · rw [ej, mI_s rfl]
        · rw [mI_o (by omega)]; exact h3 j (by omega))
      exact ⟨M', f1, f2, ((ChM.r M _).st (K := fun q _ => q = 32) rfl).tr f3⟩
theorem m_fl66 {x : VC} {a : Nat} (hw : wds (rA (xm_ x)) ≤ 12) : ∀ (l : List Nat) (k i n : Nat) (L : Nat → Nat) (M : MW), (rA (xm_ x)).drop k = l → k ≤ (rA (xm_ x)).length → (rA (xm_ x)).length < n + k → i + wds l ≤ 12 → SMx M x a → (∀ j, j < 12 → mI M 32 j = (L j : Int)) → ∃ M', f_X6_flows_b66 n (i : Int) (k : Int) M = (mB (f_X6_give 0 M') fun v9 M8 => f_X6_flows_b130 FU v9 0 M8) ∧ (∀ j, j < 12 → mI M' 32 j = (argL i l L j : Int)) ∧ ChM M M' (fun q _ => q = 32) := by
  intro l
  induction l with
  | nil =>
    intro k i n L M hd h1 h2 hi cS hL
    obtain ⟨n, rfl⟩ : ∃ j, n = j + 1 := ⟨n - 1, by omega⟩
    have ek : k = (rA (xm_ x)).length := by
      have := congrArg List.length hd
      rw [List.length_drop] at this
      have e0 : ([] : List Nat).length = 0 := rfl
      omega
    have ha := cS.2.2.2.1
    have h4 := cS.so.1.1
    show ∃ M', f_X6_flows_s66 (f_X6_flows_b66 n) _ _ M = _ ∧ _
    unfold f_X6_flows_s66
    rw [rd_k (mI M 0 33), cS.2.2.2.2.1, ax_k (by omega), Int.toNat_natCast, rd_k, cS.so.2.1, w32_n _ (by omega), w32_n k (by omega), if_pos (by omega)]
    exact ⟨M, rfl, hL, ChM.r _ _⟩
  | cons t l ih =>
    intro k i n L M hd h1 h2 hi cS hL
    obtain ⟨n, rfl⟩ : ∃ j, n = j + 1 := ⟨n - 1, by omega⟩
    have hk : k < (rA (xm_ x)).length := by
      have := congrArg List.length hd
      rw [List.length_drop] at this
      have e0 : (t :: l).length = l.length + 1 := rfl
      omega
    have ht : (rA (xm_ x))[k]? = some t := by
      have : ((rA (xm_ x)).drop k)[0]? = some t := by rw [hd]; rfl
      rw [List.getElem?_drop] at this
      exact this
    have hd2 : (rA (xm_ x)).drop (k + 1) = l := by
      rw [← List.drop_drop, hd]; rfl
    have ha := cS.2.2.2.1
    have h4 := cS.so.1.1
    have hww : wds (t :: l) = (if t = 2 then 2 else 1) + wds l := rfl
    have tl : t < 2000 := by
      have := of_decide_eq_true (cS.so.1.2.1 t (List.mem_of_getElem? ht))
      have := cS.n16
      omega
    show ∃ M', f_X6_flows_s66 (f_X6_flows_b66 n) _ _ M = _ ∧ _
    unfold f_X6_flows_s66 f_X6_flows_b114
    rw [rd_k (mI M 0 33), cS.2.2.2.2.1, ax_k (by omega), Int.toNat_natCast, rd_k, cS.so.2.1, w32_n _ (by omega), w32_n k (by omega), if_neg (by omega), rd_k, ax_k (by omega), show (4 * (a : Int) + (k : Int)).toNat = 4 * a + k by omega, rd_k, cS.so.2.2.1 k t ht, ax_k (by split at hww <;> omega), Int.toNat_natCast, rd_k, ax_k (by split at hww <;> omega), Int.toNat_natCast, rd_k, mI_s rfl, w32_n t (by omega), show w32 2 = 2 by decide]
    have cS2 : SMx (msI M 32 i (t : Int)) x a := cS.ch (fun q j _ _ => mI_o (by omega)) (fun j _ => mI_o (by omega))
    have hL2 : ∀ j, j < 12 → mI (msI M 32 i (t : Int)) 32 j = ((up1 L i t j : Nat) : Int) := by
      intro j hj
      show _ = (((if j = i then t else L j) : Nat) : Int)
      by_cases ej : j = i
      · rw [if_pos ej, ej, mI_s rfl]
      · rw [if_neg ej, mI_o (by omega)]; exact hL j hj
    by_cases t2 : t = 2
    · rw [if_pos (by omega), rd_k]
      rw [if_pos t2] at hww
      obtain ⟨M', f1, f2, f3⟩ := ih (k + 1) (i + 2) n (up1 L i t) _ hd2 (by omega) (by omega) (by omega) cS2 hL2
      refine ⟨M', f1, fun j hj => ?_, ((ChM.r M _).st (K := fun q _ => q = 32) rfl).tr f3⟩
      rw [f2 j hj]
      show _ = ((argL (i + (if t = 2 then 2 else 1)) l (up1 L i t) j : Nat) : Int)
      rw [if_pos t2]
    · rw [if_neg (by omega), rd_k]
      rw [if_neg t2] at hww
      obtain ⟨M', f1, f2, f3⟩ := ih (k + 1) (i + 1) n (up1 L i t) _ hd2 (by omega) (by omega) (by omega) cS2 hL2
      refine ⟨M', f1, fun j hj => ?_, ((ChM.r M _).st (K := fun q _ => q = 32) rfl).tr f3⟩
      rw [f2 j hj]
      show _ = ((argL (i + (if t = 2 then 2 else 1)) l (up1 L i t) j : Nat) : Int)
      rw [if_neg t2]
theorem m_flows {M : MW} {x : VC} {a : Nat} {B : Nat → Bool} (cx : FlC M x a) (hB : FormP x B) (hw : wds (rA (xm_ x)) ≤ rL (xm_ x)) (h35 : mI M 0 35 = 0) : ∃ r, flw x NFl (fsA x) = some r ∧ match r with
    | .inr fs' => ∃ M', f_X6_flows M = some (1, M') ∧ MFS M' (rL (xm_ x)) a fs' ∧ FsI x fs' ∧ FsB B fs' ∧ mI M' 0 35 = 0 ∧ ChM M M' (KFl a)
    | .inl e => ∃ M', f_X6_flows M = some (0, M') ∧ FltM M M' a e := by
  have cS := cx.1
  have ha := cS.2.2.2.1
  have hL := cS.rL
  have so := cS.so.1
  obtain ⟨r, hr⟩ := flw_some cx hB NFl (fsA x) (fsA_i so hw) (fsA_b hB.1) (fs_mu cS.n16 cS.rS (fsA_i so hw).1)
  refine ⟨r, hr, ?_⟩
  unfold f_X6_flows
  obtain ⟨M1, e1, f1, f2, f3, f4⟩ := m_fl2 FU 0 M cS (by omega) (by rw [FU_v]; omega) (fun p hp => by omega)
  obtain ⟨M2, e2, g1, g2⟩ := m_fl43 FU 0 M1 (by omega) (by rw [FU_v]; omega) (fun p hp => by omega)
  have c2 : ChM M M2 (KFl a) := f4.tr (g2.mono (fun q j h => by unfold KFl; omega))
  obtain ⟨M3, e3, i1, i2⟩ := m_fl66 (x := x) (a := a) (by omega) (rA (xm_ x)) 0 0 FU (fun _ => 0) M2 rfl (by omega) (by rw [FU_v]; have := so.1; omega) (by omega) (cx.mv c2).1 (fun j hj => by rw [g1 j hj]; rfl)
  have c3 : ChM M M3 (KFl a) := c2.tr (i2.mono (fun q j h => by unfold KFl; omega))
  have ee : f_X6_flows_b2 FU 0 M = mB (f_X6_give 0 M3) fun v9 M8 => f_X6_flows_b130 FU v9 0 M8 := (e1.trans e2).trans e3
  rw [ee]
  have cx3 := cx.mv c3
  have mm : MFS M3 (rL (xm_ x)) a (fun _ => none, fun _ => false) := by
    intro p hp
    refine ⟨?_, ?_⟩
    · show mI M3 23 (120 * a + p) = -1
      rw [i2.2 _ _ (by omega), g2.2 _ _ (by omega)]; exact (f1 p hp).1
    · rw [i2.2 _ _ (by omega), g2.2 _ _ (by omega)]; exact (f1 p hp).2
  have gg : GvM M3 (rL (xm_ x)) (st0 x) := ⟨by rw [i2.2 _ _ (by omega), g2.2 _ _ (by omega), f2]; rfl, fun j hj => i1 j (by omega), fun j hj => absurd hj (Nat.not_lt_zero _)⟩
  have G := m_give (q := 0) (fs := (fun _ => none, fun _ => false)) cx3.1.1 cx3.1.xz cx3.1.rS hL ha cx3.1.2.2.2.2.1 cx3.1.so.2.2.2.2.2.2.1 (by omega) gg (st0_ok so hw) (fun p s h => by cases h) mm
  obtain ⟨M4, j1, j2, j3⟩ : ∃ M', f_X6_give 0 M3 = some (1, M') ∧ MFS M' (rL (xm_ x)) a (fsA x) ∧ ChM M3 M' (KGv (120 * a + 0) 0) := G
  rw [j1, mB_k]
  have c4 : ChM M M4 (KFl a) := c3.tr (j3.mono (fun q j h => h.fl (by omega)))
  have R := m_flw hB NFl FU (fsA x) M4 r hr (by rw [FU_v]; unfold NFl; omega) (cx.mv c4) (fsA_i so hw) (fsA_b hB.1) j2 (by rw [j3.2 _ _ (by unfold KGv; omega), i2.2 _ _ (by omega), g2.2 _ _ (by omega), f3]; exact h35)
  cases r with
  | inr fs' =>
    obtain ⟨M', r1, r2, r3, r4, r5, r6⟩ := R
    exact ⟨M', r1, r2, r3, r4, r5, c4.tr r6⟩
  | inl e =>
    obtain ⟨M', r1, r2, r3, r4⟩ := R
    exact ⟨M', r1, r2, r3, c4.tr r4⟩
