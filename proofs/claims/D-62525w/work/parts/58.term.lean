/-! LAYER C: the flow ends -/
def rt (t : Nat) : Nat := if t = 0 then 0 else if t = 5 then 20 else if 32 ≤ t ∧ t < 64 then t - 32 + 2 else if 64 ≤ t ∧ t < 1000 then t - 64 + 3 else if t = 3 ∨ t = 4 then 3 else 1
def sumU : Nat → (Nat → Nat) → Nat
  | 0, _ => 0
  | n + 1, f => sumU n f + f n
def sumL : List Nat → Nat
  | [] => 0
  | t :: l => rt t + sumL l
def rkS (s : TS) : Nat := sumU 12 (fun k => rt (s.1 k)) + sumL s.2
def rk (o : Option TS) : Nat := match o with
  | none => 500
  | some s => rkS s
def muT (fs : FS) : Nat := sumU 120 fun p => rk (fs.1 p)
def wn (b : Bool) : Nat := match b with
  | true => 1
  | false => 0
theorem wn_b (b : Bool) : wn b ≤ 1 := by cases b <;> decide
def muW (fs : FS) : Nat := sumU 120 fun p => wn (fs.2 p)
def mu (fs : FS) : Nat := 121 * muT fs + muW fs
theorem sumU_le {f g : Nat → Nat} : ∀ n, (∀ k, k < n → f k ≤ g k) → sumU n f ≤ sumU n g
  | 0, _ => Nat.le_refl _
  | n + 1, h => by
    have := sumU_le n (fun k hk => h k (by omega))
    have := h n (by omega)
    show sumU n f + f n ≤ sumU n g + g n
    omega
theorem sumU_lt {f g : Nat → Nat} : ∀ n, (∀ k, k < n → f k ≤ g k) → (∃ k, k < n ∧ f k < g k) → sumU n f < sumU n g
  | 0, _, ⟨k, hk, _⟩ => absurd hk (Nat.not_lt_zero _)
  | n + 1, h, ⟨k, hk, hl⟩ => by
    show sumU n f + f n < sumU n g + g n
    by_cases e : k = n
    · subst e
      have := sumU_le k (fun j hj => h j (by omega))
      omega
    · have := sumU_lt n (fun k hk => h k (by omega)) ⟨k, by omega, hl⟩
      have := h n (by omega)
      omega
theorem sumU_b {f : Nat → Nat} {b : Nat} : ∀ n, (∀ k, k < n → f k ≤ b) → sumU n f ≤ n * b
  | 0, _ => Nat.zero_le _
  | n + 1, h => by
    have := sumU_b n (fun k hk => h k (by omega))
    have := h n (by omega)
    show sumU n f + f n ≤ (n + 1) * b
    rw [Nat.succ_mul]
    omega
theorem rt_mrg {H : HT} {sz t u : Nat} (hH : HOK H) (ht : tyV (hn H) sz t) (hu : tyV (hn H) sz u) : mrg H t u = t ∨ rt (mrg H t u) < rt t := by
  have n16 := hH.1
  unfold mrg
  by_cases e : t = u
  · rw [if_pos e]; exact Or.inl rfl
  rw [if_neg e]
  by_cases r : rfc t = false ∨ rfc u = false
  · rw [if_pos r]
    by_cases t0 : t = 0
    · exact Or.inl t0.symm
    · right
      unfold rt
      rw [if_pos rfl, if_neg t0]
      repeat' split
      all_goals omega
  rw [if_neg r]
  have rr : (t = 5 ∨ t = 3 ∨ t = 4 ∨ (32 ≤ t ∧ t < 1000)) ∧ (u = 5 ∨ u = 3 ∨ u = 4 ∨ (32 ≤ u ∧ u < 1000)) := by
    unfold rfc thg at r
    simp only [Bool.or_eq_false_iff, decide_eq_false_iff_not] at r
    omega
  by_cases t5 : t = 5
  · rw [if_pos t5]
    right
    unfold tyV at hu
    unfold rt
    rw [if_neg (show ¬ t = 0 by omega), if_pos t5]
    repeat' split
    all_goals omega
  rw [if_neg t5]
  by_cases u5 : u = 5
  · rw [if_pos u5]; exact Or.inl rfl
  rw [if_neg u5]
  by_cases a : (32 ≤ t ∧ t < 64) ∧ 32 ≤ u ∧ u < 64
  · rw [if_pos a]
    have := nr_le (par := hp H) (t - 32) (u - 32)
    by_cases q : nr (hp H) (t - 32) (u - 32) = t - 32
    · left; omega
    · right
      unfold rt
      rw [if_neg (by omega), if_neg (by omega), if_pos (by omega), if_neg (by omega), if_neg t5, if_pos a.1]
      omega
  rw [if_neg a]
  by_cases b : (64 ≤ t ∧ t < 1000) ∧ 64 ≤ u ∧ u < 1000
  · rw [if_pos b]
    unfold tyV at ht
    have := nr_le (par := hp H) (t - 64) (u - 64)
    by_cases q : nr (hp H) (t - 64) (u - 64) = t - 64
    · left; omega
    · right
      unfold rt
      rw [if_neg (by omega), if_neg (by omega), if_neg (by omega), if_pos (by omega), if_neg (show ¬ t = 0 by omega), if_neg t5, if_neg (by omega), if_pos b.1]
      omega
  rw [if_neg b]
  by_cases t32 : t = 32
  · exact Or.inl t32.symm
  · right
    unfold rt
    rw [if_neg (show ¬ 32 = 0 by omega), if_neg (show ¬ 32 = 5 by omega), if_pos (show 32 ≤ 32 ∧ 32 < 64 by omega), if_neg (show ¬ t = 0 by omega), if_neg t5]
    repeat' split
    all_goals omega
theorem rt_b {n sz t : Nat} (hn : n ≤ 16) (h : tyV n sz t) : rt t ≤ 20 := by
  unfold tyV at h
  unfold rt
  repeat' split
  all_goals omega
theorem sumL_b {n sz : Nat} (hn : n ≤ 16) : ∀ l : List Nat, (∀ t ∈ l, tyV n sz t) → sumL l ≤ l.length * 20
  | [], _ => Nat.zero_le _
  | t :: l, h => by
    have := sumL_b hn l (fun u hu => h u (List.mem_cons_of_mem _ hu))
    have := rt_b hn (h t (List.mem_cons_self ..))
    show rt t + sumL l ≤ (l.length + 1) * 20
    omega
theorem rkS_b {x : VC} {s : TS} (hn : hn (xH_ x) ≤ 16) (hS : rS (xm_ x) ≤ 12) (h : SOk x s) : rkS s ≤ 480 := by
  unfold rkS
  have h1 := sumU_b (f := fun k => rt (s.1 k)) (b := 20) 12 (fun k _ => rt_b hn (h.1.1 k))
  have h2 := sumL_b hn s.2 h.1.2
  have h3 := wds_len s.2
  have := h.2.1
  omega
theorem rt_le {H : HT} {sz t u : Nat} (hH : HOK H) (ht : tyV (hn H) sz t) (hu : tyV (hn H) sz u) : rt (mrg H t u) ≤ rt t := by
  rcases rt_mrg hH ht hu with h | h
  · rw [h]; exact Nat.le_refl _
  · omega
theorem sumL_mrg {H : HT} {sz : Nat} (hH : HOK H) : ∀ (a b : List Nat), a.length = b.length → (∀ t ∈ a, tyV (hn H) sz t) → (∀ t ∈ b, tyV (hn H) sz t) → sumL (List.zipWith (mrg H) a b) ≤ sumL a ∧ (List.zipWith (mrg H) a b ≠ a → sumL (List.zipWith (mrg H) a b) < sumL a)
  | [], _, _, _, _ => ⟨Nat.le_refl _, fun h => absurd rfl h⟩
  | _ :: _, [], h, _, _ => absurd h (by simp)
  | t :: a, u :: b, h, ha, hb => by
    have h' : a.length = b.length := Nat.succ.inj h
    obtain ⟨i1, i2⟩ := sumL_mrg hH a b h' (fun v hv => ha v (List.mem_cons_of_mem _ hv)) (fun v hv => hb v (List.mem_cons_of_mem _ hv))
    have r := rt_mrg hH (ha t (List.mem_cons_self ..)) (hb u (List.mem_cons_self ..))
    have r2 := rt_le hH (ha t (List.mem_cons_self ..)) (hb u (List.mem_cons_self ..))
    refine ⟨?_, fun hne => ?_⟩
    · show rt (mrg H t u) + sumL (List.zipWith (mrg H) a b) ≤ rt t + sumL a
      omega
    · show rt (mrg H t u) + sumL (List.zipWith (mrg H) a b) < rt t + sumL a
      rcases r with r | r
      · by_cases e : List.zipWith (mrg H) a b = a
        · exfalso
          apply hne
          show mrg H t u :: List.zipWith (mrg H) a b = t :: a
          rw [r, e]
        · have := i2 e
          omega
      · omega
theorem muW_b (fs : FS) : muW fs ≤ 120 := sumU_b (b := 1) 120 (fun k _ => wn_b _)
theorem gv_mu {x : VC} {q : Nat} {s : TS} {fs fs' : FS} (hH : HOK (xH_ x)) (hS : rS (xm_ x) ≤ 12) (hq : q < 120) (hs : SOk x s) (hf : FOk x fs) (h : gv x q s fs = .inr fs') : mu fs' ≤ mu fs := by
  have n16 := hH.1.2
  have key : ∀ g : TS, ∀ w : Bool, (rkS g < rk (fs.1 q) ∨ (rkS g ≤ rk (fs.1 q) ∧ w = fs.2 q)) → mu (up1 fs.1 q (some g), up1 fs.2 q w) ≤ mu fs := by
    intro g w hg
    have le : ∀ k, k < 120 → (fun p => rk (up1 fs.1 q (some g) p)) k ≤ (fun p => rk (fs.1 p)) k := by
      intro k _
      dsimp only [up1]
      by_cases e : k = q
      · rw [if_pos e, e]
        show rkS g ≤ _
        omega
      · rw [if_neg e]; exact Nat.le_refl _
    have wb := muW_b (up1 fs.1 q (some g), up1 fs.2 q w)
    rcases hg with hg | ⟨hg, hw⟩
    · have lt : muT (up1 fs.1 q (some g), up1 fs.2 q w) < muT fs := sumU_lt 120 le ⟨q, hq, by
        dsimp only [up1]
        rw [if_pos rfl]
        exact hg⟩
      unfold mu
      omega
    · have l2 : muT (up1 fs.1 q (some g), up1 fs.2 q w) ≤ muT fs := sumU_le 120 le
      have l3 : muW (up1 fs.1 q (some g), up1 fs.2 q w) ≤ muW fs := sumU_le 120 (fun k _ => by
        show wn (if k = q then w else fs.2 k) ≤ wn (fs.2 k)
        by_cases e : k = q
        · rw [if_pos e, e, hw]; exact Nat.le_refl _
        · rw [if_neg e]; exact Nat.le_refl _)
      unfold mu
      omega
  unfold gv at h
  cases e : fs.1 q with
  | none =>
    rw [e] at h
    cases h
    refine key s true (Or.inl ?_)
    rw [e]
    show rkS s < 500
    have := rkS_b n16 hS hs
    omega
  | some g =>
    rw [e] at h
    dsimp only at h
    by_cases hl : g.2.length = s.2.length
    · rw [if_pos hl] at h
      by_cases h0 : 0 ∈ (mrgS (xH_ x) g s).2
      · rw [if_pos h0] at h; cases h
      · rw [if_neg h0] at h
        cases h
        have og := (hf q g e).2
        have l1 := sumL_mrg hH g.2 s.2 hl og.1.2 hs.1.2
        have l2 : sumU 12 (fun k => rt ((mrgS (xH_ x) g s).1 k)) ≤ sumU 12 (fun k => rt (g.1 k)) := sumU_le 12 (fun k _ => rt_le hH (og.1.1 k) (hs.1.1 k))
        have l1' : sumL (mrgS (xH_ x) g s).2 ≤ sumL g.2 := l1.1
        refine key (mrgS (xH_ x) g s) (fs.2 q || chgd g (mrgS (xH_ x) g s)) ?_
        rw [e]
        show rkS _ < rkS g ∨ (rkS _ ≤ rkS g ∧ _)
        cases hc : chgd g (mrgS (xH_ x) g s) with
        | false => exact Or.inr ⟨by unfold rkS; omega, by rw [Bool.or_false]⟩
        | true =>
          left
          unfold chgd at hc
          rw [Bool.or_eq_true, decide_eq_true_eq, any12] at hc
          rcases hc with hc | ⟨j, j1, j2⟩
          · have : sumL (mrgS (xH_ x) g s).2 < sumL g.2 := l1.2 hc
            unfold rkS
            omega
          · have j3 : (mrgS (xH_ x) g s).1 j ≠ g.1 j := of_decide_eq_true j2
            have lt : sumU 12 (fun k => rt ((mrgS (xH_ x) g s).1 k)) < sumU 12 (fun k => rt (g.1 k)) := sumU_lt 12 (fun k _ => rt_le hH (og.1.1 k) (hs.1.1 k)) ⟨j, j1, by
              rcases rt_mrg hH (og.1.1 j) (hs.1.1 j) with r | r
              · exact absurd r j3
              · exact r⟩
            unfold rkS
            omega
    · rw [if_neg hl] at h; cases h
/-- what waits has a state -/
def WOk (fs : FS) : Prop := ∀ p, fs.2 p = true → ∃ s, fs.1 p = some s
theorem gv_w {x : VC} {q : Nat} {s : TS} {fs fs' : FS} (hw : WOk fs) (h : gv x q s fs = .inr fs') : WOk fs' := by
  have key : ∀ g : TS, ∀ w : Bool, WOk (up1 fs.1 q (some g), up1 fs.2 q w) := by
    intro g w p hp
    dsimp only [up1] at hp ⊢
    by_cases e : p = q
    · rw [if_pos e]; exact ⟨g, rfl⟩
    · rw [if_neg e] at hp ⊢
      exact hw p hp
  unfold gv at h
  cases e : fs.1 q with
  | none => rw [e] at h; cases h; exact key s true
  | some g =>
    rw [e] at h
    dsimp only at h
    by_cases hl : g.2.length = s.2.length
    · rw [if_pos hl] at h
      by_cases h0 : 0 ∈ (mrgS (xH_ x) g s).2
      · rw [if_pos h0] at h; cases h
      · rw [if_neg h0] at h; cases h; exact key _ _
    · rw [if_neg hl] at h; cases h
/-- all that a look needs and leaves -/
def FsI (x : VC) (fs : FS) : Prop := FOk x fs ∧ WOk fs
theorem gvH_i {x : VC} {p : Nat} {s s' : TS} {st : Bool} (h16 : hn (xH_ x) ≤ 16) (hH : HOK (xH_ x)) (hS : rS (xm_ x) ≤ 12) (hs : SOk x s) (hs' : SOk x s') : ∀ (hs2 : List HD) (fs fs' : FS), (∀ h ∈ hs2, HdO (hn (xH_ x)) h) → FsI x fs → gvH x p s s' st hs2 fs = .inr fs' → FsI x fs' ∧ mu fs' ≤ mu fs
  | [], fs, fs', _, hf, e => by cases e; exact ⟨hf, Nat.le_refl _⟩
  | h :: hs2, fs, fs', ho, hf, e => by
    have hh := ho h (List.mem_cons_self ..)
    have ht : ∀ h ∈ hs2, HdO (hn (xH_ x)) h := fun g hg => ho g (List.mem_cons_of_mem _ hg)
    unfold gvH at e
    by_cases c : dF h ≤ p ∧ p < dT h
    · rw [if_pos c] at e
      by_cases r0 : 0 < rS (xm_ x)
      · rw [if_pos r0] at e
        cases e1 : gv x (dP h) (s.1, [32 + dK h]) fs with
        | inl b => rw [e1] at e; cases e
        | inr fs1 =>
          rw [e1, sB_i] at e
          have o1 := hv_ok h16 hH r0 hs hh
          have f1 : FsI x fs1 := ⟨gv_ok hH hh.2.2.1 o1 hf.1 e1, gv_w hf.2 e1⟩
          have m1 := gv_mu hH hS hh.2.2.1 o1 hf.1 e1
          cases st with
          | false =>
            have := gvH_i h16 hH hS hs hs' hs2 fs1 fs' ht f1 e
            exact ⟨this.1, by have := this.2; omega⟩
          | true =>
            rw [if_pos rfl] at e
            cases e2 : gv x (dP h) (s'.1, [32 + dK h]) fs1 with
            | inl b => rw [e2] at e; cases e
            | inr fs2 =>
              rw [e2, sB_i] at e
              have o2 := hv_ok h16 hH r0 hs' hh
              have := gvH_i h16 hH hS hs hs' hs2 fs2 fs' ht ⟨gv_ok hH hh.2.2.1 o2 f1.1 e2, gv_w f1.2 e2⟩ e
              exact ⟨this.1, by have := this.2; have := gv_mu hH hS hh.2.2.1 o2 f1.1 e2; omega⟩
      · rw [if_neg r0] at e; cases e
    · rw [if_neg c] at e
      exact gvH_i h16 hH hS hs hs' hs2 fs fs' ht hf e
