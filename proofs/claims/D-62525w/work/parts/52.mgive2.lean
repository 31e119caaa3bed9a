/-! LAYER C: the model gives a state to a place: the stack, all -/
def K25 (z : Nat) (c j : Nat) : Prop := c = 25 ∧ 12 * z ≤ j ∧ j < 12 * z + 12
def KBad (c j : Nat) : Prop := c = 0 ∧ (j = 35 ∨ j = 36)
theorem m_faulty (n p : Int) (M : MW) : f_X6_faulty n p M = some (0, msI (msI M 0 35 n) 0 36 p) := rfl
theorem m_gv146 {H : HT} {rl z q sz : Nat} {g s : TS} (hz : z < 960) (hq : q < 120) (hsz : sz ≤ 120) (hl : g.2.length = s.2.length) (hl2 : s.2.length ≤ 12) (bg : ∀ t ∈ g.2, tyV (hn H) sz t) (bs : ∀ t ∈ s.2, tyV (hn H) sz t) : ∀ (n k : Nat) (b : Bool) (M : MW), MH M H → GvM M rl s → k ≤ s.2.length → s.2.length < n + k → (∀ j, j < s.2.length → mI M 25 (12 * z + j) = ((if j < k then mrg H (nth g.2 j) (nth s.2 j) else nth g.2 j : Nat) : Int)) → (∀ j, j < k → mrg H (nth g.2 j) (nth s.2 j) ≠ 0) →
    ((∃ j, j < s.2.length ∧ mrg H (nth g.2 j) (nth s.2 j) = 0) ∧ ∃ M', f_X6_give_b146 n (q : Int) (z : Int) (rl : Int) (b2i b) (k : Int) M = some (0, M') ∧ mI M' 0 35 = 9 ∧ mI M' 0 36 = (q : Int) ∧ ChM M M' (fun c j => K25 z c j ∨ KBad c j)) ∨
    ((∀ j, j < s.2.length → mrg H (nth g.2 j) (nth s.2 j) ≠ 0) ∧ ∃ (b' : Bool) (M' : MW), f_X6_give_b146 n (q : Int) (z : Int) (rl : Int) (b2i b) (k : Int) M = f_X6_give_b245 FU (q : Int) (z : Int) (rl : Int) (b2i b') 0 M' ∧ (b' = true ↔ b = true ∨ ∃ j, k ≤ j ∧ j < s.2.length ∧ mrg H (nth g.2 j) (nth s.2 j) ≠ nth g.2 j) ∧ (∀ j, j < s.2.length → mI M' 25 (12 * z + j) = (mrg H (nth g.2 j) (nth s.2 j) : Int)) ∧ ChM M M' (K25 z)) := by
  intro n
  induction n with
  | zero => intro k b M _ _ h1 h2; omega
  | succ n ih =>
    intro k b M hH hg h1 h2 h3 h0
    have hn16 := hH.1.1.2
    have un : f_X6_give_b146 (n + 1) (q : Int) (z : Int) (rl : Int) (b2i b) (k : Int) M = f_X6_give_s146 (f_X6_give_b146 n) (q : Int) (z : Int) (rl : Int) (b2i b) (k : Int) M := rfl
    rw [un]
    unfold f_X6_give_s146
    rw [rd_k, hg.1, w32_n _ (by omega), w32_n k (by omega)]
    by_cases e : s.2.length ≤ k
    · rw [if_pos (by omega)]
      refine Or.inr ⟨fun j hj => h0 j (by omega), b, M, rfl, ⟨Or.inl, fun h => h.elim id (fun ⟨j, a, b, _⟩ => by omega)⟩, fun j hj => by rw [h3 j hj, if_pos (by omega)], ChM.r _ _⟩
    · have hk : k < s.2.length := by omega
      have bgk := bg _ (nth_mem g.2 k (by omega))
      have bsk := bs _ (nth_mem s.2 k hk)
      have mv := mrg_tyV hH.1 bgk bsk
      have ml := tyV_lt mv hn16 hsz
      have gl := tyV_lt bgk hn16 hsz
      have v25 : mI M 25 (12 * z + k) = (nth g.2 k : Int) := by rw [h3 k hk, if_neg (Nat.lt_irrefl _)]
      have i25 : (12 * (z : Int) + (k : Int)).toNat = 12 * z + k := by omega
      rw [if_neg (by omega), ax_k (by omega), rd_k, i25, v25, ax_k (by omega), Int.toNat_natCast, rd_k, hg.2.2 k hk, m_merge hH hsz bgk bsk, mB_k, w32_n _ (by omega)]
      by_cases m0 : mrg H (nth g.2 k) (nth s.2 k) = 0
      · rw [if_pos (by omega), m_faulty, mB_k, isZ_0, gd_t]
        exact Or.inl ⟨⟨k, hk, m0⟩, _, rfl, by rw [mI_o (by omega), mI_s rfl], mI_s rfl, ((ChM.r _ _).st (Or.inr ⟨rfl, Or.inl rfl⟩)).st (Or.inr ⟨rfl, Or.inr rfl⟩)⟩
      · rw [if_neg (by omega), ite_b, ax_k (by omega), rd_k, i25, v25, w32_n _ (by omega)]
        have st : ChM M (msI M 25 (12 * z + k) (mrg H (nth g.2 k) (nth s.2 k) : Int)) (KGv z q) := (ChM.r _ _).st (Or.inr (Or.inr (Or.inl ⟨rfl, by omega, by omega⟩)))
        have st2 : ChM M (msI M 25 (12 * z + k) (mrg H (nth g.2 k) (nth s.2 k) : Int)) (K25 z) := (ChM.r _ _).st ⟨rfl, by omega, by omega⟩
        have nx : ∀ b2 : Bool, (b2 = true ↔ (b = true ∨ mrg H (nth g.2 k) (nth s.2 k) ≠ nth g.2 k)) → ((∃ j, j < s.2.length ∧ mrg H (nth g.2 j) (nth s.2 j) = 0) ∧ ∃ M', f_X6_give_b220 (f_X6_give_b146 n) (q : Int) (z : Int) (rl : Int) (k : Int) (mrg H (nth g.2 k) (nth s.2 k) : Int) (b2i b2) M = some (0, M') ∧ mI M' 0 35 = 9 ∧ mI M' 0 36 = (q : Int) ∧ ChM M M' (fun c j => K25 z c j ∨ KBad c j)) ∨
            ((∀ j, j < s.2.length → mrg H (nth g.2 j) (nth s.2 j) ≠ 0) ∧ ∃ (b' : Bool) (M' : MW), f_X6_give_b220 (f_X6_give_b146 n) (q : Int) (z : Int) (rl : Int) (k : Int) (mrg H (nth g.2 k) (nth s.2 k) : Int) (b2i b2) M = f_X6_give_b245 FU (q : Int) (z : Int) (rl : Int) (b2i b') 0 M' ∧ (b' = true ↔ b = true ∨ ∃ j, k ≤ j ∧ j < s.2.length ∧ mrg H (nth g.2 j) (nth s.2 j) ≠ nth g.2 j) ∧ (∀ j, j < s.2.length → mI M' 25 (12 * z + j) = (mrg H (nth g.2 j) (nth s.2 j) : Int)) ∧ ChM M M' (K25 z)) := by
          intro b2 hb2
          unfold f_X6_give_b220
          rw [ax_k (by omega), rd_k, i25]
          have := ih (k + 1) b2 _ (hH.kgv st) (hg.mv st) (by omega) (by omega) (fun j hj => by
            by_cases ej : j = k
            · rw [ej, mI_s rfl, if_pos (by omega)]
            · rw [mI_o (by omega), h3 j hj]
              by_cases lj : j < k
              · rw [if_pos lj, if_pos (by omega)]
              · rw [if_neg lj, if_neg (by omega)]) (fun j hj => by
            by_cases ej : j = k
            · rw [ej]; exact m0
            · exact h0 j (by omega))
          rcases this with ⟨g1, M', g2, g3, g4, g5⟩ | ⟨g1, b', M', g2, g3, g4, g5⟩
          · exact Or.inl ⟨g1, M', g2, g3, g4, (st2.mono (fun a b h => Or.inl h)).tr g5⟩
          · refine Or.inr ⟨g1, b', M', g2, ?_, g4, st2.tr g5⟩
            rw [g3, hb2]
            constructor
            · rintro ((hb | hm) | ⟨j, j1, j2, j3⟩)
              · exact Or.inl hb
              · exact Or.inr ⟨k, Nat.le_refl _, hk, hm⟩
              · exact Or.inr ⟨j, by omega, j2, j3⟩
            · rintro (hb | ⟨j, j1, j2, j3⟩)
              · exact Or.inl (Or.inl hb)
              · by_cases ej : j = k
                · rw [ej] at j3; exact Or.inl (Or.inr j3)
                · exact Or.inr ⟨j, by omega, j2, j3⟩
        unfold f_X6_give_b215
        cases b
        · rw [if_neg (by decide)]
          by_cases e2 : mrg H (nth g.2 k) (nth s.2 k) = nth g.2 k
          · rw [if_pos (by omega)]
            exact nx false ⟨fun h => absurd h (by decide), fun h => h.elim id (fun h => absurd e2 h)⟩
          · rw [if_neg (by omega)]
            exact nx true ⟨fun _ => Or.inr e2, fun _ => rfl⟩
        · rw [if_pos rfl]
          exact nx true ⟨fun _ => Or.inl rfl, fun _ => rfl⟩
/-- the flow's states and what waits, in their cells -/
def MFS (M : MW) (rl a : Nat) (fs : FS) : Prop := ∀ p, p < 120 → (match fs.1 p with
  | none => mI M 23 (120 * a + p) = -1
  | some g => StM M rl (120 * a + p) g) ∧ mI M 26 p = b2i (fs.2 p)
theorem MFS.up {M M' : MW} {rl a q : Nat} {fs : FS} {g : TS} {w : Bool} (h : MFS M rl a fs) (hr : rl ≤ 12) (hf : ∀ p s, fs.1 p = some s → s.2.length ≤ 12) (c : ChM M M' (KGv (120 * a + q) q)) (h1 : StM M' rl (120 * a + q) g) (h2 : mI M' 26 q = b2i w) : MFS M' rl a (up1 fs.1 q (some g), up1 fs.2 q w) := by
  intro p hp
  dsimp only [up1]
  by_cases e : p = q
  · subst e
    rw [if_pos rfl, if_pos rfl]
    exact ⟨h1, h2⟩
  · rw [if_neg e, if_neg e]
    have := h p hp
    have e23 : mI M' 23 (120 * a + p) = mI M 23 (120 * a + p) := c.2 _ _ (by unfold KGv; omega)
    refine ⟨?_, by rw [c.2 26 p (by unfold KGv; omega)]; exact this.2⟩
    have t1 := this.1
    cases eq : fs.1 p with
    | none =>
      rw [eq] at t1
      dsimp only at t1 ⊢
      rw [e23]; exact t1
    | some s =>
      rw [eq] at t1
      dsimp only at t1 ⊢
      obtain ⟨k1, k2, k3⟩ := t1
      have hl := hf p s eq
      exact ⟨by rw [e23]; exact k1, fun k hk => by rw [c.2 24 _ (by unfold KGv; omega)]; exact k2 k hk, fun k hk => by rw [c.2 25 _ (by unfold KGv; omega)]; exact k3 k hk⟩
theorem any12 {f : Nat → Bool} : (List.range 12).any f = true ↔ ∃ j, j < 12 ∧ f j = true := by
  rw [List.any_eq_true]
  constructor
  · rintro ⟨j, h1, h2⟩; exact ⟨j, List.mem_range.mp h1, h2⟩
  · rintro ⟨j, h1, h2⟩; exact ⟨j, List.mem_range.mpr h1, h2⟩
theorem m_give {M : MW} {x : VC} {a q : Nat} {s : TS} {fs : FS} (hH : MH M (xH_ x)) (hsz : xz x ≤ 120) (hS : rS (xm_ x) ≤ 12) (hr : rL (xm_ x) ≤ 12) (ha : a < 8) (h33 : mI M 0 33 = (a : Int)) (h12 : mI M 12 a = (rL (xm_ x) : Int)) (hq : q < 120) (hg : GvM M (rL (xm_ x)) s) (hs : SOk x s) (hf : FOk x fs) (h : MFS M (rL (xm_ x)) a fs) :
    match gv x q s fs with
    | .inr fs' => ∃ M', f_X6_give (q : Int) M = some (1, M') ∧ MFS M' (rL (xm_ x)) a fs' ∧ ChM M M' (KGv (120 * a + q) q)
    | .inl e => e = (9, q) ∧ ∃ M', f_X6_give (q : Int) M = some (0, M') ∧ mI M' 0 35 = 9 ∧ mI M' 0 36 = (q : Int) ∧ ChM M M' (fun c j => KGv (120 * a + q) q c j ∨ KBad c j) := by
  have lens : ∀ s : TS, SOk x s → s.2.length ≤ 12 := fun s hs => by have := wds_len s.2; have := hs.2.1; omega
  have ls := lens s hs
  have lf : ∀ p s, fs.1 p = some s → s.2.length ≤ 12 := fun p s hp => lens s (hf p s hp).2
  have hp := h q hq
  have iz : ((120 * (a : Int)) + (q : Int)) = ((120 * a + q : Nat) : Int) := by omega
  unfold f_X6_give gv
  rw [rd_k, h33, rd_k, rd_k, ax_k (by omega), Int.toNat_natCast, rd_k, h12, iz, ax_k (by omega), Int.toNat_natCast, rd_k]
  cases e : fs.1 q with
  | none =>
    rw [e] at hp
    dsimp only at hp ⊢
    rw [hp.1, if_neg (by decide), rd_k, hg.1, ax_k (by omega), Int.toNat_natCast, rd_k]
    have st : ChM M (msI M 23 (120 * a + q) (s.2.length : Int)) (KGv (120 * a + q) q) := (ChM.r _ _).st (Or.inl ⟨rfl, rfl⟩)
    obtain ⟨M', f1, f2, f3, f4, f5⟩ := m_gv42 (rl := rL (xm_ x)) (z := 120 * a + q) (q := q) (by omega) hq ls hr FU 0 _ (hg.mv st) (by omega) (by rw [FU_v]; omega) (fun j hj => by omega)
    have c1 : ChM M M' (KGv (120 * a + q) q) := st.tr (f5.mono (fun c j h => Or.inr h))
    refine ⟨M', f1, MFS.up (w := true) h hr lf c1 ⟨?_, f2, f3⟩ f4, c1⟩
    rw [f5.2 _ _ (by omega), mI_s rfl]
  | some g =>
    rw [e] at hp
    dsimp only at hp ⊢
    obtain ⟨k1, k2, k3⟩ := hp.1
    have lg := lf q g e
    have og := (hf q g e).2
    rw [k1, w32_n _ (by omega), if_pos (show (0 : Int) ≤ (g.2.length : Int) by omega), ax_k (by omega), Int.toNat_natCast, rd_k, k1, rd_k, hg.1, w32_n _ (by omega), w32_n _ (by omega)]
    by_cases hl : g.2.length = s.2.length
    · rw [if_pos hl, if_pos (show (g.2.length : Int) = (s.2.length : Int) by omega)]
      rcases m_gv146 (H := xH_ x) (rl := rL (xm_ x)) (z := 120 * a + q) (q := q) (sz := xz x) (g := g) (s := s) (by omega) hq hsz hl ls og.1.2 hs.1.2 FU 0 false M hH hg (by omega) (by rw [FU_v]; omega) (fun j hj => by rw [if_neg (by omega)]; exact k3 j (by omega)) (fun j hj => by omega) with ⟨⟨j, j1, j2⟩, M', g1, g2, g3, g4⟩ | ⟨g0, b', M1, g1, g2, g3, g4⟩
      · have hm : 0 ∈ (mrgS (xH_ x) g s).2 := (mem_nthz hl).mpr ⟨j, by omega, j2⟩
        rw [if_pos hm]
        exact ⟨rfl, M', g1, g2, g3, g4.mono (fun c j h => h.elim (fun h => Or.inl (Or.inr (Or.inr (Or.inl h)))) Or.inr)⟩
      · have hm : ¬ 0 ∈ (mrgS (xH_ x) g s).2 := by
          intro hm
          obtain ⟨j, j1, j2⟩ := (mem_nthz hl).mp hm
          exact g0 j (by omega) j2
        rw [if_neg hm]
        have c1 : ChM M M1 (KGv (120 * a + q) q) := g4.mono (fun c j h => Or.inr (Or.inr (Or.inl h)))
        obtain ⟨b2, M', f1, f2, f3, f4, f5⟩ := m_gv245 (H := xH_ x) (rl := rL (xm_ x)) (z := 120 * a + q) (q := q) (sz := xz x) (g := g) (s := s) (by omega) hq hr hsz og.1.1 hs.1.1 (fs.2 q) FU 0 b' M1 (hH.kgv c1) (hg.mv c1) (by omega) (by rw [FU_v]; omega) (fun j hj => by rw [if_neg (by omega), g4.2 _ _ (by unfold K25; omega)]; exact k2 j hj) (by rw [g4.2 _ _ (by unfold K25; omega)]; exact hp.2)
        have c2 : ChM M M' (KGv (120 * a + q) q) := c1.tr (f5.mono (fun c j h => h.elim (fun h => Or.inr (Or.inl h)) (fun h => Or.inr (Or.inr (Or.inr h)))))
        have eb : b2 = chgd g (mrgS (xH_ x) g s) := by
          rw [Bool.eq_iff_iff, f2, g2]
          unfold chgd
          rw [Bool.or_eq_true, decide_eq_true_eq, any12]
          have hz := zip_ne (f := mrg (xH_ x)) hl
          show _ ↔ (List.zipWith (mrg (xH_ x)) g.2 s.2 ≠ g.2) ∨ _
          rw [hz]
          constructor
          · rintro ((h | ⟨j, j1, j2, j3⟩) | ⟨j, j1, j2, j3⟩)
            · cases h
            · exact Or.inl ⟨j, by omega, j3⟩
            · exact Or.inr ⟨j, by omega, decide_eq_true j3⟩
          · rintro (⟨j, j1, j2⟩ | ⟨j, j1, j2⟩)
            · exact Or.inl (Or.inr ⟨j, by omega, by omega, j2⟩)
            · have j3 : mrg (xH_ x) (g.1 j) (s.1 j) ≠ g.1 j := of_decide_eq_true j2
              refine Or.inr ⟨j, by omega, ?_, j3⟩
              apply Classical.byContradiction
              intro hc
              apply j3
              rw [og.2.2.1 j (by omega), hs.2.2.1 j (by omega), mrg_self]
        rw [eb] at f4
        refine ⟨M', g1.trans f1, MFS.up (w := fs.2 q || chgd g (mrgS (xH_ x) g s)) h hr lf c2 ⟨?_, f3, fun k hk => ?_⟩ f4, c2⟩
        · rw [f5.2 _ _ (by omega), g4.2 _ _ (by unfold K25; omega), k1]
          show (g.2.length : Int) = ((List.zipWith (mrg (xH_ x)) g.2 s.2).length : Int)
          rw [zip_len hl]
        · have hk' : k < s.2.length := by
            have : k < (List.zipWith (mrg (xH_ x)) g.2 s.2).length := hk
            rw [zip_len hl] at this
            omega
          rw [f5.2 _ _ (by omega), g3 k hk']
          show _ = ((nth (List.zipWith (mrg (xH_ x)) g.2 s.2) k : Nat) : Int)
          rw [nth_zip _ _ hl k (by omega)]
    · rw [if_neg hl, if_neg (show ¬ (g.2.length : Int) = (s.2.length : Int) by omega), m_faulty, mB_k, isZ_0, gd_t]
      exact ⟨rfl, _, rfl, by rw [mI_o (by omega), mI_s rfl], mI_s rfl, ((ChM.r _ _).st (Or.inr ⟨rfl, Or.inl rfl⟩)).st (Or.inr ⟨rfl, Or.inr rfl⟩)⟩
