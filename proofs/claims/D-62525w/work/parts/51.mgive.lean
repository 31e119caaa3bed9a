/-! LAYER C: the model gives a state to a place -/
/-- changed at the places of K alone -/
def ChM (M M' : MW) (K : Nat → Nat → Prop) : Prop := mJ M' = mJ M ∧ ∀ k j, ¬ K k j → mI M' k j = mI M k j
theorem ChM.r (M : MW) (K : Nat → Nat → Prop) : ChM M M K := ⟨rfl, fun _ _ _ => rfl⟩
theorem ChM.tr {M M1 M2 : MW} {K : Nat → Nat → Prop} (h : ChM M M1 K) (k : ChM M1 M2 K) : ChM M M2 K := ⟨k.1.trans h.1, fun a b c => (k.2 a b c).trans (h.2 a b c)⟩
theorem ChM.mono {M M' : MW} {K L : Nat → Nat → Prop} (h : ChM M M' K) (k : ∀ a b, K a b → L a b) : ChM M M' L := ⟨h.1, fun a b c => h.2 a b (fun d => c (k a b d))⟩
theorem ChM.st {M M' : MW} {K : Nat → Nat → Prop} (h : ChM M M' K) {k i : Nat} {v : Int} (hk : K k i) : ChM M (msI M' k i v) K := ⟨h.1, fun a b c => by
  rw [← h.2 a b c, mI_if, if_neg]
  rintro ⟨e1, e2⟩
  exact c (by rw [e1, e2]; exact hk)⟩
/-- a state in its cells -/
def StM (M : MW) (rl z : Nat) (s : TS) : Prop := mI M 23 z = (s.2.length : Int) ∧ (∀ k, k < rl → mI M 24 (12 * z + k) = (s.1 k : Int)) ∧ ∀ k, k < s.2.length → mI M 25 (12 * z + k) = (nth s.2 k : Int)
/-- what is given on -/
def GvM (M : MW) (rl : Nat) (s : TS) : Prop := mI M 0 43 = (s.2.length : Int) ∧ (∀ k, k < rl → mI M 32 k = (s.1 k : Int)) ∧ ∀ k, k < s.2.length → mI M 33 k = (nth s.2 k : Int)
/-- the cells that giving changes: of place z = 120 * a + q -/
def KGv (z q : Nat) (k j : Nat) : Prop := (k = 23 ∧ j = z) ∨ (k = 24 ∧ 12 * z ≤ j ∧ j < 12 * z + 12) ∨ (k = 25 ∧ 12 * z ≤ j ∧ j < 12 * z + 12) ∨ (k = 26 ∧ j = q)
theorem GvM.mv {M M' : MW} {rl z q : Nat} {s : TS} (h : GvM M rl s) (k : ChM M M' (KGv z q)) : GvM M' rl s := by
  obtain ⟨h1, h2, h3⟩ := h
  have o : ∀ a b, a ≠ 23 → a ≠ 24 → a ≠ 25 → a ≠ 26 → mI M' a b = mI M a b := fun a b c d e f => k.2 a b (by unfold KGv; omega)
  exact ⟨by rw [o 0 43 (by omega) (by omega) (by omega) (by omega)]; exact h1, fun j hj => by rw [o 32 j (by omega) (by omega) (by omega) (by omega)]; exact h2 j hj, fun j hj => by rw [o 33 j (by omega) (by omega) (by omega) (by omega)]; exact h3 j hj⟩
theorem m_gv76 {rl z q : Nat} {s : TS} (hz : z < 960) (hq : q < 120) (hl : s.2.length ≤ 12) : ∀ (n k : Nat) (M : MW), GvM M rl s → k ≤ s.2.length → s.2.length < n + k → (∀ j, j < k → mI M 25 (12 * z + j) = (nth s.2 j : Int)) → ∃ M', f_X6_give_b76 n (q : Int) (z : Int) (k : Int) M = some (1, M') ∧ (∀ j, j < s.2.length → mI M' 25 (12 * z + j) = (nth s.2 j : Int)) ∧ mI M' 26 q = 1 ∧ ChM M M' (fun c j => (c = 25 ∧ 12 * z ≤ j ∧ j < 12 * z + 12) ∨ (c = 26 ∧ j = q)) := by
  intro n
  induction n with
  | zero => intro k M _ h1 h2; omega
  | succ n ih =>
    intro k M hg h1 h2 h3
    show ∃ M', f_X6_give_s76 (f_X6_give_b76 n) _ _ _ M = _ ∧ _
    unfold f_X6_give_s76
    rw [rd_k, hg.1, w32_n _ (by omega), w32_n k (by omega)]
    by_cases e : s.2.length ≤ k
    · rw [if_pos (by omega), ax_k (by omega), Int.toNat_natCast, rd_k, iAnd_11]
      exact ⟨_, rfl, fun j hj => by rw [mI_o (by omega)]; exact h3 j (by omega), mI_s rfl, (ChM.r _ _).st (Or.inr ⟨rfl, rfl⟩)⟩
    · rw [if_neg (by omega), ax_k (by omega), Int.toNat_natCast, rd_k, hg.2.2 k (by omega), ax_k (by omega), rd_k, show (12 * (z : Int) + (k : Int)).toNat = 12 * z + k by omega]
      have st : ChM M (msI M 25 (12 * z + k) (nth s.2 k : Int)) (KGv z q) := (ChM.r _ _).st (Or.inr (Or.inr (Or.inl ⟨rfl, by omega, by omega⟩)))
      obtain ⟨M', f1, f2, f3, f4⟩ := ih (k + 1) _ (hg.mv st) (by omega) (by omega) (fun j hj => by
        by_cases ej : j = k
        · rw [ej, mI_s rfl]
        · rw [mI_o (by omega)]; exact h3 j (by omega))
      exact ⟨M', f1, f2, f3, ((ChM.r M _).st (Or.inl ⟨rfl, by omega, by omega⟩)).tr f4⟩
theorem m_gv42 {rl z q : Nat} {s : TS} (hz : z < 960) (hq : q < 120) (hl : s.2.length ≤ 12) (hr : rl ≤ 12) : ∀ (n k : Nat) (M : MW), GvM M rl s → k ≤ rl → rl < n + k → (∀ j, j < k → mI M 24 (12 * z + j) = (s.1 j : Int)) → ∃ M', f_X6_give_b42 n (q : Int) (z : Int) (rl : Int) (k : Int) M = some (1, M') ∧ (∀ j, j < rl → mI M' 24 (12 * z + j) = (s.1 j : Int)) ∧ (∀ j, j < s.2.length → mI M' 25 (12 * z + j) = (nth s.2 j : Int)) ∧ mI M' 26 q = 1 ∧ ChM M M' (fun c j => (c = 24 ∧ 12 * z ≤ j ∧ j < 12 * z + 12) ∨ (c = 25 ∧ 12 * z ≤ j ∧ j < 12 * z + 12) ∨ (c = 26 ∧ j = q)) := by
  intro n
  induction n with
  | zero => intro k M _ h1 h2; omega
  | succ n ih =>
    intro k M hg h1 h2 h3
    show ∃ M', f_X6_give_s42 (f_X6_give_b42 n) _ _ _ _ M = _ ∧ _
    unfold f_X6_give_s42
    rw [w32_n rl (by omega), w32_n k (by omega)]
    by_cases e : rl ≤ k
    · rw [if_pos (by omega)]
      obtain ⟨M', f1, f2, f3, f4⟩ := m_gv76 (rl := rl) hz hq hl FU 0 M hg (by omega) (by rw [FU_v]; omega) (fun j hj => by omega)
      refine ⟨M', f1, fun j hj => ?_, f2, f3, f4.mono (fun a b h => Or.inr h)⟩
      rw [f4.2 _ _ (by omega)]
      exact h3 j (by omega)
    · rw [if_neg (by omega), ax_k (by omega), Int.toNat_natCast, rd_k, hg.2.1 k (by omega), ax_k (by omega), rd_k, show (12 * (z : Int) + (k : Int)).toNat = 12 * z + k by omega]
      have st : ChM M (msI M 24 (12 * z + k) (s.1 k : Int)) (KGv z q) := (ChM.r _ _).st (Or.inr (Or.inl ⟨rfl, by omega, by omega⟩))
      obtain ⟨M', f1, f2, f3, f4, f5⟩ := ih (k + 1) _ (hg.mv st) (by omega) (by omega) (fun j hj => by
        by_cases ej : j = k
        · rw [ej, mI_s rfl]
        · rw [mI_o (by omega)]; exact h3 j (by omega))
      exact ⟨M', f1, f2, f3, f4, ((ChM.r M _).st (Or.inl ⟨rfl, by omega, by omega⟩)).tr f5⟩
/-- what holds while states are merged -/
def MgM (M : MW) (H : HT) (a rl : Nat) (s : TS) : Prop := MH M H ∧ GvM M rl s
theorem MH.mv {M M' : MW} {H : HT} (h : MH M H) (o1 : mI M' 0 1 = mI M 0 1) (o2 : ∀ k, mI M' 1 k = mI M 1 k) (o3 : ∀ k, mI M' 2 k = mI M 2 k) : MH M' H := ⟨h.1, by rw [o1]; exact h.2.1, fun k hk => by rw [o2]; exact h.2.2.1 k hk, fun k hk => by rw [o3]; exact h.2.2.2 k hk⟩
theorem MH.kgv {M M' : MW} {H : HT} {z q : Nat} (h : MH M H) (k : ChM M M' (KGv z q)) : MH M' H :=
  h.mv (k.2 _ _ (by unfold KGv; omega)) (fun j => k.2 _ _ (by unfold KGv; omega)) (fun j => k.2 _ _ (by unfold KGv; omega))
/-- the locals are merged -/
theorem m_gv245 {H : HT} {rl z q sz : Nat} {g s : TS} (hz : z < 960) (hq : q < 120) (hr : rl ≤ 12) (hsz : sz ≤ 120) (bg : ∀ k, tyV (hn H) sz (g.1 k)) (bs : ∀ k, tyV (hn H) sz (s.1 k)) (w : Bool) : ∀ (n k : Nat) (b : Bool) (M : MW), MH M H → GvM M rl s → k ≤ rl → rl < n + k → (∀ j, j < rl → mI M 24 (12 * z + j) = ((if j < k then mrg H (g.1 j) (s.1 j) else g.1 j : Nat) : Int)) → mI M 26 q = b2i w →
    ∃ (b' : Bool) (M' : MW), f_X6_give_b245 n (q : Int) (z : Int) (rl : Int) (b2i b) (k : Int) M = some (1, M') ∧ (b' = true ↔ b = true ∨ ∃ j, k ≤ j ∧ j < rl ∧ mrg H (g.1 j) (s.1 j) ≠ g.1 j) ∧ (∀ j, j < rl → mI M' 24 (12 * z + j) = (mrg H (g.1 j) (s.1 j) : Int)) ∧ mI M' 26 q = b2i (w || b') ∧ ChM M M' (fun c j => (c = 24 ∧ 12 * z ≤ j ∧ j < 12 * z + 12) ∨ (c = 26 ∧ j = q)) := by
  intro n
  induction n with
  | zero => intro k b M _ _ h1 h2; omega
  | succ n ih =>
    intro k b M hH hg h1 h2 h3 hw
    have hn16 := hH.1.1.2
    show ∃ b' M', f_X6_give_s245 (f_X6_give_b245 n) _ _ _ _ _ M = _ ∧ _
    unfold f_X6_give_s245 f_X6_give_b344
    rw [w32_n rl (by omega), w32_n k (by omega)]
    by_cases e : rl ≤ k
    · rw [if_pos (by omega), ax_k (by omega), Int.toNat_natCast, rd_k, hw, ite_b, ite_b, ax_k (by omega), Int.toNat_natCast, rd_k, iAnd_11, ax_k (by omega), Int.toNat_natCast, rd_k, iAnd_01]
      have rr : (b = true ↔ b = true ∨ ∃ j, k ≤ j ∧ j < rl ∧ mrg H (g.1 j) (s.1 j) ≠ g.1 j) := ⟨Or.inl, fun h => h.elim id (fun ⟨j, a, b, _⟩ => by omega)⟩
      have ll : ∀ v : Int, ∀ j, j < rl → mI (msI M 26 q v) 24 (12 * z + j) = (mrg H (g.1 j) (s.1 j) : Int) := fun v j hj => by rw [mI_o (by omega), h3 j hj, if_pos (by omega)]
      have cc : ∀ v : Int, ChM M (msI M 26 q v) (fun c j => (c = 24 ∧ 12 * z ≤ j ∧ j < 12 * z + 12) ∨ (c = 26 ∧ j = q)) := fun v => (ChM.r _ _).st (Or.inr ⟨rfl, rfl⟩)
      cases w
      · cases b
        · exact ⟨false, _, rfl, rr, ll _, mI_s rfl, cc _⟩
        · exact ⟨true, _, rfl, rr, ll _, mI_s rfl, cc _⟩
      · exact ⟨b, _, rfl, rr, ll _, mI_s rfl, cc _⟩
    · have hk : k < rl := by omega
      have mv := mrg_tyV hH.1 (bg k) (bs k)
      have ml := tyV_lt mv hn16 hsz
      have gl := tyV_lt (bg k) hn16 hsz
      have v24 : mI M 24 (12 * z + k) = (g.1 k : Int) := by rw [h3 k hk, if_neg (Nat.lt_irrefl _)]
      have i24 : (12 * (z : Int) + (k : Int)).toNat = 12 * z + k := by omega
      rw [if_neg (by omega), ax_k (by omega), rd_k, i24, v24, ax_k (by omega), Int.toNat_natCast, rd_k, hg.2.1 k hk, m_merge hH hsz (bg k) (bs k), mB_k, ite_b, ax_k (by omega), rd_k, i24, v24, w32_n _ (by omega), w32_n _ (by omega)]
      have st : ChM M (msI M 24 (12 * z + k) (mrg H (g.1 k) (s.1 k) : Int)) (KGv z q) := (ChM.r _ _).st (Or.inr (Or.inl ⟨rfl, by omega, by omega⟩))
      have nx : ∀ b2 : Bool, (b2 = true ↔ (b = true ∨ mrg H (g.1 k) (s.1 k) ≠ g.1 k)) → ∃ (b' : Bool) (M' : MW), f_X6_give_b303 (f_X6_give_b245 n) (q : Int) (z : Int) (rl : Int) (k : Int) (mrg H (g.1 k) (s.1 k) : Int) (b2i b2) M = some (1, M') ∧ (b' = true ↔ b = true ∨ ∃ j, k ≤ j ∧ j < rl ∧ mrg H (g.1 j) (s.1 j) ≠ g.1 j) ∧ (∀ j, j < rl → mI M' 24 (12 * z + j) = (mrg H (g.1 j) (s.1 j) : Int)) ∧ mI M' 26 q = b2i (w || b') ∧ ChM M M' (fun c j => (c = 24 ∧ 12 * z ≤ j ∧ j < 12 * z + 12) ∨ (c = 26 ∧ j = q)) := by
        intro b2 hb2
        unfold f_X6_give_b303
        rw [ax_k (by omega), rd_k, i24]
        obtain ⟨b', M', f1, f2, f3, f4, f5⟩ := ih (k + 1) b2 _ (hH.kgv st) (hg.mv st) (by omega) (by omega) (fun j hj => by
          by_cases ej : j = k
          · rw [ej, mI_s rfl, if_pos (by omega)]
          · rw [mI_o (by omega), h3 j hj]
            by_cases lj : j < k
            · rw [if_pos lj, if_pos (by omega)]
            · rw [if_neg lj, if_neg (by omega)]) (by rw [mI_o (by omega)]; exact hw)
        refine ⟨b', M', f1, ?_, f3, f4, ((ChM.r M _).st (Or.inl ⟨rfl, by omega, by omega⟩)).tr f5⟩
        rw [f2, hb2]
        constructor
        · rintro ((hb | hm) | ⟨j, j1, j2, j3⟩)
          · exact Or.inl hb
          · exact Or.inr ⟨k, Nat.le_refl _, hk, hm⟩
          · exact Or.inr ⟨j, by omega, j2, j3⟩
        · rintro (hb | ⟨j, j1, j2, j3⟩)
          · exact Or.inl (Or.inl hb)
          · by_cases ej : j = k
            · rw [ej] at j3; exact Or.inl (Or.inr j3)
            · exact Or.inr ⟨j, by omega, j2, j3⟩
      unfold f_X6_give_b298
      cases b
      · rw [if_neg (by decide)]
        by_cases e2 : mrg H (g.1 k) (s.1 k) = g.1 k
        · rw [if_pos (by omega)]
          exact nx false ⟨fun h => absurd h (by decide), fun h => h.elim id (fun h => absurd e2 h)⟩
        · rw [if_neg (by omega)]
          exact nx true ⟨fun _ => Or.inr e2, fun _ => rfl⟩
      · rw [if_pos rfl]
        exact nx true ⟨fun _ => Or.inl rfl, fun _ => rfl⟩
