/-! LAYER C: the component gives a state to a place: loops -/
/-- what stands while a state at q' is merged into one at qh -/
def GvX (C : CW) (H : HT) (qm qh q' rl : Nat) (s : TS) : Prop := CH C H ∧ cR C 204 7 = some qm ∧ hK C qm = 7 ∧ hI C qm 4 = (rl : Int) ∧ StSh C qh ∧ StA C q' s
theorem GvX.hi {C C' : CW} {H : HT} {qm qh q' rl : Nat} {s : TS} {A : Nat → Prop} (h : GvX C H qm qh q' rl s) (k : HiO C C' A) (hA : ∀ z, A z → z = qh + 1 ∨ z = qh + 2) (hd : qh + 3 ≤ q' ∨ q' + 3 ≤ qh) : GvX C' H qm qh q' rl s := by
  obtain ⟨h1, h2, h3, h4, h5, h6⟩ := h
  have nm : ¬ A qm := fun a => by
    rcases hA qm a with e | e
    · have := h5.2.2.2.1; rw [← e, h3] at this; omega
    · have := h5.2.2.2.2.2.1; rw [← e, h3] at this; omega
  refine ⟨?_, by rw [k.2.2.1]; exact h2, by rw [k.2.2.2.1]; exact h3, by rw [k.2.2.2.2.2.1 _ nm]; exact h4, h5.hi k, h6.hi k (fun a => by have := hA _ a; omega) (fun a => by have := hA _ a; omega) (fun a => by have := hA _ a; omega)⟩
  unfold CH at *
  rw [k.1]; exact h1
theorem iOr_b (a b : Bool) : iOr (b2i a) (b2i b) = b2i (a || b) := by cases a <;> cases b <;> decide +kernel
theorem c_gv77 {H : HT} {qm qh q' rl sz p : Nat} {g s : TS} (hd : qh + 3 ≤ q' ∨ q' + 3 ≤ qh) (hr : rl ≤ 12) (hsz : sz ≤ 120) (bg : ∀ k, tyV (hn H) sz (g.1 k)) (bs : ∀ k, tyV (hn H) sz (s.1 k)) : ∀ (n k : Nat) (b : Bool) (C : CW), GvX C H qm qh q' rl s → k ≤ rl → rl < n + k → (∀ j, j < 12 → hI C (qh + 1) j = ((if j < k then mrg H (g.1 j) (s.1 j) else g.1 j : Nat) : Int)) →
    ∃ (b' : Bool) (C' : CW), f_X3_give_b77 n (p : Int) (some q') (some qh) (b2i b) (k : Int) C = f_X3_give_b152 FU (p : Int) (some q') (some qh) (b2i b') 0 C' ∧ (b' = true ↔ b = true ∨ ∃ j, k ≤ j ∧ j < rl ∧ mrg H (g.1 j) (s.1 j) ≠ g.1 j) ∧ (∀ j, j < 12 → hI C' (qh + 1) j = ((if j < rl then mrg H (g.1 j) (s.1 j) else g.1 j : Nat) : Int)) ∧ HiO C C' (fun z => z = qh + 1) := by
  intro n
  induction n with
  | zero => intro k b C _ h1 h2; omega
  | succ n ih =>
    intro k b C hx h1 h2 h3
    have hx0 := hx
    obtain ⟨x1, x2, x3, x4, ⟨a1, a2, a3, a4, a5, a6, a7⟩, ⟨⟨b1, b2, b3, b4, b5, b6, b7⟩, c1, c2, c3, c4⟩⟩ := hx
    have n16 := x1.1.1.2
    show ∃ b' C', f_X3_give_s77 (f_X3_give_b77 n) _ _ _ _ _ C = _ ∧ _
    unfold f_X3_give_s77
    rw [rd_k, x2, dr_k, gd_e x3, rd_k, x4, w32_n _ (by omega), w32_n k (by omega)]
    by_cases e : rl ≤ k
    · have ek : k = rl := by omega
      rw [if_pos (by omega)]
      exact ⟨b, C, rfl, ⟨Or.inl, fun h => h.elim id (fun ⟨j, a, b, _⟩ => by omega)⟩, by rw [← ek]; exact h3, HiO.r _ _⟩
    · have hk : k < rl := by omega
      have mv := mrg_tyV x1.1 (bg k) (bs k)
      have ml := tyV_lt mv n16 hsz
      have gl := tyV_lt (bg k) n16 hsz
      have vg : hI C (qh + 1) k = (g.1 k : Int) := by rw [h3 k (by omega), if_neg (Nat.lt_irrefl _)]
      rw [if_neg (by omega), dr_k, gd_e a1, rd_k, a2, dr_k, gd_e a4, a5, ax_k (by omega), Int.toNat_natCast, rd_k, vg, dr_k, gd_e b1, rd_k, b2, dr_k, gd_e b4, b5, ax_k (by omega), Int.toNat_natCast, rd_k, c3 k (by omega), c_merge x1 hsz (bg k) (bs k), cB_k, dr_k, gd_e a1, rd_k, a2, dr_k, gd_e a4, a5, ax_k (by omega), Int.toNat_natCast, rd_k, vg, w32_n _ (by omega), w32_n _ (by omega)]
      have nx : ∀ (b1' : Bool), (b1' = true ↔ mrg H (g.1 k) (s.1 k) ≠ g.1 k) → ∃ (b' : Bool) (C' : CW), f_X3_give_b131 (f_X3_give_b77 n) (p : Int) (some q') (some qh) (k : Int) (mrg H (g.1 k) (s.1 k) : Int) (b2i b) (b2i b1') C = f_X3_give_b152 FU (p : Int) (some q') (some qh) (b2i b') 0 C' ∧ (b' = true ↔ b = true ∨ ∃ j, k ≤ j ∧ j < rl ∧ mrg H (g.1 j) (s.1 j) ≠ g.1 j) ∧ (∀ j, j < 12 → hI C' (qh + 1) j = ((if j < rl then mrg H (g.1 j) (s.1 j) else g.1 j : Nat) : Int)) ∧ HiO C C' (fun z => z = qh + 1) := by
        intro b1' hb1
        unfold f_X3_give_b131
        rw [iOr_b, rd_k, dr_k, gd_e a1, rd_k, a2, dr_k, gd_e a4, a5, ax_k (by omega), Int.toNat_natCast, rd_k]
        have st : HiO C (hsI C (qh + 1) k (mrg H (g.1 k) (s.1 k) : Int)) (fun z => z = qh + 1) := (HiO.r _ _).st rfl
        obtain ⟨b', C', f1, f2, f3, f4⟩ := ih (k + 1) (b || b1') _ (hx0.hi st (fun z h => Or.inl h) hd) (by omega) (by omega) (fun j hj => by
          by_cases ej : j = k
          · rw [ej, hI_shsI rfl, if_pos (by omega)]
          · rw [hI_ohsI (by omega), h3 j hj]
            by_cases lj : j < k
            · rw [if_pos lj, if_pos (by omega)]
            · rw [if_neg lj, if_neg (by omega)])
        refine ⟨b', C', f1, ?_, f3, st.tr f4⟩
        rw [f2, Bool.or_eq_true, hb1]
        constructor
        · rintro ((hb | hm) | ⟨j, j1, j2, j3⟩)
          · exact Or.inl hb
          · exact Or.inr ⟨k, Nat.le_refl _, hk, hm⟩
          · exact Or.inr ⟨j, by omega, j2, j3⟩
        · rintro (hb | ⟨j, j1, j2, j3⟩)
          · exact Or.inl (Or.inl hb)
          · by_cases ej : j = k
            · rw [ej] at j3; exact Or.inl (Or.inr j3)
            · exact Or.inr ⟨j, by omega, j2, j3⟩
      by_cases e2 : mrg H (g.1 k) (s.1 k) = g.1 k
      · rw [if_pos (by omega)]
        exact nx false ⟨fun h => absurd h (by decide), fun h => absurd e2 h⟩
      · rw [if_neg (by omega)]
        exact nx true ⟨fun _ => e2, fun _ => rfl⟩
/-- the stack; a fault is thrown where it merges to nothing -/
theorem c_gv152 {H : HT} {qm qh q' rl sz p : Nat} {g s : TS} (hd : qh + 3 ≤ q' ∨ q' + 3 ≤ qh) (hsz : sz ≤ 120) (hl : g.2.length = s.2.length) (hl2 : s.2.length ≤ 12) (bg : ∀ t ∈ g.2, tyV (hn H) sz t) (bs : ∀ t ∈ s.2, tyV (hn H) sz t) (ng : ∀ t ∈ g.2, t ≠ 0) : ∀ (n k : Nat) (b : Bool) (C : CW), GvX C H qm qh q' rl s → hZ C + 1 ≤ 600384 → hS C + 8 ≤ 7290858 → k ≤ s.2.length → s.2.length < n + k → (∀ j, j < s.2.length → hI C (qh + 2) j = ((if j < k then mrg H (nth g.2 j) (nth s.2 j) else nth g.2 j : Nat) : Int)) → (∀ j, j < k → mrg H (nth g.2 j) (nth s.2 j) ≠ 0) →
    ((∃ j, j < s.2.length ∧ mrg H (nth g.2 j) (nth s.2 j) = 0) ∧ ∃ C1 C', HiO C C1 (fun z => z = qh + 2) ∧ f_X3_give_b152 n (p : Int) (some q') (some qh) (b2i b) (k : Int) C = some (.inl (hB C + hZ C), C') ∧ NwX C1 C' (hB C + hZ C) 13 8 ∧ hI C' (hB C + hZ C) 6 = 9 ∧ hI C' (hB C + hZ C) 7 = (p : Int)) ∨
    ((∀ j, j < s.2.length → mrg H (nth g.2 j) (nth s.2 j) ≠ 0) ∧ ∃ (b' : Bool) (C' : CW), f_X3_give_b152 n (p : Int) (some q') (some qh) (b2i b) (k : Int) C = (if b' = true then cB (f_X3_wait (p : Int) C') fun _ C26 => some (.inr (), C26) else some (.inr (), C')) ∧ (b' = true ↔ b = true ∨ ∃ j, k ≤ j ∧ j < s.2.length ∧ mrg H (nth g.2 j) (nth s.2 j) ≠ nth g.2 j) ∧ (∀ j, j < s.2.length → hI C' (qh + 2) j = (mrg H (nth g.2 j) (nth s.2 j) : Int)) ∧ HiO C C' (fun z => z = qh + 2)) := by
  intro n
  induction n with
  | zero => intro k b C _ _ _ h1 h2; omega
  | succ n ih =>
    intro k b C hx r1 r2 h1 h2 h3 h0
    have hx0 := hx
    obtain ⟨x1, x2, x3, x4, ⟨a1, a2, a3, a4, a5, a6, a7⟩, ⟨⟨b1, b2, b3, b4, b5, b6, b7⟩, c1, c2, c3, c4⟩⟩ := hx
    have n16 := x1.1.1.2
    have un : f_X3_give_b152 (n + 1) (p : Int) (some q') (some qh) (b2i b) (k : Int) C = f_X3_give_s152 (f_X3_give_b152 n) (p : Int) (some q') (some qh) (b2i b) (k : Int) C := rfl
    rw [un]
    unfold f_X3_give_s152
    rw [dr_k, gd_e b1, rd_k, c1, w32_n _ (by omega), w32_n k (by omega)]
    by_cases e : s.2.length ≤ k
    · rw [if_pos (by omega)]
      refine Or.inr ⟨fun j hj => h0 j (by omega), b, C, ?_, ⟨Or.inl, fun h => h.elim id (fun ⟨j, a, b, _⟩ => by omega)⟩, fun j hj => by rw [h3 j hj, if_pos (by omega)], HiO.r _ _⟩
      cases b <;> rfl
    · have hk : k < s.2.length := by omega
      have bgk := bg _ (nth_mem g.2 k (by omega))
      have bsk := bs _ (nth_mem s.2 k hk)
      have mv := mrg_tyV x1.1 bgk bsk
      have ml := tyV_lt mv n16 hsz
      have gl := tyV_lt bgk n16 hsz
      have sl := tyV_lt bsk n16 hsz
      have vg : hI C (qh + 2) k = (nth g.2 k : Int) := by rw [h3 k hk, if_neg (Nat.lt_irrefl _)]
      have vs := c4 k hk
      rw [if_neg (show ¬ (s.2.length : Int) ≤ (k : Int) by omega), dr_k, gd_e a1, rd_k, a3, dr_k, gd_e a6, a7, ax_k (by omega), Int.toNat_natCast, rd_k, vg, dr_k, gd_e b1, rd_k, b3, dr_k, gd_e b6, b7, ax_k (by omega), Int.toNat_natCast, rd_k, vs, c_merge x1 hsz bgk bsk, cB_k, w32_n _ (by omega)]
      have st : HiO C (hsI C (qh + 2) k (mrg H (nth g.2 k) (nth s.2 k) : Int)) (fun z => z = qh + 2) := (HiO.r _ _).st rfl
      by_cases m0 : mrg H (nth g.2 k) (nth s.2 k) = 0
      · rw [if_pos (show ((mrg H (nth g.2 k) (nth s.2 k) : Nat) : Int) = 0 by omega), dr_k, gd_e a1, rd_k, a3, dr_k, gd_e a6, a7, ax_k (by omega), Int.toNat_natCast, rd_k, vg, dr_k, gd_e b1, rd_k, b3, dr_k, gd_e b6, b7, ax_k (by omega), Int.toNat_natCast, rd_k, vs, w32_n _ (by omega), w32_n _ (by omega)]
        have ne : ¬ nth g.2 k = nth s.2 k := by
          intro e2
          rw [← e2, mrg_self] at m0
          exact ng _ (nth_mem g.2 k (by omega)) m0
        rw [if_neg (show ¬ ((nth g.2 k : Nat) : Int) = (nth s.2 k : Int) by omega)]
        unfold f_X3_give_b211
        rcases c_hold (C := C) false 9 (p : Int) r1 r2 with ⟨z, _⟩ | ⟨_, C', e1, e2, e3, e4⟩
        · cases z
        · have e1' : f_X1_hold 0 9 (p : Int) C = some (.inl (hB C + hZ C), C') := e1
          rw [e1', xB_l]
          exact Or.inl ⟨⟨k, hk, m0⟩, C, C', HiO.r _ _, rfl, e2, e3, e4⟩
      · rw [if_neg (show ¬ ((mrg H (nth g.2 k) (nth s.2 k) : Nat) : Int) = 0 by omega)]
        have nx : ∀ (b1' : Bool), (b1' = true ↔ mrg H (nth g.2 k) (nth s.2 k) ≠ nth g.2 k) → ((∃ j, j < s.2.length ∧ mrg H (nth g.2 j) (nth s.2 j) = 0) ∧ ∃ C1 C', HiO C C1 (fun z => z = qh + 2) ∧ f_X3_give_b236 (f_X3_give_b152 n) (p : Int) (some q') (some qh) (k : Int) (mrg H (nth g.2 k) (nth s.2 k) : Int) (b2i b) (b2i b1') C = some (.inl (hB C + hZ C), C') ∧ NwX C1 C' (hB C + hZ C) 13 8 ∧ hI C' (hB C + hZ C) 6 = 9 ∧ hI C' (hB C + hZ C) 7 = (p : Int)) ∨
            ((∀ j, j < s.2.length → mrg H (nth g.2 j) (nth s.2 j) ≠ 0) ∧ ∃ (b' : Bool) (C' : CW), f_X3_give_b236 (f_X3_give_b152 n) (p : Int) (some q') (some qh) (k : Int) (mrg H (nth g.2 k) (nth s.2 k) : Int) (b2i b) (b2i b1') C = (if b' = true then cB (f_X3_wait (p : Int) C') fun _ C26 => some (.inr (), C26) else some (.inr (), C')) ∧ (b' = true ↔ b = true ∨ ∃ j, k ≤ j ∧ j < s.2.length ∧ mrg H (nth g.2 j) (nth s.2 j) ≠ nth g.2 j) ∧ (∀ j, j < s.2.length → hI C' (qh + 2) j = (mrg H (nth g.2 j) (nth s.2 j) : Int)) ∧ HiO C C' (fun z => z = qh + 2)) := by
          intro b1' hb1
          unfold f_X3_give_b236
          rw [iOr_b, rd_k, dr_k, gd_e a1, rd_k, a3, dr_k, gd_e a6, a7, ax_k (by omega), Int.toNat_natCast, rd_k]
          rcases ih (k + 1) (b || b1') _ (hx0.hi st (fun z h => Or.inr h) hd) r1 r2 (by omega) (by omega) (fun j hj => by
            by_cases ej : j = k
            · rw [ej, hI_shsI rfl, if_pos (by omega)]
            · rw [hI_ohsI (by omega), h3 j hj]
              by_cases lj : j < k
              · rw [if_pos lj, if_pos (by omega)]
              · rw [if_neg lj, if_neg (by omega)]) (fun j hj => by
            by_cases ej : j = k
            · rw [ej]; exact m0
            · exact h0 j (by omega)) with ⟨g1, C1, C', g2, g3, g4, g5, g6⟩ | ⟨g1, b', C', g2, g3, g4, g5⟩
          · exact Or.inl ⟨g1, C1, C', st.tr g2, g3, g4, g5, g6⟩
          · refine Or.inr ⟨g1, b', C', g2, ?_, g4, st.tr g5⟩
            rw [g3, Bool.or_eq_true, hb1]
            constructor
            · rintro ((hb | hm) | ⟨j, j1, j2, j3⟩)
              · exact Or.inl hb
              · exact Or.inr ⟨k, Nat.le_refl _, hk, hm⟩
              · exact Or.inr ⟨j, by omega, j2, j3⟩
            · rintro (hb | ⟨j, j1, j2, j3⟩)
              · exact Or.inl (Or.inl hb)
              · by_cases ej : j = k
                · rw [ej] at j3; exact Or.inl (Or.inr j3)
                · exact Or.inr ⟨j, by omega, j2, j3⟩
        unfold f_X3_give_b206 f_X3_give_b211
        rcases c_hold (C := C) true 9 (p : Int) r1 r2 with ⟨_, e1⟩ | ⟨z, _⟩
        · have e1' : f_X1_hold 1 9 (p : Int) C = some (.inr (), C) := e1
          rw [e1', xB_r, dr_k, gd_e a1, rd_k, a3, dr_k, gd_e a6, a7, ax_k (by omega), Int.toNat_natCast, rd_k, vg, w32_n _ (by omega), w32_n _ (by omega)]
          by_cases e2 : mrg H (nth g.2 k) (nth s.2 k) = nth g.2 k
          · rw [if_pos (by omega)]
            exact nx false ⟨fun h => absurd h (by decide), fun h => absurd e2 h⟩
          · rw [if_neg (by omega)]
            exact nx true ⟨fun _ => e2, fun _ => rfl⟩
        · cases z
