/-! LAYER C: the component's instruction on types: states, kind by kind -/
def HiO (C C' : CW) (A : Nat → Prop) : Prop := cI C' = cI C ∧ cJ C' = cJ C ∧ cR C' = cR C ∧ hK C' = hK C ∧ hL C' = hL C ∧ (∀ q, ¬ A q → hI C' q = hI C q) ∧ hJ C' = hJ C ∧ hR C' = hR C ∧ hB C' = hB C ∧ hZ C' = hZ C ∧ hS C' = hS C ∧ hE C' = hE C
theorem HiO.r (C : CW) (A : Nat → Prop) : HiO C C A := ⟨rfl, rfl, rfl, rfl, rfl, fun _ _ => rfl, rfl, rfl, rfl, rfl, rfl, rfl⟩
theorem HiO.st {C C' : CW} {A : Nat → Prop} (h : HiO C C' A) {q i : Nat} {v : Int} (hq : A q) : HiO C (hsI C' q i v) A := by
  obtain ⟨h1, h2, h3, h4, h5, h6, h7, h8, h9, ha, hb, hc⟩ := h
  refine ⟨h1, h2, h3, h4, h5, fun q' a => ?_, h7, h8, h9, ha, hb, hc⟩
  rw [← h6 q' a]
  funext j
  exact hI_ohsI (Or.inl (fun e => a (by rw [e]; exact hq)))
theorem HiO.tr {C C1 C2 : CW} {A : Nat → Prop} (h : HiO C C1 A) (k : HiO C1 C2 A) : HiO C C2 A := by
  obtain ⟨h1, h2, h3, h4, h5, h6, h7, h8, h9, ha, hb, hc⟩ := h
  obtain ⟨k1, k2, k3, k4, k5, k6, k7, k8, k9, ka, kb, kc⟩ := k
  exact ⟨k1.trans h1, k2.trans h2, k3.trans h3, k4.trans h4, k5.trans h5, fun q a => (k6 q a).trans (h6 q a), k7.trans h7, k8.trans h8, k9.trans h9, ka.trans ha, kb.trans hb, kc.trans hc⟩
theorem HiO.mono {C C' : CW} {A B : Nat → Prop} (h : HiO C C' A) (k : ∀ q, A q → B q) : HiO C C' B := by
  obtain ⟨h1, h2, h3, h4, h5, h6, h7, h8, h9, ha, hb, hc⟩ := h
  exact ⟨h1, h2, h3, h4, h5, fun q a => h6 q (fun b => a (k q b)), h7, h8, h9, ha, hb, hc⟩
theorem FrN.hi {C0 C C' : CW} {A : Nat → Prop} (f : FrN C0 C) (h : HiO C C' A) (k : ∀ q, A q → q = hB C0 + 8 ∨ q = hB C0 + 9 ∨ q = hB C0 + 10) : FrN C0 C' := by
  obtain ⟨h1, h2, h3, h4, h5, h6, h7, h8, h9, ha, hb, hc⟩ := h
  obtain ⟨f1, f2, f3, f4, f5, f6, f7, f8, f9, fa, fb, fc⟩ := f
  refine ⟨h1.trans f1, h2.trans f2, h3.trans f3, h4.trans f4, h5.trans f5, fun q a b c => (h6 q (fun z => ?_)).trans (f6 q a b c), h7.trans f7, h8.trans f8, h9.trans f9, ha.trans fa, hb.trans fb, hc.trans fc⟩
  rcases k q z with e | e | e
  · exact a e
  · exact b e
  · exact c e
/-- State.store -/
theorem c_store {C : CW} {q l i t : Nat} {L : Nat → Nat} (k1 : hK C q = 6) (k2 : hR C q 0 = some l) (k3 : hK C l = 64) (k4 : hL C l = 12) (hL' : ∀ k, k < 12 → hI C l k = (L k : Int)) (bL : ∀ k, L k < 2000) (hi : i < 12) (ht : t < 2000) (hi2 : t = 2 → i + 1 < 12) : ∃ C', f_X4_store q (i : Int) (t : Int) C = some ((), C') ∧ HiO C C' (fun z => z = l) ∧ ∀ k, k < 12 → hI C' l k = (put L i t k : Int) := by
  unfold f_X4_store
  rw [w32_n i (by omega)]
  have step : ∃ C1, (if (i : Int) ≤ 0 then f_X4_store_b25 (some q) i t C else dr (some q) fun q9 => gdB (hK C q9 == 6) <| rd (hR C q9 0) fun v10 => dr v10 fun q12 => gdB (hK C q12 == 64) <| ax ((i : Int) - 1) (hL C q12) fun j => rd (hI C q12 j) fun v11 => if w32 v11 = w32 2 then (dr (some q) fun q13 => gdB (hK C q13 == 6) <| rd (hR C q13 0) fun v14 => dr v14 fun q16 => gdB (hK C q16 == 64) <| ax ((i : Int) - 1) (hL C q16) fun j => rd (hsI C q16 j 0) fun C15 => f_X4_store_b25 (some q) i t C15) else f_X4_store_b25 (some q) i t C) = f_X4_store_b25 (some q) i t C1 ∧ HiO C C1 (fun z => z = l) ∧ ∀ k, k < 12 → hI C1 l k = ((if k + 1 = i ∧ L k = 2 then 0 else L k : Nat) : Int) := by
    by_cases i0 : i = 0
    · refine ⟨C, by rw [if_pos (by omega)], HiO.r _ _, fun k hk => ?_⟩
      rw [if_neg (by omega)]
      exact hL' k hk
    · have e1 : ((i : Int) - 1).toNat = i - 1 := by omega
      have lv := bL (i - 1)
      rw [if_neg (by omega), dr_k, gd_e k1, rd_k, k2, dr_k, gd_e k3, k4, ax_k (by omega), rd_k, e1, hL' _ (by omega), w32_n _ (by omega), show w32 2 = 2 by decide]
      by_cases t2 : L (i - 1) = 2
      · rw [if_pos (by omega), dr_k, gd_e k1, rd_k, k2, dr_k, gd_e k3, k4, ax_k (by omega), rd_k, e1]
        refine ⟨_, rfl, (HiO.r _ _).st rfl, fun k hk => ?_⟩
        by_cases ek : k + 1 = i
        · have : k = i - 1 := by omega
          subst this
          rw [hI_shsI rfl, if_pos ⟨ek, t2⟩]
          rfl
        · rw [hI_ohsI (by omega), if_neg (fun hc => ek hc.1)]
          exact hL' k hk
      · rw [if_neg (by omega)]
        refine ⟨C, rfl, HiO.r _ _, fun k hk => ?_⟩
        rw [if_neg]
        · exact hL' k hk
        · rintro ⟨ek, hk2⟩
          have : k = i - 1 := by omega
          subst this
          exact t2 hk2
  obtain ⟨C1, e, g1, g2⟩ := step
  rw [e]
  have j1 : hK C1 q = 6 := by rw [g1.2.2.2.1]; exact k1
  have j2 : hR C1 q 0 = some l := by rw [g1.2.2.2.2.2.2.2.1]; exact k2
  have j3 : hK C1 l = 64 := by rw [g1.2.2.2.1]; exact k3
  have j4 : hL C1 l = 12 := by rw [g1.2.2.2.2.1]; exact k4
  unfold f_X4_store_b25
  rw [dr_k, gd_e j1, rd_k, j2, dr_k, gd_e j3, j4, ax_k (by omega), rd_k, Int.toNat_natCast, w32_n t (by omega), show w32 2 = 2 by decide]
  by_cases t2 : t = 2
  · have := hi2 t2
    rw [if_pos (by omega), dr_k, hK_hsI, gd_e j1, rd_k, hR_hsI, j2, dr_k, gd_e j3, hL_hsI, j4, ax_k (by omega), rd_k, show ((i : Int) + 1).toNat = i + 1 by omega]
    refine ⟨_, rfl, (g1.st rfl).st rfl, fun k hk => ?_⟩
    unfold put
    by_cases k1 : k = i
    · rw [if_pos k1, k1, hI_ohsI (by omega), hI_shsI rfl]
    by_cases k2 : k = i + 1
    · rw [if_neg k1, if_pos ⟨k2, t2⟩, k2, hI_shsI rfl]; rfl
    · rw [if_neg k1, if_neg (fun hc => k2 hc.1), hI_ohsI (by omega), hI_ohsI (by omega)]
      exact g2 k hk
  · rw [if_neg (by omega)]
    refine ⟨_, rfl, g1.st rfl, fun k hk => ?_⟩
    unfold put
    by_cases k1 : k = i
    · rw [if_pos k1, k1, hI_shsI rfl]
    · rw [if_neg k1, if_neg (fun hc => t2 hc.2), hI_ohsI (by omega)]
      exact g2 k hk
/-- State.become: the stack -/
theorem c_bec33 {q l s t u n12 : Nat} {L : Nat → Nat} {stk : List Nat} (ht : t < 2000) (hl : stk.length ≤ 12) (hb : ∀ v ∈ stk, v < 2000) (hqs : q ≠ s) : ∀ (n k : Nat) (C : CW), hK C q = 6 → hR C q 1 = some s → hK C s = 64 → hL C s = 12 → hI C q 2 = (stk.length : Int) → k ≤ stk.length → stk.length < n + k → (∀ j, j < stk.length → hI C s j = ((if j < k then trn t u (nth stk j) else nth stk j : Nat) : Int)) →
    ∃ C', f_X4_become_b33 n (some q) (t : Int) (u : Int) (k : Int) C = some ((), C') ∧ HiO C C' (fun z => z = s) ∧ ∀ j, j < stk.length → hI C' s j = (trn t u (nth stk j) : Int) := by
  intro n
  induction n with
  | zero => intro k C _ _ _ _ _ h1 h2; omega
  | succ n ih =>
    intro k C a1 a2 a3 a4 a5 h1 h2 h3
    show ∃ C', f_X4_become_s33 (f_X4_become_b33 n) _ _ _ _ C = _ ∧ _
    unfold f_X4_become_s33 f_X4_become_b58
    rw [dr_k, gd_e a1, rd_k, a5, w32_n _ (by omega), w32_n k (by omega)]
    by_cases e : stk.length ≤ k
    · rw [if_pos (by omega)]
      exact ⟨C, rfl, HiO.r _ _, fun j hj => by rw [h3 j hj, if_pos (by omega)]⟩
    · have e' : k < stk.length := by omega
      have hk := nth_lt2 hb k e'
      have hv : hI C s k = (nth stk k : Int) := by rw [h3 k e', if_neg (Nat.lt_irrefl _)]
      rw [if_neg (by omega), dr_k, gd_e a1, rd_k, a2, dr_k, gd_e a3, a4, ax_k (by omega), rd_k, Int.toNat_natCast, hv, w32_n _ (by omega), w32_n t (by omega)]
      by_cases qq : nth stk k = t
      · rw [if_pos (by omega), dr_k, gd_e a1, rd_k, a2, dr_k, gd_e a3, a4, ax_k (by omega), rd_k, Int.toNat_natCast]
        obtain ⟨C', f1, f2, f3⟩ := ih (k + 1) (hsI C s k (u : Int)) a1 a2 a3 a4 (by rw [hI_ohsI (Or.inl hqs)]; exact a5) (by omega) (by omega) (by
          intro j hj
          by_cases ej : j = k
          · rw [ej, hI_shsI rfl, if_pos (by omega)]
            unfold trn
            rw [if_pos qq]
          · rw [hI_ohsI (by omega), h3 j hj]
            by_cases lj : j < k
            · rw [if_pos lj, if_pos (by omega)]
            · rw [if_neg lj, if_neg (by omega)])
        exact ⟨C', f1, (HiO.st (A := fun z => z = s) (HiO.r C _) rfl).tr f2, f3⟩
      · rw [if_neg (by omega)]
        exact ih (k + 1) C a1 a2 a3 a4 a5 (by omega) (by omega) (by
          intro j hj
          rw [h3 j hj]
          by_cases lj : j < k
          · rw [if_pos lj, if_pos (by omega)]
          · by_cases ej : j = k
            · rw [if_neg lj, if_pos (by omega), ej]
              unfold trn
              rw [if_neg qq]
            · rw [if_neg lj, if_neg (by omega)])
theorem c_bec2 {q l s t u : Nat} {L : Nat → Nat} {stk : List Nat} (ht : t < 2000) (hl : stk.length ≤ 12) (hb : ∀ v ∈ stk, v < 2000) (bL : ∀ k, L k < 2000) (hqs : q ≠ s) (hql : q ≠ l) (hls : l ≠ s) : ∀ (n k : Nat) (C : CW), hK C q = 6 → hR C q 0 = some l → hR C q 1 = some s → hK C l = 64 → hL C l = 12 → hK C s = 64 → hL C s = 12 → hI C q 2 = (stk.length : Int) → k ≤ 12 → 12 < n + k → (∀ j, j < 12 → hI C l j = ((if j < k then trn t u (L j) else L j : Nat) : Int)) → (∀ j, j < stk.length → hI C s j = (nth stk j : Int)) →
    ∃ C', f_X4_become_b2 n (some q) (t : Int) (u : Int) (k : Int) C = some ((), C') ∧ HiO C C' (fun z => z = l ∨ z = s) ∧ (∀ j, j < 12 → hI C' l j = (trn t u (L j) : Int)) ∧ ∀ j, j < stk.length → hI C' s j = (trn t u (nth stk j) : Int) := by
  intro n
  induction n with
  | zero => intro k C _ _ _ _ _ _ _ _ h1 h2; omega
  | succ n ih =>
    intro k C a1 a2 a3 a4 a5 a6 a7 a8 h1 h2 h3 h4
    show ∃ C', f_X4_become_s2 (f_X4_become_b2 n) _ _ _ _ C = _ ∧ _
    unfold f_X4_become_s2 f_X4_become_b25
    rw [w32_n k (by omega), show w32 12 = 12 by decide]
    by_cases e : 12 ≤ k
    · rw [if_pos (by omega)]
      obtain ⟨C', f1, f2, f3⟩ := c_bec33 (q := q) (s := s) (t := t) (u := u) (stk := stk) (n12 := 0) (l := l) (L := L) ht hl hb hqs FU 0 C a1 a3 a6 a7 a8 (by omega) (by rw [FU_v]; omega) (fun j hj => by rw [if_neg (by omega)]; exact h4 j hj)
      refine ⟨C', f1, f2.mono (fun q h => Or.inr h), fun j hj => ?_, f3⟩
      rw [f2.2.2.2.2.2.1 l hls, h3 j hj, if_pos (by omega)]
    · have e' : k < 12 := by omega
      have hv : hI C l k = (L k : Int) := by rw [h3 k e', if_neg (Nat.lt_irrefl _)]
      have hk := bL k
      rw [if_neg (by omega), dr_k, gd_e a1, rd_k, a2, dr_k, gd_e a4, a5, ax_k (by omega), rd_k, Int.toNat_natCast, hv, w32_n _ (by omega), w32_n t (by omega)]
      by_cases qq : L k = t
      · rw [if_pos (by omega), dr_k, gd_e a1, rd_k, a2, dr_k, gd_e a4, a5, ax_k (by omega), rd_k, Int.toNat_natCast]
        obtain ⟨C', f1, f2, f3⟩ := ih (k + 1) (hsI C l k (u : Int)) a1 a2 a3 a4 a5 a6 a7 (by rw [hI_ohsI (Or.inl hql)]; exact a8) (by omega) (by omega) (by
          intro j hj
          by_cases ej : j = k
          · rw [ej, hI_shsI rfl, if_pos (by omega)]
            unfold trn
            rw [if_pos qq]
          · rw [hI_ohsI (by omega), h3 j hj]
            by_cases lj : j < k
            · rw [if_pos lj, if_pos (by omega)]
            · rw [if_neg lj, if_neg (by omega)]) (fun j hj => by rw [hI_ohsI (Or.inl (Ne.symm hls))]; exact h4 j hj)
        exact ⟨C', f1, ((HiO.r C _).st (Or.inl rfl)).tr f2, f3⟩
      · rw [if_neg (by omega)]
        exact ih (k + 1) C a1 a2 a3 a4 a5 a6 a7 a8 (by omega) (by omega) (by
          intro j hj
          rw [h3 j hj]
          by_cases lj : j < k
          · rw [if_pos lj, if_pos (by omega)]
          · by_cases ej : j = k
            · rw [if_neg lj, if_pos (by omega), ej]
              unfold trn
              rw [if_neg qq]
            · rw [if_neg lj, if_neg (by omega)]) h4
theorem c_at {C : CW} {q : Nat} {m : MR} (h : MsC C q m) (hz : rN m ≤ 120) {k : Nat} (hk : k < rN m) {i : Int} (hi : i = (k : Int)) : f_X8_at q i C = some ((rC m k : Int), C) := by
  subst hi
  obtain ⟨g1, _, _, _, g9, _⟩ := h
  obtain ⟨ac, k1, k2, k3, k4⟩ := g9 (by omega)
  unfold f_X8_at
  rw [dr_k, gd_e g1, rd_k, k1, dr_k, gd_e k2, k3, ax_k (by omega), rd_k, Int.toNat_natCast, k4 k hk]
theorem c_load {C0 C : CW} {x : VC} {s : TS} {qf qs : List Nat} {qm p op i : Nat} (c : SCx C0 x qf qs qm p) (h : SimC C0 C x s) (hop : op = 21 ∨ op = 22 ∨ op = 25) (hi : i < rL (xm_ x)) : RX C0 x p (sLoad (rS (xm_ x)) op i s) (f_X3_load (i : Int) (op : Int) C) := by
  obtain ⟨hb, k8, r8, r8', k9, l9, k10, l10⟩ := h.k c
  have hL := c.rL
  have ht := h.2.2.2.2.2.1.1 i
  have tl := tyV_lt ht c.n16 c.xz
  have e0 : f_X3_load (i : Int) (op : Int) C = f_X3_load_b68 (s.1 i : Int) (b2i (okL op (s.1 i))) C := by
    unfold f_X3_load f_X3_load_b63
    rw [hb, dr_k, gd_e k8, rd_k, r8, dr_k, gd_e k9, l9, ax_k (by omega), rd_k, Int.toNat_natCast, h.2.1 i (by omega), w32_n op (by omega), w32_n (s.1 i) (by omega), show w32 21 = ((21 : Nat) : Int) by decide, show w32 22 = ((22 : Nat) : Int) by decide, show w32 1 = 1 by decide, show w32 2 = 2 by decide, c_isReference (by omega), cB_k, ite_b, show w32 1000 = 1000 by decide]
    exact okL_if (f := fun z => f_X3_load_b68 (s.1 i : Int) z C) (by omega)
  rw [e0]
  unfold f_X3_load_b68 sLoad
  refine RX.need (s := s) (κs := fun s => sPush (rS (xm_ x)) (s.1 i) s) c h.1 (okL op (s.1 i)) 6 _ rfl 6 rfl (fun _ => ?_)
  have := RX.bind (κs := fun s => .inr s) (κ := fun _ C2 => some (.inr (), C2)) (c_push c h (s.1 i) ht _ rfl) (fun s C' _ hs => ⟨C', rfl, hs⟩)
  rw [sB_id] at this
  exact this
theorem c_storeI {C0 C : CW} {x : VC} {s : TS} {qf qs : List Nat} {qm p op i : Nat} (c : SCx C0 x qf qs qm p) (h : SimC C0 C x s) (hop : op = 54 ∨ op = 55 ∨ op = 58) (hi : i < rL (xm_ x)) (hi2 : op = 55 → i + 1 < rL (xm_ x)) : RX C0 x p (sStore op i s) (f_X3_store (i : Int) (op : Int) C) := by
  have hL := c.rL
  unfold f_X3_store f_X3_store_b58 sStore
  refine (c_pop c h).bind fun t s C' _ hs ht => ?_
  obtain ⟨hb, k8, r8, r8', k9, l9, k10, l10⟩ := hs.k c
  have tl := tyV_lt ht c.n16 c.xz
  have e0 : (if w32 (op : Int) = w32 54 then (if w32 (t : Int) = w32 1 then f_X3_store_b63 i t 1 C' else f_X3_store_b63 i t 0 C') else if w32 (op : Int) = w32 55 then (if w32 (t : Int) = w32 2 then f_X3_store_b63 i t 1 C' else f_X3_store_b63 i t 0 C') else cB (f_X2_isReference (t : Int) C') fun v6 M5 => if w32 v6 = 0 then (if w32 (t : Int) < w32 1000 then f_X3_store_b63 i t 0 M5 else f_X3_store_b63 i t 1 M5) else f_X3_store_b63 i t 1 M5) = f_X3_store_b63 i t (b2i (okL op t)) C' := by
    rw [w32_n op (by omega), w32_n t (by omega), show w32 54 = ((54 : Nat) : Int) by decide, show w32 55 = ((55 : Nat) : Int) by decide, show w32 1 = 1 by decide, show w32 2 = 2 by decide, c_isReference (by omega), cB_k, ite_b, show w32 1000 = 1000 by decide]
    exact okL_if (f := fun z => f_X3_store_b63 i (t : Int) z C') (by omega)
  rw [e0]
  unfold f_X3_store_b63
  refine RX.need (s := s) (κs := fun s => .inr (put s.1 i t, s.2)) c hs.1 (okL op t) 6 _ rfl 6 rfl (fun q => ?_)
  have t2 : t = 2 → i + 1 < rL (xm_ x) := by
    intro t2
    refine hi2 ?_
    subst t2
    rcases hop with rfl | rfl | rfl
    · exact absurd q (by decide)
    · rfl
    · exact absurd q (by decide)
  obtain ⟨g1, g2, g3, g4, g5, g6, g7, g8⟩ := hs
  obtain ⟨C2, e2, f1, f2⟩ := c_store (i := i) (t := t) k8 r8 k9 l9 g2 (fun k => by have := tyV_lt (g6.1 k) c.n16 c.xz; omega) (by omega) (by omega) (fun e => by have := t2 e; omega)
  rw [hb, dr_k, gd_e k8, e2, cB_k]
  have o : ∀ q, q ≠ hB C0 + 9 → hI C2 q = hI C' q := f1.2.2.2.2.2.1
  refine ⟨C2, rfl, g1.hi f1 (fun q h => Or.inr (Or.inl h)), f2, fun k hk => by rw [o _ (by omega)]; exact g3 k hk, by rw [o _ (by omega)]; exact g4, by rw [o _ (by omega)]; exact g5, ⟨put_tyV g6.1 ht i, g6.2⟩, g7, fun k hk => ?_⟩
  have z := g8 k hk
  show put s.1 i t k = 0
  unfold put
  rw [if_neg (by omega)]
  repeat' split
  · rfl
  · rfl
  · exact z
