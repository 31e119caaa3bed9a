/-! LAYER C: the model's instruction on types: fields, calls, objects, all -/
theorem SMx.fi {M : MW} {x : VC} {a i : Nat} (c : SMx M x a) (hi : i < fN (xF_ x)) : i < 16 ∧ mI M 3 i = (fC (xF_ x) i : Int) ∧ mI M 4 i = (fT (xF_ x) i : Int) ∧ fC (xF_ x) i < hn (xH_ x) ∧ tyT (hn (xH_ x)) (fT (xF_ x) i) = true := by
  obtain ⟨⟨_, h1⟩, h2, h3, _⟩ := c.2.1
  exact ⟨by omega, (h1 i (by omega)).1, (h1 i (by omega)).2.1, (h3 i hi).1, (h3 i hi).2⟩
theorem m_fieldOf {M0 M : MW} {x : VC} {a op i : Nat} {s : TS} (c : SMx M0 x a) (h : SimM M0 M x s) (hop : 178 ≤ op ∧ op ≤ 181) (hi : i < fN (xF_ x)) : ∃ M', f_X6_fieldOf (op : Int) (i : Int) M = some ((), M') ∧ SE M0 M' x (sField (xH_ x) (xF_ x) (rS (xm_ x)) op i s) := by
  obtain ⟨i16, _, _, q1, q2⟩ := c.fi hi
  have tv : tyV (hn (xH_ x)) (xz x) (fT (xF_ x) i) := tyT_V q2
  have cv : tyV (hn (xH_ x)) (xz x) (32 + fC (xF_ x) i) := Or.inr (Or.inl (by omega))
  have b58 : ∀ (M1 : MW) (r : Nat ⊕ TS), SE M0 M1 x r → ∃ M', f_X6_fieldOf_b58 (i : Int) M1 = some ((), M') ∧ SE M0 M' x (sB r (sPush (rS (xm_ x)) (fT (xF_ x) i))) := by
    intro M1 r hr
    unfold f_X6_fieldOf_b58
    rw [ax_k (by omega), Int.toNat_natCast, rd_k, ((c.mv hr.fr).fi hi).2.2.1]
    obtain ⟨M2, e2, k2⟩ := m_push c hr tv
    rw [e2, mB_k]
    exact ⟨M2, rfl, k2⟩
  have b44 : ∀ (M1 : MW) (r : Nat ⊕ TS), SE M0 M1 x r → ∃ M', f_X6_fieldOf_b44 (op : Int) (i : Int) M1 = some ((), M') ∧ SE M0 M' x (sB r fun s => if op = 178 ∨ op = 180 then sPush (rS (xm_ x)) (fT (xF_ x) i) s else .inr s) := by
    intro M1 r hr
    unfold f_X6_fieldOf_b44
    rw [w32_n op (by omega), show w32 178 = 178 by decide, show w32 180 = 180 by decide]
    by_cases o : op = 178 ∨ op = 180
    · simp only [if_pos o]
      rcases o with o | o
      · rw [if_pos (by omega)]; exact b58 M1 r hr
      · rw [if_neg (by omega), if_pos (by omega)]; exact b58 M1 r hr
    · simp only [if_neg o, sB_id]
      rw [if_neg (by omega), if_neg (by omega)]
      exact ⟨M1, rfl, hr⟩
  have b24 : ∀ (M1 : MW) (r : Nat ⊕ TS), SE M0 M1 x r → ∃ M', f_X6_fieldOf_b24 (op : Int) (i : Int) M1 = some ((), M') ∧ SE M0 M' x (sB (sB r fun s => if 180 ≤ op then sWant (xH_ x) (32 + fC (xF_ x) i) s else .inr s) fun s => if op = 178 ∨ op = 180 then sPush (rS (xm_ x)) (fT (xF_ x) i) s else .inr s) := by
    intro M1 r hr
    unfold f_X6_fieldOf_b24
    rw [w32_n op (by omega), show w32 179 = 179 by decide]
    by_cases o : 180 ≤ op
    · rw [if_neg (by omega), ax_k (by omega), Int.toNat_natCast, rd_k, ((c.mv hr.fr).fi hi).2.1]
      obtain ⟨M2, e2, k2⟩ := m_wantI c hr _ cv (32 + (fC (xF_ x) i : Int)) (by omega)
      rw [e2, mB_k]
      simp only [if_pos o]
      exact b44 M2 _ k2
    · rw [if_pos (by omega)]
      simp only [if_neg o, sB_id]
      exact b44 M1 _ hr
  unfold f_X6_fieldOf
  rw [w32_n op (by omega), show w32 179 = 179 by decide, show w32 181 = 181 by decide]
  unfold sField
  rw [← sB_a]
  by_cases o : op = 179 ∨ op = 181
  · have : ∃ M', f_X6_fieldOf_b14 (op : Int) (i : Int) M = some ((), M') ∧ SE M0 M' x (sB (sB (sWant (xH_ x) (fT (xF_ x) i) s) fun s => if 180 ≤ op then sWant (xH_ x) (32 + fC (xF_ x) i) s else .inr s) fun s => if op = 178 ∨ op = 180 then sPush (rS (xm_ x)) (fT (xF_ x) i) s else .inr s) := by
      unfold f_X6_fieldOf_b14
      rw [ax_k (by omega), Int.toNat_natCast, rd_k, ((c.mv h.1).fi hi).2.2.1]
      obtain ⟨M2, e2, k2⟩ := m_want (r := .inr s) c h tv
      rw [e2, mB_k]
      exact b24 M2 _ k2
    rw [if_pos o]
    rcases o with o | o
    · rw [if_pos (by omega)]; exact this
    · rw [if_neg (by omega), if_pos (by omega)]; exact this
  · rw [if_neg o, if_neg (by omega), if_neg (by omega)]
    exact b24 M _ h
theorem take_rev {l : List Nat} {k : Nat} {t : Nat} (h : l[k]? = some t) : (l.take (k + 1)).reverse = t :: (l.take k).reverse := by
  rw [List.take_add_one, h]
  simp
theorem m_call_b9 {M0 : MW} {x : VC} {a i : Nat} {m : MR} (c : SMx M0 x a) (hi : (xM_ x)[i]? = some m) : ∀ (k n : Nat) (M : MW) (r : Nat ⊕ TS), SE M0 M x r → k < n → k ≤ (rA m).length → ∃ M', f_X6_call_b9 n (i : Int) ((k : Int) - 1) M = some ((), M') ∧ SE M0 M' x (sB (sB r (sArgs (xH_ x) ((rA m).take k).reverse)) fun s => if rR m = 0 then .inr s else sPush (rS (xm_ x)) (rR m) s) := by
  have so := (c.2.2.1.2.2 i m hi).1
  have ilt : i < 8 := by
    have := (List.getElem?_eq_some_iff.mp hi).1
    have := c.2.2.1.2.1
    omega
  intro k
  induction k with
  | zero =>
    intro n M r hr hnn hk
    obtain ⟨n, rfl⟩ : ∃ j, n = j + 1 := ⟨n - 1, by omega⟩
    show ∃ M', f_X6_call_s9 (f_X6_call_b9 n) _ _ M = _ ∧ _
    unfold f_X6_call_s9
    have sg := ((c.mv hr.fr).2.2.1.2.2 i m hi).2
    have rv : tyV (hn (xH_ x)) (xz x) (rR m) := by
      rcases so.2.2.1 with e | e
      · rw [e]; exact Or.inl (by omega)
      · exact tyT_V e
    have rl := tyV_lt rv c.n16 c.xz
    rw [if_pos (by decide), ax_k (by omega), Int.toNat_natCast, rd_k, ax_k (by omega), Int.toNat_natCast, rd_k, sg.2.2.1, w32_n _ (by omega)]
    have e0 : sB r (sArgs (xH_ x) ((rA m).take 0).reverse) = r := sB_id r
    rw [e0]
    by_cases z : rR m = 0
    · rw [if_pos (by omega)]
      simp only [if_pos z, sB_id]
      exact ⟨M, rfl, hr⟩
    · rw [if_neg (by omega)]
      simp only [if_neg z]
      obtain ⟨M2, e2, k2⟩ := m_push c hr rv
      rw [e2, mB_k]
      exact ⟨M2, rfl, k2⟩
  | succ k ih =>
    intro n M r hr hnn hk
    obtain ⟨n, rfl⟩ : ∃ j, n = j + 1 := ⟨n - 1, by omega⟩
    show ∃ M', f_X6_call_s9 (f_X6_call_b9 n) _ _ M = _ ∧ _
    unfold f_X6_call_s9
    have hk4 := so.1
    have sg := ((c.mv hr.fr).2.2.1.2.2 i m hi).2
    obtain ⟨t, ht⟩ : ∃ t, (rA m)[k]? = some t := ⟨(rA m)[k], List.getElem?_eq_getElem (by omega)⟩
    have tv : tyV (hn (xH_ x)) (xz x) t := tyT_V (so.2.1 t (List.mem_of_getElem? ht))
    rw [show (((k + 1 : Nat) : Int) - 1) = (k : Int) by omega, w32_n k (by omega), if_neg (by omega), ax_k (by omega), rd_k, show (4 * (i : Int) + (k : Int)).toNat = 4 * i + k by omega, sg.2.1 k t ht]
    obtain ⟨M2, e2, k2⟩ := m_want c hr tv
    rw [e2, mB_k, take_rev ht]
    obtain ⟨M', e', k'⟩ := ih n M2 _ k2 (by omega) (by omega)
    refine ⟨M', ?_, ?_⟩
    · rw [← e']; rfl
    · have e3 : sB r (sArgs (xH_ x) (t :: ((rA m).take k).reverse)) = sB (sB r (sWant (xH_ x) t)) (sArgs (xH_ x) ((rA m).take k).reverse) := (sB_a _ _ _).symm
      rw [e3]
      exact k'
theorem m_call {M0 M : MW} {x : VC} {a i : Nat} {m : MR} {s : TS} (c : SMx M0 x a) (h : SimM M0 M x s) (hi : (xM_ x)[i]? = some m) : ∃ M', f_X6_call (i : Int) M = some ((), M') ∧ SE M0 M' x (sCall (xH_ x) (rS (xm_ x)) m s) := by
  have ilt : i < 8 := by
    have := (List.getElem?_eq_some_iff.mp hi).1
    have := c.2.2.1.2.1
    omega
  have so := (c.2.2.1.2.2 i m hi).1
  have sg := ((c.mv h.1).2.2.1.2.2 i m hi).2
  unfold f_X6_call
  rw [ax_k (by omega), Int.toNat_natCast, rd_k, sg.1, rd_k]
  obtain ⟨M', e', k'⟩ := m_call_b9 c hi (rA m).length FU M (.inr s) h (by rw [FU_v]; have := so.1; omega) (Nat.le_refl _)
  refine ⟨M', e', ?_⟩
  rw [List.take_length] at k'
  exact k'
theorem nth_map {f : Nat → Nat} : ∀ (l : List Nat) (k : Nat), k < l.length → nth (l.map f) k = f (nth l k)
  | [], k, h => absurd h (Nat.not_lt_zero _)
  | t :: l, k, h => by
    have h' : k < l.length + 1 := h
    show (if k = (l.map f).length then f t else nth (l.map f) k) = f (if k = l.length then t else nth l k)
    rw [List.length_map]
    split
    · rfl
    · exact nth_map l k (by omega)
theorem nth_mem : ∀ (l : List Nat) (k : Nat), k < l.length → nth l k ∈ l
  | [], k, h => absurd h (Nat.not_lt_zero _)
  | t :: l, k, h => by
    have h' : k < l.length + 1 := h
    show (if k = l.length then t else nth l k) ∈ _
    split
    · exact List.mem_cons_self ..
    · exact List.mem_cons_of_mem _ (nth_mem l k (by omega))
theorem mem_nth {u : Nat} : ∀ (l : List Nat), u ∈ l → ∃ k, k < l.length ∧ nth l k = u
  | [], h => absurd h (by simp)
  | t :: l, h => by
    rcases List.mem_cons.mp h with e | e
    · exact ⟨l.length, Nat.lt_succ_self _, by rw [nth_top, e]⟩
    · obtain ⟨k, hk, e⟩ := mem_nth l e
      exact ⟨k, Nat.lt_succ_of_lt hk, by rw [nth_lt hk]; exact e⟩
theorem wds_map {f : Nat → Nat} (hf : ∀ t, f t = 2 ↔ t = 2) : ∀ l : List Nat, wds (l.map f) = wds l
  | [] => rfl
  | t :: l => by
    show (if f t = 2 then 2 else 1) + wds (l.map f) = (if t = 2 then 2 else 1) + wds l
    rw [wds_map hf l]
    by_cases e : t = 2
    · rw [if_pos e, if_pos ((hf t).mpr e)]
    · rw [if_neg e, if_neg (fun h => e ((hf t).mp h))]
/-- the second loop: the stack -/
theorem m_turn57 {l : List Nat} {t u : Nat} (ht : t < 2000) (hl : l.length ≤ 12) (hb : ∀ v ∈ l, v < 2000) : ∀ (n k : Nat) (b : Bool) (M : MW), k ≤ l.length → l.length < n + k → (b = true ↔ ∃ j, j < k ∧ nth l j = t) → (∀ j, j < l.length → mI M 31 j = ((if j < k then trn t u (nth l j) else nth l j : Nat) : Int)) → mI M 0 40 = (l.length : Int) →
    ∃ (b' : Bool) (M' : MW), f_X6_turn_b57 n (t : Int) (u : Int) (b2i b) (k : Int) M = some (b2i b', M') ∧ (b' = true ↔ ∃ j, j < l.length ∧ nth l j = t) ∧ (∀ j, j < l.length → mI M' 31 j = (trn t u (nth l j) : Int)) ∧ mJ M' = mJ M ∧ ∀ q j, q ≠ 31 → mI M' q j = mI M q j := by
  intro n
  induction n with
  | zero => intro k b M h1 h2; omega
  | succ n ih =>
    intro k b M h1 h2 hbk h3 h4
    show ∃ b' M', f_X6_turn_s57 (f_X6_turn_b57 n) _ _ _ _ M = _ ∧ _
    unfold f_X6_turn_s57
    rw [rd_k, h4, w32_n _ (by omega), w32_n k (by omega)]
    by_cases e : l.length ≤ k
    · have ek : k = l.length := by omega
      subst ek
      rw [if_pos (by omega), b2i_isZ, gd_t]
      exact ⟨b, M, rfl, hbk, fun j hj => by rw [h3 j hj, if_pos hj], rfl, fun _ _ _ => rfl⟩
    · have e' : k < l.length := by omega
      have hk := nth_lt2 hb k e'
      have hv : mI M 31 k = (nth l k : Int) := by rw [h3 k e', if_neg (Nat.lt_irrefl _)]
      have cont : ∀ b2 : Bool, (b2 = true ↔ ∃ j, j < k + 1 ∧ nth l j = t) → ∃ (b' : Bool) (M' : MW), f_X6_turn_b86 (f_X6_turn_b57 n) (t : Int) (u : Int) (k : Int) (b2i b2) M = some (b2i b', M') ∧ (b' = true ↔ ∃ j, j < l.length ∧ nth l j = t) ∧ (∀ j, j < l.length → mI M' 31 j = (trn t u (nth l j) : Int)) ∧ mJ M' = mJ M ∧ ∀ q j, q ≠ 31 → mI M' q j = mI M q j := by
        intro b2 hb2
        have wr : ∀ v : Nat, v = trn t u (nth l k) → ∃ (b' : Bool) (M' : MW), f_X6_turn_b115 (f_X6_turn_b57 n) (t : Int) (u : Int) (b2i b2) (k : Int) (k : Int) (v : Int) M = some (b2i b', M') ∧ (b' = true ↔ ∃ j, j < l.length ∧ nth l j = t) ∧ (∀ j, j < l.length → mI M' 31 j = (trn t u (nth l j) : Int)) ∧ mJ M' = mJ M ∧ ∀ q j, q ≠ 31 → mI M' q j = mI M q j := by
          intro v hv2
          unfold f_X6_turn_b115
          rw [ax_k (by omega), rd_k, Int.toNat_natCast]
          have g3 : ∀ j, j < l.length → mI (msI M 31 k (v : Int)) 31 j = ((if j < k + 1 then trn t u (nth l j) else nth l j : Nat) : Int) := by
            intro j hj
            by_cases ej : j = k
            · subst ej; rw [mI_s rfl, if_pos (by omega), hv2]
            · rw [mI_o (by omega), h3 j hj]
              by_cases lj : j < k
              · rw [if_pos lj, if_pos (by omega)]
              · rw [if_neg lj, if_neg (by omega)]
          obtain ⟨b', M', f1, f2, f3, f4, f5⟩ := ih (k + 1) b2 (msI M 31 k (v : Int)) (by omega) (by omega) hb2 g3 (by rw [mI_o (by omega)]; exact h4)
          exact ⟨b', M', f1, f2, f3, f4, fun q j hq => by rw [f5 q j hq, mI_o (Or.inl hq)]⟩
        unfold f_X6_turn_b86
        rw [ax_k (by omega), rd_k, Int.toNat_natCast, hv, w32_n _ (by omega), w32_n t (by omega), ax_k (by omega), rd_k, Int.toNat_natCast, hv]
        by_cases q : nth l k = t
        · rw [if_pos (by omega)]
          exact wr u (by unfold trn; rw [if_pos q])
        · rw [if_neg (by omega)]
          exact wr (nth l k) (by unfold trn; rw [if_neg q])
      have up : ∀ b2 : Bool, (b2 = true ↔ (b = true ∨ nth l k = t)) → (b2 = true ↔ ∃ j, j < k + 1 ∧ nth l j = t) := by
        intro b2 h
        rw [h, hbk]
        constructor
        · rintro (⟨j, hj, e⟩ | e)
          · exact ⟨j, by omega, e⟩
          · exact ⟨k, by omega, e⟩
        · rintro ⟨j, hj, ee⟩
          by_cases ej : j = k
          · rw [ej] at ee; exact Or.inr ee
          · exact Or.inl ⟨j, by omega, ee⟩
      rw [if_neg (by omega), ite_b]
      unfold f_X6_turn_b81
      cases b with
      | true =>
        rw [if_pos rfl]
        exact cont true (up true ⟨fun _ => Or.inl rfl, fun _ => rfl⟩)
      | false =>
        rw [if_neg (by decide), ax_k (by omega), rd_k, Int.toNat_natCast, hv, w32_n _ (by omega), w32_n t (by omega)]
        by_cases q : nth l k = t
        · rw [if_pos (by omega)]
          exact cont true (up true ⟨fun _ => Or.inr q, fun _ => rfl⟩)
        · rw [if_neg (by omega)]
          exact cont false (up false ⟨fun hf => absurd hf (by decide), fun hf => hf.elim (fun g => absurd g (by decide)) (fun g => absurd g q)⟩)
/-- the first loop: the locals -/
theorem m_turn5 {M0 : MW} {x : VC} {a : Nat} {L : Nat → Nat} {l : List Nat} {t u : Nat} (c : SMx M0 x a) (ht : t < 2000) (hl : l.length ≤ 12) (hb : ∀ v ∈ l, v < 2000) (hL : ∀ k, L k < 2000) : ∀ (n k : Nat) (M : MW), FrS M0 M → k ≤ rL (xm_ x) → rL (xm_ x) < n + k → (∀ j, j < rL (xm_ x) → mI M 29 j = ((if j < k then trn t u (L j) else L j : Nat) : Int)) → (∀ j, j < l.length → mI M 31 j = (nth l j : Int)) → mI M 0 40 = (l.length : Int) → mI M 0 35 = 0 →
    ∃ (b' : Bool) (M' : MW), f_X6_turn_b5 n (t : Int) (u : Int) 0 (k : Int) M = some (b2i b', M') ∧ (b' = true ↔ ∃ j, j < l.length ∧ nth l j = t) ∧ (∀ j, j < rL (xm_ x) → mI M' 29 j = (trn t u (L j) : Int)) ∧ (∀ j, j < l.length → mI M' 31 j = (trn t u (nth l j) : Int)) ∧ FrS M0 M' ∧ mI M' 0 40 = (l.length : Int) ∧ mI M' 0 35 = 0 := by
  have hLL := c.rL
  have ha := c.2.2.2.1
  intro n
  induction n with
  | zero => intro k M _ h1 h2; omega
  | succ n ih =>
    intro k M hf h1 h2 h3 h4 h5 h6
    show ∃ b' M', f_X6_turn_s5 (f_X6_turn_b5 n) _ _ _ _ M = _ ∧ _
    unfold f_X6_turn_s5
    have cM := c.mv hf
    rw [rd_k, cM.2.2.2.2.1, ax_k (by omega), Int.toNat_natCast, rd_k, cM.so.2.2.2.2.2.2.1, w32_n _ (by omega), w32_n k (by omega)]
    by_cases e : rL (xm_ x) ≤ k
    · have ek : k = rL (xm_ x) := by omega
      rw [if_pos (by omega)]
      obtain ⟨b', M', f1, f2, f3, f4, f5⟩ := m_turn57 (u := u) ht hl hb FU 0 false M (by omega) (by rw [FU_v]; omega) (by simp) (fun j hj => by rw [if_neg (by omega)]; exact h4 j hj) h5
      refine ⟨b', M', f1, f2, fun j hj => ?_, f3, ⟨f4.trans hf.1, fun q j a1 a2 a3 => ?_, fun j a1 a2 => ?_⟩, ?_, ?_⟩
      · rw [f5 29 j (by omega), h3 j hj, if_pos (by omega)]
      · rw [f5 q j a3]; exact hf.2.1 q j a1 a2 a3
      · rw [f5 0 j (by omega)]; exact hf.2.2 j a1 a2
      · rw [f5 0 40 (by omega)]; exact h5
      · rw [f5 0 35 (by omega)]; exact h6
    · have e' : k < rL (xm_ x) := by omega
      have hv : mI M 29 k = (L k : Int) := by rw [h3 k e', if_neg (Nat.lt_irrefl _)]
      have hk := hL k
      have wr : ∀ v : Nat, v = trn t u (L k) → ∃ (b' : Bool) (M' : MW), f_X6_turn_b47 (f_X6_turn_b5 n) (t : Int) (u : Int) 0 (k : Int) (k : Int) (v : Int) M = some (b2i b', M') ∧ (b' = true ↔ ∃ j, j < l.length ∧ nth l j = t) ∧ (∀ j, j < rL (xm_ x) → mI M' 29 j = (trn t u (L j) : Int)) ∧ (∀ j, j < l.length → mI M' 31 j = (trn t u (nth l j) : Int)) ∧ FrS M0 M' ∧ mI M' 0 40 = (l.length : Int) ∧ mI M' 0 35 = 0 := by
        intro v hv2
        unfold f_X6_turn_b47
        rw [ax_k (by omega), rd_k, Int.toNat_natCast]
        refine ih (k + 1) (msI M 29 k (v : Int)) ⟨hf.1, fun q j a1 a2 a3 => ?_, fun j a1 a2 => ?_⟩ (by omega) (by omega) (fun j hj => ?_) (fun j hj => ?_) ?_ ?_
        · rw [mI_o (Or.inl a2)]; exact hf.2.1 q j a1 a2 a3
        · rw [mI_o (by omega)]; exact hf.2.2 j a1 a2
        · by_cases ej : j = k
          · subst ej; rw [mI_s rfl, if_pos (by omega), hv2]
          · rw [mI_o (by omega), h3 j hj]
            by_cases lj : j < k
            · rw [if_pos lj, if_pos (by omega)]
            · rw [if_neg lj, if_neg (by omega)]
        · rw [mI_o (by omega)]; exact h4 j hj
        · rw [mI_o (by omega)]; exact h5
        · rw [mI_o (by omega)]; exact h6
      rw [if_neg (by omega), ax_k (by omega), rd_k, Int.toNat_natCast, hv, w32_n _ (by omega), w32_n t (by omega), ax_k (by omega), rd_k, Int.toNat_natCast, hv]
      by_cases q : L k = t
      · rw [if_pos (by omega)]
        exact wr u (by unfold trn; rw [if_pos q])
      · rw [if_neg (by omega)]
        exact wr (L k) (by unfold trn; rw [if_neg q])
theorem m_turn {M0 M : MW} {x : VC} {a t u : Nat} {s : TS} (c : SMx M0 x a) (h : SimM M0 M x s) (ht : 1000 ≤ t ∧ t < 2000) (hu : tyV (hn (xH_ x)) (xz x) u) (hu2 : u ≠ 2) : ∃ (b : Bool) (M' : MW), f_X6_turn (t : Int) (u : Int) M = some (b2i b, M') ∧ (b = true ↔ t ∈ s.2) ∧ SimM M0 M' x ((fun k => trn t u (s.1 k)), s.2.map (trn t u)) := by
  obtain ⟨L, l⟩ := s
  obtain ⟨h1, h2, h3, h4, h5, h6, h7, h8⟩ := h
  dsimp only at h2 h3 h4 h7 h8
  have hS := c.rS
  have hll := wds_len l
  have bL : ∀ k, L k < 2000 := fun k => by have := tyV_lt (h6.1 k) c.n16 c.xz; dsimp only at this; omega
  have bl : ∀ v ∈ l, v < 2000 := fun v hv => by have := tyV_lt (h6.2 v hv) c.n16 c.xz; omega
  have hLL := c.rL
  unfold f_X6_turn
  obtain ⟨b', M', f1, f2, f3, f4, f5, f6, f7⟩ := m_turn5 (u := u) (l := l) (L := L) c ht.2 (by omega) bl bL FU 0 M h1 (by omega) (by rw [FU_v]; omega) (fun j hj => by rw [if_neg (by omega)]; exact h2 j hj) h3 h4 h5
  have tv : ∀ v, tyV (hn (xH_ x)) (xz x) v → tyV (hn (xH_ x)) (xz x) (trn t u v) := by
    intro v hv
    unfold trn
    split
    · exact hu
    · exact hv
  refine ⟨b', M', f1, ?_, f5, f3, ?_, ?_, f7, ⟨fun k => tv _ (h6.1 k), fun v hv => ?_⟩, ?_, fun k hk => ?_⟩
  · rw [f2]
    constructor
    · rintro ⟨j, hj, e⟩
      rw [← e]; exact nth_mem l j hj
    · exact mem_nth l
  · intro k hk
    dsimp only at hk ⊢
    rw [List.length_map] at hk
    rw [f4 k hk, nth_map l k hk]
  · dsimp only
    rw [f6, List.length_map]
  · obtain ⟨w, hw, e⟩ := List.mem_map.mp hv
    rw [← e]; exact tv _ (h6.2 w hw)
  · dsimp only
    rw [wds_map (fun v => ?_) l]
    · exact h7
    · unfold trn
      split
      · constructor
        · intro e; exact absurd e hu2
        · intro e; omega
      · exact Iff.rfl
  · dsimp only
    rw [h8 k hk]
    unfold trn
    rw [if_neg (by omega)]
