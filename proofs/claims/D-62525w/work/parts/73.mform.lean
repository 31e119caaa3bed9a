/-! LAYER C: the model's form -/
theorem i2s_b (a : Int) : -32768 ≤ i2s a ∧ i2s a < 32768 := by
  unfold i2s
  rw [Int16.toInt_toInt32]
  exact ⟨Int16.le_toInt _, Int16.toInt_lt _⟩
theorem tgt_b (c : Nat → Nat) (p : Nat) (hp : p < 120) : -40000 < tgt c p ∧ tgt c p < 40000 := by
  unfold tgt
  have := i2s_b (iOr (iShl (c (p + 1)) 8) (c (p + 2)))
  omega
theorem b2i_inj {a b : Bool} (h : b2i a = b2i b) : a = b := by
  cases a <;> cases b
  · rfl
  · exact absurd h (by decide)
  · exact absurd h (by decide)
  · rfl
theorem ite_bd {α : Type} {P : Prop} [Decidable P] {a b : α} : (if w32 (b2i (decide P)) = 0 then a else b) = if P then b else a := by
  rw [ite_b]
  by_cases h : P
  · rw [if_pos h, if_pos (decide_eq_true h)]
  · rw [if_neg h, if_neg (by rw [decide_eq_false h]; decide)]
theorem m_w305 {M : MW} {op i : Nat} (h1 : op < 256) (h2 : i < 256) : f_X6_wrong_b305 (op : Int) (i : Int) M = some ((w305 op i : Int), M) := by
  unfold f_X6_wrong_b305 w305
  rw [w32_n op (by omega), w32_n i (by omega), show w32 188 = 188 by decide, show w32 10 = 10 by decide, show w32 11 = 11 by decide]
  by_cases e : op = 188
  · rw [if_pos (by omega)]
    by_cases e1 : i = 10
    · rw [if_pos (by omega), if_neg (by omega)]; rfl
    · rw [if_neg (by omega)]
      by_cases e2 : i = 11
      · rw [if_pos (by omega), if_neg (by omega)]; rfl
      · rw [if_neg (by omega), if_pos (by omega)]; rfl
  · rw [if_neg (by omega), if_neg (by omega)]; rfl
theorem m_w264 {M : MW} {x : VC} {a op i : Nat} (cS : SMx M x a) (h1 : op < 256) (h2 : i < 256) : f_X6_wrong_b264 (op : Int) (i : Int) M = some ((w264 x op i : Int), M) := by
  obtain ⟨c1, c2, c3⟩ := cS.2.2.1
  unfold f_X6_wrong_b264 f_X6_wrong_b299 w264
  rw [rd_k (mI M 0 8), c1, w32_n op (by omega), w32_n i (by omega), show w32 184 = 184 by decide, w32_n _ (by omega)]
  by_cases e : op = 184
  · rw [if_pos (by omega)]
    by_cases e1 : (xM_ x).length ≤ i
    · have z : zN x i = 0 := by unfold zN; rw [List.getElem?_eq_none e1]
      rw [if_pos (by omega), if_pos ⟨e, z⟩]; rfl
    · rw [if_neg (by omega)]
      have hm : (xM_ x)[i]? = some ((xM_ x)[i]'(by omega)) := List.getElem?_eq_getElem _
      obtain ⟨so, sg⟩ := c3 i _ hm
      have z : zN x i = rN ((xM_ x)[i]'(by omega)) := by unfold zN; rw [hm]
      rw [rd_k, w32_n _ (by omega), if_neg (by omega), ax_k (by omega), Int.toNat_natCast, rd_k, sg.2.2.2.1, ← z]
      have : zN x i ≤ 120 := by rw [z]; exact so.2.2.2.1
      rw [w32_n _ (by omega)]
      by_cases e2 : zN x i = 0
      · rw [if_pos (by omega), if_pos ⟨e, e2⟩]; rfl
      · rw [if_neg (by omega), if_neg (fun h => e2 h.2)]; exact m_w305 h1 h2
  · rw [if_neg (by omega), if_neg (fun h => e h.1)]; exact m_w305 h1 h2
theorem m_w232 {M : MW} {x : VC} {a op i : Nat} (cS : SMx M x a) (h1 : op < 256) (h2 : i < 256) : f_X6_wrong_b232 (op : Int) (i : Int) M = some ((w232 x op i : Int), M) := by
  have s : f_X6_wrong_b253 (op : Int) (i : Int) M = some (((if hn (xH_ x) ≤ i then 3 else w264 x op i : Nat) : Int), M) := by
    unfold f_X6_wrong_b253
    rw [m_isClass cS.1 (w32_n i (by omega)), mB_k, ite_bd]
    by_cases e : hn (xH_ x) ≤ i
    · rw [if_neg (by omega), if_pos e]; rfl
    · rw [if_pos (by omega), if_neg e]; exact m_w264 cS h1 h2
  by_cases e1 : op = 189 ∨ op = 192 ∨ op = 193
  · have es : w232 x op i = if hn (xH_ x) ≤ i then 3 else w264 x op i := by
      unfold w232
      by_cases e : hn (xH_ x) ≤ i
      · rw [if_pos ⟨e1, e⟩, if_pos e]
      · rw [if_neg (fun h => e h.2), if_neg e]
    rw [es, ← s]
    unfold f_X6_wrong_b232
    rw [w32_n op (by omega), show w32 189 = 189 by decide, show w32 192 = 192 by decide, show w32 193 = 193 by decide]
    rcases e1 with e1 | e1 | e1
    · rw [if_pos (by omega)]
    · rw [if_neg (by omega), if_pos (by omega)]
    · rw [if_neg (by omega), if_neg (by omega), if_pos (by omega)]
  · have es : w232 x op i = w264 x op i := by
      unfold w232
      rw [if_neg (fun h => e1 h.1)]
    rw [es, ← m_w264 cS h1 h2]
    unfold f_X6_wrong_b232
    rw [w32_n op (by omega), show w32 189 = 189 by decide, show w32 192 = 192 by decide, show w32 193 = 193 by decide, if_neg (by omega), if_neg (by omega), if_neg (by omega)]
theorem m_w184 {M : MW} {x : VC} {a op i : Nat} (cS : SMx M x a) (h1 : op < 256) (h2 : i < 256) : f_X6_wrong_b184 (op : Int) (i : Int) M = some ((w184 x op i : Int), M) := by
  have hH := cS.1.1.1
  have s : f_X6_wrong_b198 (op : Int) (i : Int) M = some (((if hn (xH_ x) ≤ i ∨ hf (xH_ x) i = true then 3 else w232 x op i : Nat) : Int), M) := by
    unfold f_X6_wrong_b198 f_X6_wrong_b226
    rw [m_isClass cS.1 (w32_n i (by omega)), mB_k, ite_bd]
    by_cases e : hn (xH_ x) ≤ i
    · rw [if_neg (by omega), if_pos (Or.inl e)]; rfl
    · rw [if_pos (by omega), m_isClass cS.1 (w32_n i (by omega)), mB_k, ite_bd, if_pos (by omega), ax_k (by omega), Int.toNat_natCast, rd_k, cS.1.2.2.2 i (by omega), ite_b]
      by_cases e2 : hf (xH_ x) i = true
      · rw [if_pos e2, if_pos (Or.inr e2)]; rfl
      · rw [if_neg e2, if_neg (fun h => h.elim e e2)]; exact m_w232 cS h1 h2
  by_cases e1 : op = 183 ∨ op = 187
  · have es : w184 x op i = if hn (xH_ x) ≤ i ∨ hf (xH_ x) i = true then 3 else w232 x op i := by
      unfold w184
      by_cases e : hn (xH_ x) ≤ i ∨ hf (xH_ x) i = true
      · rw [if_pos ⟨e1, e⟩, if_pos e]
      · rw [if_neg (fun h => e h.2), if_neg e]
    rw [es, ← s]
    unfold f_X6_wrong_b184
    rw [w32_n op (by omega), show w32 183 = 183 by decide, show w32 187 = 187 by decide]
    rcases e1 with e1 | e1
    · rw [if_pos (by omega)]
    · rw [if_neg (by omega), if_pos (by omega)]
  · have es : w184 x op i = w232 x op i := by
      unfold w184
      rw [if_neg (fun h => e1 h.1)]
    rw [es, ← m_w232 cS h1 h2]
    unfold f_X6_wrong_b184
    rw [w32_n op (by omega), show w32 183 = 183 by decide, show w32 187 = 187 by decide, if_neg (by omega), if_neg (by omega)]
theorem m_w125 {M : MW} {x : VC} {a op i : Nat} (cS : SMx M x a) (h1 : op < 256) (h2 : i < 256) : f_X6_wrong_b125 (op : Int) (i : Int) M = some ((w125 x op i : Int), M) := by
  obtain ⟨⟨b1, b2⟩, b3⟩ := cS.2.1
  have n16 := b3.1
  by_cases e : 178 ≤ op ∧ op ≤ 181
  · by_cases e1 : fN (xF_ x) ≤ i
    · have es : w125 x op i = 3 := by unfold w125; rw [if_pos ⟨e, Or.inl e1⟩]
      rw [es]
      unfold f_X6_wrong_b125
      rw [mB_in (by omega), ite_bd, if_pos (by omega), rd_k (mI M 0 4), b1, w32_n _ (by omega), w32_n i (by omega), if_pos (by omega)]; rfl
    · have s : f_X6_wrong_b125 (op : Int) (i : Int) M = f_X6_wrong_b179 op i (b2i (fS (xF_ x) i)) (b2i (decide (op < 180))) M := by
        unfold f_X6_wrong_b125 f_X6_wrong_b166
        rw [mB_in (by omega), ite_bd, if_pos (by omega), rd_k (mI M 0 4), b1, w32_n _ (by omega), w32_n i (by omega), if_neg (by omega), rd_k, w32_n _ (by omega), if_neg (by omega), ax_k (by omega), Int.toNat_natCast, rd_k, (b2 i (by omega)).2.2, w32_n op (by omega), show w32 180 = 180 by decide]
        by_cases e2 : op < 180
        · rw [if_neg (by omega), decide_eq_true e2]; rfl
        · rw [if_pos (by omega), decide_eq_false e2]; rfl
      rw [s]
      unfold f_X6_wrong_b179
      rw [w32_b2i, w32_b2i, m_w184 cS h1 h2]
      by_cases e3 : fS (xF_ x) i = decide (op < 180)
      · have es : w125 x op i = w184 x op i := by unfold w125; rw [if_neg (fun h => h.2.elim e1 (fun k => k e3))]
        rw [es, e3, if_pos rfl]
      · have es : w125 x op i = 3 := by unfold w125; rw [if_pos ⟨e, Or.inr e3⟩]
        rw [es, if_neg (fun h => e3 (b2i_inj h))]; rfl
  · have es : w125 x op i = w184 x op i := by unfold w125; rw [if_neg (fun h => e h.1)]
    rw [es]
    unfold f_X6_wrong_b125
    rw [mB_in (by omega), ite_bd, if_neg (by omega)]
    exact m_w184 cS h1 h2
theorem m_w70 {M : MW} {x : VC} {a op i : Nat} (cS : SMx M x a) (h1 : op < 256) (h0 : 0 < szo op) (h2 : i < 256) : f_X6_wrong_b51 (a : Int) (op : Int) (i : Int) M = some ((w70 x op i : Int), M) := by
  have ha := cS.2.2.2.1
  have l12 := cS.rL
  have s1 : ∀ k : Nat, k ≤ 1 → f_X6_wrong_b113 (a : Int) (op : Int) (i : Int) (i : Int) (k : Int) M = some (((if rL (xm_ x) ≤ i + k then 2 else w125 x op i : Nat) : Int), M) := by
    intro k hk
    unfold f_X6_wrong_b113
    rw [ax_k (by omega), Int.toNat_natCast, rd_k, cS.so.2.2.2.2.2.2.1, w32_n _ (by omega), w32_i (by omega), m_w125 cS h1 h2]
    by_cases e : rL (xm_ x) ≤ i + k
    · rw [if_neg (by omega), if_pos e]; rfl
    · rw [if_pos (by omega), if_neg e]
  have s2 : ∀ k : Nat, k ≤ 1 → f_X6_wrong_b70 (a : Int) (op : Int) (i : Int) (k : Int) M = some (((if isLo op = true ∧ rL (xm_ x) ≤ i + k then 2 else w125 x op i : Nat) : Int), M) := by
    intro k hk
    have s3 : f_X6_wrong_b101 (a : Int) (op : Int) (i : Int) (k : Int) M = some (((if rL (xm_ x) ≤ i + k then 2 else w125 x op i : Nat) : Int), M) := by
      unfold f_X6_wrong_b101
      have t0 := s1 0 (by omega)
      have t1 := s1 1 (by omega)
      have w0 : w32 (k : Int) = (k : Int) := w32_n k (by omega)
      rw [w0]
      by_cases e : k = 0
      · subst e; rw [if_pos (by omega)]; exact t0
      · have : k = 1 := by omega
        subst this; rw [if_neg (by decide)]; exact t1
    unfold f_X6_wrong_b70
    rw [mB_in (by omega), ite_bd, mB_in (by omega), ite_bd, s3, m_w125 cS h1 h2, w32_n op (by omega), show w32 132 = 132 by decide]
    have hz := szo_pos h0 h1
    by_cases e : isLo op = true
    · have e' := e
      unfold isLo at e'
      rw [decide_eq_true_eq] at e'
      have ea : (if isLo op = true ∧ rL (xm_ x) ≤ i + k then 2 else w125 x op i) = if rL (xm_ x) ≤ i + k then 2 else w125 x op i := by
        by_cases e2 : rL (xm_ x) ≤ i + k
        · rw [if_pos ⟨e, e2⟩, if_pos e2]
        · rw [if_neg (fun h => e2 h.2), if_neg e2]
      rw [ea]
      by_cases e3 : (21 : Int) ≤ op ∧ (op : Int) ≤ 25
      · rw [if_pos e3]
      · rw [if_neg e3]
        by_cases e4 : (54 : Int) ≤ op ∧ (op : Int) ≤ 58
        · rw [if_pos e4]
        · rw [if_neg e4, if_pos (by omega)]
    · have e' := e
      unfold isLo at e'
      rw [decide_eq_true_eq] at e'
      rw [if_neg (by omega), if_neg (by omega), if_neg (by omega), if_neg (fun h => e h.1)]
  unfold f_X6_wrong_b51 f_X6_wrong_b65 w70
  have t0 := s2 0 (by omega)
  have t1 := s2 1 (by omega)
  rw [w32_n op (by omega), show w32 22 = 22 by decide, show w32 55 = 55 by decide]
  by_cases e : op = 22 ∨ op = 55
  · rw [if_pos e]
    rcases e with e | e
    · rw [if_pos (by omega)]; exact t1
    · rw [if_neg (by omega), if_pos (by omega)]; exact t1
  · rw [if_neg e, if_neg (by omega), if_neg (by omega)]; exact t0
theorem m_wrong {M : MW} {x : VC} {a p : Nat} (cS : SMx M x a) (hp : p < rN (xm_ x)) : f_X6_wrong (a : Int) (p : Int) M = some ((wrg x p : Int), M) := by
  have ha := cS.2.2.2.1
  have hN : rN (xm_ x) ≤ 120 := cS.so.1.2.2.2.1
  have oplt := cS.so.1.2.2.2.2.2.2 p
  have szl := szo_le (rC (xm_ x) p)
  unfold f_X6_wrong
  rw [m_at cS (by omega) rfl, mB_k, m_length oplt, mB_k, w32_n _ (by omega)]
  by_cases e : szo (rC (xm_ x) p) = 0
  · have es : wrg x p = 1 := by unfold wrg; rw [if_pos (Or.inl e)]
    rw [if_pos (by omega), es]; rfl
  · rw [if_neg (by omega), ax_k (by omega), Int.toNat_natCast, rd_k, cS.so.2.2.2.2.1, w32_n _ (by omega), w32_i (by omega), show w32 1 = 1 by decide]
    by_cases e2 : rN (xm_ x) < p + szo (rC (xm_ x) p)
    · have es : wrg x p = 1 := by unfold wrg; rw [if_pos (Or.inr e2)]
      rw [if_neg (by omega), es]; rfl
    · have es : wrg x p = w70 x (rC (xm_ x) p) (opi (rC (xm_ x)) p) := by unfold wrg; rw [if_neg (fun h => h.elim e e2)]
      rw [if_pos (by omega), es]
      by_cases e3 : szo (rC (xm_ x) p) = 1
      · have eo : opi (rC (xm_ x)) p = 0 := by unfold opi; rw [if_pos e3]
        rw [eo, if_pos (by omega)]
        exact m_w70 (i := 0) cS oplt (by omega) (by omega)
      · have eo : opi (rC (xm_ x)) p = rC (xm_ x) (p + 1) := by unfold opi; rw [if_neg e3]
        rw [eo, if_neg (by omega), m_at cS (k := p + 1) (by omega) (by omega), mB_k]
        exact m_w70 cS oplt (by omega) (cS.so.1.2.2.2.2.2.2 _)
