/-! LAYER C: the model's pops and pushes -/
theorem nth_top (t : Nat) (l : List Nat) : nth (t :: l) l.length = t := if_pos rfl
theorem nth_lt {t k : Nat} {l : List Nat} (h : k < l.length) : nth (t :: l) k = nth l k := if_neg (by omega)
theorem SMx.so {M : MW} {x : VC} {a : Nat} (c : SMx M x a) : SgO (hn (xH_ x)) (xm_ x) ∧ MSg M a (xm_ x) := c.2.2.1.2.2 _ _ c.2.2.2.2.2
theorem SMx.rS {M : MW} {x : VC} {a : Nat} (c : SMx M x a) : rS (xm_ x) ≤ 12 := c.so.1.2.2.2.2.1
theorem SMx.rL {M : MW} {x : VC} {a : Nat} (c : SMx M x a) : rL (xm_ x) ≤ 12 := c.so.1.2.2.2.2.2.1
theorem SMx.xz {M : MW} {x : VC} {a : Nat} (c : SMx M x a) : xz x ≤ 120 := c.so.1.2.2.2.1
theorem SMx.n16 {M : MW} {x : VC} {a : Nat} (c : SMx M x a) : hn (xH_ x) ≤ 16 := c.1.1.1.2
theorem WTs.cons {n sz t : Nat} {L : Nat → Nat} {l : List Nat} (h : WTs n sz (L, t :: l)) : WTs n sz (L, l) ∧ tyV n sz t := ⟨⟨h.1, fun u hu => h.2 u (List.mem_cons_of_mem _ hu)⟩, h.2 t (List.mem_cons_self ..)⟩
theorem m_pop {M0 M : MW} {x : VC} {a : Nat} {r : Nat ⊕ TS} (c : SMx M0 x a) (h : SE M0 M x r) : ∃ v M', f_X6_pop M = some (v, M') ∧ SV M0 M' x v (sB r sPop) := by
  have hS := c.rS
  unfold f_X6_pop
  cases r with
  | inl b =>
    obtain ⟨h1, ⟨cc, hc, e⟩, h3, h4, h5⟩ := h
    by_cases z : cc = 0
    · subst z
      obtain ⟨M', e', k⟩ := m_miss (r := .inl b) (x := x) ⟨h1, ⟨0, hc, e⟩, h3, h4, h5⟩ hS 6 (by omega)
      rw [rd_k, e, if_pos (by decide), show ((6 : Int)) = ((6 : Nat) : Int) from rfl, e', mB_k]
      exact ⟨_, _, rfl, k⟩
    · rw [rd_k, e, w32_n _ (by omega), if_neg (by omega), rd_k, rd_k, rd_k, mI_s rfl, ax_k (by omega), rd_k]
      refine ⟨_, _, rfl, ⟨h1.1, fun k j c d e => ?_, fun j c d => ?_⟩, ⟨cc - 1, by omega, ?_⟩, ?_, h4, h5⟩
      · rw [mI_o (Or.inl c)]; exact h1.2.1 k j c d e
      · rw [mI_o (Or.inr c)]; exact h1.2.2 j c d
      · rw [mI_s rfl]; omega
      · rw [mI_o (by omega)]; exact h3
  | inr s =>
    obtain ⟨L, l⟩ := s
    obtain ⟨h1, h2, h3, h4, h5, h6, h7, h8⟩ := h
    cases l with
    | nil =>
      obtain ⟨M', e', k⟩ := m_miss (r := .inr (L, [])) (x := x) ⟨h1, h2, h3, h4, h5, h6, h7, h8⟩ hS 6 (by omega)
      have h40 : mI M 0 40 = 0 := h4
      rw [rd_k, h40, if_pos (by decide), show ((6 : Int)) = ((6 : Nat) : Int) from rfl, e', mB_k]
      exact ⟨_, _, rfl, k⟩
    | cons t l =>
      have hl := wds_len (t :: l)
      have h4' : mI M 0 40 = ((l.length + 1 : Nat) : Int) := h4
      have hll : l.length + 1 ≤ 12 := by
        have : (t :: l).length = l.length + 1 := rfl
        dsimp only at h7
        omega
      rw [rd_k, h4', w32_n _ (by omega), if_neg (by omega), rd_k, rd_k, rd_k, mI_s rfl, ax_k (by omega), rd_k, show (((l.length + 1 : Nat) : Int) - 1).toNat = l.length by omega]
      refine ⟨_, _, rfl, ?_, ⟨⟨h1.1, fun k j c d e => ?_, fun j c d => ?_⟩, fun k hk => ?_, fun k hk => ?_, ?_, ?_, h6.cons.1, ?_, h8⟩, h6.cons.2⟩
      · rw [mI_o (by omega), h3 l.length (Nat.lt_succ_self _)]
        show ((nth (t :: l) l.length : Nat) : Int) = _
        rw [nth_top]
      · rw [mI_o (Or.inl c)]; exact h1.2.1 k j c d e
      · rw [mI_o (Or.inr c)]; exact h1.2.2 j c d
      · rw [mI_o (by omega)]; exact h2 k hk
      · rw [mI_o (by omega), h3 k (Nat.lt_succ_of_lt hk)]
        show ((nth (t :: l) k : Nat) : Int) = _
        rw [nth_lt hk]
      · rw [mI_s rfl]
        show (((l.length + 1 : Nat) : Int) - 1) = (l.length : Int)
        omega
      · rw [mI_o (by omega)]; exact h5
      · have : wds (t :: l) = (if t = 2 then 2 else 1) + wds l := rfl
        dsimp only at h7 ⊢
        omega
/-- words of the k entries from below -/
def wdU : List Nat → Nat → Nat
  | [], _ => 0
  | t :: l, k => if k ≤ l.length then wdU l k else (if t = 2 then 2 else 1) + wds l
theorem wdU_all : ∀ l : List Nat, wdU l l.length = wds l
  | [] => rfl
  | t :: l => if_neg (by show ¬ l.length + 1 ≤ l.length; omega)
theorem wdU_0 : ∀ l : List Nat, wdU l 0 = 0
  | [] => rfl
  | t :: l => (if_pos (Nat.zero_le _)).trans (wdU_0 l)
theorem wdU_s : ∀ (l : List Nat) (k : Nat), k < l.length → wdU l (k + 1) = wdU l k + (if nth l k = 2 then 2 else 1)
  | [], k, h => absurd h (Nat.not_lt_zero _)
  | t :: l, k, h => by
    have h' : k < l.length + 1 := h
    by_cases e : k = l.length
    · subst e
      rw [nth_top]
      show (if l.length + 1 ≤ l.length then _ else (if t = 2 then 2 else 1) + wds l) = (if l.length ≤ l.length then wdU l l.length else _) + _
      rw [if_neg (by omega), if_pos (Nat.le_refl _), wdU_all, Nat.add_comm]
    · rw [nth_lt (by omega)]
      show (if k + 1 ≤ l.length then wdU l (k + 1) else _) = (if k ≤ l.length then wdU l k else _) + _
      rw [if_pos (by omega), if_pos (by omega)]
      exact wdU_s l k (by omega)
theorem wdU_le : ∀ (l : List Nat) (k : Nat), wdU l k ≤ wds l
  | [], _ => Nat.le_refl _
  | t :: l, k => by
    show (if k ≤ l.length then wdU l k else _) ≤ (if t = 2 then 2 else 1) + wds l
    split
    · have := wdU_le l k
      omega
    · exact Nat.le_refl _
theorem nth_lt2 {l : List Nat} {B : Nat} (h : ∀ t ∈ l, t < B) : ∀ k, k < l.length → nth l k < B := by
  induction l with
  | nil => intro k hk; exact absurd hk (Nat.not_lt_zero _)
  | cons t l ih =>
    intro k hk
    by_cases e : k = l.length
    · subst e; rw [nth_top]; exact h t (List.mem_cons_self ..)
    · have hk' : k < l.length + 1 := hk
      rw [nth_lt (by omega)]
      exact ih (fun u hu => h u (List.mem_cons_of_mem _ hu)) k (by omega)
theorem m_words_b4 {M : MW} {l : List Nat} (h3 : ∀ k, k < l.length → mI M 31 k = (nth l k : Int)) (h4 : mI M 0 40 = (l.length : Int)) (hl : l.length ≤ 13) (hb : ∀ t ∈ l, t < 2000) (hw : wds l ≤ 100) : ∀ (n k : Nat), k ≤ l.length → l.length < n + k → f_X6_words_b4 n (wdU l k : Int) (k : Int) M = some ((wds l : Int), M) := by
  intro n
  induction n with
  | zero => intro k h1 h2; omega
  | succ n ih =>
    intro k h1 h2
    show f_X6_words_s4 (f_X6_words_b4 n) (wdU l k : Int) k M = _
    unfold f_X6_words_s4 f_X6_words_b28
    rw [rd_k, h4, w32_n _ (by omega), w32_n k (by omega)]
    by_cases e : l.length ≤ k
    · rw [if_pos (by omega)]
      have : k = l.length := by omega
      rw [this, wdU_all]
    · have e' : k < l.length := by omega
      have hk := nth_lt2 hb k e'
      have hs := wdU_s l k e'
      rw [if_neg (by omega), ax_k (by omega), rd_k, Int.toNat_natCast, h3 k e', w32_n _ (by omega), show w32 2 = 2 by decide]
      have := ih (k + 1) (by omega) (by omega)
      rw [hs] at this
      by_cases t2 : nth l k = 2
      · rw [if_pos (by omega), rd_k]
        rw [if_pos t2] at this
        exact this
      · rw [if_neg (by omega), rd_k]
        rw [if_neg t2] at this
        exact this
theorem m_words {M : MW} {l : List Nat} (h3 : ∀ k, k < l.length → mI M 31 k = (nth l k : Int)) (h4 : mI M 0 40 = (l.length : Int)) (hl : l.length ≤ 13) (hb : ∀ t ∈ l, t < 2000) (hw : wds l ≤ 100) : f_X6_words M = some ((wds l : Int), M) := by
  unfold f_X6_words
  have := m_words_b4 h3 h4 hl hb hw FU 0 (by omega) (by rw [FU_v]; omega)
  rw [wdU_0] at this
  exact this
theorem m_push {M0 M : MW} {x : VC} {a t : Nat} {r : Nat ⊕ TS} (c : SMx M0 x a) (h : SE M0 M x r) (ht : tyV (hn (xH_ x)) (xz x) t) : ∃ M', f_X6_push (t : Int) M = some ((), M') ∧ SE M0 M' x (sB r (sPush (rS (xm_ x)) t)) := by
  have hS := c.rS
  unfold f_X6_push
  cases r with
  | inl b =>
    have h' := h
    obtain ⟨h1, h2, h3, h4, h5⟩ := h'
    rw [rd_k, h3, w32_n _ (by omega), if_neg (by omega)]
    exact ⟨_, rfl, h⟩
  | inr s =>
    obtain ⟨L, l⟩ := s
    obtain ⟨h1, h2, h3, h4, h5, h6, h7, h8⟩ := h
    dsimp only at h2 h3 h4 h7 h8
    have hll := wds_len l
    have ht' := tyV_lt ht c.n16 c.xz
    have F1 : FrS M0 (msI (msI M 31 l.length (t : Int)) 0 40 ((l.length : Int) + 1)) := ⟨h1.1, fun k j c d e => by rw [mI_o (Or.inl c), mI_o (Or.inl e)]; exact h1.2.1 k j c d e, fun j c d => by rw [mI_o (Or.inr c), mI_o (by omega)]; exact h1.2.2 j c d⟩
    have A3 : ∀ k, k < (t :: l).length → mI (msI (msI M 31 l.length (t : Int)) 0 40 ((l.length : Int) + 1)) 31 k = (nth (t :: l) k : Int) := by
      intro k hk
      have hk' : k < l.length + 1 := hk
      rw [mI_o (by omega)]
      by_cases e : k = l.length
      · subst e; rw [mI_s rfl, nth_top]
      · rw [mI_o (by omega), nth_lt (by omega)]
        exact h3 k (by omega)
    have A4 : mI (msI (msI M 31 l.length (t : Int)) 0 40 ((l.length : Int) + 1)) 0 40 = ((t :: l).length : Int) := by
      rw [mI_s rfl]; rfl
    have A5 : mI (msI (msI M 31 l.length (t : Int)) 0 40 ((l.length : Int) + 1)) 0 35 = 0 := by
      rw [mI_o (by omega), mI_o (by omega)]; exact h5
    have hw : wds (t :: l) = (if t = 2 then 2 else 1) + wds l := rfl
    have hlen : (t :: l).length = l.length + 1 := rfl
    have A6 : ∀ u ∈ t :: l, u < 2000 := by
      intro u hu
      have : tyV (hn (xH_ x)) (xz x) u := by
        rcases List.mem_cons.mp hu with e | e
        · rw [e]; exact ht
        · exact h6.2 u e
      have := tyV_lt this c.n16 c.xz
      omega
    have hw2 : wds (t :: l) ≤ 100 := by
      rw [hw]; split <;> omega
    have cx := (c.mv F1).so.2
    rw [rd_k, h5, if_pos (by decide), rd_k, h4, ax_k (by omega), Int.toNat_natCast, rd_k, rd_k, mI_o (by omega), h4, rd_k, m_words A3 A4 (by omega) A6 hw2, mB_k, rd_k, (c.mv F1).2.2.2.2.1]
    have ha := c.2.2.2.1
    rw [ax_k (by omega), Int.toNat_natCast, rd_k, cx.2.2.2.2.1, w32_n _ (by omega), w32_n _ (by omega)]
    show ∃ M', _ ∧ SE M0 M' x (if wds (t :: l) ≤ rS (xm_ x) then Sum.inr (L, t :: l) else Sum.inl 7)
    by_cases e : wds (t :: l) ≤ rS (xm_ x)
    · rw [if_pos (by omega), if_pos e]
      refine ⟨_, rfl, F1, fun k hk => ?_, A3, A4, A5, ⟨h6.1, fun u hu => ?_⟩, e, h8⟩
      · rw [mI_o (by omega), mI_o (by omega)]; exact h2 k hk
      · rcases List.mem_cons.mp hu with e | e
        · rw [e]; exact ht
        · exact h6.2 u e
    · rw [if_neg (by omega), if_neg e]
      unfold f_X6_miss
      rw [rd_k, A5, if_pos (by decide), rd_k, mB_k]
      refine ⟨_, rfl, ⟨F1.1, fun k j c d e => ?_, fun j c d => ?_⟩, ⟨l.length + 1, by omega, ?_⟩, mI_s rfl, by omega, by omega⟩
      · rw [mI_o (Or.inl c)]; exact F1.2.1 k j c d e
      · rw [mI_o (Or.inr d)]; exact F1.2.2 j c d
      · rw [mI_o (by omega)]; exact A4
