/-! LAYER C: the component's classes and types -/
def CH (C : CW) (H : HT) : Prop := HOK H ∧ cI C 201 2 = (hn H : Int) ∧ cI C 202 0 = -1 ∧ (∀ k, 0 < k → k < 16 → cI C 202 k = (hp H k : Int)) ∧ ∀ k, k < 16 → cI C 203 k = b2i (hf H k)
theorem c_subs_b2 {C : CW} {H : HT} (h : CH C H) : ∀ (n c d : Nat), c + 1 < n → c < 16 → d < 16 → f_X2_subs_b2 n (d : Int) (c : Int) C = some (b2i (sb (hp H) c d), C) := by
  intro n
  induction n with
  | zero => intro c d h0; omega
  | succ n ih =>
    intro c d h0 h1 h2
    show f_X2_subs_s2 (f_X2_subs_b2 n) d c C = _
    unfold f_X2_subs_s2 f_X2_subs_b22
    rw [w32_n c (by omega), w32_n d (by omega), show w32 (-1) = -1 by decide, if_neg (show ¬ (c : Int) = -1 by omega)]
    by_cases e : c = d
    · subst e
      rw [if_pos rfl, if_pos rfl, sb_self]
      rfl
    · have e1 : ¬ (c : Int) = d := by omega
      rw [if_neg e1, ax_k (by omega), Int.toNat_natCast, rd_k]
      by_cases z : c = 0
      · subst z
        rw [h.2.2.1, sb_0 e]
        obtain ⟨n, rfl⟩ : ∃ j, n = j + 1 := ⟨n - 1, by omega⟩
        show f_X2_subs_s2 (f_X2_subs_b2 n) d (-1) C = _
        unfold f_X2_subs_s2 f_X2_subs_b22
        rw [if_pos rfl, w32_n d (by omega), show w32 (-1) = -1 by decide, if_neg (by omega)]
        rfl
      · have hpc := h.1.2.1 c (by omega)
        rw [h.2.2.2.1 c (by omega) h1, ih _ _ (by omega) (by omega) h2, sb_ne e hpc]
theorem c_subs {C : CW} {H : HT} (h : CH C H) {c d : Nat} (h1 : c < 16) (h2 : d < 16) : f_X2_subs (c : Int) (d : Int) C = some (b2i (sb (hp H) c d), C) := by
  unfold f_X2_subs
  exact c_subs_b2 h _ _ _ (by rw [FU_v]; omega) h1 h2
theorem c_has {C : CW} {H : HT} (h : CH C H) {x : Int} (hx : w32 x = x) : f_X2_has x C = some (b2i (decide (0 ≤ x ∧ x < hn H)), C) := by
  unfold f_X2_has
  have := h.1.1
  rw [rd_k, h.2.1, hx, w32_n _ (by omega)]
  by_cases a : x < 0
  · rw [if_pos a, decide_eq_false (by omega)]; rfl
  · rw [if_neg a]
    by_cases b : (hn H : Int) ≤ x
    · rw [if_pos b, decide_eq_false (by omega)]; rfl
    · rw [if_neg b, decide_eq_true (by omega)]; rfl
theorem c_isObject {C : CW} {t : Nat} (h : t < 2000) : f_X2_isObject (t : Int) C = some (b2i (decide (32 ≤ t ∧ t < 64)), C) := by
  unfold f_X2_isObject
  simp (disch := omega) only [w32_i]
  repeat' split
  all_goals first | (rw [decide_eq_true (by omega)]; rfl) | (rw [decide_eq_false (by omega)]; rfl)
theorem c_isArrayOf {C : CW} {t : Nat} (h : t < 2000) : f_X2_isArrayOf (t : Int) C = some (b2i (decide (64 ≤ t ∧ t < 1000)), C) := by
  unfold f_X2_isArrayOf
  simp (disch := omega) only [w32_i]
  repeat' split
  all_goals first | (rw [decide_eq_true (by omega)]; rfl) | (rw [decide_eq_false (by omega)]; rfl)
theorem c_isArray {C : CW} {t : Nat} (h : t < 2000) : f_X2_isArray (t : Int) C = some (b2i (decide (t = 3 ∨ t = 4 ∨ (64 ≤ t ∧ t < 1000))), C) := by
  unfold f_X2_isArray
  rw [c_isArrayOf h, cB_k, ite_d]
  simp (disch := omega) only [w32_i]
  repeat' split
  all_goals first | (rw [decide_eq_true (by omega)]; rfl) | (rw [decide_eq_false (by omega)]; rfl)
theorem c_isReference {C : CW} {t : Nat} (h : t < 2000) : f_X2_isReference (t : Int) C = some (b2i (rfc t), C) := by
  unfold f_X2_isReference rfc thg
  rw [c_isObject h, cB_k, ite_d, c_isArray h, cB_k, ite_d, ← Bool.decide_or]
  simp (disch := omega) only [w32_i]
  repeat' split
  all_goals first | (rw [decide_eq_true (by omega)]; rfl) | (rw [decide_eq_false (by omega)]; rfl)
theorem c_nearest_b2 {C : CW} {H : HT} (h : CH C H) : ∀ (n c d : Nat), c < n → c < 16 → d < 16 → f_X2_nearest_b2 n (d : Int) (c : Int) C = some ((nr (hp H) c d : Int), C) := by
  intro n
  induction n with
  | zero => intro c d h0; omega
  | succ n ih =>
    intro c d h0 h1 h2
    show f_X2_nearest_s2 (f_X2_nearest_b2 n) d c C = _
    unfold f_X2_nearest_s2
    rw [c_subs h h2 h1, cB_k, w32_b2i]
    cases e : sb (hp H) d c with
    | true =>
      rw [if_neg (by decide), nr_t e]
    | false =>
      have z : c ≠ 0 := by
        intro z
        subst z
        rw [sb_zero h.1.2.1 d] at e
        cases e
      have hpc := h.1.2.1 c (by omega)
      rw [if_pos (show b2i false = 0 from rfl), ax_k (by omega), Int.toNat_natCast, rd_k, h.2.2.2.1 c (by omega) h1, ih _ _ (by omega) (by omega) h2, nr_f e hpc]
theorem c_nearest {C : CW} {H : HT} (h : CH C H) {c d : Nat} (h1 : c < 16) (h2 : d < 16) : f_X2_nearest (c : Int) (d : Int) C = some ((nr (hp H) c d : Int), C) := by
  unfold f_X2_nearest
  exact c_nearest_b2 h _ _ _ (by rw [FU_v]; omega) h1 h2
theorem c_merge_b74 {C : CW} {H : HT} (h : CH C H) {sz t u : Nat} (hz : sz ≤ 120) (ht : tyV (hn H) sz t) (hu : tyV (hn H) sz u) : f_X2_merge_b74 (t : Int) (u : Int) C = some (((if (64 ≤ t ∧ t < 1000) ∧ 64 ≤ u ∧ u < 1000 then 64 + nr (hp H) (t - 64) (u - 64) else 32 : Nat) : Int), C) := by
  have hn16 := h.1.1.2
  have lt := tyV_lt ht hn16 hz
  have lu := tyV_lt hu hn16 hz
  unfold f_X2_merge_b74
  simp only [c_isArrayOf (show t < 2000 by omega), c_isArrayOf (show u < 2000 by omega), cB_k, ite_d]
  by_cases a : 64 ≤ t ∧ t < 1000
  · by_cases b : 64 ≤ u ∧ u < 1000
    · rw [if_pos a, if_pos b, if_pos ⟨a, b⟩, show (t : Int) - 64 = ((t - 64 : Nat) : Int) by omega, show (u : Int) - 64 = ((u - 64 : Nat) : Int) by omega]
      unfold tyV at ht hu
      rw [c_nearest h (by omega) (by omega), cB_k]
      rfl
    · rw [if_pos a, if_neg b, if_neg (fun c => b c.2)]
      rfl
  · rw [if_neg a, if_neg (fun c => a c.1)]
    rfl
theorem c_merge {C : CW} {H : HT} (h : CH C H) {sz t u : Nat} (hz : sz ≤ 120) (ht : tyV (hn H) sz t) (hu : tyV (hn H) sz u) : f_X2_merge (t : Int) (u : Int) C = some ((mrg H t u : Int), C) := by
  have hn16 := h.1.1.2
  have lt := tyV_lt ht hn16 hz
  have lu := tyV_lt hu hn16 hz
  unfold f_X2_merge f_X2_merge_b33 mrg
  simp only [c_isReference (show t < 2000 by omega), c_isReference (show u < 2000 by omega), c_isObject (show t < 2000 by omega), c_isObject (show u < 2000 by omega), cB_k, ite_b, decide_eq_true_eq, c_merge_b74 h hz ht hu]
  rw [w32_n t (by omega), w32_n u (by omega), show w32 5 = 5 by decide]
  by_cases e : t = u
  · subst e; rw [if_pos rfl, if_pos rfl]
  rw [if_neg (by omega), if_neg e]
  cases a : rfc t
  · simp
  cases b : rfc u
  · simp
  simp only [if_true, Bool.true_eq_false, or_self, if_false]
  by_cases t5 : t = 5
  · rw [if_pos (by omega), if_pos t5]
    rw [if_pos (by omega)]
  rw [if_neg (by omega), if_neg t5]
  by_cases u5 : u = 5
  · rw [if_pos (by omega), if_pos u5, if_neg (by omega)]
  rw [if_neg (by omega), if_neg u5]
  by_cases a : 32 ≤ t ∧ t < 64
  · by_cases b : 32 ≤ u ∧ u < 64
    · rw [if_pos a, if_pos b, if_pos (show (32 ≤ t ∧ t < 64) ∧ 32 ≤ u ∧ u < 64 from ⟨a, b⟩), show (t : Int) - 32 = ((t - 32 : Nat) : Int) by omega, show (u : Int) - 32 = ((u - 32 : Nat) : Int) by omega]
      unfold tyV at ht hu
      rw [c_nearest h (by omega) (by omega), cB_k]
      rfl
    · rw [if_pos a, if_neg b, if_neg (show ¬ ((32 ≤ t ∧ t < 64) ∧ 32 ≤ u ∧ u < 64) from fun c => b c.2)]
  · rw [if_neg a, if_neg (show ¬ ((32 ≤ t ∧ t < 64) ∧ 32 ≤ u ∧ u < 64) from fun c => a c.1)]
theorem c_classFor {C : CW} {H : HT} (h : CH C H) {c d : Nat} (h1 : c < 16) (h2 : d < 16) : f_X2_classFor (c : Int) (d : Int) C = some (b2i (cfor H c d), C) := by
  unfold f_X2_classFor cfor
  rw [ax_k (by omega), Int.toNat_natCast, rd_k, h.2.2.2.2 d h2, ite_b, c_subs h h1 h2, cB_k, ite_b, w32_n d (by omega)]
  by_cases z : d = 0
  · subst z
    rw [if_pos (show ((0 : Nat) : Int) = 0 from rfl)]
    simp [b2i]
  · rw [if_neg (show ¬ (d : Int) = 0 by omega), decide_eq_false z]
    cases hf H d <;> cases sb (hp H) c d <;> simp [b2i]
theorem c_fits {C : CW} {H : HT} (h : CH C H) {sz t w : Nat} (hz : sz ≤ 120) (ht : tyV (hn H) sz t) (hw : tyV (hn H) sz w) : f_X2_fits (t : Int) (w : Int) C = some (b2i (fit H t w), C) := by
  have hn16 := h.1.1.2
  have lt := tyV_lt ht hn16 hz
  have lw := tyV_lt hw hn16 hz
  unfold f_X2_fits fit
  simp only [c_isObject (show w < 2000 by omega), c_isObject (show t < 2000 by omega), c_isArray (show w < 2000 by omega), c_isArray (show t < 2000 by omega), c_isArrayOf (show w < 2000 by omega), c_isArrayOf (show t < 2000 by omega), cB_k, ite_b, decide_eq_true_eq]
  rw [w32_n t (by omega), w32_n w (by omega), show w32 5 = 5 by decide, show w32 32 = 32 by decide]
  by_cases e : t = w
  · rw [if_pos (show (t : Int) = w by omega), if_pos (Or.inl e)]; rfl
  rw [if_neg (show ¬ (t : Int) = w by omega)]
  by_cases w0 : w = 0
  · rw [if_pos (show (w : Int) = 0 by omega), if_pos (Or.inr w0)]; rfl
  rw [if_neg (show ¬ (w : Int) = 0 by omega), if_neg (show ¬ (t = w ∨ w = 0) by omega)]
  by_cases t5 : t = 5
  · rw [if_pos (show (t : Int) = 5 by omega), if_pos t5]
    unfold thg
    repeat' split
    all_goals first | (rw [decide_eq_true (by omega)]; rfl) | (rw [decide_eq_false (by omega)]; rfl)
  rw [if_neg (show ¬ (t : Int) = 5 by omega), if_neg t5]
  by_cases ow : 32 ≤ w ∧ w < 64
  · rw [if_pos ow, if_pos ow]
    have hw16 : w - 32 < 16 := by unfold tyV at hw; omega
    by_cases ot : 32 ≤ t ∧ t < 64
    · rw [if_pos ot, if_pos ot, show (t : Int) - 32 = ((t - 32 : Nat) : Int) by omega, show (w : Int) - 32 = ((w - 32 : Nat) : Int) by omega]
      unfold tyV at ht
      rw [c_classFor h (by omega) hw16, cB_k, b2i_isZ, gd_t]
    · rw [if_neg ot, if_neg ot, show (w : Int) - 32 = ((w - 32 : Nat) : Int) by omega, ax_k (by omega), Int.toNat_natCast, rd_k, h.2.2.2.2 _ hw16, ite_b]
      by_cases at' : t = 3 ∨ t = 4 ∨ (64 ≤ t ∧ t < 1000)
      · have : thg t = true := decide_eq_true (by omega)
        rw [if_pos at', this]
        by_cases w32' : w = 32
        · subst w32'
          simp [b2i]
        · have : ¬ (w : Int) = 32 := by omega
          rw [if_neg this, decide_eq_false w32']
          cases hf H (w - 32) <;> simp [b2i]
      · have : thg t = false := decide_eq_false (by omega)
        rw [if_neg at', this]
        rfl
  · rw [if_neg ow, if_neg ow]
    by_cases a : 64 ≤ t ∧ t < 1000
    · by_cases b : 64 ≤ w ∧ w < 1000
      · rw [if_pos a, if_pos b, decide_eq_true (by omega), show (t : Int) - 64 = ((t - 64 : Nat) : Int) by omega, show (w : Int) - 64 = ((w - 64 : Nat) : Int) by omega]
        unfold tyV at ht hw
        rw [c_classFor h (by omega) (by omega), cB_k, ite_b]
        cases cfor H (t - 64) (w - 64) <;> rfl
      · rw [if_pos a, if_neg b, decide_eq_false (by omega)]
        rfl
    · rw [if_neg a, decide_eq_false (by omega)]
      rfl
