/-! LAYER C: the model's classes and types -/
def MH (M : MW) (H : HT) : Prop := HOK H ∧ mI M 0 1 = (hn H : Int) ∧ (∀ k, k < 16 → mI M 1 k = (hp H k : Int)) ∧ ∀ k, k < 16 → mI M 2 k = b2i (hf H k)
theorem sb_self (par : Nat → Nat) (c : Nat) : sb par c c = true := by rw [sb]; simp
theorem sb_ne {par : Nat → Nat} {c d : Nat} (h : c ≠ d) (hp : par c < c) : sb par c d = sb par (par c) d := by
  rw [sb, if_neg h, dif_pos hp]
theorem sb_0 {par : Nat → Nat} {d : Nat} (h : 0 ≠ d) : sb par 0 d = false := by
  rw [sb, if_neg h, dif_neg (by omega)]
theorem nr_t {par : Nat → Nat} {c d : Nat} (h : sb par d c = true) : nr par c d = c := by
  rw [nr, if_pos h]
theorem nr_f {par : Nat → Nat} {c d : Nat} (h : sb par d c = false) (hp : par c < c) : nr par c d = nr par (par c) d := by
  rw [nr, if_neg (by simp [h]), dif_pos hp]
theorem sb_zero {par : Nat → Nat} (hp : ∀ k, 0 < k → par k < k) : ∀ d, sb par d 0 = true := by
  intro d
  induction d using Nat.strongRecOn with
  | _ d ih =>
    by_cases h : d = 0
    · subst h; exact sb_self _ _
    · rw [sb_ne h (hp d (by omega))]
      exact ih _ (hp d (by omega))
theorem nr_le {par : Nat → Nat} : ∀ c d, nr par c d ≤ c := by
  intro c
  induction c using Nat.strongRecOn with
  | _ c ih =>
    intro d
    rw [nr]
    split
    · exact Nat.le_refl _
    · split
      · rename_i h
        have := ih _ h d
        omega
      · omega
theorem m_subs_b2 {M : MW} {H : HT} (h : MH M H) : ∀ (n c d : Nat), c < n → c < 16 → d < 16 → f_X6_subs_b2 n (d : Int) (c : Int) M = some (b2i (sb (hp H) c d), M) := by
  intro n
  induction n with
  | zero => intro c d h0; omega
  | succ n ih =>
    intro c d h0 h1 h2
    show f_X6_subs_s2 (f_X6_subs_b2 n) d c M = _
    unfold f_X6_subs_s2 f_X6_subs_b21
    rw [w32_n c (by omega), w32_n d (by omega)]
    by_cases e : c = d
    · subst e
      rw [if_pos rfl, if_pos rfl, sb_self]
      rfl
    · have e1 : ¬ (c : Int) = d := by omega
      rw [if_neg e1, if_neg e1]
      by_cases z : c = 0
      · subst z
        rw [if_pos (show ((0 : Nat) : Int) = 0 from rfl), sb_0 e]
        rfl
      · have e2 : ¬ (c : Int) = 0 := by omega
        have hpc := h.1.2.1 c (by omega)
        rw [if_neg e2, ax_k (by omega), Int.toNat_natCast, rd_k, h.2.2.1 c h1, ih _ _ (by omega) (by omega) h2, sb_ne e hpc]
theorem m_subs {M : MW} {H : HT} (h : MH M H) {c d : Nat} (h1 : c < 16) (h2 : d < 16) : f_X6_subs (c : Int) (d : Int) M = some (b2i (sb (hp H) c d), M) := by
  unfold f_X6_subs
  exact m_subs_b2 h _ _ _ (by rw [FU_v]; omega) h1 h2
theorem m_isClass {M : MW} {H : HT} (h : MH M H) {x : Int} (hx : w32 x = x) : f_X6_isClass x M = some (b2i (decide (0 ≤ x ∧ x < hn H)), M) := by
  unfold f_X6_isClass
  have := h.1.1
  rw [rd_k, h.2.1, hx, w32_n _ (by omega)]
  by_cases a : x < 0
  · rw [if_pos a, decide_eq_false (by omega)]; rfl
  · rw [if_neg a]
    by_cases b : (hn H : Int) ≤ x
    · rw [if_pos b, decide_eq_false (by omega)]; rfl
    · rw [if_neg b, decide_eq_true (by omega)]; rfl
theorem m_isThing {M : MW} {t : Nat} (h : t < 2000) : f_X6_isThing (t : Int) M = some (b2i (thg t), M) := by
  unfold f_X6_isThing thg
  simp (disch := omega) only [w32_i]
  repeat' split
  all_goals first | (rw [decide_eq_true (by omega)]; rfl) | (rw [decide_eq_false (by omega)]; rfl)
theorem m_isObject {M : MW} {t : Nat} (h : t < 2000) : f_X6_isObject (t : Int) M = some (b2i (decide (32 ≤ t ∧ t < 64)), M) := by
  unfold f_X6_isObject
  simp (disch := omega) only [w32_i]
  repeat' split
  all_goals first | (rw [decide_eq_true (by omega)]; rfl) | (rw [decide_eq_false (by omega)]; rfl)
theorem m_isRow {M : MW} {t : Nat} (h : t < 2000) : f_X6_isRow (t : Int) M = some (b2i (decide (64 ≤ t ∧ t < 1000)), M) := by
  unfold f_X6_isRow
  simp (disch := omega) only [w32_i]
  repeat' split
  all_goals first | (rw [decide_eq_true (by omega)]; rfl) | (rw [decide_eq_false (by omega)]; rfl)
theorem m_isReference {M : MW} {t : Nat} (h : t < 2000) : f_X6_isReference (t : Int) M = some (b2i (rfc t), M) := by
  unfold f_X6_isReference rfc
  simp (disch := omega) only [w32_i, m_isThing h, mB_k, w32_b2i, b2i_z]
  by_cases a : t = 5
  · subst a; rfl
  · rw [if_neg (by omega), decide_eq_false a]
    cases thg t <;> rfl
theorem nr_lt {par : Nat → Nat} {n : Nat} (c d : Nat) (h : c < n) : nr par c d < n := Nat.lt_of_le_of_lt (nr_le c d) h
theorem m_nearest_b2 {M : MW} {H : HT} (h : MH M H) : ∀ (n c d : Nat), c < n → c < 16 → d < 16 → f_X6_nearest_b2 n (d : Int) (c : Int) M = some ((nr (hp H) c d : Int), M) := by
  intro n
  induction n with
  | zero => intro c d h0; omega
  | succ n ih =>
    intro c d h0 h1 h2
    show f_X6_nearest_s2 (f_X6_nearest_b2 n) d c M = _
    unfold f_X6_nearest_s2
    rw [m_subs h h2 h1, mB_k, w32_b2i]
    cases e : sb (hp H) d c with
    | true =>
      rw [if_neg (by decide), nr_t e]
    | false =>
      have z : c ≠ 0 := by
        intro z
        subst z
        rw [sb_zero h.1.2.1 d] at e
        cases e
      have hpc := h.1.2.1 c (by omega)
      rw [if_pos (show b2i false = 0 from rfl), ax_k (by omega), Int.toNat_natCast, rd_k, h.2.2.1 c h1, ih _ _ (by omega) (by omega) h2, nr_f e hpc]
theorem m_nearest {M : MW} {H : HT} (h : MH M H) {c d : Nat} (h1 : c < 16) (h2 : d < 16) : f_X6_nearest (c : Int) (d : Int) M = some ((nr (hp H) c d : Int), M) := by
  unfold f_X6_nearest
  exact m_nearest_b2 h _ _ _ (by rw [FU_v]; omega) h1 h2
theorem cast_sub {a b : Nat} (h : b ≤ a) : (a : Int) - (b : Int) = ((a - b : Nat) : Int) := by omega
/-- a type's number is small -/
theorem tyV_lt {n sz t : Nat} (h : tyV n sz t) (h1 : n ≤ 16) (h2 : sz ≤ 120) : t < 1120 := by
  unfold tyV at h
  omega
theorem ite_d {α : Type} {P : Prop} [Decidable P] {a b : α} : (if w32 (b2i (decide P)) = 0 then a else b) = if P then b else a := by
  by_cases h : P
  · rw [decide_eq_true h, if_neg (by decide), if_pos h]
  · rw [decide_eq_false h, if_pos (by decide), if_neg h]
theorem ite_b {α : Type} {c : Bool} {a b : α} : (if w32 (b2i c) = 0 then a else b) = if c = true then b else a := by
  cases c <;> rfl
theorem m_merge_b81 {M : MW} {H : HT} (h : MH M H) {sz t u : Nat} (hz : sz ≤ 120) (ht : tyV (hn H) sz t) (hu : tyV (hn H) sz u) : f_X6_merge_b81 (t : Int) (u : Int) M = some (((if (64 ≤ t ∧ t < 1000) ∧ 64 ≤ u ∧ u < 1000 then 64 + nr (hp H) (t - 64) (u - 64) else 32 : Nat) : Int), M) := by
  have hn16 := h.1.1.2
  have lt := tyV_lt ht hn16 hz
  have lu := tyV_lt hu hn16 hz
  unfold f_X6_merge_b81
  simp only [m_isRow (show t < 2000 by omega), m_isRow (show u < 2000 by omega), mB_k, ite_d]
  by_cases a : 64 ≤ t ∧ t < 1000
  · by_cases b : 64 ≤ u ∧ u < 1000
    · rw [if_pos a, if_pos b, if_pos ⟨a, b⟩, show (t : Int) - 64 = ((t - 64 : Nat) : Int) by omega, show (u : Int) - 64 = ((u - 64 : Nat) : Int) by omega]
      unfold tyV at ht hu
      rw [m_nearest h (by omega) (by omega), mB_k]
      rfl
    · rw [if_pos a, if_neg b, if_neg (fun c => b c.2)]
      rfl
  · rw [if_neg a, if_neg (fun c => a c.1)]
    rfl
theorem m_merge_b35 {M : MW} {H : HT} (h : MH M H) {sz t u : Nat} (hz : sz ≤ 120) (ht : tyV (hn H) sz t) (hu : tyV (hn H) sz u) : f_X6_merge_b35 (t : Int) (u : Int) M = some (((if thg t = false ∨ thg u = false then 0 else if (32 ≤ t ∧ t < 64) ∧ 32 ≤ u ∧ u < 64 then 32 + nr (hp H) (t - 32) (u - 32) else if (64 ≤ t ∧ t < 1000) ∧ 64 ≤ u ∧ u < 1000 then 64 + nr (hp H) (t - 64) (u - 64) else 32 : Nat) : Int), M) := by
  have hn16 := h.1.1.2
  have lt := tyV_lt ht hn16 hz
  have lu := tyV_lt hu hn16 hz
  unfold f_X6_merge_b35
  simp only [m_isThing (show t < 2000 by omega), m_isThing (show u < 2000 by omega), m_isObject (show t < 2000 by omega), m_isObject (show u < 2000 by omega), mB_k, ite_b, decide_eq_true_eq, m_merge_b81 h hz ht hu]
  cases a : thg t
  · simp
  cases b : thg u
  · simp
  simp only [if_true, Bool.true_eq_false, or_self, if_false]
  by_cases a : 32 ≤ t ∧ t < 64
  · by_cases b : 32 ≤ u ∧ u < 64
    · rw [if_pos a, if_pos b, if_pos ⟨a, b⟩, show (t : Int) - 32 = ((t - 32 : Nat) : Int) by omega, show (u : Int) - 32 = ((u - 32 : Nat) : Int) by omega]
      unfold tyV at ht hu
      rw [m_nearest h (by omega) (by omega), mB_k]
      rfl
    · rw [if_pos a, if_neg b, if_neg (show ¬ ((32 ≤ t ∧ t < 64) ∧ 32 ≤ u ∧ u < 64) from fun c => b c.2)]
  · rw [if_neg a, if_neg (show ¬ ((32 ≤ t ∧ t < 64) ∧ 32 ≤ u ∧ u < 64) from fun c => a c.1)]
theorem thg_5 : thg 5 = false := by decide
theorem m_merge {M : MW} {H : HT} (h : MH M H) {sz t u : Nat} (hz : sz ≤ 120) (ht : tyV (hn H) sz t) (hu : tyV (hn H) sz u) : f_X6_merge (t : Int) (u : Int) M = some ((mrg H t u : Int), M) := by
  have hn16 := h.1.1.2
  have lt := tyV_lt ht hn16 hz
  have lu := tyV_lt hu hn16 hz
  unfold f_X6_merge f_X6_merge_b21 mrg
  simp only [m_isThing (show t < 2000 by omega), m_isThing (show u < 2000 by omega), mB_k, ite_b, m_merge_b35 h hz ht hu]
  rw [w32_n t (by omega), w32_n u (by omega), show w32 5 = 5 by decide]
  unfold rfc
  by_cases e : t = u
  · subst e; rw [if_pos rfl, if_pos rfl]
  rw [if_neg (by omega), if_neg e]
  by_cases t5 : t = 5
  · subst t5
    have u5 : ¬ ((u : Int) = 5) := by omega
    have u5' : ¬ u = 5 := fun h => e h.symm
    rw [if_pos rfl, if_neg u5]
    cases b : thg u <;> simp [thg_5, u5']
  · have t5' : ¬ ((t : Int) = 5) := by omega
    rw [if_neg t5']
    by_cases u5 : u = 5
    · subst u5
      rw [if_pos rfl]
      cases b : thg t <;> simp [thg_5, t5]
    · have u5' : ¬ ((u : Int) = 5) := by omega
      rw [if_neg u5']
      cases a : thg t <;> cases b : thg u <;> simp [t5, u5]
theorem mrg_tyV {H : HT} {sz t u : Nat} (hH : HOK H) (ht : tyV (hn H) sz t) (hu : tyV (hn H) sz u) : tyV (hn H) sz (mrg H t u) := by
  unfold mrg
  split
  · exact ht
  split
  · exact Or.inl (by omega)
  split
  · exact hu
  split
  · exact ht
  split
  · have := nr_le (par := hp H) (t - 32) (u - 32)
    unfold tyV at *
    omega
  split
  · have := nr_le (par := hp H) (t - 64) (u - 64)
    unfold tyV at *
    omega
  · rename_i h1 h2 h3 h4 h5 h6
    have : (t = 3 ∨ t = 4 ∨ 32 ≤ t ∧ t < 1000) ∧ (u = 3 ∨ u = 4 ∨ 32 ≤ u ∧ u < 1000) := by
      unfold rfc thg at h2
      simp only [Bool.or_eq_false_iff, decide_eq_false_iff_not] at h2
      omega
    have := hH.1
    unfold tyV at *
    omega
theorem m_gio {M : MW} {H : HT} (h : MH M H) {c d : Nat} (h1 : c < 16) (h2 : d < 16) : f_X6_goesIntoObject (c : Int) (d : Int) M = some (b2i (cfor H c d), M) := by
  unfold f_X6_goesIntoObject cfor
  rw [ax_k (by omega), Int.toNat_natCast, rd_k, h.2.2.2 d h2, ite_b, m_subs h h1 h2, mB_k, ite_b, w32_n d (by omega)]
  by_cases z : d = 0
  · subst z
    cases hf H 0 <;> simp [b2i]
  · rw [if_neg (show ¬ (d : Int) = 0 by omega), decide_eq_false z]
    cases hf H d <;> cases sb (hp H) c d <;> simp [b2i]
theorem m_gi_b81 {M : MW} {H : HT} (h : MH M H) {sz t w : Nat} (hz : sz ≤ 120) (ht : tyV (hn H) sz t) (hw : tyV (hn H) sz w) : f_X6_goesInto_b81 (t : Int) (w : Int) M = some (b2i (decide (64 ≤ t ∧ t < 1000 ∧ 64 ≤ w ∧ w < 1000) && cfor H (t - 64) (w - 64)), M) := by
  have hn16 := h.1.1.2
  have lt := tyV_lt ht hn16 hz
  have lu := tyV_lt hw hn16 hz
  unfold f_X6_goesInto_b81
  simp only [m_isRow (show t < 2000 by omega), m_isRow (show w < 2000 by omega), mB_k, ite_d]
  by_cases a : 64 ≤ t ∧ t < 1000
  · by_cases b : 64 ≤ w ∧ w < 1000
    · rw [if_pos a, if_pos b, decide_eq_true (by omega), show (t : Int) - 64 = ((t - 64 : Nat) : Int) by omega, show (w : Int) - 64 = ((w - 64 : Nat) : Int) by omega]
      unfold tyV at ht hw
      rw [m_gio h (by omega) (by omega), mB_k, ite_b]
      cases cfor H (t - 64) (w - 64) <;> rfl
    · rw [if_pos a, if_neg b, decide_eq_false (by omega)]
      rfl
  · rw [if_neg a, decide_eq_false (by omega)]
    rfl
theorem m_goesInto {M : MW} {H : HT} (h : MH M H) {sz t w : Nat} (hz : sz ≤ 120) (ht : tyV (hn H) sz t) (hw : tyV (hn H) sz w) : f_X6_goesInto (t : Int) (w : Int) M = some (b2i (fit H t w), M) := by
  have hn16 := h.1.1.2
  have lt := tyV_lt ht hn16 hz
  have lw := tyV_lt hw hn16 hz
  unfold f_X6_goesInto fit
  simp only [m_isThing (show w < 2000 by omega), m_isThing (show t < 2000 by omega), m_isObject (show w < 2000 by omega), m_isObject (show t < 2000 by omega), mB_k, ite_b, decide_eq_true_eq, m_gi_b81 h hz ht hw]
  rw [w32_n t (by omega), w32_n w (by omega), show w32 5 = 5 by decide, show w32 32 = 32 by decide]
  by_cases w0 : w = 0
  · rw [if_pos (show (w : Int) = 0 by omega), if_pos (Or.inr w0)]; rfl
  rw [if_neg (show ¬ (w : Int) = 0 by omega)]
  by_cases e : t = w
  · rw [if_pos (show (t : Int) = w by omega), if_pos (Or.inl e)]; rfl
  rw [if_neg (show ¬ (t : Int) = w by omega), if_neg (show ¬ (t = w ∨ w = 0) by omega)]
  by_cases t5 : t = 5
  · rw [if_pos (show (t : Int) = 5 by omega), if_pos t5, b2i_isZ]; rfl
  rw [if_neg (show ¬ (t : Int) = 5 by omega), if_neg t5]
  by_cases ow : 32 ≤ w ∧ w < 64
  · rw [if_pos ow, if_pos ow]
    have hw16 : w - 32 < 16 := by unfold tyV at hw; omega
    rw [show (w : Int) - 32 = ((w - 32 : Nat) : Int) by omega, ax_k (by omega), Int.toNat_natCast, rd_k, h.2.2.2 _ hw16, ite_b]
    by_cases ot : 32 ≤ t ∧ t < 64
    · rw [if_pos ot, if_pos ot, show (t : Int) - 32 = ((t - 32 : Nat) : Int) by omega]
      unfold tyV at ht
      rw [m_subs h (by omega) hw16, mB_k, ite_b]
      have a : thg t = true := by unfold thg; exact decide_eq_true (by omega)
      rw [a, if_pos rfl]
      unfold cfor
      by_cases w32' : w = 32
      · subst w32'
        simp [b2i]
      · have : ¬ (w : Int) = 32 := by omega
        rw [if_neg this, decide_eq_false (by omega)]
        cases hf H (w - 32) <;> cases sb (hp H) (t - 32) (w - 32) <;> simp [b2i]
    · rw [if_neg ot, if_neg ot]
      cases a : thg t
      · have : decide (64 ≤ t ∧ t < 1000 ∧ 64 ≤ w ∧ w < 1000) = false := decide_eq_false (by omega)
        rw [this]
        rfl
      · by_cases w32' : w = 32
        · subst w32'
          simp [b2i]
        · have : ¬ (w : Int) = 32 := by omega
          rw [if_neg this, decide_eq_false w32']
          cases hf H (w - 32) <;> simp [b2i]
  · rw [if_neg ow, if_neg ow]
