/-! LAYER C: the model's dead rows, whole -/
theorem m_b13 {a : Nat} (ha : a < 8) {hs : List HD} (hl : hs.length ≤ 16) : ∀ (l : List HD) (i n : Nat) (M : MW), hs.drop i = l → i ≤ hs.length → hs.length < n + i → MHd M a hs → mI M 0 33 = (a : Int) → CtM M (hs.take i) → ∃ M', f_X6_buries_b13 n ((16 * a + i : Nat) : Int) M = f_X6_buries_b70 FU 0 M' ∧ CtM M' hs ∧ ChM M M' KCt := by
  intro l
  induction l with
  | nil =>
    intro i n M hd hi hn hm h33 ct
    obtain ⟨n, rfl⟩ : ∃ k, n = k + 1 := ⟨n - 1, by omega⟩
    have ei : i = hs.length := by
      have := congrArg List.length hd
      rw [List.length_drop] at this
      have e0 : ([] : List HD).length = 0 := rfl
      omega
    show ∃ M', f_X6_buries_s13 (f_X6_buries_b13 n) ((16 * a + i : Nat) : Int) M = _ ∧ _
    unfold f_X6_buries_s13
    rw [rd_k (mI M 0 33), h33, rd_k, ax_k (by omega), Int.toNat_natCast, rd_k, hm.1, w32_i (by omega), w32_n _ (by omega), if_pos (by omega)]
    rw [ei, List.take_length] at ct
    exact ⟨M, rfl, ct, ChM.r _ _⟩
  | cons h l ih =>
    intro i n M hd hi hn hm h33 ct
    obtain ⟨n, rfl⟩ : ∃ k, n = k + 1 := ⟨n - 1, by omega⟩
    have hk : i < hs.length := by
      have := congrArg List.length hd
      rw [List.length_drop] at this
      have e0 : (h :: l).length = l.length + 1 := rfl
      omega
    have ht : hs[i]? = some h := by
      have : (hs.drop i)[0]? = some h := by rw [hd]; rfl
      rw [List.getElem?_drop] at this
      exact this
    have hd2 : hs.drop (i + 1) = l := by
      rw [← List.drop_drop, hd]; rfl
    have htk : hs.take (i + 1) = hs.take i ++ [h] := by
      rw [List.take_add_one, ht]; rfl
    obtain ⟨c1, c2, c3, c4⟩ := hm.2 i h ht
    obtain ⟨M1, g1, g2, g3⟩ := m_addCut ct (by rw [List.length_take]; omega) (dF h : Int) (dT h : Int) (dP h : Int) (dC h) h ⟨rfl, rfl, rfl, rfl⟩
    show ∃ M', f_X6_buries_s13 (f_X6_buries_b13 n) ((16 * a + i : Nat) : Int) M = _ ∧ _
    unfold f_X6_buries_s13
    rw [rd_k (mI M 0 33), h33, rd_k, ax_k (by omega), Int.toNat_natCast, rd_k, hm.1, w32_i (by omega), w32_n _ (by omega), if_neg (by omega), ax_k (by omega), Int.toNat_natCast, rd_k, c1, ax_k (by omega), Int.toNat_natCast, rd_k, c2, ax_k (by omega), Int.toNat_natCast, rd_k, c3, ax_k (by omega), Int.toNat_natCast, rd_k, c4, g1, mB_k]
    obtain ⟨M', r1, r2, r3⟩ := ih (i + 1) n M1 hd2 (by omega) (by omega) ⟨by rw [g3.2 _ _ (by unfold KCt; omega)]; exact hm.1, fun j h' hj => by
      rw [g3.2 _ _ (by unfold KCt; omega), g3.2 _ _ (by unfold KCt; omega), g3.2 _ _ (by unfold KCt; omega), g3.2 _ _ (by unfold KCt; omega)]
      exact hm.2 j h' hj⟩ (by rw [g3.2 _ _ (by unfold KCt; omega)]; exact h33) (by rw [htk]; exact g2)
    exact ⟨M', r1, r2, g3.tr r3⟩
def KHd (a k j : Nat) : Prop := 14 ≤ k ∧ k ≤ 17 ∧ 16 * a ≤ j ∧ j < 16 * a + 16
theorem m_b167 {a : Nat} (ha : a < 8) {hs : List HD} (hl : hs.length ≤ 12) : ∀ (d i n : Nat) (M : MW), hs.length ≤ d + i → i ≤ hs.length → hs.length < n + i → mI M 0 33 = (a : Int) → CtM M hs → mI M 13 a = (hs.length : Int) → (∀ k h, k < i → hs[k]? = some h → mI M 14 (16 * a + k) = (dF h : Int) ∧ mI M 15 (16 * a + k) = (dT h : Int) ∧ mI M 16 (16 * a + k) = (dP h : Int) ∧ mI M 17 (16 * a + k) = dC h) → ∃ M', f_X6_buries_b167 n (i : Int) M = f_X6_buries_b263 FU 0 M' ∧ MHd M' a hs ∧ ChM M M' (KHd a) := by
  intro d
  induction d with
  | zero =>
    intro i n M h1 hi hn h33 ct h13 lo
    obtain ⟨n, rfl⟩ : ∃ k, n = k + 1 := ⟨n - 1, by omega⟩
    show ∃ M', f_X6_buries_s167 (f_X6_buries_b167 n) (i : Int) M = _ ∧ _
    unfold f_X6_buries_s167
    rw [rd_k (mI M 0 45), ct.1, w32_n _ (by omega), w32_n _ (by omega), if_pos (by omega)]
    exact ⟨M, rfl, ⟨h13, fun k h hk => lo k h (by have := (List.getElem?_eq_some_iff.mp hk).1; omega) hk⟩, ChM.r _ _⟩
  | succ d ih =>
    intro i n M h1 hi hn h33 ct h13 lo
    obtain ⟨n, rfl⟩ : ∃ k, n = k + 1 := ⟨n - 1, by omega⟩
    show ∃ M', f_X6_buries_s167 (f_X6_buries_b167 n) (i : Int) M = _ ∧ _
    unfold f_X6_buries_s167
    rw [rd_k (mI M 0 45), ct.1, w32_n _ (by omega), w32_n _ (by omega)]
    by_cases e : hs.length ≤ i
    · rw [if_pos (by omega)]
      exact ⟨M, rfl, ⟨h13, fun k h hk => lo k h (by have := (List.getElem?_eq_some_iff.mp hk).1; omega) hk⟩, ChM.r _ _⟩
    · have hd : hs[i]? = some (hs[i]'(by omega)) := List.getElem?_eq_getElem _
      obtain ⟨g1, g2, g3, g4⟩ := ct.2 i _ hd
      generalize hs[i]'(by omega) = h at hd g1 g2 g3 g4
      let M1 := msI M 14 (16 * a + i) (dF h : Int)
      let M2 := msI M1 15 (16 * a + i) (dT h : Int)
      let M3 := msI M2 16 (16 * a + i) (dP h : Int)
      let M4 := msI M3 17 (16 * a + i) (dC h)
      have o4 : ∀ k j, (14 ≤ k → k ≤ 17 → j ≠ 16 * a + i) → mI M4 k j = mI M k j := by
        intro k j hk
        by_cases hk2 : 14 ≤ k ∧ k ≤ 17
        · have := hk hk2.1 hk2.2
          show mI (msI M3 17 _ _) k j = _; rw [mI_o (by omega)]; show mI (msI M2 16 _ _) k j = _; rw [mI_o (by omega)]; show mI (msI M1 15 _ _) k j = _; rw [mI_o (by omega)]; show mI (msI M 14 _ _) k j = _; rw [mI_o (by omega)]
        · show mI (msI M3 17 _ _) k j = _; rw [mI_o (by omega)]; show mI (msI M2 16 _ _) k j = _; rw [mI_o (by omega)]; show mI (msI M1 15 _ _) k j = _; rw [mI_o (by omega)]; show mI (msI M 14 _ _) k j = _; rw [mI_o (by omega)]
      have q2 : mI M1 35 i = (dT h : Int) ∧ mI M1 0 33 = (a : Int) := by
        refine ⟨?_, ?_⟩
        · show mI (msI M 14 _ _) 35 _ = _; rw [mI_o (by omega)]; exact g2
        · show mI (msI M 14 _ _) 0 33 = _; rw [mI_o (by omega)]; exact h33
      have q3 : mI M2 36 i = (dP h : Int) ∧ mI M2 0 33 = (a : Int) := by
        refine ⟨?_, ?_⟩
        · show mI (msI M1 15 _ _) 36 _ = _; rw [mI_o (by omega)]; show mI (msI M 14 _ _) 36 _ = _; rw [mI_o (by omega)]; exact g3
        · show mI (msI M1 15 _ _) 0 33 = _; rw [mI_o (by omega)]; exact q2.2
      have q4 : mI M3 37 i = dC h ∧ mI M3 0 33 = (a : Int) := by
        refine ⟨?_, ?_⟩
        · show mI (msI M2 16 _ _) 37 _ = _; rw [mI_o (by omega)]; show mI (msI M1 15 _ _) 37 _ = _; rw [mI_o (by omega)]; show mI (msI M 14 _ _) 37 _ = _; rw [mI_o (by omega)]; exact g4
        · show mI (msI M2 16 _ _) 0 33 = _; rw [mI_o (by omega)]; exact q3.2
      have ei : (16 * (a : Int) + (i : Int)).toNat = 16 * a + i := by omega
      have c4 : ChM M M4 (KHd a) := ((((ChM.r M (KHd a)).st (by unfold KHd; omega)).st (by unfold KHd; omega)).st (by unfold KHd; omega)).st (by unfold KHd; omega)
      rw [if_neg (by omega), rd_k (mI M 0 33), h33, ax_k (by omega), Int.toNat_natCast, rd_k, g1, ax_k (by omega), ei, rd_k (msI M 14 _ _), rd_k, show mI (msI M 14 (16 * a + i) (dF h : Int)) 0 33 = _ from q2.2, ax_k (by omega), Int.toNat_natCast, rd_k, show mI (msI M 14 (16 * a + i) (dF h : Int)) 35 i = _ from q2.1, ax_k (by omega), ei, rd_k (msI M1 15 _ _), rd_k, show mI (msI M1 15 (16 * a + i) (dT h : Int)) 0 33 = _ from q3.2, ax_k (by omega), Int.toNat_natCast, rd_k, show mI (msI M1 15 (16 * a + i) (dT h : Int)) 36 i = _ from q3.1, ax_k (by omega), ei, rd_k (msI M2 16 _ _), rd_k, show mI (msI M2 16 (16 * a + i) (dP h : Int)) 0 33 = _ from q4.2, ax_k (by omega), Int.toNat_natCast, rd_k, show mI (msI M2 16 (16 * a + i) (dP h : Int)) 37 i = _ from q4.1, ax_k (by omega), ei, rd_k (msI M3 17 _ _)]
      have R := ih (i + 1) n M4 (by omega) (by omega) (by omega) (by rw [o4 _ _ (by omega)]; exact h33) ⟨by rw [o4 _ _ (by omega)]; exact ct.1, fun k h' hk => by
        rw [o4 _ _ (by omega), o4 _ _ (by omega), o4 _ _ (by omega), o4 _ _ (by omega)]
        exact ct.2 k h' hk⟩ (by rw [o4 _ _ (by omega)]; exact h13) (fun k h' hk hd' => by
        by_cases ek : k = i
        · rw [ek, hd] at hd'
          cases hd'
          rw [ek]
          refine ⟨?_, ?_, ?_, ?_⟩
          · show mI (msI M3 17 _ _) 14 _ = _; rw [mI_o (by omega)]; show mI (msI M2 16 _ _) 14 _ = _; rw [mI_o (by omega)]; show mI (msI M1 15 _ _) 14 _ = _; rw [mI_o (by omega)]; exact mI_s rfl
          · show mI (msI M3 17 _ _) 15 _ = _; rw [mI_o (by omega)]; show mI (msI M2 16 _ _) 15 _ = _; rw [mI_o (by omega)]; exact mI_s rfl
          · show mI (msI M3 17 _ _) 16 _ = _; rw [mI_o (by omega)]; exact mI_s rfl
          · exact mI_s rfl
        · rw [o4 _ _ (fun _ _ => by omega), o4 _ _ (fun _ _ => by omega), o4 _ _ (fun _ _ => by omega), o4 _ _ (fun _ _ => by omega)]
          exact lo k h' (by omega) hd')
      obtain ⟨M', r1, r2, r3⟩ := R
      exact ⟨M', r1, r2, c4.tr r3⟩
/-! the second pass -/
def Kb2 (a k j : Nat) : Prop := ((k = 10 ∨ k = 22 ∨ k = 27) ∧ 120 * a ≤ j ∧ j < 120 * a + 120) ∨ (k = 11 ∧ j = a)
theorem m_b391 {a p e : Nat} (ha : a < 8) (he : e ≤ 120) (k2 : Int → MW → Option (Int × MW)) : ∀ (n i : Nat) (M : MW), e < n + i → p ≤ i → i ≤ e → mI M 0 33 = (a : Int) → ∃ M', f_X6_buries_b391 k2 n (p : Int) (e : Int) (i : Int) M = f_X6_buries_b417 k2 (p : Int) (e : Int) M' ∧ (∀ k, k < 120 → mI M' 22 (120 * a + k) = if i ≤ k ∧ k < e then 0 else mI M 22 (120 * a + k)) ∧ ChM M M' (fun k j => k = 22 ∧ 120 * a ≤ j ∧ j < 120 * a + 120) := by
  intro n
  induction n with
  | zero => intro i M h1 h2 h3; omega
  | succ n ih =>
    intro i M h1 h2 h3 h33
    show ∃ M', f_X6_buries_s391 k2 (f_X6_buries_b391 k2 n) (p : Int) (e : Int) (i : Int) M = _ ∧ _
    unfold f_X6_buries_s391
    rw [w32_n e (by omega), w32_n i (by omega)]
    by_cases c : i = e
    · rw [if_pos (by omega)]
      exact ⟨M, rfl, fun k hk => by rw [if_neg (by omega)], ChM.r _ _⟩
    · rw [if_neg (by omega), rd_k (mI M 0 33), h33, ax_k (by omega), show (120 * (a : Int) + (i : Int)).toNat = 120 * a + i by omega, rd_k, iAnd_01]
      obtain ⟨M', r1, r2, r3⟩ := ih (i + 1) (msI M 22 (120 * a + i) 0) (by omega) (by omega) (by omega) (by rw [mI_o (by omega)]; exact h33)
      refine ⟨M', r1, fun k hk => ?_, ((ChM.r M _).st (K := fun k j => k = 22 ∧ 120 * a ≤ j ∧ j < 120 * a + 120) (by omega)).tr r3⟩
      rw [r2 k hk]
      by_cases ck : k = i
      · rw [ck, if_neg (by omega), if_pos (by omega), mI_s rfl]
      · by_cases c2 : i + 1 ≤ k ∧ k < e
        · rw [if_pos c2, if_pos (by omega)]
        · rw [if_neg c2, if_neg (by omega), mI_o (by omega)]
theorem m_b350 {a p e : Nat} (ha : a < 8) (he : e ≤ 120) (k2 : Int → MW → Option (Int × MW)) : ∀ (n i : Nat) (M : MW), e < n + i → p ≤ i → i ≤ e → mI M 0 33 = (a : Int) → ∃ M', f_X6_buries_b350 k2 n (p : Int) (e : Int) (i : Int) M = f_X6_buries_b391 k2 FU (p : Int) (e : Int) (p : Int) M' ∧ (∀ k, k < 120 → mI M' 10 (120 * a + k) = if i ≤ k ∧ k < e then (if k + 1 = e then 191 else 0) else mI M 10 (120 * a + k)) ∧ ChM M M' (fun k j => k = 10 ∧ 120 * a ≤ j ∧ j < 120 * a + 120) := by
  intro n
  induction n with
  | zero => intro i M h1 h2 h3; omega
  | succ n ih =>
    intro i M h1 h2 h3 h33
    show ∃ M', f_X6_buries_s350 k2 (f_X6_buries_b350 k2 n) (p : Int) (e : Int) (i : Int) M = _ ∧ _
    unfold f_X6_buries_s350 f_X6_buries_b382
    rw [w32_n e (by omega), w32_n i (by omega)]
    by_cases c : i = e
    · rw [if_pos (by omega)]
      exact ⟨M, rfl, fun k hk => by rw [if_neg (by omega)], ChM.r _ _⟩
    · have key : ∀ v : Int, v = (if i + 1 = e then 191 else 0) → ∃ M', f_X6_buries_b350 k2 n (p : Int) (e : Int) ((i : Int) + 1) (msI M 10 (120 * a + i) v) = f_X6_buries_b391 k2 FU (p : Int) (e : Int) (p : Int) M' ∧ (∀ k, k < 120 → mI M' 10 (120 * a + k) = if i ≤ k ∧ k < e then (if k + 1 = e then 191 else 0) else mI M 10 (120 * a + k)) ∧ ChM M M' (fun k j => k = 10 ∧ 120 * a ≤ j ∧ j < 120 * a + 120) := by
        intro v hv
        obtain ⟨M', r1, r2, r3⟩ := ih (i + 1) (msI M 10 (120 * a + i) v) (by omega) (by omega) (by omega) (by rw [mI_o (by omega)]; exact h33)
        refine ⟨M', r1, fun k hk => ?_, ((ChM.r M _).st (K := fun k j => k = 10 ∧ 120 * a ≤ j ∧ j < 120 * a + 120) (by omega)).tr r3⟩
        rw [r2 k hk]
        by_cases ck : k = i
        · rw [ck, if_neg (by omega), mI_s rfl, hv, if_pos (show i ≤ i ∧ i < e by omega)]
        · by_cases c2 : i + 1 ≤ k ∧ k < e
          · rw [if_pos c2, if_pos (show i ≤ k ∧ k < e by omega)]
          · rw [if_neg c2, if_neg (show ¬ (i ≤ k ∧ k < e) by omega), mI_o (by omega)]
      rw [if_neg (by omega), rd_k (mI M 0 33), h33, w32_i (by omega)]
      by_cases c3 : i + 1 = e
      · rw [if_pos (by omega), ax_k (by omega), show (120 * (a : Int) + (i : Int)).toNat = 120 * a + i by omega, rd_k]
        exact key 191 (by rw [if_pos c3])
      · rw [if_neg (by omega), ax_k (by omega), show (120 * (a : Int) + (i : Int)).toNat = 120 * a + i by omega, rd_k]
        exact key 0 (by rw [if_neg c3])
