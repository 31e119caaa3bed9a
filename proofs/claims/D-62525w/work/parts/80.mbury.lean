/-! LAYER C: the model's dead rows -/
theorem getE_app {α : Type} {l : List α} {a : α} {i : Nat} {h : α} (e : (l ++ [a])[i]? = some h) : (i < l.length ∧ l[i]? = some h) ∨ (i = l.length ∧ h = a) := by
  have hl : i < (l ++ [a]).length := (List.getElem?_eq_some_iff.mp e).1
  rw [List.length_append] at hl
  have e1 : [a].length = 1 := rfl
  by_cases c : i < l.length
  · rw [List.getElem?_append_left c] at e
    exact Or.inl ⟨c, e⟩
  · have ei : i = l.length := by omega
    rw [ei, List.getElem?_append_right (Nat.le_refl _), Nat.sub_self] at e
    cases e
    exact Or.inr ⟨ei, rfl⟩
theorem getE_l {α : Type} {l r : List α} {i : Nat} {h : α} (e : l[i]? = some h) : (l ++ r)[i]? = some h := by
  have hl : i < l.length := (List.getElem?_eq_some_iff.mp e).1
  rw [List.getElem?_append_left hl]; exact e
def HdB (h : HD) : Prop := dF h ≤ 120 ∧ dT h ≤ 120 ∧ dP h ≤ 120 ∧ -2 < dC h ∧ dC h < 100
/-- what a cut makes of a row of handlers, laid behind it -/
theorem m_cut8 {a b : Nat} (ha : a ≤ 120) (hb : b ≤ 120) {hs : List HD} (hw : ∀ h ∈ hs, HdB h) (hl : hs.length ≤ 12) : ∀ (l : List HD) (i n : Nat) (ds : List HD) (M : MW), hs.drop i = l → i ≤ hs.length → hs.length < n + i → ds.length ≤ 2 * i → CtM M (hs ++ ds) → ∃ M', f_X6_cut_b8 n (a : Int) (b : Int) (hs.length : Int) (i : Int) M = f_X6_cut_b132 FU (hs.length : Int) (hs.length : Int) M' ∧ CtM M' (hs ++ (ds ++ cuts a b l)) ∧ ChM M M' KCt := by
  intro l
  induction l with
  | nil =>
    intro i n ds M hd hi hn hds hM
    obtain ⟨n, rfl⟩ : ∃ k, n = k + 1 := ⟨n - 1, by omega⟩
    have ei : i = hs.length := by
      have := congrArg List.length hd
      rw [List.length_drop] at this
      have e0 : ([] : List HD).length = 0 := rfl
      omega
    show ∃ M', f_X6_cut_s8 (f_X6_cut_b8 n) (a : Int) (b : Int) (hs.length : Int) (i : Int) M = _ ∧ _
    unfold f_X6_cut_s8
    rw [w32_n _ (by omega), w32_n _ (by omega), if_pos (by omega)]
    refine ⟨M, rfl, ?_, ChM.r _ _⟩
    show CtM M (hs ++ (ds ++ []))
    rw [List.append_nil]; exact hM
  | cons h l ih =>
    intro i n ds M hd hi hn hds hM
    obtain ⟨n, rfl⟩ : ∃ k, n = k + 1 := ⟨n - 1, by omega⟩
    have hk : i < hs.length := by
      have := congrArg List.length hd
      rw [List.length_drop] at this
      have e0 : (h :: l).length = l.length + 1 := rfl
      omega
    have ht : hs[i]? = some h := by
      have : (hs.drop i)[0]? = some h := by rw [hd]; rfl
      rw [List.getElem?_drop] at this
      exact this
    have hd2 : hs.drop (i + 1) = l := by
      rw [← List.drop_drop, hd]; rfl
    obtain ⟨b1, b2, b3, b4, b5⟩ := hw h (List.mem_of_getElem? ht)
    have hlen : (hs ++ ds).length < 38 := by rw [List.length_append]; omega
    have hc : cuts a b (h :: l) = cut1 a b h ++ cuts a b l := rfl
    have cell : ∀ M1 r, CtM M1 (hs ++ r) → mI M1 34 i = (dF h : Int) ∧ mI M1 35 i = (dT h : Int) ∧ mI M1 36 i = (dP h : Int) ∧ mI M1 37 i = dC h := fun M1 r h1 => h1.2 i h (getE_l ht)
    have nx : ∀ M1 d1, d1.length ≤ 2 → CtM M1 (hs ++ (ds ++ d1)) → d1 = cut1 a b h → ChM M M1 KCt → ∃ M', f_X6_cut_b123 (f_X6_cut_b8 n) (a : Int) (b : Int) (hs.length : Int) (i : Int) M1 = f_X6_cut_b132 FU (hs.length : Int) (hs.length : Int) M' ∧ CtM M' (hs ++ (ds ++ cuts a b (h :: l))) ∧ ChM M M' KCt := by
      intro M1 d1 l1 c1 e1 k1
      obtain ⟨M', g1, g2, g3⟩ := ih (i + 1) n (ds ++ d1) M1 hd2 (by omega) (by omega) (by rw [List.length_append]; omega) c1
      refine ⟨M', g1, ?_, k1.tr g3⟩
      rw [hc, ← e1, ← List.append_assoc ds]; exact g2
    obtain ⟨c1, c2, c3, c4⟩ := cell M ds hM
    rw [show f_X6_cut_b8 (n + 1) (a : Int) (b : Int) (hs.length : Int) (i : Int) M = f_X6_cut_s8 (f_X6_cut_b8 n) (a : Int) (b : Int) (hs.length : Int) (i : Int) M from rfl]
    have out : (dT h ≤ a ∨ b ≤ dF h) → ∃ M', f_X6_cut_b44 (f_X6_cut_b8 n) (a : Int) (b : Int) (hs.length : Int) (i : Int) (dF h : Int) (dT h : Int) M = f_X6_cut_b132 FU (hs.length : Int) (hs.length : Int) M' ∧ CtM M' (hs ++ (ds ++ cuts a b (h :: l))) ∧ ChM M M' KCt := by
      intro ho
      obtain ⟨M1, g1, g2, g3⟩ := m_addCut hM (by omega) (dF h : Int) (dT h : Int) (dP h : Int) (dC h) h ⟨rfl, rfl, rfl, rfl⟩
      unfold f_X6_cut_b44
      rw [ax_k (by omega), Int.toNat_natCast, rd_k, c3, ax_k (by omega), Int.toNat_natCast, rd_k, c4, g1, mB_k]
      exact nx M1 [h] (by show 1 ≤ 2; omega) (by rw [← List.append_assoc]; exact g2) (by unfold cut1; rw [if_pos ho]) g3
    have b96 : ∀ M1 d1, d1.length ≤ 1 → CtM M1 (hs ++ (ds ++ d1)) → cut1 a b h = d1 ++ (if b < dT h then [(b, dT h, dP h, dC h)] else []) → ChM M M1 KCt → ∃ M', f_X6_cut_b96 (f_X6_cut_b8 n) (a : Int) (b : Int) (hs.length : Int) (i : Int) (dT h : Int) M1 = f_X6_cut_b132 FU (hs.length : Int) (hs.length : Int) M' ∧ CtM M' (hs ++ (ds ++ cuts a b (h :: l))) ∧ ChM M M' KCt := by
      intro M1 d1 l1 k1 e1 ch1
      unfold f_X6_cut_b96
      rw [w32_n _ (by omega), w32_n _ (by omega)]
      by_cases e : b < dT h
      · obtain ⟨_, _, c3, c4⟩ := cell M1 (ds ++ d1) k1
        obtain ⟨M2, g1, g2, g3⟩ := m_addCut k1 (by rw [List.length_append, List.length_append]; omega) (b : Int) (dT h : Int) (dP h : Int) (dC h) (b, dT h, dP h, dC h) ⟨rfl, rfl, rfl, rfl⟩
        rw [if_neg (by omega), ax_k (by omega), Int.toNat_natCast, rd_k, c3, ax_k (by omega), Int.toNat_natCast, rd_k, c4, g1, mB_k]
        exact nx M2 (d1 ++ [(b, dT h, dP h, dC h)]) (by rw [List.length_append]; show d1.length + 1 ≤ 2; omega) (by rw [← List.append_assoc ds, ← List.append_assoc hs]; exact g2) (by rw [e1, if_pos e]) (ch1.tr g3)
      · rw [if_pos (by omega)]
        exact nx M1 d1 (by omega) k1 (by rw [e1, if_neg e, List.append_nil]) ch1
    unfold f_X6_cut_s8
    rw [w32_n _ (by omega), w32_n _ (by omega), if_neg (by omega), ax_k (by omega), Int.toNat_natCast, rd_k, c1, ax_k (by omega), Int.toNat_natCast, rd_k, c2, w32_n _ (by omega), w32_n _ (by omega), w32_n _ (by omega), w32_n _ (by omega)]
    by_cases e1 : dT h ≤ a
    · rw [if_pos (by omega)]; exact out (Or.inl e1)
    · rw [if_neg (by omega)]
      by_cases e2 : b ≤ dF h
      · rw [if_neg (by omega)]; exact out (Or.inr e2)
      · rw [if_pos (by omega)]
        have ec : cut1 a b h = (if dF h < a then [(dF h, a, dP h, dC h)] else []) ++ (if b < dT h then [(b, dT h, dP h, dC h)] else []) := by
          unfold cut1; rw [if_neg (fun h => h.elim e1 e2)]
        by_cases e3 : dF h < a
        · obtain ⟨M1, g1, g2, g3⟩ := m_addCut hM (by omega) (dF h : Int) (a : Int) (dP h : Int) (dC h) (dF h, a, dP h, dC h) ⟨rfl, rfl, rfl, rfl⟩
          rw [if_neg (by omega), ax_k (by omega), Int.toNat_natCast, rd_k, c3, ax_k (by omega), Int.toNat_natCast, rd_k, c4, g1, mB_k]
          exact b96 M1 [(dF h, a, dP h, dC h)] (Nat.le_refl _) (by rw [← List.append_assoc]; exact g2) (by rw [ec, if_pos e3]) g3
        · rw [if_pos (by omega)]
          exact b96 M [] (by show 0 ≤ 1; omega) (by rw [List.append_nil]; exact hM) (by rw [ec, if_neg e3]) (ChM.r _ _)
/-- what lies behind comes to the front -/
theorem m_cut132 {hs ds : List HD} : ∀ (n i : Nat) (M : MW), ds.length < n + i → hs.length ≤ 12 → hs.length + ds.length ≤ 40 → i ≤ ds.length → mI M 0 45 = ((hs.length + ds.length : Nat) : Int) → (∀ k h, k < i → ds[k]? = some h → mI M 34 k = (dF h : Int) ∧ mI M 35 k = (dT h : Int) ∧ mI M 36 k = (dP h : Int) ∧ mI M 37 k = dC h) → (∀ k h, i ≤ k → ds[k]? = some h → mI M 34 (hs.length + k) = (dF h : Int) ∧ mI M 35 (hs.length + k) = (dT h : Int) ∧ mI M 36 (hs.length + k) = (dP h : Int) ∧ mI M 37 (hs.length + k) = dC h) → ∃ M', f_X6_cut_b132 n (hs.length : Int) ((hs.length + i : Nat) : Int) M = some ((), M') ∧ CtM M' ds ∧ ChM M M' KCt := by
  intro n
  induction n with
  | zero => intro i M h1 h2 h3 h4; omega
  | succ n ih =>
    intro i M h1 h2 h3 h4 h5 lo hi
    show ∃ M', f_X6_cut_s132 (f_X6_cut_b132 n) (hs.length : Int) ((hs.length + i : Nat) : Int) M = _ ∧ _
    unfold f_X6_cut_s132
    rw [rd_k (mI M 0 45), h5, w32_n _ (by omega), w32_n _ (by omega)]
    by_cases e : i = ds.length
    · rw [if_pos (by omega), rd_k, rd_k]
      refine ⟨_, rfl, ⟨?_, fun k h hk => ?_⟩, (ChM.r _ _).st (Or.inr ⟨rfl, rfl⟩)⟩
      · rw [mI_s rfl]; omega
      · have hk' : k < ds.length := (List.getElem?_eq_some_iff.mp hk).1
        rw [mI_o (by omega), mI_o (by omega), mI_o (by omega), mI_o (by omega)]
        exact lo k h (by omega) hk
    · have hd : ds[i]? = some (ds[i]'(by omega)) := List.getElem?_eq_getElem _
      obtain ⟨g1, g2, g3, g4⟩ := hi i _ (Nat.le_refl _) hd
      generalize ds[i]'(by omega) = h at hd g1 g2 g3 g4
      let M1 := msI M 34 i (dF h : Int)
      let M2 := msI M1 35 i (dT h : Int)
      let M3 := msI M2 36 i (dP h : Int)
      let M4 := msI M3 37 i (dC h)
      have o4 : ∀ k j, (34 ≤ k → k ≤ 37 → j ≠ i) → mI M4 k j = mI M k j := by
        intro k j hk
        by_cases hk2 : 34 ≤ k ∧ k ≤ 37
        · have := hk hk2.1 hk2.2
          show mI (msI M3 37 _ _) k j = _; rw [mI_o (by omega)]; show mI (msI M2 36 _ _) k j = _; rw [mI_o (by omega)]; show mI (msI M1 35 _ _) k j = _; rw [mI_o (by omega)]; show mI (msI M 34 _ _) k j = _; rw [mI_o (by omega)]
        · show mI (msI M3 37 _ _) k j = _; rw [mI_o (by omega)]; show mI (msI M2 36 _ _) k j = _; rw [mI_o (by omega)]; show mI (msI M1 35 _ _) k j = _; rw [mI_o (by omega)]; show mI (msI M 34 _ _) k j = _; rw [mI_o (by omega)]
      have q2 : mI M1 35 (hs.length + i) = (dT h : Int) := by show mI (msI M 34 _ _) 35 _ = _; rw [mI_o (by omega)]; exact g2
      have q3 : mI M2 36 (hs.length + i) = (dP h : Int) := by show mI (msI M1 35 _ _) 36 _ = _; rw [mI_o (by omega)]; show mI (msI M 34 _ _) 36 _ = _; rw [mI_o (by omega)]; exact g3
      have q4 : mI M3 37 (hs.length + i) = dC h := by show mI (msI M2 36 _ _) 37 _ = _; rw [mI_o (by omega)]; show mI (msI M1 35 _ _) 37 _ = _; rw [mI_o (by omega)]; show mI (msI M 34 _ _) 37 _ = _; rw [mI_o (by omega)]; exact g4
      have ei : (((hs.length + i : Nat) : Int) - (hs.length : Int)).toNat = i := by omega
      have c4 : ChM M M4 KCt := ((((ChM.r M KCt).st (Or.inl (by omega))).st (Or.inl (by omega))).st (Or.inl (by omega))).st (Or.inl (by omega))
      rw [if_neg (by omega), ax_k (by omega), Int.toNat_natCast, rd_k, g1, ax_k (by omega), ei, rd_k (msI M 34 _ _), ax_k (by omega), Int.toNat_natCast, rd_k, show mI (msI M 34 i (dF h : Int)) 35 (hs.length + i) = _ from q2, ax_k (by omega), ei, rd_k (msI M1 35 _ _), ax_k (by omega), Int.toNat_natCast, rd_k, show mI (msI M1 35 i (dT h : Int)) 36 (hs.length + i) = _ from q3, ax_k (by omega), ei, rd_k (msI M2 36 _ _), ax_k (by omega), Int.toNat_natCast, rd_k, show mI (msI M2 36 i (dP h : Int)) 37 (hs.length + i) = _ from q4, ax_k (by omega), ei, rd_k (msI M3 37 _ _)]
      have R := ih (i + 1) M4 (by omega) h2 h3 (by omega) (by rw [o4 _ _ (by omega)]; exact h5) (fun k h' hk hd' => by
        by_cases ek : k = i
        · rw [ek, hd] at hd'
          cases hd'
          rw [ek]
          refine ⟨?_, ?_, ?_, ?_⟩
          · show mI (msI M3 37 _ _) 34 _ = _; rw [mI_o (by omega)]; show mI (msI M2 36 _ _) 34 _ = _; rw [mI_o (by omega)]; show mI (msI M1 35 _ _) 34 _ = _; rw [mI_o (by omega)]; exact mI_s rfl
          · show mI (msI M3 37 _ _) 35 _ = _; rw [mI_o (by omega)]; show mI (msI M2 36 _ _) 35 _ = _; rw [mI_o (by omega)]; exact mI_s rfl
          · show mI (msI M3 37 _ _) 36 _ = _; rw [mI_o (by omega)]; exact mI_s rfl
          · exact mI_s rfl
        · rw [o4 _ _ (fun _ _ => ek), o4 _ _ (fun _ _ => ek), o4 _ _ (fun _ _ => ek), o4 _ _ (fun _ _ => ek)]
          exact lo k h' (by omega) hd') (fun k h' hk hd' => by
        rw [o4 _ _ (by omega), o4 _ _ (by omega), o4 _ _ (by omega), o4 _ _ (by omega)]
        exact hi k h' (by omega) hd')
      obtain ⟨M', r1, r2, r3⟩ := R
      exact ⟨M', r1, r2, c4.tr r3⟩
theorem cut1_len {a b : Nat} {h : HD} : (cut1 a b h).length ≤ 2 := by
  unfold cut1
  split
  · show 1 ≤ 2; omega
  · rw [List.length_append]
    split <;> split <;> simp
theorem cuts_len {a b : Nat} : ∀ hs : List HD, (cuts a b hs).length ≤ 2 * hs.length
  | [] => Nat.le_refl _
  | h :: l => by
    have e : cuts a b (h :: l) = cut1 a b h ++ cuts a b l := rfl
    have := cut1_len (a := a) (b := b) (h := h)
    have := cuts_len (a := a) (b := b) l
    rw [e, List.length_append, List.length_cons]
    omega
theorem m_cut {a b : Nat} (ha : a ≤ 120) (hb : b ≤ 120) {hs : List HD} (hw : ∀ h ∈ hs, HdB h) (hl : hs.length ≤ 12) {M : MW} (hM : CtM M hs) : ∃ M', f_X6_cut (a : Int) (b : Int) M = some ((), M') ∧ CtM M' (cuts a b hs) ∧ ChM M M' KCt := by
  unfold f_X6_cut
  rw [rd_k (mI M 0 45), hM.1]
  obtain ⟨M1, g1, g2, g3⟩ := m_cut8 ha hb hw hl hs 0 FU [] M rfl (by omega) (by rw [FU_v]; omega) (by show 0 ≤ 0; omega) (by rw [List.append_nil]; exact hM)
  have len := cuts_len (a := a) (b := b) hs
  rw [List.nil_append] at g2
  obtain ⟨M2, i1, i2, i3⟩ := m_cut132 (hs := hs) (ds := cuts a b hs) FU 0 M1 (by rw [FU_v]; omega) hl (by omega) (by omega) (by rw [g2.1, List.length_append]) (fun k h hk => by omega) (fun k h _ hk => g2.2 (hs.length + k) h (by rw [List.getElem?_append_right (by omega), Nat.add_sub_cancel_left]; exact hk))
  exact ⟨M2, (show _ = _ from g1).trans i1, i2, g3.tr i3⟩
