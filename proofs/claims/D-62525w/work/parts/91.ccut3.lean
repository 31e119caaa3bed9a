/-! LAYER C: the component cuts handlers, whole loop -/
def NwQ (C0 : CW) (q : Nat) : Prop := hB C0 + hZ C0 ≤ q
def ccuts (a b : Nat) (hs : List HD) : List HD := hs.flatMap (ccut1 a b)
theorem c_cut11 {C0 : CW} {qm hl ql a b zz ss : Nat} {qh : List Nat} {hs : List HD} (z0 : ∀ q, hB C0 + hZ C0 ≤ q → hK C0 q = 0) (o1 : cR C0 204 7 = some qm) (o2 : hK C0 qm = 7) (o3 : hR C0 qm 5 = some hl) (hh : HsC C0 hl qh hs) (hw : ∀ h ∈ hs, HdB h) (hlen : hs.length ≤ 12) (ha : a ≤ 120) (hb : b ≤ 120) (rz : zz + 60 ≤ 600384) (rs : ss + 7000 ≤ 7290858) : ∀ (l : List HD) (i n : Nat) (ds : List HD) (qd : List Nat) (C : CW), hs.drop i = l → i ≤ hs.length → hs.length < n + i → ChC C0 C NoK (NwQ C0) (NwQ C0) → LfC C0 C ql qd ds → ds.length ≤ 2 * i → hZ C ≤ zz + 4 * i → hS C ≤ ss + 528 * i →
    ∃ C' qd', f_X3_cut_b11 n (a : Int) (b : Int) (some ql) (i : Int) C = f_X3_cut_b163 (a : Int) (some ql) (b2i (decide ((ds ++ ccuts a b l).length ≤ 12))) C' ∧ ChC C0 C' NoK (NwQ C0) (NwQ C0) ∧ LfC C0 C' ql qd' (ds ++ ccuts a b l) ∧ hZ C' ≤ zz + 48 ∧ hS C' ≤ ss + 6336 := by
  have ctx : ∀ C, ChC C0 C NoK (NwQ C0) (NwQ C0) → cR C 204 7 = some qm ∧ hK C qm = 7 ∧ hR C qm 5 = some hl ∧ HsC C hl qh hs ∧ hB C = hB C0 ∧ hZ C0 ≤ hZ C := by
    intro C k
    have oe := k.oe z0 (fun q hq h => by unfold NwQ at h; omega) (fun q hq h => by unfold NwQ at h; omega)
    obtain ⟨b1, _, _, b4⟩ := oe qm (by omega)
    exact ⟨by rw [k.2.1]; exact o1, by rw [b1]; exact o2, by rw [b4]; exact o3, hh.oe oe, k.2.2.1, k.2.2.2.2.1⟩
  intro l
  induction l with
  | nil =>
    intro i n ds qd C hd hi hn k lf hds hz hs'
    obtain ⟨n, rfl⟩ : ∃ k, n = k + 1 := ⟨n - 1, by omega⟩
    have ei : i = hs.length := by
      have := congrArg List.length hd
      rw [List.length_drop] at this
      have e0 : ([] : List HD).length = 0 := rfl
      omega
    obtain ⟨c1, c2, c3, c4, c5, c6⟩ := ctx C k
    have lq : qd.length = ds.length := lf.1.2.1
    have lq2 : qh.length = hs.length := c4.2.1
    have en : ds ++ ccuts a b [] = ds := List.append_nil ds
    rw [en]
    refine ⟨C, qd, ?_, k, lf, by omega, by omega⟩
    show f_X3_cut_s11 (f_X3_cut_b11 n) (a : Int) (b : Int) (some ql) (i : Int) C = _
    unfold f_X3_cut_s11
    rw [rd_k, c1, dr_k, gd_e c2, rd_k, c3, dr_k, gd_e c4.1.1, c_size c4.1, cB_k, w32_n _ (by omega), w32_n _ (by omega), if_pos (by omega), dr_k, gd_e lf.1.1.1, c_size lf.1.1, cB_k, w32_n _ (by omega), show w32 12 = 12 by decide]
    by_cases e : ds.length ≤ 12
    · rw [if_neg (by omega), decide_eq_true e]; rfl
    · rw [if_pos (by omega), decide_eq_false e]; rfl
  | cons h l ih =>
    intro i n ds qd C hd hi hn k lf hds hz hs'
    obtain ⟨n, rfl⟩ : ∃ k, n = k + 1 := ⟨n - 1, by omega⟩
    have hk : i < hs.length := by
      have := congrArg List.length hd
      rw [List.length_drop] at this
      have e0 : (h :: l).length = l.length + 1 := rfl
      omega
    have ht : hs[i]? = some h := by
      have : (hs.drop i)[0]? = some h := by rw [hd]; rfl
      rw [List.getElem?_drop] at this
      exact this
    have hd2 : hs.drop (i + 1) = l := by
      rw [← List.drop_drop, hd]; rfl
    obtain ⟨w1, w2, w3, _⟩ := hw h (List.mem_of_getElem? ht)
    obtain ⟨c1, c2, c3, c4, c5, c6⟩ := ctx C k
    have lq2 : qh.length = hs.length := c4.2.1
    have hq : qh[i]? = some (qh[i]'(by omega)) := List.getElem?_eq_getElem _
    have hdc : ∀ C, ChC C0 C NoK (NwQ C0) (NwQ C0) → HdC C (qh[i]'(by omega)) h := fun C k => (ctx C k).2.2.2.1.2.2 i _ h hq ht
    have q0k : ∀ C, ChC C0 C NoK (NwQ C0) (NwQ C0) → (∀ q, hB C + hZ C ≤ q → hK C q = 0) → (qh[i]'(by omega)) ≠ hB C + hZ C := fun C k z e => by
      have h1 := (hdc C k).1
      rw [z _ (by omega)] at h1; cases h1
    generalize hqe : qh[i]'(by omega) = q0 at hq hdc q0k
    have en : ((i + 1 : Nat) : Int) = (i : Int) + 1 := by omega
    have hcc : ccuts a b (h :: l) = ccut1 a b h ++ ccuts a b l := rfl
    -- what comes behind
    have nx : ∀ (d1 : List HD) (qd1 : List Nat) (C1 : CW), d1.length ≤ 2 → ccut1 a b h = d1 → ChC C0 C1 NoK (NwQ C0) (NwQ C0) → LfC C0 C1 ql qd1 (ds ++ d1) → hZ C1 ≤ zz + 4 * i + 4 → hS C1 ≤ ss + 528 * i + 528 → ∃ C' qd', f_X3_cut_b143 (f_X3_cut_b11 n) (a : Int) (b : Int) (some ql) (i : Int) C1 = f_X3_cut_b163 (a : Int) (some ql) (b2i (decide ((ds ++ ccuts a b (h :: l)).length ≤ 12))) C' ∧ ChC C0 C' NoK (NwQ C0) (NwQ C0) ∧ LfC C0 C' ql qd' (ds ++ ccuts a b (h :: l)) ∧ hZ C' ≤ zz + 48 ∧ hS C' ≤ ss + 6336 := by
      intro d1 qd1 C1 l1 e1 k1 lf1 z1 s1
      have hl1 : (ds ++ d1).length ≤ 2 * (i + 1) := by rw [List.length_append]; omega
      have hz1 : hZ C1 ≤ zz + 4 * (i + 1) := by omega
      have hs1 : hS C1 ≤ ss + 528 * (i + 1) := by
        have e5 : 528 * (i + 1) = 528 * i + 528 := by omega
        rw [e5, ← Nat.add_assoc]; exact s1
      have hn1 : hs.length < n + (i + 1) := by omega
      have R := ih (i + 1) n (ds ++ d1) qd1 C1 hd2 hk hn1 k1 lf1 hl1 hz1 hs1
      rw [hcc, e1, ← List.append_assoc]
      unfold f_X3_cut_b143
      rw [← en]
      exact R
    -- the second half
    have b104 : ∀ (d1 : List HD) (qd1 : List Nat) (C1 : CW), d1.length ≤ 1 → ccut1 a b h = d1 ++ (if max (dF h) b < dT h then [(max (dF h) b, dT h, dP h, dC h)] else []) → ChC C0 C1 NoK (NwQ C0) (NwQ C0) → LfC C0 C1 ql qd1 (ds ++ d1) → hZ C1 ≤ zz + 4 * i + 2 → hS C1 ≤ ss + 528 * i + 264 → ∃ C' qd', f_X3_cut_b104 (f_X3_cut_b11 n) (a : Int) (b : Int) (some ql) (i : Int) (some q0) ((max (dF h) b : Nat) : Int) C1 = f_X3_cut_b163 (a : Int) (some ql) (b2i (decide ((ds ++ ccuts a b (h :: l)).length ≤ 12))) C' ∧ ChC C0 C' NoK (NwQ C0) (NwQ C0) ∧ LfC C0 C' ql qd' (ds ++ ccuts a b (h :: l)) ∧ hZ C' ≤ zz + 48 ∧ hS C' ≤ ss + 6336 := by
      intro d1 qd1 C1 l1 e1 k1 lf1 z1 s1
      obtain ⟨g0, g1, g2, g3, g4⟩ := hdc C1 k1
      have no := q0k C1 k1 lf1.2.2.2.1
      obtain ⟨_, _, _, _, x5, x6⟩ := ctx C1 k1
      unfold f_X3_cut_b104
      rw [dr_k, gd_e g0, rd_k, g2, w32_n _ (by omega), w32_n _ (by omega)]
      by_cases e : max (dF h) b < dT h
      · rw [if_pos e] at e1
        obtain ⟨D, C2, p1, p2, p3, p4, p5, p6, p7⟩ := c_push1 (g := (max (dF h) b, dT h, dP h, dC h)) lf1 x5 x6 (by rw [List.length_append]; omega) (by omega) (by omega)
        have y0 : hK (hNew C1 9 0 4) q0 = 9 := by rw [hK_oN no]; exact g0
        have y1 : ∀ j, hI (hNew C1 9 0 4) q0 j = hI C1 q0 j := fun j => by rw [hI_oN no]
        rw [if_neg (by omega), al_k (by omega), rd_k, dr_k, gd_e y0, rd_k, y1, g2, dr_k, gd_e y0, rd_k, y1, g3, dr_k, gd_e y0, rd_k, y1, g4, dr_k, show f_X9_init (hB C1 + hZ C1) ((max (dF h) b : Nat) : Int) (dT h : Int) (dP h : Int) (dC h) (hNew C1 9 0 4) = some ((), D) from p1, cB_k, dr_k, gd_e p2, p3, cB_k]
        exact nx (d1 ++ [(max (dF h) b, dT h, dP h, dC h)]) _ C2 (by rw [List.length_append]; show d1.length + 1 ≤ 2; omega) e1 (k1.tr p7) (by rw [← List.append_assoc]; exact p4) (by omega) (by omega)
      · rw [if_neg e, List.append_nil] at e1
        rw [if_pos (by omega)]
        exact nx d1 qd1 C1 (by omega) e1 k1 lf1 (by omega) (by omega)
    obtain ⟨g0, g1, g2, g3, g4⟩ := hdc C k
    have no := q0k C k lf.2.2.2.1
    rw [show f_X3_cut_b11 (n + 1) (a : Int) (b : Int) (some ql) (i : Int) C = f_X3_cut_s11 (f_X3_cut_b11 n) (a : Int) (b : Int) (some ql) (i : Int) C from rfl]
    unfold f_X3_cut_s11
    have emin : min (dT h : Int) (a : Int) = ((min (dT h) a : Nat) : Int) := by omega
    have emax : max (dF h : Int) (b : Int) = ((max (dF h) b : Nat) : Int) := by omega
    rw [rd_k, c1, dr_k, gd_e c2, rd_k, c3, dr_k, gd_e c4.1.1, c_size c4.1, cB_k, w32_n _ (by omega), w32_n _ (by omega), if_neg (by omega), rd_k, c1, dr_k, gd_e c2, rd_k, c3, dr_k, gd_e c4.1.1, c_get c4.1 hq rfl, cB_k, gd_p (by show (hK C q0 == 9) = true; rw [g0]; rfl), dr_k, gd_e g0, rd_k, g2, c_min (by omega), cB_k, dr_k, gd_e g0, rd_k, g1, c_max (by omega), cB_k, dr_k, gd_e g0, rd_k, g1, emin, emax, w32_n _ (by omega), w32_n _ (by omega)]
    by_cases e : dF h < min (dT h) a
    · obtain ⟨D, C2, p1, p2, p3, p4, p5, p6, p7⟩ := c_push1 (g := (dF h, min (dT h) a, dP h, dC h)) lf c5 c6 (by omega) (by omega) (by omega)
      have y0 : hK (hNew C 9 0 4) q0 = 9 := by rw [hK_oN no]; exact g0
      have y1 : ∀ j, hI (hNew C 9 0 4) q0 j = hI C q0 j := fun j => by rw [hI_oN no]
      rw [if_neg (by omega), al_k (by omega), rd_k, dr_k, gd_e y0, rd_k, y1, g1, dr_k, gd_e y0, rd_k, y1, g3, dr_k, gd_e y0, rd_k, y1, g4, dr_k, show f_X9_init (hB C + hZ C) (dF h : Int) ((min (dT h) a : Nat) : Int) (dP h : Int) (dC h) (hNew C 9 0 4) = some ((), D) from p1, cB_k, dr_k, gd_e p2, p3, cB_k]
      exact b104 [(dF h, min (dT h) a, dP h, dC h)] _ C2 (Nat.le_refl _) (by unfold ccut1; rw [if_pos e]) (k.tr p7) p4 (by omega) (by omega)
    · rw [if_pos (by omega)]
      exact b104 [] qd C (Nat.zero_le _) (by unfold ccut1; rw [if_neg e]) k (by rw [List.append_nil]; exact lf) (by omega) (by omega)
