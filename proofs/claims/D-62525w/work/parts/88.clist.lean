/-! LAYER C: lists of objects grow -/
theorem iShr1_all : ∀ p : Fin 256, iShr ((p.val : Nat) : Int) 1 = ((p.val / 2 : Nat) : Int) := by decide +kernel
theorem c_max {a b : Int} {C : CW} (h : (-2147483648 ≤ a ∧ a < 2147483648) ∧ -2147483648 ≤ b ∧ b < 2147483648) : f_J9_max a b C = some (max a b, C) := by
  unfold f_J9_max
  rw [w32_i h.1, w32_i h.2]
  by_cases e : a < b
  · rw [if_pos e, Int.max_eq_right (by omega)]
  · rw [if_neg e, Int.max_eq_left (by omega)]
theorem c_min {a b : Int} {C : CW} (h : (-2147483648 ≤ a ∧ a < 2147483648) ∧ -2147483648 ≤ b ∧ b < 2147483648) : f_J9_min a b C = some (min a b, C) := by
  unfold f_J9_min
  rw [w32_i h.1, w32_i h.2]
  by_cases e : b < a
  · rw [if_pos e, Int.min_eq_right (by omega)]
  · rw [if_neg e, Int.min_eq_left (by omega)]
/-- the row of nothing that new lists share; the class of rows of objects -/
def E0 (C : CW) : Prop := ∃ e0, hE C 0 = some e0 ∧ hK C e0 = 68 ∧ hL C e0 = 0
/-- what adding to the list q changes -/
def RAd (C : CW) (q : Nat) (l : List Nat) (z : Nat) : Prop := z = q ∨ (hR C q 1 = some z ∧ l.length < hL C z)
theorem ChC.hsIn {C C' : CW} {K : Nat → Nat → Prop} {A R : Nat → Prop} (h : ChC C C' K A R) {q j : Nat} {v : Int} (hq : hB C + hZ C ≤ q ∨ A q) : ChC C (hsI C' q j v) K A R := by
  obtain ⟨h1, h2, h3, h4, h5, h6, h7, h8⟩ := h
  refine ⟨h1, h2, h3, h4, h5, h6, fun z hz => ⟨(h7 z hz).1, (h7 z hz).2.1, (h7 z hz).2.2.1, fun n => ?_, (h7 z hz).2.2.2.2⟩, h8⟩
  rw [← (h7 z hz).2.2.2.1 n]
  funext i
  refine hI_ohsI (Or.inl (fun e => ?_))
  rcases hq with g | g
  · omega
  · exact n (by rw [e]; exact g)
theorem chc_hsRn {C C' : CW} {K : Nat → Nat → Prop} {A R : Nat → Prop} (h : ChC C C' K A R) {q j : Nat} {v : Option Nat} (hq : hB C + hZ C ≤ q ∨ R q) : ChC C (hsR C' q j v) K A R := by
  obtain ⟨h1, h2, h3, h4, h5, h6, h7, h8⟩ := h
  refine ⟨h1, h2, h3, h4, h5, h6, fun z hz => ⟨(h7 z hz).1, (h7 z hz).2.1, (h7 z hz).2.2.1, (h7 z hz).2.2.2.1, fun n => ?_⟩, h8⟩
  rw [← (h7 z hz).2.2.2.2 n]
  funext i
  refine hR_ohsR (Or.inl (fun e => ?_))
  rcases hq with g | g
  · omega
  · exact n (by rw [e]; exact g)
theorem c_newList {C : CW} (z : ∀ q, hB C + hZ C ≤ q → hK C q = 0) (h : E0 C) (r1 : hZ C + 1 ≤ 600384) (r2 : hS C + 3 ≤ 7290858) : ∃ C', (∀ {β : Type} (κ : Nat → CW → Option β), (al C 3 fun q58 => rd (hNew C 15 0 3) fun C59 => dr (some q58) fun q61 => cB (f_J2_init q61 C59) fun _ C60 => κ q58 C60) = κ (hB C + hZ C) C') ∧ ALs C' (hB C + hZ C) [] ∧ hZ C' = hZ C + 1 ∧ hS C' = hS C + 3 ∧ (∀ K A R, ChC C C' K A R) ∧ ∃ e0, hR C' (hB C + hZ C) 1 = some e0 ∧ hL C' e0 = 0 ∧ hE C' 0 = some e0 := by
  obtain ⟨e0, h1, h2, h3⟩ := h
  have k15 : hK (hNew C 15 0 3) (hB C + hZ C) = 15 := hK_sN rfl
  have ne : e0 ≠ hB C + hZ C := fun e => by rw [z e0 (by omega)] at h2; cases h2
  refine ⟨hsR (hsI (hNew C 15 0 3) (hB C + hZ C) 0 0) (hB C + hZ C) 1 (some e0), ?_, ⟨k15, ?_, by show 0 < 1000000; omega, e0, hR_shsR rfl, ?_, Nat.zero_le _, ?_, fun i r hi => by cases hi⟩, rfl, rfl, fun K A R => chc_hsRn (((ChC.r C K A R).new _ _ _).hsIn (Or.inl (Nat.le_refl _))) (Or.inl (Nat.le_refl _)), e0, hR_shsR rfl, ?_, h1⟩
  · intro β κ
    unfold f_J2_init f_J1_init f_J0_init
    rw [al_k (by omega), rd_k, dr_k, dr_k, dr_k, cB_k, dr_k, gd_e k15, rd_k, cB_k, dr_k, gd_e (show hK (hsI (hNew C 15 0 3) (hB C + hZ C) 0 0) (hB C + hZ C) = 15 from k15), rd_k, cB_k, show hE (hsI (hNew C 15 0 3) (hB C + hZ C) 0 0) 0 = some e0 from h1]
  · show hI (hsI (hNew C 15 0 3) (hB C + hZ C) 0 0) (hB C + hZ C) 2 = 0
    rw [hI_ohsI (by omega)]; exact hI_sN rfl
  · show hK (hNew C 15 0 3) e0 = 68
    rw [hK_oN ne]; exact h2
  · show hL (hNew C 15 0 3) e0 < _
    rw [hL_oN ne, h3]; omega
  · show hL (hNew C 15 0 3) e0 = 0
    rw [hL_oN ne, h3]
/-- what may lie in a list -/
def OkL (C : CW) (r : Nat) : Prop := hK C r = 7 ∨ hK C r = 8 ∨ hK C r = 9 ∨ hK C r = 10 ∨ hK C r = 11
theorem OkL.e {C : CW} {r : Nat} (h : OkL C r) : okE 4 (hK C r) = true := by
  rcases h with h | h | h | h | h <;> rw [h] <;> rfl
theorem c_add2 {C : CW} {q a r0 n : Nat} (k1 : hK C q = 15) (k2 : hK C a = 68) (hn : n < hL C a) (hb : hL C a < 1000000000) (hr0 : OkL C r0) : f_J2_add_2_b11 (some q) (some r0) (some a) (n : Int) C = some ((), hsI (hsR C a n (some r0)) q 2 ((n : Int) + 1)) := by
  unfold f_J2_add_2_b11
  rw [dr_k, gd_p (by rw [k2]; show (true && okE 4 (hK C r0)) = true; rw [hr0.e]; rfl), ax_k (by omega), Int.toNat_natCast, rd_k, dr_k, gd_e (show hK (hsR C a n (some r0)) q = 15 from k1), rd_k]
/-- the list grows: the row is a new one -/
theorem c_grow {C : CW} {q a : Nat} {l : List Nat} (z : ∀ q, hB C + hZ C ≤ q → hK C q = 0) (k1 : hK C q = 15) (h2 : hI C q 2 = (l.length : Int)) (ha : hR C q 1 = some a) (k2 : hK C a = 68) (hla : hL C a = l.length) (hel : ∀ i (r : Nat), l[i]? = some r → hR C a i = some r) (hl : l.length ≤ 160) (hok : ∀ r ∈ l, OkL C r) (he : hL C a = 0 → hE C 0 = some a) (r1 : hZ C + 1 ≤ 600384) (r2 : hS C + 260 ≤ 7290858) :
    ∃ w C', f_J2_grow q C = some (some (hB C + hZ C), C') ∧ l.length < w ∧ w ≤ 260 ∧ hK C' (hB C + hZ C) = 68 ∧ hL C' (hB C + hZ C) = w ∧ hR C' q 1 = some (hB C + hZ C) ∧ hI C' q = hI C q ∧ hK C' q = 15 ∧ (∀ i (r : Nat), l[i]? = some r → hR C' (hB C + hZ C) i = some r) ∧ hZ C' = hZ C + 1 ∧ hS C' = hS C + w ∧ ∀ K A, ChC C C' K A (fun x => x = q) := by
  have qo : q ≠ hB C + hZ C := fun e => by rw [z q (by omega)] at k1; cases k1
  have ao : a ≠ hB C + hZ C := fun e => by rw [z a (by omega)] at k2; cases k2
  have aq : a ≠ q := fun e => by rw [e, k1] at k2; cases k2
  unfold f_J2_grow f_J2_grow_2
  by_cases e0 : hL C a = 0
  · refine ⟨10, hsR (hNew C 68 10 10) q 1 (some (hB C + hZ C)), ?_, by omega, by omega, ?_, ?_, hR_shsR rfl, ?_, ?_, fun i r hi => ?_, rfl, rfl, fun K A => chc_hsRn ((ChC.r C K A _).new _ _ _) (Or.inr rfl)⟩
    · rw [dr_k, gd_e k1, rd_k, h2, dr_k, gd_e k1, dr_k, gd_e k1, rd_k, ha, dr_k, gd_l (by omega), rd_k, e0, if_neg (by decide), dr_k, gd_e k1, rd_k, ha, if_pos (he e0).symm, c_max (by omega), cB_k, show max (10 : Int) ((l.length : Int) + 1) = 10 by omega, show w32 10 = 10 by decide, gd_p (by decide), show (10 : Int).toNat = 10 by rfl, al_k (by omega), rd_k, dr_k, gd_e (show hK (hNew C 68 10 10) q = 15 by rw [hK_oN qo]; exact k1), rd_k, cB_k]
    · show hK (hNew C 68 10 10) _ = 68; exact hK_sN rfl
    · show hL (hNew C 68 10 10) _ = 10; exact hL_sN rfl
    · show hI (hNew C 68 10 10) q = _; rw [hI_oN qo]
    · show hK (hNew C 68 10 10) q = 15; rw [hK_oN qo]; exact k1
    · have := (List.getElem?_eq_some_iff.mp hi).1
      omega
  · have ish := iShr1_all ⟨l.length, by omega⟩
    dsimp only at ish
    let w := l.length + max 1 (l.length / 2)
    have hw : l.length < w ∧ w ≤ 240 := by
      have : w = l.length + max 1 (l.length / 2) := rfl
      omega
    let D := hcp (hNew C 68 w w) a 0 (hB C + hZ C) 0 l.length
    have aD : hR (hNew C 68 w w) a = hR C a := hR_oN ao
    have dq : hR D q = hR C q := by
      show up1 (hR (hNew C 68 w w)) (hB C + hZ C) _ q = _
      show (if q = hB C + hZ C then _ else hR (hNew C 68 w w) q) = _
      rw [if_neg qo, hR_oN qo]
    refine ⟨w, hsR D q 1 (some (hB C + hZ C)), ?_, hw.1, by omega, ?_, ?_, hR_shsR rfl, ?_, ?_, fun i r hi => ?_, rfl, rfl, fun K A => ?_⟩
    · unfold f_J2_grow_2_b20 f_J8_newLength f_J10_copyOf f_J10_copyOf_2
      rw [dr_k, gd_e k1, rd_k, h2, dr_k, gd_e k1, dr_k, gd_e k1, rd_k, ha, dr_k, gd_l (by omega), rd_k, hla, w32_n _ (by omega), if_pos (by omega), c_max (by rw [ish]; omega), cB_k, rd_k, ish, show (l.length : Int) + max ((l.length : Int) + 1 - (l.length : Int)) ((l.length / 2 : Nat) : Int) = (w : Int) by show _ = ((l.length + max 1 (l.length / 2) : Nat) : Int); omega, w32_n w (by omega), show w32 0 = 0 by decide, show w32 2147483639 = 2147483639 by decide, if_neg (by omega), if_neg (by omega), cB_k, dr_k, gd_e k1, rd_k, ha, dr_k, gd_e k2, if_pos rfl, w32_n w (by omega), gd_d (by omega), Int.toNat_natCast, al_k (by omega), rd_k, dr_k, gd_l (show 64 ≤ hK (hNew C 68 w w) a by rw [hK_oN ao]; omega), rd_k, show (hL (hNew C 68 w w) a : Int) = (l.length : Int) by rw [hL_oN ao, hla], c_min (by omega), cB_k, show min (l.length : Int) (w : Int) = (l.length : Int) by omega]
      unfold hCp
      rw [dr_k, dr_k, gd_p ?_]
      · rw [w32_n _ (by omega), show w32 0 = 0 by decide, cB_k, cB_k, dr_k, gd_e (show hK (hcp (hNew C (64 + 4) w w) a (Int.toNat 0) (hB C + hZ C) (Int.toNat 0) ((l.length : Nat) : Int).toNat) q = 15 by show hK (hNew C 68 w w) q = 15; rw [hK_oN qo]; exact k1), rd_k, cB_k]
        rfl
      · rw [w32_n _ (by omega), show w32 0 = 0 by decide, hK_oN ao, k2, hK_sN rfl, hL_oN ao, hla, hL_sN rfl, aD]
        rw [Bool.and_eq_true, Bool.and_eq_true, Bool.and_eq_true]
        refine ⟨⟨⟨rfl, decide_eq_true (by show hB C ≤ _; omega)⟩, decide_eq_true (by omega)⟩, List.all_eq_true.mpr (fun i hi => ?_)⟩
        have hi' : i < l.length := by
          have := List.mem_range.mp hi
          omega
        have e1 : l[i]? = some (l[i]'hi') := List.getElem?_eq_getElem _
        rw [show (0 : Int).toNat + i = i by omega, hel i _ e1]
        show okE 4 (hK (hNew C 68 w w) (l[i]'hi')) = true
        have ok := hok _ (List.getElem_mem hi')
        have no : l[i]'hi' ≠ hB C + hZ C := fun e => by
          have := z (l[i]'hi') (by omega)
          unfold OkL at ok; omega
        rw [hK_oN no]; exact ok.e
    · show hK (hNew C 68 w w) _ = 68; exact hK_sN rfl
    · show hL (hNew C 68 w w) _ = w; exact hL_sN rfl
    · show hI (hNew C 68 w w) q = _; rw [hI_oN qo]
    · show hK (hNew C 68 w w) q = 15; rw [hK_oN qo]; exact k1
    · have hi' := (List.getElem?_eq_some_iff.mp hi).1
      rw [hR_ohsR (Or.inl (Ne.symm qo))]
      show (if hB C + hZ C = hB C + hZ C then va_cpy (hR (hNew C 68 w w) a) _ 0 0 l.length else _) i = _
      rw [if_pos rfl, pk_cpy_in (by omega) (by omega), aD]
      rw [show 0 + (i - 0) = i by omega]
      exact hel i r hi
    · refine chc_hsRn ?_ (Or.inr rfl)
      have c1 := (ChC.r C K A (fun x => x = q)).new 68 w w
      obtain ⟨u1, u2, u3, u4, u5, u6, u7, u8⟩ := c1
      refine ⟨u1, u2, u3, u4, u5, u6, fun x hx => ⟨(u7 x hx).1, (u7 x hx).2.1, (u7 x hx).2.2.1, (u7 x hx).2.2.2.1, fun hn => ?_⟩, u8⟩
      show (if x = hB C + hZ C then _ else hR (hNew C 68 w w) x) = _
      rw [if_neg (by omega)]
      exact (u7 x hx).2.2.2.2 hn
theorem c_add {C : CW} {q r0 : Nat} {l : List Nat} (z : ∀ q, hB C + hZ C ≤ q → hK C q = 0) (h : ALs C q l) (hl : l.length ≤ 160) (hr0 : OkL C r0) (hok : ∀ r ∈ l, OkL C r) (he : ∀ a, hR C q 1 = some a → hL C a = 0 → hE C 0 = some a) (r1 : hZ C + 1 ≤ 600384) (r2 : hS C + 260 ≤ 7290858) : ∃ C', f_J2_add q (some r0) C = some (1, C') ∧ ALs C' q (l ++ [r0]) ∧ hZ C' ≤ hZ C + 1 ∧ hS C' ≤ hS C + 260 ∧ (∀ K, ChC C C' K (fun x => x = q) (RAd C q l)) ∧ ∃ a', hR C' q 1 = some a' ∧ 0 < hL C' a' ∧ ((hR C q 1 = some a' ∧ l.length < hL C a') ∨ a' = hB C + hZ C) := by
  obtain ⟨h1, h2, h3, a, h4, h5, h6, h7, h8⟩ := h
  have aq : a ≠ q := fun e => by rw [e, h1] at h5; cases h5
  have qo : q ≠ hB C + hZ C := fun e => by rw [z q (by omega)] at h1; cases h1
  have ao : a ≠ hB C + hZ C := fun e => by rw [z a (by omega)] at h5; cases h5
  have n1 : ((l.length : Int) + 1) = ((l ++ [r0]).length : Int) := by rw [List.length_append]; rfl
  unfold f_J2_add f_J2_add_2
  let D := hsI C q 0 (hI C q 0 + 1)
  have d1 : hK D q = 15 := h1
  have d2 : hR D q 1 = some a := h4
  have d3 : hI D q 2 = (l.length : Int) := by show hI (hsI C q 0 _) q 2 = _; rw [hI_ohsI (by omega)]; exact h2
  have cD : ∀ K R, ChC C D K (fun x => x = q) R := fun K R => (ChC.r C K _ R).hsIn (Or.inr rfl)
  by_cases e : l.length < hL C a
  · refine ⟨hsI (hsR D a l.length (some r0)) q 2 ((l.length : Int) + 1), ?_, ⟨h1, ?_, ?_, a, ?_, h5, ?_, h7, fun i r hi => ?_⟩, Nat.le_succ _, by show hS C ≤ _; omega, fun K => (chc_hsRn (cD K _) (Or.inr (Or.inr ⟨h4, e⟩))).hsIn (Or.inr rfl), a, ?_, by show 0 < hL C a; omega, Or.inl ⟨h4, e⟩⟩
    · rw [dr_k, gd_e h1, rd_k, dr_k, gd_e h1, rd_k, dr_k, gd_e d1, rd_k, d2, dr_k, gd_e d1, rd_k, d3, dr_k, gd_e d1, dr_k, gd_l (show 64 ≤ hK D a by show 64 ≤ hK C a; omega), rd_k, show (hL D a : Int) = (hL C a : Int) from rfl, w32_n _ (by omega), w32_n _ (by omega), if_neg (by omega), c_add2 (C := D) d1 h5 e h7 hr0, cB_k]
    · rw [hI_shsI rfl, n1]
    · rw [List.length_append]; show l.length + 1 < _; omega
    · show hR (hsR D a l.length (some r0)) q 1 = some a
      rw [hR_ohsR (Or.inl (Ne.symm aq))]; exact h4
    · rw [List.length_append]; show l.length + 1 ≤ hL C a; omega
    · show hR (hsR D a l.length (some r0)) a i = some r
      rcases getE_app hi with ⟨g1, g2⟩ | ⟨g1, g2⟩
      · rw [hR_ohsR (by omega)]; exact h8 i r g2
      · rw [g1, g2, hR_shsR rfl]
    · show hR (hsR D a l.length (some r0)) q 1 = some a
      rw [hR_ohsR (Or.inl (Ne.symm aq))]; exact h4
  · have hla : hL C a = l.length := by omega
    obtain ⟨w, C2, g1, g2, g3, g4, g5, g6, g7, g8, g9, g10, g11, g12⟩ := c_grow (C := D) (q := q) (a := a) (l := l) z d1 d3 d2 h5 hla h8 hl hok (he a h4) r1 r2
    have b1 : hB D = hB C := rfl
    have b2 : hZ D = hZ C := rfl
    have hr2 : OkL C2 r0 := by
      have k := (g12 (fun _ _ => False) (fun _ => False)).2.2.2.2.2.2.1 r0 (by
        apply Classical.byContradiction
        intro hc
        have := z r0 (by omega)
        unfold OkL at hr0; omega)
      unfold OkL
      rw [k.1]; exact hr0
    refine ⟨hsI (hsR C2 (hB C + hZ C) l.length (some r0)) q 2 ((l.length : Int) + 1), ?_, ⟨g8, ?_, ?_, hB C + hZ C, ?_, g4, ?_, ?_, fun i r hi => ?_⟩, ?_, ?_, fun K => ?_, hB C + hZ C, ?_, ?_, Or.inr rfl⟩
    · rw [dr_k, gd_e h1, rd_k, dr_k, gd_e h1, rd_k, dr_k, gd_e d1, rd_k, d2, dr_k, gd_e d1, rd_k, d3, dr_k, gd_e d1, dr_k, gd_l (show 64 ≤ hK D a by show 64 ≤ hK C a; omega), rd_k, show (hL D a : Int) = (hL C a : Int) from rfl, w32_n _ (by omega), w32_n _ (by omega), if_pos (by omega), dr_k, gd_e d1, g1, cB_k, c_add2 (C := C2) (a := hB D + hZ D) g8 g4 (by omega) (by omega) hr2, cB_k]
      rfl
    · rw [hI_shsI rfl, n1]
    · rw [List.length_append]; show l.length + 1 < _; omega
    · show hR (hsR C2 (hB C + hZ C) l.length (some r0)) q 1 = _
      rw [hR_ohsR (Or.inl qo)]; exact g6
    · show (l ++ [r0]).length ≤ hL C2 (hB D + hZ D)
      rw [g5, List.length_append]; show l.length + 1 ≤ w; omega
    · show hL C2 (hB D + hZ D) < _
      rw [g5]; omega
    · show hR (hsR C2 (hB C + hZ C) l.length (some r0)) (hB C + hZ C) i = some r
      rcases getE_app hi with ⟨k1, k2⟩ | ⟨k1, k2⟩
      · rw [hR_ohsR (by omega)]; exact g9 i r k2
      · rw [k1, k2, hR_shsR rfl]
    · show hZ C2 ≤ _; omega
    · show hS C2 ≤ _
      have : hS D = hS C := rfl
      omega
    · refine ChC.hsIn ?_ (Or.inr rfl)
      refine chc_hsRn ?_ (Or.inl (Nat.le_refl _))
      exact (cD K _).tr ((g12 K (fun x => x = q)).mono (fun _ _ h => h) (fun _ _ h => h) (fun x _ h => Or.inl h))
    · show hR (hsR C2 (hB C + hZ C) l.length (some r0)) q 1 = _
      rw [hR_ohsR (Or.inl qo)]; exact g6
    · show 0 < hL C2 (hB D + hZ D)
      rw [g5]; omega
