/-! LAYER C: the component's instruction on types: returns, fields, calls, objects, all -/
theorem c_size {C : CW} {q : Nat} {l : List Nat} (h : ALs C q l) : f_J2_size q C = some ((l.length : Int), C) := by
  unfold f_J2_size
  rw [dr_k, gd_e h.1, rd_k, h.2.1]
theorem c_get {C : CW} {q : Nat} {l : List Nat} (h : ALs C q l) {i : Nat} {r : Nat} (hi : l[i]? = some r) {z : Int} (hz : z = (i : Int)) : f_J2_get q z C = some (some r, C) := by
  subst hz
  obtain ⟨h1, h2, h3, a, h4, h5, h6, h7, h8⟩ := h
  have il := (List.getElem?_eq_some_iff.mp hi).1
  unfold f_J2_get f_J11_checkIndex f_J12_checkIndex f_J2_elementData
  rw [dr_k, gd_e h1, rd_k, h2, w32_n i (by omega), w32_n l.length (by omega), if_neg (by omega), if_pos (by omega), cB_k, cB_k, dr_k, gd_e h1, dr_k, gd_e h1, rd_k, h4, dr_k, gd_e h5, ax_k (by omega), rd_k, Int.toNat_natCast, h8 i r hi, cB_k]
theorem rfc_thg {H : HT} {t r : Nat} (ht : rfc t = true) (hr : r = 0 ∨ tyT (hn H) r = true) (n16 : hn H ≤ 16) : (r ≠ 0 ∧ fit H t r = true) ↔ (thg r = true ∧ fit H t r = true) := by
  constructor
  · rintro ⟨h1, h2⟩
    refine ⟨?_, h2⟩
    have hr2 : (1 ≤ r ∧ r ≤ 4) ∨ (32 ≤ r ∧ r < 32 + hn H) ∨ (64 ≤ r ∧ r < 64 + hn H) := by
      rcases hr with e | e
      · exact absurd e h1
      · exact of_decide_eq_true e
    by_cases r12 : r = 1 ∨ r = 2
    · exfalso
      have t12 : t ≠ r := by
        intro e
        subst e
        rcases r12 with rfl | rfl <;> exact absurd ht (by decide)
      unfold fit at h2
      rw [if_neg (by omega)] at h2
      split at h2
      · rcases r12 with rfl | rfl <;> exact absurd h2 (by decide)
      · rw [if_neg (by omega), decide_eq_false (by omega)] at h2
        cases h2
    · exact decide_eq_true (by omega)
  · rintro ⟨h1, h2⟩
    refine ⟨?_, h2⟩
    intro e
    subst e
    exact absurd h1 (by decide)
theorem fit_num {H : HT} {t w : Nat} (hw : w = 1 ∨ w = 2) (h : fit H t w = true) : t = w := by
  unfold fit at h
  by_cases e : t = w
  · exact e
  exfalso
  rw [if_neg (by omega)] at h
  split at h
  · rcases hw with rfl | rfl <;> exact absurd h (by decide)
  · rw [if_neg (by omega), decide_eq_false (by omega)] at h
    cases h
theorem num_fit {H : HT} {t r : Nat} (ht : t = 1 ∨ t = 2) (h : fit H t r = true) : t = r ∨ r = 0 := by
  unfold fit at h
  by_cases e : t = r ∨ r = 0
  · exact e
  exfalso
  rw [if_neg e, if_neg (by omega)] at h
  have th : thg t = false := by rcases ht with rfl | rfl <;> decide
  split at h
  · rw [if_neg (by omega), th] at h
    cases h
  · rw [decide_eq_false (by omega)] at h
    cases h
theorem fit_self {H : HT} (t : Nat) : fit H t t = true := if_pos (Or.inl rfl)
theorem c_ret {C0 C : CW} {x : VC} {s : TS} {qf qs : List Nat} {qm p op : Nat} (c : SCx C0 x qf qs qm p) (h : SimC C0 C x s) (hop : op = 172 ∨ op = 173 ∨ op = 176 ∨ op = 177) : RX C0 x p (sRet (xH_ x) (rR (xm_ x)) op s) (f_X3_returns (op : Int) C) := by
  have hr : rR (xm_ x) = 0 ∨ tyT (hn (xH_ x)) (rR (xm_ x)) = true := c.2.2.2.1.2.2.1.2.2.1
  have rv : tyV (hn (xH_ x)) (xz x) (rR (xm_ x)) := by
    rcases hr with hr | hr
    · rw [hr]; exact Or.inl (by omega)
    · exact tyT_V hr
  have rl := tyV_lt rv c.n16 c.xz
  have b63 : ∀ (C1 : CW) (s : TS) (t : Nat) (P : Prop) [Decidable P], SimC C0 C1 x s → tyV (hn (xH_ x)) (xz x) t → (P ↔ (rR (xm_ x) ≠ 0 ∧ fit (xH_ x) t (rR (xm_ x)) = true)) → RX C0 x p (if P then .inr s else .inl 6) (f_X3_returns_b63 (t : Int) C1) := by
    intro C1 s t P _ hs ht hP
    have cC := c.mv hs.1
    have m8 : hK C1 qm = 7 := cC.2.2.2.1.2.1.1
    have m1 : hI C1 qm 1 = (rR (xm_ x) : Int) := cC.2.2.2.1.2.1.2.2.1
    unfold f_X3_returns_b63 f_X3_returns_b97 f_X3_returns_b98
    rw [rd_k, cC.2.2.2.1.1, dr_k, gd_e m8, rd_k, m1, w32_n _ (by omega), rd_k, dr_k, gd_e m8, rd_k, m1, c_fits cC.1 c.xz ht rv, cB_k, ite_b]
    by_cases q : P
    · have := hP.mp q
      rw [if_pos q, if_neg (by omega), if_pos this.2]
      exact RX.need (s := s) (κs := fun s => .inr s) c hs.1 true 6 1 rfl 6 rfl (fun _ => ⟨C1, rfl, hs⟩)
    · have F := RX.need (s := s) (κs := fun s => .inr s) (κ := fun _ C10 => some (.inr (), C10)) c hs.1 false 6 0 rfl 6 rfl (fun e => by cases e)
      rw [if_neg q]
      by_cases r0 : rR (xm_ x) = 0
      · rw [if_pos (by omega)]; exact F
      · rw [if_neg (by omega)]
        by_cases f : fit (xH_ x) t (rR (xm_ x)) = true
        · exact absurd (hP.mpr ⟨r0, f⟩) q
        · rw [if_neg f]; exact F
  unfold f_X3_returns f_X3_returns_b23
  rcases hop with rfl | rfl | rfl | rfl
  · show RX C0 x p (sB (sWant (xH_ x) 1 s) fun s => if rR (xm_ x) = 1 then .inr s else .inl 6) (xB (f_X3_pop_2 1 C) fun v16 C15 => f_X3_returns_b63 v16 C15)
    rw [sWantB]
    refine (c_want c h 1 (tyV_1 _ _) 1 rfl).bind fun t s1 C1 e hs ht => b63 C1 s1 t _ hs ht ?_
    have t1 : t = 1 := by
      unfold sWantV at e
      cases hp : sPop s with
      | inl b => rw [hp] at e; cases e
      | inr a =>
        rw [hp, sB_i] at e
        by_cases f : fit (xH_ x) a.1 1 = true
        · rw [if_pos f] at e
          cases e
          exact fit_num (Or.inl rfl) f
        · rw [if_neg f] at e
          cases e
    subst t1
    constructor
    · intro e; rw [e]; exact ⟨by omega, fit_self 1⟩
    · rintro ⟨e1, e2⟩
      rcases num_fit (Or.inl rfl) e2 with e | e
      · exact e.symm
      · exact absurd e e1
  · show RX C0 x p (sB (sWant (xH_ x) 2 s) fun s => if rR (xm_ x) = 2 then .inr s else .inl 6) (xB (f_X3_pop_2 2 C) fun v16 C15 => f_X3_returns_b63 v16 C15)
    rw [sWantB]
    refine (c_want c h 2 (tyV_2 _ _) 2 rfl).bind fun t s1 C1 e hs ht => b63 C1 s1 t _ hs ht ?_
    have t1 : t = 2 := by
      unfold sWantV at e
      cases hp : sPop s with
      | inl b => rw [hp] at e; cases e
      | inr a =>
        rw [hp, sB_i] at e
        by_cases f : fit (xH_ x) a.1 2 = true
        · rw [if_pos f] at e
          cases e
          exact fit_num (Or.inr rfl) f
        · rw [if_neg f] at e
          cases e
    subst t1
    constructor
    · intro e; rw [e]; exact ⟨by omega, fit_self 2⟩
    · rintro ⟨e1, e2⟩
      rcases num_fit (Or.inr rfl) e2 with e | e
      · exact e.symm
      · exact absurd e e1
  · show RX C0 x p (sB (sRef s) fun a => if thg (rR (xm_ x)) = true ∧ fit (xH_ x) a.1 (rR (xm_ x)) = true then .inr a.2 else .inl 6) (xB (f_X3_popReference C) fun v12 C11 => f_X3_returns_b63 v12 C11)
    refine (c_ref c h).bind fun t s1 C1 e hs ht => b63 C1 s1 t _ hs ht ?_
    have rt : rfc t = true := by
      unfold sRef at e
      cases hp : sPop s with
      | inl b => rw [hp] at e; cases e
      | inr a =>
        rw [hp, sB_i] at e
        by_cases f : rfc a.1 = true
        · rw [if_pos f] at e
          cases e
          exact f
        · rw [if_neg f] at e
          cases e
    exact (rfc_thg rt hr c.n16).symm
  · have cC := c.mv h.1
    have m8 : hK C qm = 7 := cC.2.2.2.1.2.1.1
    have m1 : hI C qm 1 = (rR (xm_ x) : Int) := cC.2.2.2.1.2.1.2.2.1
    rw [show sRet (xH_ x) (rR (xm_ x)) 177 s = (if rR (xm_ x) = 0 then .inr s else .inl 6) from rfl, if_pos (show w32 ((177 : Nat) : Int) = w32 177 from rfl), rd_k, cC.2.2.2.1.1, dr_k, gd_e m8, rd_k, m1, w32_n _ (by omega)]
    by_cases e : rR (xm_ x) = 0
    · rw [if_pos e, if_pos (by omega)]
      exact RX.need (s := s) (κs := fun s => .inr s) c h.1 true 6 1 rfl 6 rfl (fun _ => ⟨C, rfl, h⟩)
    · rw [if_neg e, if_neg (by omega)]
      exact RX.need (s := s) (κs := fun s => .inr s) c h.1 false 6 0 rfl 6 rfl (fun e => by cases e)
theorem c_field {C0 C : CW} {x : VC} {s : TS} {qf qs : List Nat} {qm p op i q : Nat} (c : SCx C0 x qf qs qm p) (h : SimC C0 C x s) (hop : 178 ≤ op ∧ op ≤ 181) (hi : i < fN (xF_ x)) (hq : qf[i]? = some q) : RX C0 x p (sField (xH_ x) (xF_ x) (rS (xm_ x)) op i s) (f_X3_field (op : Int) (some q) C) := by
  obtain ⟨q1, q2⟩ := c.2.1.2.2.2.2.1 i hi
  have n16 := c.n16
  have tv : tyV (hn (xH_ x)) (xz x) (fT (xF_ x) i) := tyT_V q2
  have cv : tyV (hn (xH_ x)) (xz x) (32 + fC (xF_ x) i) := Or.inr (Or.inl (by omega))
  have fd : ∀ C1, FrN C0 C1 → FdC C1 q (xF_ x) i := fun C1 f => (c.mv f).2.1.2.2.1 i q hq
  have b42 : ∀ (C1 : CW) (s : TS), SimC C0 C1 x s → RX C0 x p (if op = 178 ∨ op = 180 then sPush (rS (xm_ x)) (fT (xF_ x) i) s else .inr s) (f_X3_field_b42 (op : Int) (some q) C1) := by
    intro C1 s hs
    obtain ⟨g1, g2, g3, g4, g5⟩ := fd C1 hs.1
    unfold f_X3_field_b42 f_X3_field_b56
    rw [w32_n op (by omega), show w32 178 = 178 by decide, show w32 180 = 180 by decide, dr_k, gd_e g1, rd_k, g4]
    by_cases o : op = 178 ∨ op = 180
    · rw [if_pos o]
      rcases o with o | o
      · rw [if_pos (by omega)]; exact (c_push c hs _ tv _ rfl).fin
      · rw [if_neg (by omega), if_pos (by omega)]; exact (c_push c hs _ tv _ rfl).fin
    · rw [if_neg o, if_neg (by omega), if_neg (by omega)]
      exact ⟨C1, rfl, hs⟩
  have b23 : ∀ (C1 : CW) (s : TS), SimC C0 C1 x s → RX C0 x p (sB (if 180 ≤ op then sWant (xH_ x) (32 + fC (xF_ x) i) s else .inr s) fun s => if op = 178 ∨ op = 180 then sPush (rS (xm_ x)) (fT (xF_ x) i) s else .inr s) (f_X3_field_b23 (op : Int) (some q) C1) := by
    intro C1 s hs
    obtain ⟨g1, g2, g3, g4, g5⟩ := fd C1 hs.1
    unfold f_X3_field_b23
    rw [w32_n op (by omega), show w32 179 = 179 by decide]
    by_cases o : 180 ≤ op
    · rw [if_pos o, if_neg (by omega), dr_k, gd_e g1, rd_k, g3, sWantB]
      exact (c_want c hs _ cv (32 + (fC (xF_ x) i : Int)) (by omega)).bind fun u s C1 _ hs _ => b42 C1 s hs
    · rw [if_neg o, if_pos (by omega)]
      exact b42 C1 s hs
  unfold f_X3_field sField
  rw [w32_n op (by omega), show w32 179 = 179 by decide, show w32 181 = 181 by decide]
  by_cases o : op = 179 ∨ op = 181
  · have : RX C0 x p (sB (sWant (xH_ x) (fT (xF_ x) i) s) fun s => sB (if 180 ≤ op then sWant (xH_ x) (32 + fC (xF_ x) i) s else .inr s) fun s => if op = 178 ∨ op = 180 then sPush (rS (xm_ x)) (fT (xF_ x) i) s else .inr s) (f_X3_field_b14 (op : Int) (some q) C) := by
      obtain ⟨g1, g2, g3, g4, g5⟩ := fd C h.1
      unfold f_X3_field_b14
      rw [dr_k, gd_e g1, rd_k, g4, sWantB]
      exact (c_want c h _ tv _ rfl).bind fun u s C1 _ hs _ => b23 C1 s hs
    rw [if_pos o]
    rcases o with o | o
    · rw [if_pos (show (op : Int) = 179 by omega)]; exact this
    · rw [if_neg (show ¬ (op : Int) = 179 by omega), if_pos (show (op : Int) = 181 by omega)]; exact this
  · rw [if_neg o, if_neg (show ¬ (op : Int) = 179 by omega), if_neg (show ¬ (op : Int) = 181 by omega)]
    exact b23 C s h
theorem c_call {C0 C : CW} {x : VC} {s : TS} {qf qs : List Nat} {qm p i q : Nat} {m : MR} (c : SCx C0 x qf qs qm p) (h : SimC C0 C x s) (hq : qs[i]? = some q) (hm : (xM_ x)[i]? = some m) : RX C0 x p (sCall (xH_ x) (rS (xm_ x)) m s) (f_X3_call (some q) C) := by
  have so : SgO (hn (xH_ x)) m := c.2.2.1.2.2.2.2 i m hm
  have ms : ∀ C1, FrN C0 C1 → MsC C1 q m := fun C1 f => (c.mv f).2.2.1.2.2.2.1 i q m hq hm
  have rv : tyV (hn (xH_ x)) (xz x) (rR m) := by
    rcases so.2.2.1 with e | e
    · rw [e]; exact Or.inl (by omega)
    · exact tyT_V e
  have rl := tyV_lt rv c.n16 c.xz
  have lp : ∀ (k n : Nat) (C1 : CW) (s : TS), SimC C0 C1 x s → k < n → k ≤ (rA m).length → RX C0 x p (sB (sArgs (xH_ x) ((rA m).take k).reverse s) fun s => if rR m = 0 then .inr s else sPush (rS (xm_ x)) (rR m) s) (f_X3_call_b8 n (some q) ((k : Int) - 1) C1) := by
    intro k
    induction k with
    | zero =>
      intro n C1 s hs h1 h2
      obtain ⟨n, rfl⟩ : ∃ j, n = j + 1 := ⟨n - 1, by omega⟩
      obtain ⟨g1, g2, g3, g4⟩ := ms C1 hs.1
      show RX C0 x p (if rR m = 0 then .inr s else sPush (rS (xm_ x)) (rR m) s) (f_X3_call_s8 (f_X3_call_b8 n) (some q) _ C1)
      unfold f_X3_call_s8
      rw [if_pos (show w32 (((0 : Nat) : Int) - 1) < 0 by decide), dr_k, gd_e g1, rd_k, g3, w32_n _ (by omega), dr_k, gd_e g1, rd_k, g3]
      by_cases z : rR m = 0
      · rw [if_pos z, if_pos (by omega)]
        exact ⟨C1, rfl, hs⟩
      · rw [if_neg z, if_neg (by omega)]
        exact (c_push c hs _ rv _ rfl).fin
    | succ k ih =>
      intro n C1 s hs h1 h2
      obtain ⟨n, rfl⟩ : ∃ j, n = j + 1 := ⟨n - 1, by omega⟩
      obtain ⟨g1, ⟨aa, ga, gb, gc, gd, ge⟩, g3, g4⟩ := ms C1 hs.1
      have h4 := so.1
      obtain ⟨t, ht⟩ : ∃ t, (rA m)[k]? = some t := ⟨(rA m)[k], List.getElem?_eq_getElem (by omega)⟩
      have tv : tyV (hn (xH_ x)) (xz x) t := tyT_V (so.2.1 t (List.mem_of_getElem? ht))
      show RX C0 x p _ (f_X3_call_s8 (f_X3_call_b8 n) (some q) _ C1)
      unfold f_X3_call_s8
      have e1 : (((k + 1 : Nat) : Int) - 1) = (k : Int) := by omega
      rw [e1, w32_n k (by omega), if_neg (by omega), dr_k, gd_e g1, rd_k, ga, dr_k, gd_e gc, gd, ax_k (by omega), rd_k, Int.toNat_natCast, ge k t ht, take_rev ht]
      show RX C0 x p (sB (sB (sWant (xH_ x) t s) fun s => sArgs (xH_ x) _ s) _) _
      rw [sB_a, sWantB]
      exact (c_want c hs t tv _ rfl).bind fun u s C1 _ hs _ => ih n C1 s hs (by omega) (by omega)
  obtain ⟨g1, ⟨aa, ga, gb, gc, gd, ge⟩, g3, g4⟩ := ms C h.1
  unfold f_X3_call sCall
  rw [dr_k, gd_e g1, rd_k, ga, dr_k, gd_l (by rw [gc]; omega), rd_k, gd, rd_k]
  have := lp (rA m).length FU C s h (by rw [FU_v]; have := so.1; omega) (Nat.le_refl _)
  rw [List.take_length] at this
  exact this
