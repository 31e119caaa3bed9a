/-! LAYER C: the component's instruction on types: objects, all of it -/
theorem c_turn {C0 C : CW} {x : VC} {s : TS} {qf qs : List Nat} {qm p t u : Nat} (c : SCx C0 x qf qs qm p) (h : SimC C0 C x s) (ht : 1000 ≤ t ∧ t < 2000) (hu : tyV (hn (xH_ x)) (xz x) u) (hu2 : u ≠ 2) : ∃ C', f_X4_become (hB C0 + 8) (t : Int) (u : Int) C = some ((), C') ∧ SimC C0 C' x ((fun k => trn t u (s.1 k)), s.2.map (trn t u)) := by
  obtain ⟨hb, k8, r8, r8', k9, l9, k10, l10⟩ := h.k c
  obtain ⟨L, l⟩ := s
  obtain ⟨h1, h2, h3, h4, h5, h6, h7, h8⟩ := h
  dsimp only at h2 h3 h4 h5 h7 h8
  have hS := c.rS
  have hll := wds_len l
  have bL : ∀ k, L k < 2000 := fun k => by have := tyV_lt (h6.1 k) c.n16 c.xz; dsimp only at this; omega
  have bl : ∀ v ∈ l, v < 2000 := fun v hv => by have := tyV_lt (h6.2 v hv) c.n16 c.xz; omega
  unfold f_X4_become
  obtain ⟨C', f1, f2, f3, f4⟩ := c_bec2 (q := hB C0 + 8) (l := hB C0 + 9) (s := hB C0 + 10) (t := t) (u := u) (L := L) (stk := l) ht.2 (by omega) bl bL (by omega) (by omega) (by omega) FU 0 C k8 r8 r8' k9 l9 k10 l10 h4 (by omega) (by rw [FU_v]; omega) (fun j hj => by rw [if_neg (by omega)]; exact h2 j hj) h3
  have tv : ∀ v, tyV (hn (xH_ x)) (xz x) v → tyV (hn (xH_ x)) (xz x) (trn t u v) := by
    intro v hv
    unfold trn
    split
    · exact hu
    · exact hv
  have wm : wds (l.map (trn t u)) = wds l := by
    refine wds_map (fun v => ?_) l
    unfold trn
    split
    · constructor
      · intro e; exact absurd e hu2
      · intro e; omega
    · exact Iff.rfl
  have o8 : hI C' (hB C0 + 8) = hI C (hB C0 + 8) := f2.2.2.2.2.2.1 _ (by omega)
  refine ⟨C', f1, h1.hi f2 (fun q hq => Or.inr hq), f3, fun k hk => ?_, ?_, ?_, ⟨fun k => tv _ (h6.1 k), fun v hv => ?_⟩, ?_, fun k hk => ?_⟩
  · dsimp only at hk ⊢
    rw [List.length_map] at hk
    rw [f4 k hk, nth_map l k hk]
  · dsimp only
    rw [o8, h4, List.length_map]
  · dsimp only
    rw [o8, h5, wm]
  · obtain ⟨w, hw, e⟩ := List.mem_map.mp hv
    rw [← e]; exact tv _ (h6.2 w hw)
  · dsimp only
    rw [wm]; exact h7
  · dsimp only
    rw [h8 k hk]
    unfold trn
    rw [if_neg (by omega)]
theorem c_begin {C0 C : CW} {x : VC} {s : TS} {qf qs : List Nat} {qm p i : Nat} (c : SCx C0 x qf qs qm p) (h : SimC C0 C x s) (hi : i < hn (xH_ x)) : RX C0 x p (sB (sPop s) fun a => if 1000 ≤ a.1 ∧ rC (xm_ x) (a.1 - 1000 + 1) = i then .inr (fun k => trn a.1 (32 + i) (a.2.1 k), a.2.2.map (trn a.1 (32 + i))) else .inl 6) (f_X3_begin (i : Int) C) := by
  have n16 := c.n16
  unfold f_X3_begin f_X3_begin_b35 f_X3_begin_b36
  refine (c_pop c h).bind fun t s C1 _ hs ht => ?_
  have tl := tyV_lt ht c.n16 c.xz
  have cC := c.mv hs.1
  have hb : hB C1 = hB C0 := (hs.k c).1
  have k8 := (hs.k c).2.1
  have F := RX.need (s := s) (κs := fun s => .inr (fun k => trn t (32 + i) (s.1 k), s.2.map (trn t (32 + i)))) (κ := fun _ C1 => dr (some (hB C1 + 8)) fun q3 => gdB (hK C1 q3 == 6) <| cB (f_X4_become q3 (t : Int) (32 + (i : Int)) C1) fun _ C2 => some (Sum.inr (), C2)) c hs.1 false 6 0 rfl 6 rfl (fun e => by cases e)
  dsimp only
  rw [w32_n t (by omega), show w32 1000 = 1000 by decide]
  by_cases t1 : 1000 ≤ t
  · have hz := c.xz
    have tz : t - 1000 + 1 < xz x := by unfold tyV at ht; omega
    have m8 : hK C1 qm = 7 := cC.2.2.2.1.2.1.1
    have hb2 : rC (xm_ x) (t - 1000 + 1) < 256 := c.2.2.2.1.2.2.1.2.2.2.2.2.2 _
    rw [if_neg (show ¬ (t : Int) < 1000 by omega), rd_k, cC.2.2.2.1.1, dr_k, gd_e m8, c_at cC.2.2.2.1.2.1 hz (k := t - 1000 + 1) tz (by omega), cB_k, w32_n _ (by omega), w32_n i (by omega)]
    by_cases q : rC (xm_ x) (t - 1000 + 1) = i
    · rw [if_pos ⟨t1, q⟩, if_pos (by omega)]
      refine RX.need (s := s) (κs := fun s => .inr (fun k => trn t (32 + i) (s.1 k), s.2.map (trn t (32 + i)))) c hs.1 true 6 1 rfl 6 rfl (fun _ => ?_)
      obtain ⟨C2, e2, f2⟩ := c_turn (t := t) (u := 32 + i) c hs (by omega) (Or.inr (Or.inl (by omega))) (by omega)
      rw [hb, dr_k, gd_e k8, show (32 : Int) + (i : Int) = ((32 + i : Nat) : Int) by omega, e2, cB_k]
      exact ⟨C2, rfl, f2⟩
    · rw [if_neg (fun h => q h.2), if_neg (by omega)]
      exact F
  · rw [if_neg (fun h => t1 h.1), if_pos (show (t : Int) < 1000 by omega)]
    exact F
theorem c_raw {C0 C : CW} {x : VC} {s : TS} {qf qs : List Nat} {qm p : Nat} (c : SCx C0 x qf qs qm p) (h : SimC C0 C x s) (hp2 : p + 1 < xz x) : RX C0 x p (if (1000 + p) ∈ s.2 then .inl 6 else sPush (rS (xm_ x)) (1000 + p) (fun k => trn (1000 + p) 0 (s.1 k), s.2)) (f_X3_raw C) := by
  have cC := c.mv h.1
  have hz := c.xz
  have tv : tyV (hn (xH_ x)) (xz x) (1000 + p) := Or.inr (Or.inr (Or.inr (by omega)))
  obtain ⟨hb, k8, r8, r8', k9, l9, k10, l10⟩ := h.k c
  have hS := c.rS
  have hll := wds_len s.2
  have hw := h.2.2.2.2.2.2.1
  unfold f_X3_raw
  rw [rd_k, cC.2.2.2.2.1, rd_k, show (1000 : Int) + (p : Int) = ((1000 + p : Nat) : Int) by omega]
  have lp : ∀ (n k : Nat), k ≤ s.2.length → s.2.length < n + k → (∀ j, j < k → nth s.2 j ≠ 1000 + p) → RX C0 x p (if (1000 + p) ∈ s.2 then .inl 6 else sPush (rS (xm_ x)) (1000 + p) (fun k => trn (1000 + p) 0 (s.1 k), s.2)) (f_X3_raw_b11 n ((1000 + p : Nat) : Int) (k : Int) C) := by
    intro n
    induction n with
    | zero => intro k h1 h2; omega
    | succ n ih =>
      intro k h1 h2 h3
      show RX C0 x p _ (f_X3_raw_s11 (f_X3_raw_b11 n) _ _ C)
      unfold f_X3_raw_s11 f_X3_raw_b41
      rw [hb, dr_k, gd_e k8, rd_k, h.2.2.2.1, w32_n _ (by omega), w32_n k (by omega)]
      by_cases e : s.2.length ≤ k
      · have nm : ¬ (1000 + p) ∈ s.2 := by
          intro hm
          obtain ⟨j, hj, e2⟩ := mem_nth _ hm
          exact h3 j (by omega) e2
        obtain ⟨C2, e2, f2⟩ := c_turn (t := 1000 + p) (u := 0) c h (by omega) (Or.inl (by omega)) (by omega)
        rw [trn_map nm] at f2
        have e2' : f_X4_become (hB C0 + 8) ((1000 + p : Nat) : Int) 0 C = some ((), C2) := e2
        rw [if_neg nm, if_pos (by omega), dr_k, gd_e k8, e2', cB_k]
        exact (c_push c f2 (1000 + p) tv _ rfl).fin
      · have e' : k < s.2.length := by omega
        have lk : nth s.2 k < 2000 := nth_lt2 (fun v hv => by have := tyV_lt (h.2.2.2.2.2.1.2 v hv) c.n16 c.xz; omega) k e'
        rw [if_neg (show ¬ (s.2.length : Int) ≤ (k : Int) by omega), dr_k, gd_e k8, rd_k, r8', dr_k, gd_e k10, l10, ax_k (by omega), rd_k, Int.toNat_natCast, h.2.2.1 k e', w32_n _ (by omega), w32_n _ (by omega)]
        by_cases q : nth s.2 k = 1000 + p
        · have hm : (1000 + p) ∈ s.2 := by rw [← q]; exact nth_mem _ k e'
          rw [if_pos hm, if_pos (by omega)]
          exact RX.need (s := s) (κs := fun s => .inr s) c h.1 false 6 0 rfl 6 rfl (fun e => by cases e)
        · rw [if_neg (show ¬ ((nth s.2 k : Nat) : Int) = ((1000 + p : Nat) : Int) by omega)]
          rcases c_need c h.1 true 6 with ⟨_, e6⟩ | ⟨z, _⟩
          · have e6' : f_X3_need 1 6 C = some (.inr (), C) := e6
            rw [e6', xB_r]
            exact ih (k + 1) (by omega) (by omega) (fun j hj => by
              by_cases ej : j = k
              · rw [ej]; exact q
              · exact h3 j (by omega))
          · cases z
  exact lp FU 0 (by omega) (by rw [FU_v]; omega) (fun j hj => by omega)
theorem c_objs {C0 C : CW} {x : VC} {s : TS} {qf qs : List Nat} {qm p op i : Nat} (c : SCx C0 x qf qs qm p) (hp2 : op = 187 → p + 1 < xz x) (h : SimC C0 C x s) (hop : op = 183 ∨ op = 187 ∨ op = 188 ∨ op = 189 ∨ op = 190 ∨ op = 191 ∨ op = 192 ∨ op = 193) (hi : op = 183 ∨ op = 189 ∨ op = 192 → i < hn (xH_ x)) (hi2 : i < 256) : RX C0 x p (sObj (xH_ x) (rS (xm_ x)) p op i (rC (xm_ x)) s) (f_X3_objects (op : Int) (i : Int) C) := by
  have n16 := c.n16
  rcases hop with rfl | rfl | rfl | rfl | rfl | rfl | rfl | rfl
  · exact (c_begin c h (hi (by omega))).fin
  · exact (c_raw c h (hp2 rfl)).fin
  · show RX C0 x p (sB (sWant (xH_ x) 1 s) fun s => sPush (rS (xm_ x)) (if i = 10 then 3 else 4) s) (f_X3_objects_b85 188 i C)
    unfold f_X3_objects_b85 f_X3_objects_b117
    rw [sWantB]
    refine (c_want c h 1 (tyV_1 _ _) 1 rfl).bind fun u s C1 _ hs _ => ?_
    rw [if_neg (show ¬ w32 188 = w32 189 by decide), w32_n i (by omega), show w32 10 = 10 by decide]
    dsimp only
    by_cases q : i = 10
    · rw [if_pos q, if_pos (by omega)]
      exact (c_push c hs 3 (tyV_3 _ _) 3 rfl).fin
    · rw [if_neg q, if_neg (by omega)]
      exact (c_push c hs 4 (tyV_4 _ _) 4 rfl).fin
  · have hi' := hi (by omega)
    show RX C0 x p (sB (sWant (xH_ x) 1 s) fun s => sPush (rS (xm_ x)) (64 + i) s) (f_X3_objects_b85 189 i C)
    unfold f_X3_objects_b85 f_X3_objects_b117
    rw [sWantB]
    refine (c_want c h 1 (tyV_1 _ _) 1 rfl).bind fun u s C1 _ hs _ => ?_
    rw [if_pos (show w32 189 = w32 189 from rfl)]
    exact (c_push c hs (64 + i) (Or.inr (Or.inr (Or.inl (by omega)))) _ (by omega)).fin
  · show RX C0 x p (sB (sPop s) fun a => if a.1 = 5 ∨ a.1 = 3 ∨ a.1 = 4 ∨ (64 ≤ a.1 ∧ a.1 < 1000) then sPush (rS (xm_ x)) 1 a.2 else .inl 6) (xB (f_X3_pop C) fun v16 C15 => if w32 v16 = w32 5 then f_X3_objects_b141 C15 else cB (f_X2_isArray v16 C15) fun v18 C17 => if w32 v18 = 0 then f_X3_objects_b146 0 C17 else f_X3_objects_b141 C17)
    unfold f_X3_objects_b141
    refine (c_pop c h).bind fun t s C1 _ hs ht => ?_
    have tl := tyV_lt ht c.n16 c.xz
    dsimp only
    rw [c_isArray (by omega), cB_k, ite_d, w32_n t (by omega), show w32 5 = 5 by decide]
    unfold f_X3_objects_b146
    have T := RX.need (s := s) (κs := fun s => sPush (rS (xm_ x)) 1 s) (κ := fun _ C4 => xB (f_X3_push 1 C4) fun _ C5 => some (.inr (), C5)) c hs.1 true 6 1 rfl 6 rfl (fun _ => (c_push c hs 1 (tyV_1 _ _) 1 rfl).fin)
    have F := RX.need (s := s) (κs := fun s => sPush (rS (xm_ x)) 1 s) (κ := fun _ C4 => xB (f_X3_push 1 C4) fun _ C5 => some (.inr (), C5)) c hs.1 false 6 0 rfl 6 rfl (fun e => by cases e)
    by_cases q : t = 5 ∨ t = 3 ∨ t = 4 ∨ (64 ≤ t ∧ t < 1000)
    · rw [if_pos q]
      repeat' split
      all_goals first | exact T | omega
    · rw [if_neg q]
      repeat' split
      all_goals first | exact F | omega
  · show RX C0 x p (sWant (xH_ x) 33 s) (xB (f_X3_pop_2 33 C) fun v20 C19 => some (.inr (), C19))
    rw [sWant_V]
    have := c.1.1.1
    exact (c_want c h 33 (Or.inr (Or.inl (by omega))) 33 rfl).bind fun u s C1 _ hs _ => ⟨C1, rfl, hs⟩
  · have hi' := hi (by omega)
    show RX C0 x p (sB (sRef s) fun a => sPush (rS (xm_ x)) (32 + i) a.2) (f_X3_objects_b169 192 i C)
    unfold f_X3_objects_b169 f_X3_objects_b190
    refine (c_ref c h).bind fun u s C1 _ hs _ => ?_
    rw [if_pos (show w32 192 = w32 192 from rfl)]
    exact (c_push c hs (32 + i) (Or.inr (Or.inl (by omega))) _ (by omega)).fin
  · show RX C0 x p (sB (sRef s) fun a => sPush (rS (xm_ x)) 1 a.2) (f_X3_objects_b169 193 i C)
    unfold f_X3_objects_b169 f_X3_objects_b190
    refine (c_ref c h).bind fun u s C1 _ hs _ => ?_
    rw [if_neg (show ¬ w32 193 = w32 192 by decide)]
    exact (c_push c hs 1 (tyV_1 _ _) 1 rfl).fin
theorem iRem4_all : ∀ op : Fin 256, iRem ((op.val : Nat) : Int) 4 = ((op.val % 4 : Nat) : Int) := by decide +kernel
theorem c_step {C0 C : CW} {x : VC} {s : TS} {qf qs : List Nat} {qm p op i : Nat} (c : SCx C0 x qf qs qm p) (ho : OpOk x p op i) (h : SimC C0 C x s) : RX C0 x p (sStep x p op i s) (f_X3_step (op : Int) (i : Int) C) := by
  obtain ⟨o1, o2, o3, o4, o5, o6, o7, o8, o9, o10⟩ := ho
  have cC := c.mv h.1
  have ir : iRem (op : Int) 4 = ((op % 4 : Nat) : Int) := iRem4_all ⟨op, o3⟩
  unfold f_X3_step f_X3_step_b37 f_X3_step_b32 f_X3_step_b37 f_X3_step_b76 f_X3_step_b84 f_X3_step_b131 f_X3_step_b166 sStep
  rw [w32_n op (by omega), ir, w32_n (op % 4) (by omega), show (w32 4 != 0) = true by decide, gd_t]
  simp only [show w32 1 = 1 by decide, show w32 9 = 9 by decide, show w32 10 = 10 by decide, show w32 18 = 18 by decide, show w32 25 = 25 by decide, show w32 50 = 50 by decide, show w32 79 = 79 by decide, show w32 83 = 83 by decide, show w32 58 = 58 by decide, show w32 95 = 95 by decide, show w32 109 = 109 by decide, show w32 148 = 148 by decide, show w32 167 = 167 by decide, show w32 198 = 198 by decide, show w32 177 = 177 by decide, show w32 181 = 181 by decide]
  rcases szo_pos o1 o3 with g | g | g | g | g | g | g | g | g | g | g
  · by_cases z0 : op = 0
    · simp (disch := omega) only [ite_t, ite_f]
      exact ⟨C, rfl, h⟩
    by_cases z1 : op = 1
    · simp (disch := omega) only [ite_t, ite_f]
      exact (c_push c h 5 (tyV_5 _ _) 5 rfl).fin
    by_cases z2 : op = 9 ∨ op = 10
    · rcases z2 with z2 | z2
      · simp (disch := omega) only [ite_t, ite_f]
        exact (c_push c h 2 (tyV_2 _ _) 2 rfl).fin
      · simp (disch := omega) only [ite_t, ite_f]
        exact (c_push c h 2 (tyV_2 _ _) 2 rfl).fin
    · simp (disch := omega) only [ite_t, ite_f]
      exact (c_push c h 1 (tyV_1 _ _) 1 rfl).fin
  · simp (disch := omega) only [ite_t, ite_f]
    exact (c_load c h g (o5 (by omega))).fin
  · by_cases z : op ≤ 50
    · simp (disch := omega) only [ite_t, ite_f]
      exact (c_arrays c h g).fin
    · simp (disch := omega) only [ite_t, ite_f]
      exact (c_arrays c h g).fin
  · simp (disch := omega) only [ite_t, ite_f]
    exact (c_storeI c h g (o5 (by omega)) (fun e => o6 (by omega))).fin
  · simp (disch := omega) only [ite_t, ite_f]
    exact (c_shuf c h g).fin
  · by_cases z : op ≤ 109
    · by_cases z4 : op % 4 = 0
      · simp (disch := omega) only [ite_t, ite_f]
        exact (c_comp c h (Or.inl rfl) 1 rfl).fin
      · simp (disch := omega) only [ite_t, ite_f]
        exact (c_comp c h (Or.inr rfl) 2 rfl).fin
    · have := c_num c o2 h (show op = 132 ∨ op = 133 ∨ op = 136 ∨ op = 148 by omega) (fun e => by have := o7 e; omega)
      simp (disch := omega) only [ite_t, ite_f]
      by_cases z2 : op = 132
      · rw [(o7 z2).1]; exact this.fin
      · have e : sNum (xH_ x) (rS (xm_ x)) op i s = sNum (xH_ x) (rS (xm_ x)) op (rC (xm_ x) (p + 1)) s := by
          unfold sNum
          rw [if_neg z2, if_neg z2]
        rw [e]; exact this.fin
  · have hb : isBr op = true := decide_eq_true (by omega)
    have := (c_bran c h hb).fin
    by_cases z : op ≤ 167
    · simp (disch := omega) only [ite_t, ite_f]; exact this
    · simp (disch := omega) only [ite_t, ite_f]; exact this
  · simp (disch := omega) only [ite_t, ite_f]
    exact (c_ret c h g).fin
  · have hi := o8 g
    obtain ⟨q, hq⟩ : ∃ q, qf[i]? = some q := ⟨qf[i]'(by rw [c.2.1.2.1]; exact hi), List.getElem?_eq_getElem _⟩
    have k4 : hK C (hB C + 4) = 15 := cC.2.1.1.1
    have kf : hK C q = 8 := (cC.2.1.2.2.1 i q hq).1
    simp (disch := omega) only [ite_t, ite_f]
    rw [dr_k, gd_e k4, c_get cC.2.1.1 hq rfl, cB_k, okN_k, gd_e kf]
    exact (c_field c h g hi hq).fin
  · have hi := o9 g
    obtain ⟨m, hm⟩ : ∃ m, (xM_ x)[i]? = some m := ⟨(xM_ x)[i]'hi, List.getElem?_eq_getElem hi⟩
    obtain ⟨q, hq⟩ : ∃ q, qs[i]? = some q := ⟨qs[i]'(by rw [c.2.2.1.2.1]; exact hi), List.getElem?_eq_getElem _⟩
    have k5 : hK C (hB C + 5) = 15 := cC.2.2.1.1.1
    have km : hK C q = 7 := (cC.2.2.1.2.2.2.1 i q m hq hm).1
    simp (disch := omega) only [ite_t, ite_f, hm]
    refine RX.fin ?_
    subst g
    show RX C0 x p (sCall (xH_ x) (rS (xm_ x)) m s) (dr (some (hB C + 5)) fun q12 => gdB (hK C q12 == 15) <| cB (f_J2_get q12 i C) fun v11 C10 => gdB (okN v11 (fun q => hK C10 q == 7)) <| xB (f_X3_call v11 C10) fun _ C13 => some (Sum.inr (), C13))
    rw [dr_k, gd_e k5, c_get cC.2.2.1.1 hq rfl, cB_k, okN_k, gd_e km]
    exact (c_call c h hq hm).fin
  · simp (disch := omega) only [ite_t, ite_f]
    refine (c_objs c (fun e => ?_) h g (fun e => o10 (by omega)) o4).fin
    subst e
    have : szo 187 = 2 := by decide
    omega
