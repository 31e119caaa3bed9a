/-! LAYER C: the component's instruction on types: the stack's, numbers, branches, returns, fields, calls -/
theorem RX.ok {C0 C : CW} {x : VC} {p : Nat} {s : TS} (h : SimC C0 C x s) : RX C0 x p (.inr s) (some (.inr (), C)) := ⟨C, rfl, h⟩
theorem RX.fin {C0 : CW} {x : VC} {p : Nat} {r : Nat ⊕ TS} {o : Option ((Nat ⊕ Unit) × CW)} (h : RX C0 x p r o) : RX C0 x p r (xB o fun _ C => some (.inr (), C)) := by
  have := RX.bind (κs := fun s => .inr s) (κ := fun _ C2 => some (.inr (), C2)) h (fun s C' _ hs => ⟨C', rfl, hs⟩)
  rw [sB_id] at this
  exact this
theorem sWant_V {H : HT} {w : Nat} {s : TS} : sWant H w s = sB (sWantV H w s) fun a => .inr a.2 := by
  unfold sWant sWantV
  rw [sB_a]
  congr 1
  funext a
  split <;> rfl
theorem sWantB {H : HT} {w : Nat} {s : TS} {f : TS → Nat ⊕ TS} : sB (sWant H w s) f = sB (sWantV H w s) fun a => f a.2 := by
  rw [sWant_V, sB_a]
  rfl
theorem c_comp {C0 C : CW} {x : VC} {s : TS} {qf qs : List Nat} {qm p t : Nat} (c : SCx C0 x qf qs qm p) (h : SimC C0 C x s) (ht : t = 1 ∨ t = 2) (z : Int) (hz : z = (t : Int)) : RX C0 x p (sComp (xH_ x) (rS (xm_ x)) t s) (f_X3_compute z C) := by
  have tv : tyV (hn (xH_ x)) (xz x) t := Or.inl (by omega)
  unfold f_X3_compute sComp
  rw [sWantB]
  refine (c_want c h t tv z hz).bind fun u s C1 _ hs _ => ?_
  dsimp only
  rw [sWantB]
  refine (c_want c hs t tv z hz).bind fun u s C2 _ hs _ => ?_
  exact (c_push c hs t tv z hz).fin
theorem c_two {C0 C : CW} {x : VC} {s : TS} {qf qs : List Nat} {qm p : Nat} (c : SCx C0 x qf qs qm p) (h : SimC C0 C x s) (g : Bool) : RX C0 x p (if g = true then sShuf (rS (xm_ x)) 92 s else sShuf (rS (xm_ x)) 88 s) (f_X3_two (b2i g) C) := by
  unfold f_X3_two f_X3_two_b18
  have lst0 : ∀ (n : Nat) (t u : Int) (C1 : CW), f_X3_two_b22 (n + 1) 0 t u 0 C1 = some (.inr (), C1) := by
    intro n t u C1
    rfl
  have lst : ∀ (n : Nat) (g t u : Int) (C1 : CW), f_X3_two_b22 (n + 1) g t u 2 C1 = some (.inr (), C1) := by
    intro n g t u C1
    rfl
  have rnd2 : ∀ (n : Nat) (k u : Int) (C1 : CW), (k = 0 ∨ k = 1) → f_X3_two_b22 (n + 1) 1 2 u k C1 = xB (f_X3_push 2 C1) fun _ C2 => f_X3_two_b22 n 1 2 u (k + 1) C2 := by
    intro n k u C1 hk
    rcases hk with rfl | rfl <;> rfl
  have rnd1 : ∀ (n : Nat) (t k u : Int) (C1 : CW), (k = 0 ∨ k = 1) → ¬ w32 t = w32 2 → f_X3_two_b22 (n + 1) 1 t u k C1 = xB (f_X3_push u C1) fun _ C1 => xB (f_X3_push t C1) fun _ C2 => f_X3_two_b22 n 1 t u (k + 1) C2 := by
    intro n t k u C1 hk ht
    show f_X3_two_s22 (f_X3_two_b22 n) 1 t u k C1 = _
    unfold f_X3_two_s22 f_X3_two_b42
    rcases hk with rfl | rfl
    · rw [if_neg (by decide), if_neg (by decide), if_neg ht]
    · rw [if_neg (by decide), if_neg (by decide), if_neg ht]
  have e : (if g = true then sShuf (rS (xm_ x)) 92 s else sShuf (rS (xm_ x)) 88 s) = sB (sPop s) fun a => if a.1 = 2 then (if g = true then sB (sPush (rS (xm_ x)) a.1 a.2) fun s => sPush (rS (xm_ x)) a.1 s else .inr a.2) else sB (sOne a.2) fun b => (if g = true then sB (sPush (rS (xm_ x)) b.1 b.2) fun s => sB (sPush (rS (xm_ x)) a.1 s) fun s => sB (sPush (rS (xm_ x)) b.1 s) fun s => sPush (rS (xm_ x)) a.1 s else .inr b.2) := by
    cases g <;> rfl
  rw [e]
  refine (c_pop c h).bind fun t s C1 _ hs ht => ?_
  have tl := tyV_lt ht c.n16 c.xz
  dsimp only
  by_cases t2 : t = 2
  · subst t2
    rw [if_pos rfl, if_pos (show w32 ((2 : Nat) : Int) = w32 2 from rfl)]
    cases g with
    | false => exact ⟨C1, lst0 1152921504606846975 _ _ _, hs⟩
    | true =>
      rw [if_pos rfl]
      show RX C0 x p _ (f_X3_two_b22 (1152921504606846975 + 1) 1 2 0 0 C1)
      rw [rnd2 _ _ _ _ (Or.inl rfl)]
      refine (c_push c hs 2 ht 2 rfl).bind fun s C2 _ hs => ?_
      show RX C0 x p _ (f_X3_two_b22 (1152921504606846974 + 1) 1 2 0 (0 + 1) C2)
      rw [rnd2 _ (0 + 1) _ _ (Or.inr rfl)]
      exact (c_push c hs 2 ht 2 rfl).fin
  · have nt : ¬ w32 (t : Int) = w32 2 := by rw [w32_n t (by omega), show w32 2 = 2 by decide]; omega
    rw [if_neg t2, if_neg nt]
    refine (c_one c hs).bind fun u s C2 _ hs hu => ?_
    cases g with
    | false => exact ⟨C2, lst0 1152921504606846975 _ _ _, hs⟩
    | true =>
      rw [if_pos rfl]
      show RX C0 x p _ (f_X3_two_b22 (1152921504606846975 + 1) 1 t u 0 C2)
      rw [rnd1 _ _ _ _ _ (Or.inl rfl) nt]
      refine (c_push c hs u hu _ rfl).bind fun s C2 _ hs => ?_
      refine (c_push c hs t ht _ rfl).bind fun s C2 _ hs => ?_
      show RX C0 x p _ (f_X3_two_b22 (1152921504606846974 + 1) 1 t u (0 + 1) C2)
      rw [rnd1 _ _ (0 + 1) _ _ (Or.inr rfl) nt]
      refine (c_push c hs u hu _ rfl).bind fun s C2 _ hs => ?_
      exact (c_push c hs t ht _ rfl).fin
theorem c_shuf {C0 C : CW} {x : VC} {s : TS} {qf qs : List Nat} {qm p op : Nat} (c : SCx C0 x qf qs qm p) (h : SimC C0 C x s) (hop : op = 87 ∨ op = 88 ∨ op = 89 ∨ op = 90 ∨ op = 92 ∨ op = 95) : RX C0 x p (sShuf (rS (xm_ x)) op s) (f_X3_stackOps (op : Int) C) := by
  have b82 : ∀ o : Nat, o = 90 ∨ o = 95 → RX C0 x p (sShuf (rS (xm_ x)) o s) (f_X3_stackOps_b82 (o : Int) C) := by
    intro o ho
    unfold f_X3_stackOps_b82
    have e : sShuf (rS (xm_ x)) o s = sB (sOne s) fun a => sB (sOne a.2) fun b => sB (sPush (rS (xm_ x)) a.1 b.2) fun s => sB (sPush (rS (xm_ x)) b.1 s) fun s => if o = 90 then sPush (rS (xm_ x)) a.1 s else .inr s := by
      unfold sShuf
      rcases ho with rfl | rfl <;> rfl
    rw [e]
    refine (c_one c h).bind fun t s C1 _ hs ht => ?_
    refine (c_one c hs).bind fun u s C1 _ hs hu => ?_
    refine (c_push c hs t ht _ rfl).bind fun s C2 _ hs => ?_
    refine (c_push c hs u hu _ rfl).bind fun s C2 _ hs => ?_
    rcases ho with rfl | rfl
    · exact (c_push c hs t ht _ rfl).fin
    · exact ⟨C2, rfl, hs⟩
  rcases hop with rfl | rfl | rfl | rfl | rfl | rfl
  · show RX C0 x p (sB (sOne s) fun a => .inr a.2) (xB (f_X3_popOne C) fun v9 C8 => some (.inr (), C8))
    exact (c_one c h).bind fun t s C1 _ hs ht => ⟨C1, rfl, hs⟩
  · exact (c_two c h false).fin
  · show RX C0 x p (sB (sOne s) fun a => sB (sPush (rS (xm_ x)) a.1 a.2) fun s => sPush (rS (xm_ x)) a.1 s) (xB (f_X3_popOne C) fun v12 C11 => xB (f_X3_push v12 C11) fun _ C13 => xB (f_X3_push v12 C13) fun _ C14 => some (.inr (), C14))
    refine (c_one c h).bind fun t s C1 _ hs ht => ?_
    refine (c_push c hs t ht _ rfl).bind fun s C2 _ hs => ?_
    exact (c_push c hs t ht _ rfl).fin
  · exact b82 90 (Or.inl rfl)
  · exact (c_two c h true).fin
  · exact b82 95 (Or.inr rfl)
theorem c_arrays {C0 C : CW} {x : VC} {s : TS} {qf qs : List Nat} {qm p op : Nat} (c : SCx C0 x qf qs qm p) (h : SimC C0 C x s) (hop : op = 46 ∨ op = 47 ∨ op = 50 ∨ op = 79 ∨ op = 80 ∨ op = 83) : RX C0 x p (sArrs (xH_ x) (rS (xm_ x)) op s) (f_X3_arrays (op : Int) C) := by
  have tail : ∀ (k : Nat) (C1 : CW) (s : TS), SimC C0 C1 x s → (k = (if op = 46 ∨ op = 79 then 3 else if op = 47 ∨ op = 80 then 4 else 32)) → RX C0 x p (sB (sWant (xH_ x) 1 s) fun s => sB (sArr k s) fun a => if 79 ≤ op then .inr a.2 else sPush (rS (xm_ x)) (if op = 46 then 1 else if op = 47 then 2 else if a.1 = 5 then 5 else a.1 - 64 + 32) a.2) (f_X3_arrays_b36 (op : Int) C1) := by
    intro k C1 s hs hk
    unfold f_X3_arrays_b36 f_X3_arrays_b54 f_X3_arrays_b70
    rw [sWantB]
    refine (c_want c hs 1 (tyV_1 _ _) 1 rfl).bind fun u s C1 _ hs _ => ?_
    have e : (if w32 (op : Int) = w32 46 then f_X3_arrays_b76 (op : Int) 3 C1 else if w32 (op : Int) = w32 79 then f_X3_arrays_b76 (op : Int) 3 C1 else if w32 (op : Int) = w32 47 then f_X3_arrays_b76 (op : Int) 4 C1 else if w32 (op : Int) = w32 80 then f_X3_arrays_b76 (op : Int) 4 C1 else f_X3_arrays_b76 (op : Int) 32 C1) = f_X3_arrays_b76 (op : Int) (k : Int) C1 := by
      rcases hop with rfl | rfl | rfl | rfl | rfl | rfl <;> subst hk <;> rfl
    rw [e]
    unfold f_X3_arrays_b76
    refine (c_arr c hs k (by rw [hk]; split <;> first | omega | (split <;> omega))).bind fun t s C1 ha hs ht => ?_
    have hk2 := sArr_t (r := .inr _) ha
    have tl := tyV_lt ht c.n16 c.xz
    dsimp only
    rw [w32_n op (by omega), w32_n t (by omega), show w32 79 = 79 by decide, show w32 46 = 46 by decide, show w32 47 = 47 by decide, show w32 5 = 5 by decide]
    unfold f_X3_arrays_b126
    by_cases h79 : 79 ≤ op
    · simp (disch := omega) only [ite_t, ite_f]
      exact ⟨C1, rfl, hs⟩
    by_cases o46 : op = 46
    · simp (disch := omega) only [ite_t, ite_f]
      exact (c_push c hs 1 (tyV_1 _ _) 1 rfl).fin
    by_cases o47 : op = 47
    · simp (disch := omega) only [ite_t, ite_f]
      exact (c_push c hs 2 (tyV_2 _ _) 2 rfl).fin
    have k32 : k = 32 := by rw [hk, if_neg (by omega), if_neg (by omega)]
    by_cases t5 : t = 5
    · simp (disch := omega) only [ite_t, ite_f]
      exact (c_push c hs 5 (tyV_5 _ _) 5 rfl).fin
    · simp (disch := omega) only [ite_t, ite_f]
      refine (c_push c hs (t - 64 + 32) ?_ _ (by omega)).fin
      unfold tyV at ht ⊢
      omega
  unfold f_X3_arrays f_X3_arrays_b32 sArrs
  rcases hop with rfl | rfl | rfl | rfl | rfl | rfl
  · exact tail 3 C s h rfl
  · exact tail 4 C s h rfl
  · exact tail 32 C s h rfl
  · show RX C0 x p (sB (sWant (xH_ x) 1 s) fun s => sB (sWant (xH_ x) 1 s) fun s => sB (sArr 3 s) fun a => .inr a.2) (xB (f_X3_pop_2 1 C) fun v2 C1 => f_X3_arrays_b36 79 C1)
    rw [sWantB]
    exact (c_want c h 1 (tyV_1 _ _) 1 rfl).bind fun u s C1 _ hs _ => tail 3 C1 s hs rfl
  · show RX C0 x p (sB (sWant (xH_ x) 2 s) fun s => sB (sWant (xH_ x) 1 s) fun s => sB (sArr 4 s) fun a => .inr a.2) (xB (f_X3_pop_2 2 C) fun v2 C1 => f_X3_arrays_b36 80 C1)
    rw [sWantB]
    exact (c_want c h 2 (tyV_2 _ _) 2 rfl).bind fun u s C1 _ hs _ => tail 4 C1 s hs rfl
  · show RX C0 x p (sB (sB (sRef s) fun a => .inr a.2) fun s => sB (sWant (xH_ x) 1 s) fun s => sB (sArr 32 s) fun a => .inr a.2) (xB (f_X3_popReference C) fun v9 C8 => f_X3_arrays_b36 83 C8)
    rw [sB_a]
    exact (c_ref c h).bind fun u s C1 _ hs _ => tail 32 C1 s hs rfl
theorem c_num {C0 C : CW} {x : VC} {s : TS} {qf qs : List Nat} {qm p op : Nat} (c : SCx C0 x qf qs qm p) (hp2 : p + szo op ≤ xz x) (h : SimC C0 C x s) (hop : op = 132 ∨ op = 133 ∨ op = 136 ∨ op = 148) (hi : op = 132 → rC (xm_ x) (p + 1) < rL (xm_ x)) : RX C0 x p (sNum (xH_ x) (rS (xm_ x)) op (rC (xm_ x) (p + 1)) s) (f_X3_numbers (op : Int) C) := by
  unfold f_X3_numbers f_X3_numbers_b38 f_X3_numbers_b57 f_X3_numbers_b74 f_X3_numbers_b87
  rcases hop with rfl | rfl | rfl | rfl
  · obtain ⟨hb, k8, r8, r8', k9, l9, k10, l10⟩ := h.k c
    have cC := c.mv h.1
    have hL := c.rL
    have hi' := hi rfl
    have hs := h.2.2.2.2.2.1.1 (rC (xm_ x) (p + 1))
    have sl := tyV_lt hs c.n16 c.xz
    have hz : xz x ≤ 120 := c.xz
    have s132 : szo 132 = 3 := by decide
    rw [s132] at hp2
    have m8 : hK C qm = 7 := cC.2.2.2.1.2.1.1
    rw [if_pos (by decide), hb, dr_k, gd_e k8, rd_k, rd_k, cC.2.2.2.1.1, rd_k, cC.2.2.2.2.1, dr_k, gd_e m8, c_at cC.2.2.2.1.2.1 hz (k := p + 1) (show p + 1 < xz x by omega) (by omega), cB_k, r8, dr_k, gd_e k9, l9, ax_k (by omega), rd_k, Int.toNat_natCast, h.2.1 _ (by omega), w32_n _ (by omega), show w32 1 = 1 by decide]
    show RX C0 x p (if s.1 (rC (xm_ x) (p + 1)) = 1 then .inr s else .inl 6) _
    by_cases q : s.1 (rC (xm_ x) (p + 1)) = 1
    · rw [if_pos q, if_pos (by omega)]
      exact RX.need (s := s) (κs := fun s => .inr s) c h.1 true 6 1 rfl 6 rfl (fun _ => ⟨C, rfl, h⟩)
    · rw [if_neg q, if_neg (by omega)]
      exact RX.need (s := s) (κs := fun s => .inr s) c h.1 false 6 0 rfl 6 rfl (fun e => by cases e)
  · show RX C0 x p (sB (sWant (xH_ x) 1 s) fun s => sPush (rS (xm_ x)) 2 s) (xB (f_X3_pop_2 1 C) fun v3 C2 => xB (f_X3_push 2 C2) fun _ C6 => some (.inr (), C6))
    rw [sWantB]
    exact (c_want c h 1 (tyV_1 _ _) 1 rfl).bind fun u s C1 _ hs _ => (c_push c hs 2 (tyV_2 _ _) 2 rfl).fin
  · show RX C0 x p (sB (sWant (xH_ x) 2 s) fun s => sPush (rS (xm_ x)) 1 s) (xB (f_X3_pop_2 2 C) fun v3 C2 => xB (f_X3_push 1 C2) fun _ C6 => some (.inr (), C6))
    rw [sWantB]
    exact (c_want c h 2 (tyV_2 _ _) 2 rfl).bind fun u s C1 _ hs _ => (c_push c hs 1 (tyV_1 _ _) 1 rfl).fin
  · show RX C0 x p (sB (sWant (xH_ x) 2 s) fun s => sB (sWant (xH_ x) 2 s) fun s => sPush (rS (xm_ x)) 1 s) (xB (f_X3_pop_2 2 C) fun v3 C2 => xB (f_X3_pop_2 2 C2) fun _ C2 => xB (f_X3_push 1 C2) fun _ C6 => some (.inr (), C6))
    rw [sWantB]
    refine (c_want c h 2 (tyV_2 _ _) 2 rfl).bind fun u s C1 _ hs _ => ?_
    dsimp only
    rw [sWantB]
    exact (c_want c hs 2 (tyV_2 _ _) 2 rfl).bind fun u s C1 _ hs _ => (c_push c hs 1 (tyV_1 _ _) 1 rfl).fin
theorem c_bran {C0 C : CW} {x : VC} {s : TS} {qf qs : List Nat} {qm p op : Nat} (c : SCx C0 x qf qs qm p) (h : SimC C0 C x s) (hop : isBr op = true) : RX C0 x p (sBran (xH_ x) op s) (f_X3_branches (op : Int) C) := by
  have hb := of_decide_eq_true hop
  unfold f_X3_branches f_X3_branches_b22 sBran
  rw [w32_n op (by omega), show w32 167 = 167 by decide, show w32 198 = 198 by decide, show w32 165 = 165 by decide, show w32 159 = 159 by decide]
  by_cases o167 : op = 167
  · simp (disch := omega) only [ite_t, ite_f]
    exact ⟨C, rfl, h⟩
  by_cases o198 : 198 ≤ op
  · simp (disch := omega) only [ite_t, ite_f]
    exact (c_ref c h).bind fun u s C1 _ hs _ => ⟨C1, rfl, hs⟩
  by_cases o165 : 165 ≤ op
  · simp (disch := omega) only [ite_t, ite_f]
    refine (c_ref c h).bind fun u s C1 _ hs _ => ?_
    exact (c_ref c hs).bind fun u s C1 _ hs _ => ⟨C1, rfl, hs⟩
  by_cases o159 : 159 ≤ op
  · simp (disch := omega) only [ite_t, ite_f]
    rw [sWantB]
    refine (c_want c h 1 (tyV_1 _ _) 1 rfl).bind fun u s C1 _ hs _ => ?_
    rw [sWant_V]
    exact (c_want c hs 1 (tyV_1 _ _) 1 rfl).bind fun u s C1 _ hs _ => ⟨C1, rfl, hs⟩
  · simp (disch := omega) only [ite_t, ite_f]
    rw [sWant_V]
    exact (c_want c h 1 (tyV_1 _ _) 1 rfl).bind fun u s C1 _ hs _ => ⟨C1, rfl, hs⟩
