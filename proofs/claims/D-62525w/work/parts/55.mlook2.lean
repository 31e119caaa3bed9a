/-! LAYER C: the model looks at a place: handlers, all -/
def lkEnd (p op nx : Int) (M : MW) : Option (Int × MW) := mB (f_X6_giveLocals 29 M) fun _ M39 => rd (mI M39 0 40) fun v40 => rd (msI M39 0 43 v40) fun M41 => f_X6_look_b345 FU p op nx 0 M41
theorem hv_ok {x : VC} {s : TS} {h : HD} (h16 : hn (xH_ x) ≤ 16) (hH : HOK (xH_ x)) (r0 : 0 < rS (xm_ x)) (hs : SOk x s) (ho : HdO (hn (xH_ x)) h) : SOk x (s.1, [32 + dK h]) := by
  have dKn : dK h < hn (xH_ x) := by
    unfold dK
    have := hH.1
    have := ho.2.2.2
    split <;> omega
  refine ⟨⟨hs.1.1, fun t ht => ?_⟩, ?_, hs.2.2.1, fun t ht => ?_⟩
  · have : t = 32 + dK h := List.mem_singleton.mp ht
    rw [this]; exact Or.inr (Or.inl (by omega))
  · show (if 32 + dK h = 2 then 2 else 1) + 0 ≤ _
    rw [if_neg (by omega)]; omega
  · have : t = 32 + dK h := List.mem_singleton.mp ht
    omega
theorem gvH_ok {x : VC} {p : Nat} {s s' : TS} {st : Bool} (h16 : hn (xH_ x) ≤ 16) (hH : HOK (xH_ x)) (hs : SOk x s) (hs' : SOk x s') : ∀ (hs2 : List HD) (fs fs' : FS), (∀ h ∈ hs2, HdO (hn (xH_ x)) h) → FOk x fs → gvH x p s s' st hs2 fs = .inr fs' → FOk x fs'
  | [], fs, fs', _, hf, e => by cases e; exact hf
  | h :: hs2, fs, fs', ho, hf, e => by
    have hh := ho h (List.mem_cons_self ..)
    have ht : ∀ h ∈ hs2, HdO (hn (xH_ x)) h := fun g hg => ho g (List.mem_cons_of_mem _ hg)
    unfold gvH at e
    by_cases c : dF h ≤ p ∧ p < dT h
    · rw [if_pos c] at e
      by_cases r0 : 0 < rS (xm_ x)
      · rw [if_pos r0] at e
        cases e1 : gv x (dP h) (s.1, [32 + dK h]) fs with
        | inl b => rw [e1] at e; cases e
        | inr fs1 =>
          rw [e1, sB_i] at e
          have f1 := gv_ok hH hh.2.2.1 (hv_ok h16 hH r0 hs hh) hf e1
          cases st with
          | false => exact gvH_ok h16 hH hs hs' hs2 fs1 fs' ht f1 e
          | true =>
            rw [if_pos rfl] at e
            cases e2 : gv x (dP h) (s'.1, [32 + dK h]) fs1 with
            | inl b => rw [e2] at e; cases e
            | inr fs2 =>
              rw [e2, sB_i] at e
              exact gvH_ok h16 hH hs hs' hs2 fs2 fs' ht (gv_ok hH hh.2.2.1 (hv_ok h16 hH r0 hs' hh) f1 e2) e
      · rw [if_neg r0] at e; cases e
    · rw [if_neg c] at e
      exact gvH_ok h16 hH hs hs' hs2 fs fs' ht hf e
theorem m_lkH {x : VC} {a p op nx : Nat} {s s' : TS} {st : Bool} (hs : SOk x s) (hs' : SOk x s') (hp : p < 120) : ∀ (hs2 : List HD) (i n : Nat) (M : MW) (fs : FS), (rH (xm_ x)).drop i = hs2 → i ≤ (rH (xm_ x)).length → (rH (xm_ x)).length < n + i → FlC M x a → mI M 0 34 = (p : Int) → (∀ j, j < rL (xm_ x) → mI M 29 j = (s'.1 j : Int)) → (∀ j, j < rL (xm_ x) → mI M 30 j = (s.1 j : Int)) → FOk x fs → MFS M (rL (xm_ x)) a fs →
    match gvH x p s s' st hs2 fs with
    | .inr fs' => ∃ M', f_X6_look_b231 n (p : Int) (op : Int) (nx : Int) (b2i st) ((16 * a + i : Nat) : Int) M = lkEnd p op nx M' ∧ MFS M' (rL (xm_ x)) a fs' ∧ ChM M M' (KHn a)
    | .inl e => ∃ M', f_X6_look_b231 n (p : Int) (op : Int) (nx : Int) (b2i st) ((16 * a + i : Nat) : Int) M = some (0, M') ∧ FltM M M' a e := by
  intro hs2
  induction hs2 with
  | nil =>
    intro i n M fs hd h1 h2 cx h34 l1 l2 hf hm
    have hi : i = (rH (xm_ x)).length := by
      have := congrArg List.length hd
      rw [List.length_drop] at this
      have e0 : ([] : List HD).length = 0 := rfl
      omega
    obtain ⟨n, rfl⟩ : ∃ k, n = k + 1 := ⟨n - 1, by omega⟩
    obtain ⟨cS, ⟨cH1, cH2⟩, cH3, cH4⟩ := cx
    have ha := cS.2.2.2.1
    show ∃ M', f_X6_look_s231 (f_X6_look_b231 n) _ _ _ _ _ M = _ ∧ _
    unfold f_X6_look_s231
    rw [rd_k, cS.2.2.2.2.1, rd_k, ax_k (by omega), Int.toNat_natCast, rd_k, cH1, w32_i (by omega), w32_n _ (by omega), if_pos (by omega)]
    exact ⟨M, rfl, hm, ChM.r _ _⟩
  | cons h hs2 ih =>
    intro i n M fs hd h1 h2 cx h34 l1 l2 hf hm
    have hil : i < (rH (xm_ x)).length := by
      have := congrArg List.length hd
      rw [List.length_drop] at this
      have e0 : (h :: hs2).length = hs2.length + 1 := rfl
      omega
    have hi : (rH (xm_ x))[i]? = some h := by
      have : ((rH (xm_ x)).drop i)[0]? = some h := by rw [hd]; rfl
      rw [List.getElem?_drop] at this
      exact this
    have hd2 : (rH (xm_ x)).drop (i + 1) = hs2 := by
      rw [← List.drop_drop, hd]; rfl
    obtain ⟨n, rfl⟩ : ∃ k, n = k + 1 := ⟨n - 1, by omega⟩
    have cx0 := cx
    obtain ⟨cS, ⟨cH1, cH2⟩, cH3, cH4⟩ := cx
    have ha := cS.2.2.2.1
    have hL := cS.rL
    have hS := cS.rS
    have n16 := cS.n16
    have hh := cH2 i h hi
    have ho := cH4 h (List.mem_of_getElem? hi)
    have hoF := ho.1
    have hoT := ho.2.1
    have un : f_X6_look_b231 (n + 1) (p : Int) (op : Int) (nx : Int) (b2i st) ((16 * a + i : Nat) : Int) M = f_X6_look_s231 (f_X6_look_b231 n) (p : Int) (op : Int) (nx : Int) (b2i st) ((16 * a + i : Nat) : Int) M := rfl
    rw [un]
    -- the next handler's round
    have nxt : ∀ (M1 : MW) (fs1 : FS), ChM M M1 (KHn a) → FOk x fs1 → MFS M1 (rL (xm_ x)) a fs1 → match gvH x p s s' st hs2 fs1 with
        | .inr fs' => ∃ M', f_X6_look_b320 (f_X6_look_b231 n) (p : Int) (op : Int) (nx : Int) (b2i st) ((16 * a + i : Nat) : Int) M1 = lkEnd p op nx M' ∧ MFS M' (rL (xm_ x)) a fs' ∧ ChM M M' (KHn a)
        | .inl e => ∃ M', f_X6_look_b320 (f_X6_look_b231 n) (p : Int) (op : Int) (nx : Int) (b2i st) ((16 * a + i : Nat) : Int) M1 = some (0, M') ∧ FltM M M' a e := by
      intro M1 fs1 c1 hf1 hm1
      unfold f_X6_look_b320
      have G := ih (i + 1) n M1 fs1 hd2 (by omega) (by omega) (cx0.mv (c1.mono (fun k j h => h.fl))) (by rw [c1.2 _ _ (by unfold KHn; omega)]; exact h34) (fun j hj => by rw [c1.2 _ _ (by unfold KHn; omega)]; exact l1 j hj) (fun j hj => by rw [c1.2 _ _ (by unfold KHn; omega)]; exact l2 j hj) hf1 hm1
      have ei : ((16 * a + i : Nat) : Int) + 1 = ((16 * a + (i + 1) : Nat) : Int) := by omega
      rw [ei]
      generalize gvH x p s s' st hs2 fs1 = r at G ⊢
      cases r with
      | inr fs' =>
        obtain ⟨M', g1, g2, g3⟩ := G
        exact ⟨M', g1, g2, c1.tr g3⟩
      | inl e =>
        obtain ⟨M', g1, g2, g3, g4⟩ := G
        exact ⟨M', g1, g2, g3, (c1.mono (fun k j h => h.fl)).tr g4⟩
    unfold f_X6_look_s231 f_X6_look_b279 f_X6_look_b280
    rw [rd_k, cS.2.2.2.2.1, rd_k, ax_k (by omega), Int.toNat_natCast, rd_k, cH1, w32_i (by omega), w32_n (16 * a + i) (by omega), if_neg (show ¬ 16 * (a : Int) + ((rH (xm_ x)).length : Int) ≤ ((16 * a + i : Nat) : Int) by omega), ax_k (by omega), Int.toNat_natCast, rd_k, hh.1, ax_k (by omega), Int.toNat_natCast, rd_k, hh.2.1, w32_n p (by omega), w32_n _ (by omega), w32_n _ (by omega)]
    unfold gvH
    have skip : ¬ (dF h ≤ p ∧ p < dT h) → match (if dF h ≤ p ∧ p < dT h then (if 0 < rS (xm_ x) then sB (gv x (dP h) (s.1, [32 + dK h]) fs) fun fs => sB (if st = true then gv x (dP h) (s'.1, [32 + dK h]) fs else .inr fs) fun fs => gvH x p s s' st hs2 fs else .inl (7, p)) else gvH x p s s' st hs2 fs) with
        | .inr fs' => ∃ M', f_X6_look_b320 (f_X6_look_b231 n) (p : Int) (op : Int) (nx : Int) (b2i st) ((16 * a + i : Nat) : Int) M = lkEnd p op nx M' ∧ MFS M' (rL (xm_ x)) a fs' ∧ ChM M M' (KHn a)
        | .inl e => ∃ M', f_X6_look_b320 (f_X6_look_b231 n) (p : Int) (op : Int) (nx : Int) (b2i st) ((16 * a + i : Nat) : Int) M = some (0, M') ∧ FltM M M' a e := by
      intro c
      rw [if_neg c]
      exact nxt M fs (ChM.r _ _) hf hm
    by_cases c1 : p < dF h
    · have := skip (by omega)
      rw [if_pos (show (p : Int) < (dF h : Int) by omega), if_pos (show w32 0 = 0 by decide)]
      exact this
    rw [if_neg (show ¬ (p : Int) < (dF h : Int) by omega)]
    by_cases c2 : dT h ≤ p
    · have := skip (by omega)
      rw [if_pos (show (dT h : Int) ≤ (p : Int) by omega), if_pos (show w32 0 = 0 by decide)]
      exact this
    rw [if_neg (show ¬ (dT h : Int) ≤ (p : Int) by omega), if_neg (show ¬ w32 1 = 0 by decide), if_pos (show dF h ≤ p ∧ p < dT h by omega)]
    have G := m_toHandler (c := 30) cx0 (Or.inr rfl) h34 hi l2 hs hf hm
    by_cases r0 : 0 < rS (xm_ x)
    · rw [if_pos r0] at G ⊢
      cases e1 : gv x (dP h) (s.1, [32 + dK h]) fs with
      | inl e =>
        rw [e1] at G
        obtain ⟨M', g1, g2⟩ := G
        rw [g1, mB_k, if_pos (show w32 0 = 0 by decide)]
        exact ⟨M', rfl, g2⟩
      | inr fs1 =>
        rw [e1] at G
        obtain ⟨M1, g1, g2, g3⟩ := G
        have f1 := gv_ok cS.1.1 ho.2.2.1 (hv_ok n16 cS.1.1 r0 hs ho) hf e1
        rw [g1, mB_k, if_neg (show ¬ w32 1 = 0 by decide), sB_i]
        cases st with
        | false =>
          rw [if_pos (show w32 (b2i false) = 0 by decide)]
          exact nxt M1 fs1 g3 f1 g2
        | true =>
          rw [if_neg (show ¬ w32 (b2i true) = 0 by decide), if_pos rfl]
          have G := m_toHandler (c := 29) (cx0.mv (g3.mono (fun k j h => h.fl))) (Or.inl rfl) (by rw [g3.2 _ _ (by unfold KHn; omega)]; exact h34) hi (fun j hj => by rw [g3.2 _ _ (by unfold KHn; omega)]; exact l1 j hj) hs' f1 g2
          rw [if_pos r0] at G
          cases e2 : gv x (dP h) (s'.1, [32 + dK h]) fs1 with
          | inl e =>
            rw [e2] at G
            obtain ⟨M', j1, j2, j3, j4⟩ := G
            rw [j1, mB_k, if_pos (show w32 0 = 0 by decide)]
            exact ⟨M', rfl, j2, j3, (g3.mono (fun k j h => h.fl)).tr j4⟩
          | inr fs2 =>
            rw [e2] at G
            obtain ⟨M2, j1, j2, j3⟩ := G
            rw [j1, mB_k, if_neg (show ¬ w32 1 = 0 by decide), sB_i]
            exact nxt M2 fs2 (g3.tr j3) (gv_ok cS.1.1 ho.2.2.1 (hv_ok n16 cS.1.1 r0 hs' ho) f1 e2) j2
    · rw [if_neg r0] at G ⊢
      obtain ⟨M', g1, g2⟩ := G
      rw [g1, mB_k, if_pos (show w32 0 = 0 by decide)]
      exact ⟨M', rfl, g2⟩
