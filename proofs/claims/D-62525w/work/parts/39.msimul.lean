/-! LAYER C: the model's instruction on types: objects, and all of it -/
theorem m_b108B {M0 M : MW} {b : Nat} {i v : Int} (h : BadM M0 M b) : f_X6_objects_b108 i v M = some ((), M) := by
  unfold f_X6_objects_b108
  rw [rd_k, if_neg (BadM.b h)]
theorem m_b102B {M0 M : MW} {x : VC} {a b : Nat} {i v : Int} (c : SMx M0 x a) (h : BadM M0 M b) : ∃ M', f_X6_objects_b102 i v M = some ((), M') ∧ BadM M0 M' b := by
  unfold f_X6_objects_b102
  obtain ⟨M1, e, k⟩ := m_missB h c.rS 6 (by omega)
  rw [show (6 : Int) = ((6 : Nat) : Int) from rfl, e, mB_k, m_b108B k]
  exact ⟨M1, rfl, k⟩
theorem trn_map {t u : Nat} : ∀ {l : List Nat}, ¬ t ∈ l → l.map (trn t u) = l
  | [], _ => rfl
  | v :: l, h => by
    have h1 : v ≠ t := fun e => h (by rw [e]; exact List.mem_cons_self ..)
    have h2 : ¬ t ∈ l := fun e => h (List.mem_cons_of_mem _ e)
    show trn t u v :: l.map (trn t u) = v :: l
    rw [trn_map h2]
    unfold trn
    rw [if_neg h1]
theorem m_objects {M0 M : MW} {x : VC} {a p op i : Nat} {s : TS} (c : SMx M0 x a) (hpl : mI M0 0 34 = (p : Int)) (hp2 : op = 187 → p + 1 < xz x) (h : SimM M0 M x s) (hop : op = 183 ∨ op = 187 ∨ op = 188 ∨ op = 189 ∨ op = 190 ∨ op = 191 ∨ op = 192 ∨ op = 193) (hi : op = 183 ∨ op = 189 ∨ op = 192 → i < hn (xH_ x)) (hi2 : i < 256) : ∃ M', f_X6_objects (op : Int) (i : Int) M = some ((), M') ∧ SE M0 M' x (sObj (xH_ x) (rS (xm_ x)) p op i (rC (xm_ x)) s) := by
  have n16 := c.n16
  rcases hop with rfl | rfl | rfl | rfl | rfl | rfl | rfl | rfl
  · have hi' := hi (by omega)
    obtain ⟨v, M1, e1, k1⟩ := m_pop (r := .inr s) c h
    show ∃ M', (mB (f_X6_pop M) fun v30 M29 => rd (mI M29 0 35) fun v31 => if w32 v31 = 0 then (if w32 v30 < w32 1000 then f_X6_objects_b102 i v30 M29 else rd (mI M29 0 33) fun v32 => if w32 1000 ≤ w32 v30 then f_X6_objects_b89 i v30 v32 v30 M29 else f_X6_objects_b89 i v30 v32 1000 M29) else f_X6_objects_b108 i v30 M29) = _ ∧ SE M0 M' x (sB (sPop s) fun a => if 1000 ≤ a.1 ∧ rC (xm_ x) (a.1 - 1000 + 1) = i then .inr (fun k => trn a.1 (32 + i) (a.2.1 k), a.2.2.map (trn a.1 (32 + i))) else .inl 6)
    rw [e1, mB_k, rd_k]
    rw [sB_i] at k1
    generalize sPop s = q at k1 ⊢
    cases q with
    | inl b =>
      rw [if_neg (BadM.b k1), m_b108B k1]
      exact ⟨M1, rfl, k1⟩
    | inr q =>
      obtain ⟨t, s1⟩ := q
      obtain ⟨k1, k2, k3⟩ := k1
      have tl := tyV_lt k3 c.n16 c.xz
      dsimp only at k1 k2 k3 tl
      rw [if_pos k2.z, k1, w32_n t (by omega), show w32 1000 = 1000 by decide, sB_i]
      dsimp only
      have bad : ∃ M', f_X6_objects_b102 i (t : Int) M1 = some ((), M') ∧ BadM M0 M' 6 := by
        unfold f_X6_objects_b102
        obtain ⟨M2, e2, j2⟩ := m_miss6 k2 c.rS
        rw [e2, mB_k, m_b108B j2]
        exact ⟨M2, rfl, j2⟩
      by_cases t1 : 1000 ≤ t
      · have cM := c.mv k2.1
        have ha := c.2.2.2.1
        have hz := c.xz
        have hb : rC (xm_ x) (t - 1000 + 1) < 256 := c.so.1.2.2.2.2.2.2 _
        have tz : t - 1000 + 1 < xz x := by unfold tyV at k3; omega
        rw [if_neg (by omega), rd_k, cM.2.2.2.2.1, if_pos (by omega)]
        unfold f_X6_objects_b89 f_X6_at
        rw [ax_k (by omega), rd_k, show (120 * (a : Int) + ((t : Int) - 1000 + 1)).toNat = 120 * a + (t - 1000 + 1) by omega, cM.so.2.2.2.2.2.2.2 (t - 1000 + 1) (by omega), mB_k, w32_n _ (by omega), w32_n i (by omega)]
        by_cases q : rC (xm_ x) (t - 1000 + 1) = i
        · rw [if_pos (by omega), if_pos ⟨t1, q⟩]
          unfold f_X6_objects_b108
          obtain ⟨b, M2, e2, _, j2⟩ := m_turn (t := t) (u := 32 + i) c k2 (by omega) (Or.inr (Or.inl (by omega))) (by omega)
          rw [rd_k, if_pos k2.z, show (32 : Int) + (i : Int) = ((32 + i : Nat) : Int) by omega, e2, mB_k]
          refine ⟨M2, ?_, j2⟩
          split <;> rfl
        · rw [if_neg (by omega), if_neg (fun h => q h.2)]
          exact bad
      · rw [if_pos (by omega), if_neg (fun h => t1 h.1)]
        exact bad
  · have hp' := hp2 rfl
    have hz := c.xz
    have tv : tyV (hn (xH_ x)) (xz x) (1000 + p) := Or.inr (Or.inr (Or.inr (by omega)))
    show ∃ M', (rd (mI M 0 34) fun v33 => mB (f_X6_turn (1000 + v33) 0 M) fun v35 M34 => if w32 v35 = 0 then f_X6_objects_b29 M34 else mB (f_X6_miss 6 M34) fun _ M36 => f_X6_objects_b29 M36) = _ ∧ SE M0 M' x (if (1000 + p) ∈ s.2 then .inl 6 else sPush (rS (xm_ x)) (1000 + p) (fun k => trn (1000 + p) 0 (s.1 k), s.2))
    obtain ⟨b, M1, e1, hb, k1⟩ := m_turn (t := 1000 + p) (u := 0) c h (by omega) (Or.inl (by omega)) (by omega)
    have e1' : f_X6_turn (1000 + (p : Int)) 0 M = some (b2i b, M1) := by rw [← e1]; congr 1 
    rw [rd_k, h.1.2.2 34 (by omega) (by omega), hpl, e1', mB_k, ite_b]
    unfold f_X6_objects_b29
    cases b with
    | true =>
      have hm := hb.mp rfl
      obtain ⟨M2, e2, j2⟩ := m_miss6 k1 c.rS
      rw [if_pos hm, if_pos rfl, e2, mB_k, rd_k, m_pushB j2, mB_k]
      exact ⟨M2, rfl, j2⟩
    | false =>
      have hm : ¬ (1000 + p) ∈ s.2 := fun hm => absurd (hb.mpr hm) (by decide)
      rw [if_neg hm, if_neg (by decide), rd_k, k1.1.2.2 34 (by omega) (by omega), hpl]
      rw [trn_map hm] at k1
      obtain ⟨M2, e2, j2⟩ := m_pushI (r := .inr (fun k => trn (1000 + p) 0 (s.1 k), s.2)) c k1 (1000 + p) tv (1000 + (p : Int)) (by omega)
      rw [e2, mB_k]
      exact ⟨M2, rfl, j2⟩
  · show ∃ M', f_X6_objects_b151 188 i M = _ ∧ SE M0 M' x (sB (sWant (xH_ x) 1 s) fun s => sPush (rS (xm_ x)) (if i = 10 then 3 else 4) s)
    unfold f_X6_objects_b151 f_X6_objects_b182
    obtain ⟨M1, e1, k1⟩ := m_wantI (r := .inr s) c h 1 (tyV_1 _ _) 1 rfl
    rw [e1, mB_k, if_neg (by decide), w32_n i (by omega), show w32 10 = 10 by decide]
    by_cases q : i = 10
    · obtain ⟨M2, e2, k2⟩ := m_pushI c k1 3 (tyV_3 _ _) 3 rfl
      rw [if_pos (by omega), e2, mB_k]
      simp only [if_pos q]
      exact ⟨M2, rfl, k2⟩
    · obtain ⟨M2, e2, k2⟩ := m_pushI c k1 4 (tyV_4 _ _) 4 rfl
      rw [if_neg (by omega), e2, mB_k]
      simp only [if_neg q]
      exact ⟨M2, rfl, k2⟩
  · have hi' := hi (by omega)
    show ∃ M', f_X6_objects_b151 189 i M = _ ∧ SE M0 M' x (sB (sWant (xH_ x) 1 s) fun s => sPush (rS (xm_ x)) (64 + i) s)
    unfold f_X6_objects_b151 f_X6_objects_b182
    obtain ⟨M1, e1, k1⟩ := m_wantI (r := .inr s) c h 1 (tyV_1 _ _) 1 rfl
    obtain ⟨M2, e2, k2⟩ := m_pushI c k1 (64 + i) (Or.inr (Or.inr (Or.inl (by omega)))) (64 + (i : Int)) (by omega)
    rw [e1, mB_k, if_pos rfl, e2, mB_k]
    exact ⟨M2, rfl, k2⟩
  · obtain ⟨v, M1, e1, k1⟩ := m_pop (r := .inr s) c h
    show ∃ M', (mB (f_X6_pop M) fun v24 M23 => rd (mI M23 0 35) fun v25 => if w32 v25 = 0 then (if w32 v24 = w32 5 then f_X6_objects_b235 M23 else if w32 v24 = w32 3 then f_X6_objects_b235 M23 else if w32 v24 = w32 4 then f_X6_objects_b235 M23 else mB (f_X6_isRow v24 M23) fun v27 M26 => if w32 v27 = 0 then (mB (f_X6_miss 6 M26) fun _ M28 => f_X6_objects_b235 M28) else f_X6_objects_b235 M26) else f_X6_objects_b235 M23) = _ ∧ SE M0 M' x (sB (sPop s) fun a => if a.1 = 5 ∨ a.1 = 3 ∨ a.1 = 4 ∨ (64 ≤ a.1 ∧ a.1 < 1000) then sPush (rS (xm_ x)) 1 a.2 else .inl 6)
    rw [e1, mB_k, rd_k]
    rw [sB_i] at k1
    generalize sPop s = q at k1 ⊢
    have ps : ∀ (M2 : MW) (r : Nat ⊕ TS), SE M0 M2 x r → ∃ M', f_X6_objects_b235 M2 = some ((), M') ∧ SE M0 M' x (sB r (sPush (rS (xm_ x)) 1)) := by
      intro M2 r hr
      unfold f_X6_objects_b235
      obtain ⟨M3, e3, k3⟩ := m_pushI c hr 1 (tyV_1 _ _) 1 rfl
      rw [e3, mB_k]
      exact ⟨M3, rfl, k3⟩
    cases q with
    | inl b =>
      rw [if_neg (BadM.b k1)]
      exact ps M1 (.inl b) k1
    | inr q =>
      obtain ⟨t, s1⟩ := q
      obtain ⟨k1, k2, k3⟩ := k1
      have tl := tyV_lt k3 c.n16 c.xz
      dsimp only at k1 k2 k3 tl
      rw [if_pos k2.z, k1, m_isRow (by omega), mB_k, ite_d, w32_n t (by omega), show w32 5 = 5 by decide, show w32 3 = 3 by decide, show w32 4 = 4 by decide, sB_i]
      dsimp only
      by_cases q : t = 5 ∨ t = 3 ∨ t = 4 ∨ (64 ≤ t ∧ t < 1000)
      · rw [if_pos q]
        obtain ⟨M', e', k'⟩ := ps M1 (.inr s1) k2
        refine ⟨M', ?_, k'⟩
        rw [← e']
        repeat' split
        all_goals first | rfl | omega
      · rw [if_neg q]
        obtain ⟨M2, e2, j2⟩ := m_miss6 k2 c.rS
        obtain ⟨M', e', k'⟩ := ps M2 (.inl 6) j2
        refine ⟨M', ?_, k'⟩
        rw [← e', e2, mB_k]
        repeat' split
        all_goals first | rfl | omega
  · obtain ⟨v, M1, e1, k1⟩ := m_pop (r := .inr s) c h
    show ∃ M', (mB (f_X6_pop M) fun v17 M16 => rd (mI M16 0 35) fun v18 => if w32 v18 = 0 then (if w32 v17 = w32 5 then some ((), M16) else mB (f_X6_isObject v17 M16) fun v20 M19 => if w32 v20 = 0 then f_X6_objects_b286 M19 else mB (f_X6_subs (v17 - 32) 1 M19) fun v22 M21 => if w32 v22 = 0 then f_X6_objects_b286 M21 else some ((), M21)) else some ((), M16)) = _ ∧ SE M0 M' x (sB (sPop s) fun a => if fit (xH_ x) a.1 33 = true then .inr a.2 else .inl 6)
    rw [e1, mB_k, rd_k]
    rw [sB_i] at k1
    generalize sPop s = q at k1 ⊢
    cases q with
    | inl b =>
      rw [if_neg (BadM.b k1)]
      exact ⟨M1, rfl, k1⟩
    | inr q =>
      obtain ⟨t, s1⟩ := q
      obtain ⟨k1, k2, k3⟩ := k1
      have tl := tyV_lt k3 c.n16 c.xz
      dsimp only at k1 k2 k3 tl
      obtain ⟨M2, e2, j2⟩ := m_miss6 k2 c.rS
      rw [if_pos k2.z, k1, m_isObject (by omega), mB_k, ite_d, w32_n t (by omega), show w32 5 = 5 by decide, sB_i]
      unfold f_X6_objects_b286
      rw [e2, mB_k]
      dsimp only
      have hH := (c.mv k2.1).1
      have if1 : hf (xH_ x) 1 = false := hH.1.2.2.2.2.2.1
      have th : thg 33 = true := by decide
      by_cases t5 : t = 5
      · have : fit (xH_ x) t 33 = true := by
          unfold fit
          rw [if_neg (by omega), if_pos t5]; exact th
        rw [if_pos (by omega), this]
        exact ⟨M1, rfl, k2⟩
      rw [if_neg (by omega)]
      by_cases ot : 32 ≤ t ∧ t < 64
      · have tz : t - 32 < 16 := by unfold tyV at k3; omega
        rw [if_pos ot, show (t : Int) - 32 = ((t - 32 : Nat) : Int) by omega, show (1 : Int) = ((1 : Nat) : Int) from rfl, m_subs hH tz (by omega), mB_k, ite_b]
        have : fit (xH_ x) t 33 = sb (hp (xH_ x)) (t - 32) 1 := by
          unfold fit
          by_cases t33 : t = 33
          · subst t33
            rw [if_pos (Or.inl rfl)]
            exact (sb_self _ _).symm
          · rw [if_neg (by omega), if_neg t5, if_pos (by omega), if_pos ot]
            unfold cfor
            rw [show 33 - 32 = 1 from rfl, if1]
            rfl
        rw [this]
        cases sb (hp (xH_ x)) (t - 32) 1
        · exact ⟨M2, by rw [if_neg (by decide), e2, mB_k], j2⟩
        · exact ⟨M1, rfl, k2⟩
      · have : fit (xH_ x) t 33 = false := by
          unfold fit
          rw [if_neg (by omega), if_neg t5, if_pos (by omega), if_neg ot, show 33 - 32 = 1 from rfl, if1]
          simp
        rw [if_neg ot, this]
        exact ⟨M2, rfl, j2⟩
  · have hi' := hi (by omega)
    obtain ⟨v, M1, e1, k1⟩ := m_refS (r := .inr s) c h
    obtain ⟨M2, e2, k2⟩ := m_pushI c k1 (32 + i) (Or.inr (Or.inl (by omega))) (32 + (i : Int)) (by omega)
    show ∃ M', (mB (f_X6_popReference M) fun v15 M14 => mB (f_X6_push (32 + (i : Int)) M14) fun _ M13 => some ((), M13)) = _ ∧ SE M0 M' x (sB (sRef s) fun a => sPush (rS (xm_ x)) (32 + i) a.2)
    rw [e1, mB_k, e2, mB_k]
    rw [sB_i, sB_a] at k2
    exact ⟨M2, rfl, k2⟩
  · obtain ⟨v, M1, e1, k1⟩ := m_refS (r := .inr s) c h
    obtain ⟨M2, e2, k2⟩ := m_pushI c k1 1 (tyV_1 _ _) 1 rfl
    show ∃ M', (mB (f_X6_popReference M) fun v15 M14 => mB (f_X6_push 1 M14) fun _ M13 => some ((), M13)) = _ ∧ SE M0 M' x (sB (sRef s) fun a => sPush (rS (xm_ x)) 1 a.2)
    rw [e1, mB_k, e2, mB_k]
    rw [sB_i, sB_a] at k2
    exact ⟨M2, rfl, k2⟩
/-- what the form of the code says of an instruction op with second byte i -/
def OpOk (x : VC) (p op i : Nat) : Prop := 0 < szo op ∧ p + szo op ≤ xz x ∧ op < 256 ∧ i < 256 ∧
  ((op = 21 ∨ op = 22 ∨ op = 25 ∨ op = 54 ∨ op = 55 ∨ op = 58) → i < rL (xm_ x)) ∧ ((op = 22 ∨ op = 55) → i + 1 < rL (xm_ x)) ∧ (op = 132 → i = rC (xm_ x) (p + 1) ∧ i < rL (xm_ x)) ∧
  ((178 ≤ op ∧ op ≤ 181) → i < fN (xF_ x)) ∧ (op = 184 → i < (xM_ x).length) ∧ ((op = 183 ∨ op = 187 ∨ op = 189 ∨ op = 192 ∨ op = 193) → i < hn (xH_ x))
theorem szo_pos_all : ∀ op : Fin 256, 0 < szo op.val → (op.val ≤ 10 ∨ op.val = 16 ∨ op.val = 17) ∨ (op.val = 21 ∨ op.val = 22 ∨ op.val = 25) ∨ (op.val = 46 ∨ op.val = 47 ∨ op.val = 50 ∨ op.val = 79 ∨ op.val = 80 ∨ op.val = 83) ∨ (op.val = 54 ∨ op.val = 55 ∨ op.val = 58) ∨ (op.val = 87 ∨ op.val = 88 ∨ op.val = 89 ∨ op.val = 90 ∨ op.val = 92 ∨ op.val = 95) ∨ ((op.val = 96 ∨ op.val = 97 ∨ op.val = 100 ∨ op.val = 101 ∨ op.val = 104 ∨ op.val = 105 ∨ op.val = 108 ∨ op.val = 109) ∨ op.val = 132 ∨ op.val = 133 ∨ op.val = 136 ∨ op.val = 148) ∨ ((153 ≤ op.val ∧ op.val ≤ 167) ∨ op.val = 198 ∨ op.val = 199) ∨ (op.val = 172 ∨ op.val = 173 ∨ op.val = 176 ∨ op.val = 177) ∨ (178 ≤ op.val ∧ op.val ≤ 181) ∨ op.val = 184 ∨ (op.val = 183 ∨ op.val = 187 ∨ op.val = 188 ∨ op.val = 189 ∨ op.val = 190 ∨ op.val = 191 ∨ op.val = 192 ∨ op.val = 193) := by decide +kernel
theorem szo_pos {op : Nat} (h : 0 < szo op) (h2 : op < 256) : (op ≤ 10 ∨ op = 16 ∨ op = 17) ∨ (op = 21 ∨ op = 22 ∨ op = 25) ∨ (op = 46 ∨ op = 47 ∨ op = 50 ∨ op = 79 ∨ op = 80 ∨ op = 83) ∨ (op = 54 ∨ op = 55 ∨ op = 58) ∨ (op = 87 ∨ op = 88 ∨ op = 89 ∨ op = 90 ∨ op = 92 ∨ op = 95) ∨ ((op = 96 ∨ op = 97 ∨ op = 100 ∨ op = 101 ∨ op = 104 ∨ op = 105 ∨ op = 108 ∨ op = 109) ∨ op = 132 ∨ op = 133 ∨ op = 136 ∨ op = 148) ∨ ((153 ≤ op ∧ op ≤ 167) ∨ op = 198 ∨ op = 199) ∨ (op = 172 ∨ op = 173 ∨ op = 176 ∨ op = 177) ∨ (178 ≤ op ∧ op ≤ 181) ∨ op = 184 ∨ (op = 183 ∨ op = 187 ∨ op = 188 ∨ op = 189 ∨ op = 190 ∨ op = 191 ∨ op = 192 ∨ op = 193) := szo_pos_all ⟨op, h2⟩ h
theorem m_simulate {M0 M : MW} {x : VC} {a p op i : Nat} {s : TS} (c : SMx M0 x a) (hpl : mI M0 0 34 = (p : Int)) (ho : OpOk x p op i) (h : SimM M0 M x s) : ∃ M', f_X6_simulate (op : Int) (i : Int) M = some ((), M') ∧ SE M0 M' x (sStep x p op i s) := by
  obtain ⟨o1, o2, o3, o4, o5, o6, o7, o8, o9, o10⟩ := ho
  have ck : ∀ (t : Nat) (z : Int), tyV (hn (xH_ x)) (xz x) t → z = (t : Int) → ∃ M', (mB (f_X6_push z M) fun _ M33 => some ((), M33)) = some ((), M') ∧ SE M0 M' x (sPush (rS (xm_ x)) t s) := by
    intro t z ht hz
    obtain ⟨M2, e2, k2⟩ := m_pushI (r := .inr s) c h t ht z hz
    rw [e2, mB_k]
    exact ⟨M2, rfl, k2⟩
  have wrap : ∀ (f : MW → Option (Unit × MW)) (r : Nat ⊕ TS), (∃ M', f M = some ((), M') ∧ SE M0 M' x r) → ∃ M', (mB (f M) fun _ M33 => some ((), M33)) = some ((), M') ∧ SE M0 M' x r := by
    rintro f r ⟨M', e, k⟩
    exact ⟨M', by rw [e, mB_k], k⟩
  unfold f_X6_simulate f_X6_simulate_b35 f_X6_simulate_b55 f_X6_simulate_b125
  rw [mB_in (by omega), ite_d, mB_in (by omega), ite_d, mB_in (by omega), ite_d, mB_in (by omega), ite_d, mB_in (by omega), ite_d, mB_in (by omega), ite_d, mB_in (by omega), ite_d, m_branches o3, mB_k, ite_b, mB_in (by omega), ite_d, mB_in (by omega), ite_d]
  unfold sStep isBr
  simp only [decide_eq_true_eq]
  rw [w32_n op (by omega), show w32 1 = 1 by decide, show w32 16 = 16 by decide, show w32 17 = 17 by decide, show w32 9 = 9 by decide, show w32 10 = 10 by decide, show w32 184 = 184 by decide]
  rcases szo_pos o1 o3 with g | g | g | g | g | g | g | g | g | g | g
  · by_cases z0 : op = 0
    · simp (disch := omega) only [ite_t, ite_f]
      exact ⟨M, rfl, h⟩
    by_cases z1 : op = 1
    · simp (disch := omega) only [ite_t, ite_f]
      exact ck 5 5 (tyV_5 _ _) rfl
    by_cases z2 : op = 9 ∨ op = 10
    · have : ∃ M', (mB (f_X6_push 2 M) fun _ M33 => some ((), M33)) = some ((), M') ∧ SE M0 M' x (sPush (rS (xm_ x)) 2 s) := ck 2 2 (tyV_2 _ _) rfl
      rcases z2 with z2 | z2
      · simp (disch := omega) only [ite_t, ite_f]; exact this
      · simp (disch := omega) only [ite_t, ite_f]; exact this
    · have : ∃ M', (mB (f_X6_push 1 M) fun _ M33 => some ((), M33)) = some ((), M') ∧ SE M0 M' x (sPush (rS (xm_ x)) 1 s) := ck 1 1 (tyV_1 _ _) rfl
      have z3 : (2 ≤ op ∧ op ≤ 8) ∨ op = 16 ∨ op = 17 := by omega
      rcases z3 with z3 | z3 | z3
      · simp (disch := omega) only [ite_t, ite_f]; exact this
      · simp (disch := omega) only [ite_t, ite_f]; exact this
      · simp (disch := omega) only [ite_t, ite_f]; exact this
  · simp (disch := omega) only [ite_t, ite_f]
    exact wrap _ _ (m_load c h g (o5 (by omega)))
  · have : ∃ M', (mB (f_X6_arrays (op : Int) M) fun _ M33 => some ((), M33)) = some ((), M') ∧ SE M0 M' x (sArrs (xH_ x) (rS (xm_ x)) op s) := wrap _ _ (m_arrays c h g)
    by_cases z : op ≤ 50
    · simp (disch := omega) only [ite_t, ite_f]; exact this
    · simp (disch := omega) only [ite_t, ite_f]; exact this
  · simp (disch := omega) only [ite_t, ite_f]
    exact wrap _ _ (m_store c h g (o5 (by omega)) (fun e => o6 (by omega)))
  · simp (disch := omega) only [ite_t, ite_f]
    exact wrap _ _ (m_shuffle c h g)
  · have := m_reckon c hpl o2 h g (fun e => by have := o7 e; omega)
    by_cases z : op ≤ 109
    · simp (disch := omega) only [ite_t] at this
      by_cases z4 : op % 4 = 0
      · simp (disch := omega) only [ite_t, ite_f] at this ⊢
        exact wrap _ _ this
      · simp (disch := omega) only [ite_t, ite_f] at this ⊢
        exact wrap _ _ this
    · simp (disch := omega) only [ite_f] at this
      simp (disch := omega) only [ite_t, ite_f]
      refine wrap _ _ ?_
      by_cases z2 : op = 132
      · rw [(o7 z2).1]; exact this
      · have e : sNum (xH_ x) (rS (xm_ x)) op i s = sNum (xH_ x) (rS (xm_ x)) op (rC (xm_ x) (p + 1)) s := by
          unfold sNum
          rw [if_neg z2, if_neg z2]
        rw [e]; exact this
  · have hb : isBr op = true := decide_eq_true (by omega)
    simp (disch := omega) only [ite_t, ite_f]
    exact wrap _ _ (m_test c h hb)
  · simp (disch := omega) only [ite_t, ite_f]
    exact wrap _ _ (m_leave c h g)
  · simp (disch := omega) only [ite_t, ite_f]
    exact wrap _ _ (m_fieldOf c h g (o8 g))
  · obtain ⟨m, hm⟩ : ∃ m, (xM_ x)[i]? = some m := ⟨(xM_ x)[i]'(o9 g), List.getElem?_eq_getElem (o9 g)⟩
    simp (disch := omega) only [ite_t, ite_f, hm]
    exact wrap _ _ (m_call c h hm)
  · simp (disch := omega) only [ite_t, ite_f]
    refine wrap _ _ (m_objects c hpl (fun e => ?_) h g (fun e => o10 (by omega)) o4)
    subst e
    have : szo 187 = 2 := by decide
    omega
