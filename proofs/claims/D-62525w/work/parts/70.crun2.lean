/-! LAYER C: the component's flow from its beginning -/
theorem ChC.new {C C' : CW} {K : Nat → Nat → Prop} {A R : Nat → Prop} (h : ChC C C' K A R) (k n w : Nat) : ChC C (hNew C' k n w) K A R := by
  obtain ⟨h1, h2, h3, h4, h5, h6, h7, h8⟩ := h
  have e1 : hZ (hNew C' k n w) = hZ C' + 1 := rfl
  have e2 : hS (hNew C' k n w) = hS C' + w := rfl
  have e3 : hB (hNew C' k n w) = hB C' := rfl
  refine ⟨h1, h2, h3, h4, by omega, by omega, fun q hq => ?_, fun q hq => ?_⟩
  · have hn : q ≠ hB C' + hZ C' := by omega
    have e4 : hJ (hNew C' k n w) q = hJ C' q := by
      show (if q = hB C' + hZ C' then (fun _ => 0) else hJ C' q) = _
      rw [if_neg hn]
    rw [hK_oN hn, hL_oN hn, hI_oN hn, hR_oN hn, e4]
    exact h7 q hq
  · rw [hK_oN (by omega)]
    exact h8 q (by omega)
theorem put_up {L : Nat → Nat} {i t : Nat} (h1 : ∀ k, i ≤ k → L k = 0) (h2 : i = 0 ∨ L (i - 1) ≠ 2) : ∀ k, put L i t k = up1 L i t k := by
  intro k
  show (if k = i then t else if k = i + 1 ∧ t = 2 then 0 else if k + 1 = i ∧ L k = 2 then 0 else L k) = (if k = i then t else L k)
  by_cases e : k = i
  · rw [if_pos e, if_pos e]
  · rw [if_neg e, if_neg e]
    by_cases e2 : k = i + 1 ∧ t = 2
    · rw [if_pos e2, h1 k (by omega)]
    · rw [if_neg e2, if_neg]
      rintro ⟨e3, e4⟩
      have : i - 1 = k := by omega
      rw [this] at h2
      omega
theorem c_b36 {x : VC} {qm f aa : Nat} (so : SgO (hn (xH_ x)) (xm_ x)) (h16 : hn (xH_ x) ≤ 16) (hfa : aa ≠ f + 1) : ∀ (l : List Nat) (k i n : Nat) (L : Nat → Nat) (C : CW), (rA (xm_ x)).drop k = l → k ≤ (rA (xm_ x)).length → (rA (xm_ x)).length < n + k → i + wds l ≤ 12 → cR C 204 7 = some qm → hK C qm = 7 → hR C qm 0 = some aa → hK C aa = 64 → hL C aa = (rA (xm_ x)).length → (∀ k (t : Nat), (rA (xm_ x))[k]? = some t → hI C aa k = (t : Int)) → StSh C f → (∀ j, j < 12 → hI C (f + 1) j = (L j : Int)) → (∀ k, i ≤ k → L k = 0) → (i = 0 ∨ L (i - 1) ≠ 2) → (∀ k, L k < 2000) →
    ∃ C', f_X3_run_b36 n (some f) (i : Int) (k : Int) C = f_X3_run_b95 FU (some f) 0 C' ∧ (∀ j, j < 12 → hI C' (f + 1) j = (argL i l L j : Int)) ∧ HiO C C' (fun z => z = f + 1) := by
  intro l
  induction l with
  | nil =>
    intro k i n L C hd h1 h2 hi r7 k7 r0 ka la ia st hLL hz hl bL
    obtain ⟨n, rfl⟩ : ∃ j, n = j + 1 := ⟨n - 1, by omega⟩
    have ek : k = (rA (xm_ x)).length := by
      have := congrArg List.length hd
      rw [List.length_drop] at this
      have e0 : ([] : List Nat).length = 0 := rfl
      omega
    have h4 := so.1
    show ∃ C', f_X3_run_s36 (f_X3_run_b36 n) _ _ _ C = _ ∧ _
    unfold f_X3_run_s36
    rw [rd_k, r7, dr_k, gd_e k7, rd_k, r0, dr_k, gd_l (by omega), rd_k, la, w32_n _ (by omega), w32_n k (by omega), if_pos (by omega)]
    exact ⟨C, rfl, hLL, HiO.r _ _⟩
  | cons t l ih =>
    intro k i n L C hd h1 h2 hi r7 k7 r0 ka la ia st hLL hz hl bL
    obtain ⟨n, rfl⟩ : ∃ j, n = j + 1 := ⟨n - 1, by omega⟩
    have hk : k < (rA (xm_ x)).length := by
      have := congrArg List.length hd
      rw [List.length_drop] at this
      have e0 : (t :: l).length = l.length + 1 := rfl
      omega
    have ht : (rA (xm_ x))[k]? = some t := by
      have : ((rA (xm_ x)).drop k)[0]? = some t := by rw [hd]; rfl
      rw [List.getElem?_drop] at this
      exact this
    have hd2 : (rA (xm_ x)).drop (k + 1) = l := by
      rw [← List.drop_drop, hd]; rfl
    have h4 := so.1
    have hww : wds (t :: l) = (if t = 2 then 2 else 1) + wds l := rfl
    have tl : t < 2000 := by
      have := of_decide_eq_true (so.2.1 t (List.mem_of_getElem? ht))
      omega
    obtain ⟨s1, s2, s3, s4, s5, s6, s7⟩ := st
    obtain ⟨C1, e1, g1, g2⟩ := c_store (q := f) (l := f + 1) (i := i) (t := t) (L := L) (C := C) s1 s2 s4 s5 hLL bL (by split at hww <;> omega) tl (fun e => by rw [if_pos e] at hww; omega)
    have g1' := g1
    obtain ⟨q1, q2, q3, q4, q5, q6, q7, q8, q9, qa, qb, qc⟩ := g1
    have i1 := q6 aa hfa
    show ∃ C', f_X3_run_s36 (f_X3_run_b36 n) _ _ _ C = _ ∧ _
    unfold f_X3_run_s36 f_X3_run_b84
    rw [rd_k, r7, dr_k, gd_e k7, rd_k, r0, dr_k, gd_l (by omega), rd_k, la, w32_n _ (by omega), w32_n k (by omega), if_neg (by omega), rd_k, dr_k, gd_e k7, rd_k, r0, dr_k, gd_e ka, la, ax_k (by omega), Int.toNat_natCast, rd_k, ia k t ht, dr_k, gd_e s1, e1, cB_k, rd_k, q3, r7, dr_k, q4, gd_e k7, rd_k, q8, r0, dr_k, gd_e ka, q5, la, ax_k (by omega), Int.toNat_natCast, rd_k, i1, ia k t ht, w32_n t (by omega), show w32 2 = 2 by decide]
    have L2 : ∀ j, j < 12 → hI C1 (f + 1) j = ((up1 L i t j : Nat) : Int) := fun j hj => by rw [g2 j hj, put_up hz hl]
    have bL2 : ∀ k, up1 L i t k < 2000 := fun k => by
      show (if k = i then t else L k) < 2000
      split
      · exact tl
      · exact bL k
    have st2 : StSh C1 f := StSh.hi ⟨s1, s2, s3, s4, s5, s6, s7⟩ g1'
    have r7' : cR C1 204 7 = some qm := by rw [q3]; exact r7
    have k7' : hK C1 qm = 7 := by rw [q4]; exact k7
    have r0' : hR C1 qm 0 = some aa := by rw [q8]; exact r0
    have ka' : hK C1 aa = 64 := by rw [q4]; exact ka
    have la' : hL C1 aa = (rA (xm_ x)).length := by rw [q5]; exact la
    have ia' : ∀ k (t : Nat), (rA (xm_ x))[k]? = some t → hI C1 aa k = (t : Int) := fun k t h => by rw [i1]; exact ia k t h
    by_cases t2 : t = 2
    · rw [if_pos (by omega), rd_k]
      rw [if_pos t2] at hww
      obtain ⟨C', f1, f2, f3⟩ := ih (k + 1) (i + 2) n (up1 L i t) C1 hd2 (by omega) (by omega) (by omega) r7' k7' r0' ka' la' ia' st2 L2 (fun k hk => by
        show (if k = i then t else L k) = 0
        rw [if_neg (by omega)]; exact hz k (by omega)) (Or.inr (by
        show (if i + 2 - 1 = i then t else L (i + 2 - 1)) ≠ 2
        rw [if_neg (by omega), hz _ (by omega)]; decide)) bL2
      refine ⟨C', f1, fun j hj => ?_, g1'.tr f3⟩
      rw [f2 j hj]
      show _ = ((argL (i + (if t = 2 then 2 else 1)) l (up1 L i t) j : Nat) : Int)
      rw [if_pos t2]
    · rw [if_neg (by omega), rd_k]
      rw [if_neg t2] at hww
      obtain ⟨C', f1, f2, f3⟩ := ih (k + 1) (i + 1) n (up1 L i t) C1 hd2 (by omega) (by omega) (by omega) r7' k7' r0' ka' la' ia' st2 L2 (fun k hk => by
        show (if k = i then t else L k) = 0
        rw [if_neg (by omega)]; exact hz k (by omega)) (Or.inr (by
        show (if i + 1 - 1 = i then t else L (i + 1 - 1)) ≠ 2
        rw [if_pos (by omega)]; exact t2)) bL2
      refine ⟨C', f1, fun j hj => ?_, g1'.tr f3⟩
      rw [f2 j hj]
      show _ = ((argL (i + (if t = 2 then 2 else 1)) l (up1 L i t) j : Nat) : Int)
      rw [if_neg t2]
/-- nothing waits -/
theorem c_b95 {f : Nat} (C : CW) : ∃ C', f_X3_run_b95 FU (some f) 0 C = (xB (f_X3_give 0 (some f) C') fun _ C19 => cB (f_X3_next C19) fun v21 C20 => rd (csI C20 204 8 v21) fun C22 => f_X3_run_b129 FU C22) ∧ WtC C' (fun _ => false) ∧ HpE C C' ∧ ∀ A R, ChC C C' KF A R := by
  have st : ∀ (n k : Nat) (C : CW), k < 2 → f_X3_run_b95 (n + 1) (some f) (k : Int) C = f_X3_run_b95 n (some f) ((k + 1 : Nat) : Int) (csJ C 206 k 0) := by
    intro n k C hk
    show f_X3_run_s95 (f_X3_run_b95 n) _ _ C = _
    unfold f_X3_run_s95
    rw [w32_n k (by omega), show w32 2 = 2 by decide, if_neg (by omega), ax_k (by omega), Int.toNat_natCast, rd_k]
    rfl
  refine ⟨csJ (csJ C 206 0 0) 206 1 0, ?_, fun i k hi hk => ?_, HpE.r _, fun A R => ((ChC.r C KF A R).csJ (Or.inr rfl)).csJ (Or.inr rfl)⟩
  · have G : ∀ N, 3 ≤ N → f_X3_run_b95 N (some f) 0 C = (xB (f_X3_give 0 (some f) (csJ (csJ C 206 0 0) 206 1 0)) fun _ C19 => cB (f_X3_next C19) fun v21 C20 => rd (csI C20 204 8 v21) fun C22 => f_X3_run_b129 FU C22) := by
      intro N hN
      obtain ⟨n, rfl⟩ : ∃ n, N = n + 3 := ⟨N - 3, by omega⟩
      refine (st (n + 2) 0 C (by omega)).trans ((st (n + 1) 1 _ (by omega)).trans ?_)
      show f_X3_run_s95 (f_X3_run_b95 n) _ _ _ = _
      unfold f_X3_run_s95
      rw [if_pos (by decide)]
    exact G FU (by rw [FU_v]; omega)
  · have z : ∀ k, bJ 0 k = false := fun k => by
      rw [bJ_tb]
      show (0 : Nat).testBit k = false
      exact Nat.zero_testBit k
    by_cases e : i = 1
    · rw [e, cJ_scsJ rfl]; exact z k
    · rw [cJ_ocsJ (by omega), cJ_scsJ (by omega)]; exact z k
