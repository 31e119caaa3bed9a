/-! LAYER C: no TOP on a stack -/
def NZ (s : TS) : Prop := ∀ t ∈ s.2, t ≠ 0
def AR (r : Nat ⊕ TS) : Prop := ∀ s, r = .inr s → NZ s
def AV (r : Nat ⊕ (Nat × TS)) : Prop := ∀ t s, r = .inr (t, s) → t ≠ 0 ∧ NZ s
theorem AR.b {r : Nat ⊕ TS} {κ : TS → Nat ⊕ TS} (h : AR r) (k : ∀ s, NZ s → AR (κ s)) : AR (sB r κ) := by
  cases r with
  | inl b => intro s e; cases e
  | inr s => exact k s (h s rfl)
theorem AV.b {r : Nat ⊕ (Nat × TS)} {κ : Nat × TS → Nat ⊕ TS} (h : AV r) (k : ∀ t s, t ≠ 0 → NZ s → AR (κ (t, s))) : AR (sB r κ) := by
  cases r with
  | inl b => intro s e; cases e
  | inr a => exact k a.1 a.2 (h a.1 a.2 rfl).1 (h a.1 a.2 rfl).2
theorem AR.i {s : TS} (h : NZ s) : AR (.inr s) := by intro s' e; cases e; exact h
theorem AR.l (n : Nat) : AR (.inl n) := by intro s' e; cases e
theorem AR.c {P : Prop} [Decidable P] {a b : Nat ⊕ TS} (h : P → AR a) (k : ¬ P → AR b) : AR (if P then a else b) := by
  by_cases p : P
  · rw [if_pos p]; exact h p
  · rw [if_neg p]; exact k p
theorem AV.pop {s : TS} (h : NZ s) : AV (sPop s) := by
  intro t s' e
  obtain ⟨L, l⟩ := s
  cases l with
  | nil => cases e
  | cons u l =>
    cases e
    exact ⟨h _ (List.mem_cons_self ..), fun v hv => h v (List.mem_cons_of_mem _ hv)⟩
theorem AV.chk {r : Nat ⊕ (Nat × TS)} {κ : Nat × TS → Nat ⊕ (Nat × TS)} (h : AV r) (k : ∀ a, κ a = .inr a ∨ ∃ n, κ a = .inl n) : AV (sB r κ) := by
  intro t s e
  cases r with
  | inl b => cases e
  | inr a =>
    rw [sB_i] at e
    rcases k a with e2 | ⟨n, e2⟩
    · rw [e2] at e
      cases e
      exact h _ _ rfl
    · rw [e2] at e; cases e
theorem ifV {P : Prop} [Decidable P] {a : Nat × TS} {n : Nat} : (if P then (Sum.inr a : Nat ⊕ (Nat × TS)) else .inl n) = .inr a ∨ ∃ m, (if P then (Sum.inr a : Nat ⊕ (Nat × TS)) else .inl n) = .inl m := by
  by_cases p : P
  · rw [if_pos p]; exact Or.inl rfl
  · rw [if_neg p]; exact Or.inr ⟨_, rfl⟩
theorem AV.one {s : TS} (h : NZ s) : AV (sOne s) := (AV.pop h).chk fun a => by
  by_cases p : a.1 = 2
  · rw [if_pos p]; exact Or.inr ⟨_, rfl⟩
  · rw [if_neg p]; exact Or.inl rfl
theorem AV.ref {s : TS} (h : NZ s) : AV (sRef s) := (AV.pop h).chk fun _ => ifV
theorem AV.arr {s : TS} (k : Nat) (h : NZ s) : AV (sArr k s) := (AV.pop h).chk fun _ => ifV
theorem AR.want {H : HT} {w : Nat} {s : TS} (h : NZ s) : AR (sWant H w s) := (AV.pop h).b fun t s _ hs => AR.c (fun _ => AR.i hs) (fun _ => AR.l _)
theorem AR.push {mst t : Nat} {s : TS} (ht : t ≠ 0) (h : NZ s) : AR (sPush mst t s) := AR.c (fun _ => AR.i (fun u hu => by
  rcases List.mem_cons.mp hu with e | e
  · rw [e]; exact ht
  · exact h u e)) (fun _ => AR.l _)
theorem tyT_0 {n t : Nat} (h : tyT n t = true) : t ≠ 0 := by
  have := of_decide_eq_true h
  omega
theorem okL_0 {op t : Nat} (h : okL op t = true) : t ≠ 0 := by
  intro e
  subst e
  unfold okL at h
  repeat' split at h
  all_goals exact absurd h (by decide)
theorem AR.args {H : HT} : ∀ (l : List Nat) (s : TS), NZ s → AR (sArgs H l s)
  | [], _, h => AR.i h
  | _ :: l, _, h => (AR.want h).b fun s hs => AR.args l s hs
theorem sStep_nz {x : VC} {p op i : Nat} {s : TS} (fo : FOK (xF_ x) (xH_ x)) (mo : ∀ (i : Nat) m, (xM_ x)[i]? = some m → SgO (hn (xH_ x)) m) (oi : (178 ≤ op ∧ op ≤ 181) → i < fN (xF_ x)) (h : NZ s) : AR (sStep x p op i s) := by
  unfold sStep
  refine AR.c (fun _ => AR.i h) fun _ => ?_
  refine AR.c (fun _ => AR.push (by omega) h) fun _ => ?_
  refine AR.c (fun _ => AR.push (by omega) h) fun _ => ?_
  refine AR.c (fun _ => AR.push (by omega) h) fun _ => ?_
  refine AR.c (fun _ => ?_) fun _ => ?_
  · exact AR.c (fun e => AR.push (okL_0 e) h) (fun _ => AR.l _)
  refine AR.c (fun _ => ?_) fun _ => ?_
  · unfold sArrs
    refine AR.b (AR.c (fun _ => AR.i h) fun _ => AR.c (fun _ => (AV.ref h).b fun t s _ hs => AR.i hs) fun _ => AR.want h) fun s hs => ?_
    refine (AR.want hs).b fun s hs => ?_
    intro s' e
    cases ha : sArr (if op = 46 ∨ op = 79 then 3 else if op = 47 ∨ op = 80 then 4 else 32) s with
    | inl b => rw [ha] at e; cases e
    | inr a =>
      have h1 := AV.arr _ hs _ _ ha
      have h2 := sArr_t (r := .inr s) ha
      rw [ha, sB_i] at e
      refine AR.c (fun _ => AR.i h1.2) (fun h79 => AR.push ?_ h1.2) s' e
      split
      · omega
      split
      · omega
      split
      · omega
      · omega
  refine AR.c (fun _ => ?_) fun _ => ?_
  · exact (AV.pop h).b fun t s _ hs => AR.c (fun _ => AR.i hs) (fun _ => AR.l _)
  refine AR.c (fun _ => ?_) fun _ => ?_
  · unfold sShuf
    refine AR.c (fun _ => (AV.one h).b fun t s _ hs => AR.i hs) fun _ => ?_
    refine AR.c (fun _ => (AV.pop h).b fun t s _ hs => AR.c (fun _ => AR.i hs) fun _ => (AV.one hs).b fun t s _ hs => AR.i hs) fun _ => ?_
    refine AR.c (fun _ => (AV.one h).b fun t s ht hs => (AR.push ht hs).b fun s hs => AR.push ht hs) fun _ => ?_
    refine AR.c (fun _ => (AV.pop h).b fun t s ht hs => AR.c (fun _ => (AR.push ht hs).b fun s hs => AR.push ht hs) fun _ => (AV.one hs).b fun u s hu hs => (AR.push hu hs).b fun s hs => (AR.push ht hs).b fun s hs => (AR.push hu hs).b fun s hs => AR.push ht hs) fun _ => ?_
    exact (AV.one h).b fun t s ht hs => (AV.one hs).b fun u s hu hs => (AR.push ht hs).b fun s hs => (AR.push hu hs).b fun s hs => AR.c (fun _ => AR.push ht hs) fun _ => AR.i hs
  refine AR.c (fun _ => ?_) fun _ => ?_
  · exact (AR.want h).b fun s hs => (AR.want hs).b fun s hs => AR.push (by split <;> omega) hs
  refine AR.c (fun _ => ?_) fun _ => ?_
  · unfold sNum
    refine AR.c (fun _ => AR.c (fun _ => AR.i h) fun _ => AR.l _) fun _ => ?_
    refine AR.c (fun _ => (AR.want h).b fun s hs => (AR.want hs).b fun s hs => AR.push (by omega) hs) fun _ => ?_
    refine AR.c (fun _ => (AR.want h).b fun s hs => AR.push (by omega) hs) fun _ => ?_
    exact (AR.want h).b fun s hs => AR.push (by omega) hs
  refine AR.c (fun _ => ?_) fun _ => ?_
  · unfold sBran
    refine AR.c (fun _ => AR.i h) fun _ => ?_
    refine AR.c (fun _ => (AV.ref h).b fun t s _ hs => AR.i hs) fun _ => ?_
    refine AR.c (fun _ => (AV.ref h).b fun t s _ hs => (AV.ref hs).b fun t s _ hs => AR.i hs) fun _ => ?_
    exact AR.c (fun _ => (AR.want h).b fun s hs => AR.want hs) fun _ => AR.want h
  refine AR.c (fun _ => ?_) fun _ => ?_
  · unfold sRet
    refine AR.c (fun _ => AR.c (fun _ => AR.i h) fun _ => AR.l _) fun _ => ?_
    refine AR.c (fun _ => (AV.ref h).b fun t s _ hs => AR.c (fun _ => AR.i hs) fun _ => AR.l _) fun _ => ?_
    exact (AR.want h).b fun s hs => AR.c (fun _ => AR.i hs) fun _ => AR.l _
  refine AR.c (fun o1 => ?_) fun _ => ?_
  · unfold sField
    have ht := tyT_0 (fo.2.1 i (oi (by omega))).2
    refine AR.b (AR.c (fun _ => AR.want h) fun _ => AR.i h) fun s hs => ?_
    refine AR.b (AR.c (fun _ => AR.want hs) fun _ => AR.i hs) fun s hs => ?_
    exact AR.c (fun _ => AR.push ht hs) fun _ => AR.i hs
  refine AR.c (fun _ => ?_) fun _ => ?_
  · cases hm : (xM_ x)[i]? with
    | none => exact AR.l _
    | some m =>
      show AR (sCall (xH_ x) (rS (xm_ x)) m s)
      unfold sCall
      exact (AR.args _ s h).b fun s hs => AR.c (fun _ => AR.i hs) fun e => AR.push e hs
  · have mp : ∀ {t u : Nat} {l : List Nat}, u ≠ 0 → (∀ v ∈ l, v ≠ 0) → ∀ v ∈ l.map (trn t u), v ≠ 0 := by
      intro t u l hu hl v hv
      obtain ⟨w, hw, e⟩ := List.mem_map.mp hv
      rw [← e]
      unfold trn
      split
      · exact hu
      · exact hl w hw
    unfold sObj
    refine AR.c (fun _ => (AV.pop h).b fun t s _ hs => AR.c (fun _ => AR.i (mp (by omega) hs)) fun _ => AR.l _) fun _ => ?_
    refine AR.c (fun _ => AR.c (fun _ => AR.l _) fun _ => AR.push (by omega) h) fun _ => ?_
    refine AR.c (fun _ => (AR.want h).b fun s hs => AR.push (by split <;> first | omega | (split <;> omega)) hs) fun _ => ?_
    refine AR.c (fun _ => (AV.pop h).b fun t s _ hs => AR.c (fun _ => AR.push (by omega) hs) fun _ => AR.l _) fun _ => ?_
    refine AR.c (fun _ => AR.want h) fun _ => ?_
    exact (AV.ref h).b fun t s _ hs => AR.push (by split <;> omega) hs
