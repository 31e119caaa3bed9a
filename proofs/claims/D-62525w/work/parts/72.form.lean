/-! LAYER C: the form of code, in plain words -/
def w305 (op i : Nat) : Nat := if op = 188 ∧ ¬ (i = 10 ∨ i = 11) then 3 else 0
def zN (x : VC) (i : Nat) : Nat := match (xM_ x)[i]? with
  | none => 0
  | some m => rN m
def w264 (x : VC) (op i : Nat) : Nat := if op = 184 ∧ zN x i = 0 then 3 else w305 op i
def w232 (x : VC) (op i : Nat) : Nat := if (op = 189 ∨ op = 192 ∨ op = 193) ∧ hn (xH_ x) ≤ i then 3 else w264 x op i
def w184 (x : VC) (op i : Nat) : Nat := if (op = 183 ∨ op = 187) ∧ (hn (xH_ x) ≤ i ∨ hf (xH_ x) i = true) then 3 else w232 x op i
def w125 (x : VC) (op i : Nat) : Nat := if (178 ≤ op ∧ op ≤ 181) ∧ (fN (xF_ x) ≤ i ∨ fS (xF_ x) i ≠ decide (op < 180)) then 3 else w184 x op i
def isLo (op : Nat) : Bool := decide (op = 21 ∨ op = 22 ∨ op = 25 ∨ op = 54 ∨ op = 55 ∨ op = 58 ∨ op = 132)
def w70 (x : VC) (op i : Nat) : Nat := if isLo op = true ∧ rL (xm_ x) ≤ i + (if op = 22 ∨ op = 55 then 1 else 0) then 2 else w125 x op i
/-- faults 1 to 3 of an instruction -/
def wrg (x : VC) (p : Nat) : Nat := if szo (rC (xm_ x) p) = 0 ∨ rN (xm_ x) < p + szo (rC (xm_ x) p) then 1 else w70 x (rC (xm_ x) p) (opi (rC (xm_ x)) p)
def stB (x : VC) (B : Nat → Bool) (t : Int) : Bool := decide (0 ≤ t ∧ t < rN (xm_ x)) && B t.toNat
def fo1 (x : VC) : Nat → Nat → (Nat → Bool) → (Nat × Nat) ⊕ (Nat → Bool)
  | 0, _, b => .inr b
  | n + 1, p, b => if rN (xm_ x) ≤ p then .inr b else if wrg x p = 0 then fo1 x n (p + szo (rC (xm_ x) p)) (up1 b p true) else .inl (wrg x p, p)
def brBad (x : VC) (B : Nat → Bool) (p : Nat) : Bool := B p && isBr (rC (xm_ x) p) && !stB x B (tgt (rC (xm_ x)) p)
def fo2 (x : VC) (B : Nat → Bool) : Nat → Nat → Option Nat
  | 0, _ => none
  | n + 1, p => if rN (xm_ x) ≤ p then none else if brBad x B p = true then some p else fo2 x B n (p + 1)
def hdOk (x : VC) (B : Nat → Bool) (h : HD) : Bool := decide (dF h < dT h) && (stB x B (dF h) && (stB x B (dP h) && (decide (dT h = rN (xm_ x)) || stB x B (dT h))))
def fo3 (x : VC) (B : Nat → Bool) : Nat → List HD → Option Nat
  | _, [] => none
  | i, h :: l => if hdOk x B h = true then fo3 x B (i + 1) l else some i
def form (x : VC) : (Nat × Nat) ⊕ (Nat → Bool) := match fo1 x 121 0 (fun _ => false) with
  | .inl e => .inl e
  | .inr B => match fo2 x B 121 0 with
    | some p => .inl (4, p)
    | none => match fo3 x B 0 (rH (xm_ x)) with
      | some h => .inl (5, h)
      | none => .inr B
/-- places where instructions begin -/
def FB1 (x : VC) (p : Nat) (b : Nat → Bool) : Prop := p ≤ rN (xm_ x) ∧ (0 < p → b 0 = true) ∧ ∀ q, b q = true → q < p ∧ wrg x q = 0 ∧ q + szo (rC (xm_ x) q) ≤ p ∧ (q + szo (rC (xm_ x) q) < p → b (q + szo (rC (xm_ x) q)) = true) ∧ ∀ r, q < r → r < q + szo (rC (xm_ x) q) → b r = false
theorem wrg_z {x : VC} {p : Nat} (h : wrg x p = 0) : 0 < szo (rC (xm_ x) p) ∧ p + szo (rC (xm_ x) p) ≤ rN (xm_ x) ∧ w70 x (rC (xm_ x) p) (opi (rC (xm_ x)) p) = 0 := by
  unfold wrg at h
  split at h
  · omega
  · exact ⟨by omega, by omega, h⟩
theorem FB1.s {x : VC} {p : Nat} {b : Nat → Bool} (h : FB1 x p b) (h1 : p < rN (xm_ x)) (hw : wrg x p = 0) : FB1 x (p + szo (rC (xm_ x) p)) (up1 b p true) := by
  obtain ⟨z1, z2, _⟩ := wrg_z hw
  obtain ⟨a1, a2, a3⟩ := h
  have bf : ∀ r, p ≤ r → b r = false := fun r hr => by
    cases e : b r with
    | false => rfl
    | true => have := (a3 r e).1; omega
  refine ⟨z2, fun _ => ?_, fun q hq => ?_⟩
  · show (if 0 = p then true else b 0) = true
    by_cases e : 0 = p
    · rw [if_pos e]
    · rw [if_neg e]; exact a2 (by omega)
  · by_cases e : q = p
    · subst e
      refine ⟨by omega, hw, Nat.le_refl _, fun h => by omega, fun r h1 h2 => ?_⟩
      show (if r = q then true else b r) = false
      rw [if_neg (by omega)]; exact bf r (by omega)
    · have hq' : b q = true := by
        have : (if q = p then true else b q) = true := hq
        rw [if_neg e] at this; exact this
      obtain ⟨c1, c2, c3, c4, c5⟩ := a3 q hq'
      refine ⟨by omega, c2, by omega, fun h => ?_, fun r h1 h2 => ?_⟩
      · show (if q + szo (rC (xm_ x) q) = p then true else b (q + szo (rC (xm_ x) q))) = true
        by_cases e2 : q + szo (rC (xm_ x) q) = p
        · rw [if_pos e2]
        · rw [if_neg e2]; exact c4 (by omega)
      · show (if r = p then true else b r) = false
        rw [if_neg (by omega)]; exact c5 r h1 h2
theorem fo1_B {x : VC} : ∀ (n p : Nat) (b B : Nat → Bool), rN (xm_ x) < n + p → FB1 x p b → fo1 x n p b = .inr B → FB1 x (rN (xm_ x)) B := by
  intro n
  induction n with
  | zero => intro p b B hn hb; have := hb.1; omega
  | succ n ih =>
    intro p b B hn hb h
    unfold fo1 at h
    split at h
    · cases h
      have := hb.1
      have e : p = rN (xm_ x) := by omega
      rw [← e]; exact hb
    · rename_i h1
      split at h
      · rename_i hw
        have := (wrg_z hw).1
        exact ih _ _ _ (by omega) (hb.s (by omega) hw) h
      · cases h
theorem fo2_n {x : VC} {B : Nat → Bool} : ∀ (n p : Nat), rN (xm_ x) < n + p → fo2 x B n p = none → ∀ q, p ≤ q → q < rN (xm_ x) → brBad x B q = false := by
  intro n
  induction n with
  | zero => intro p hn _ q h1 h2; omega
  | succ n ih =>
    intro p hn h q h1 h2
    unfold fo2 at h
    rw [if_neg (by omega)] at h
    split at h
    · cases h
    · rename_i hb
      by_cases e : q = p
      · subst e; cases e2 : brBad x B q with
        | false => rfl
        | true => exact absurd e2 hb
      · exact ih (p + 1) (by omega) h q (by omega) h2
theorem fo3_n {x : VC} {B : Nat → Bool} : ∀ (l : List HD) (i : Nat), fo3 x B i l = none → ∀ h ∈ l, hdOk x B h = true
  | [], _, _, _, hm => absurd hm (List.not_mem_nil)
  | g :: l, i, e, h, hm => by
    unfold fo3 at e
    split at e
    · rename_i hg
      rcases List.mem_cons.mp hm with r | r
      · rw [r]; exact hg
      · exact fo3_n l (i + 1) e h r
    · cases e
theorem stB_i {x : VC} {B : Nat → Bool} {t : Int} : stB x B t = true ↔ (0 ≤ t ∧ t < rN (xm_ x)) ∧ B t.toNat = true := by
  unfold stB
  rw [Bool.and_eq_true, decide_eq_true_eq]
theorem form_i {x : VC} {B : Nat → Bool} (h : form x = .inr B) : FB1 x (rN (xm_ x)) B ∨ rN (xm_ x) > 120 := by
  by_cases h1 : rN (xm_ x) > 120
  · exact Or.inr h1
  · unfold form at h
    cases e : fo1 x 121 0 (fun _ => false) with
    | inl e1 => rw [e] at h; cases h
    | inr B' =>
      rw [e] at h
      dsimp only at h
      have f := fo1_B 121 0 _ _ (by omega) (⟨by omega, fun h => by omega, fun q hq => by cases hq⟩) e
      split at h
      · cases h
      · split at h
        · cases h
        · cases h; exact Or.inl f
theorem form_o {x : VC} {B : Nat → Bool} (h : form x = .inr B) (hN : rN (xm_ x) ≤ 120) : (∀ q, brBad x B q = true → rN (xm_ x) ≤ q) ∧ ∀ h ∈ rH (xm_ x), hdOk x B h = true := by
  unfold form at h
  cases e : fo1 x 121 0 (fun _ => false) with
  | inl e1 => rw [e] at h; cases h
  | inr B' =>
    rw [e] at h
    dsimp only at h
    split at h
    · cases h
    · rename_i e2
      split at h
      · cases h
      · rename_i e3
        cases h
        refine ⟨fun q hq => ?_, fo3_n _ _ e3⟩
        apply Classical.byContradiction
        intro hc
        rw [fo2_n 121 0 (by omega) e2 q (by omega) (by omega)] at hq
        cases hq
theorem w70_ok {x : VC} {p op i : Nat} (h : w70 x op i = 0) : ((op = 21 ∨ op = 22 ∨ op = 25 ∨ op = 54 ∨ op = 55 ∨ op = 58) → i < rL (xm_ x)) ∧ ((op = 22 ∨ op = 55) → i + 1 < rL (xm_ x)) ∧ (op = 132 → i < rL (xm_ x)) ∧
    ((178 ≤ op ∧ op ≤ 181) → i < fN (xF_ x)) ∧ (op = 184 → i < (xM_ x).length) ∧ ((op = 183 ∨ op = 187 ∨ op = 189 ∨ op = 192 ∨ op = 193) → i < hn (xH_ x)) := by
  unfold w70 at h
  by_cases g1 : isLo op = true ∧ rL (xm_ x) ≤ i + (if op = 22 ∨ op = 55 then 1 else 0)
  · rw [if_pos g1] at h; omega
  rw [if_neg g1] at h
  unfold isLo at g1
  rw [decide_eq_true_eq] at g1
  unfold w125 at h
  split at h
  · omega
  rename_i g2
  unfold w184 at h
  split at h
  · omega
  rename_i g3
  unfold w232 at h
  split at h
  · omega
  rename_i g4
  unfold w264 at h
  split at h
  · omega
  rename_i g5
  refine ⟨fun c => ?_, fun c => ?_, fun c => ?_, fun c => ?_, fun c => ?_, fun c => ?_⟩
  · rw [Classical.not_and_iff_not_or_not] at g1
    split at g1 <;> omega
  · rw [if_pos c] at g1
    omega
  · rw [if_neg (by omega)] at g1
    omega
  · apply Classical.byContradiction
    intro hc
    exact g2 ⟨c, Or.inl (by omega)⟩
  · apply Classical.byContradiction
    intro hc
    apply g5
    refine ⟨c, ?_⟩
    unfold zN
    rw [List.getElem?_eq_none (by omega)]
  · apply Classical.byContradiction
    intro hc
    by_cases c2 : op = 183 ∨ op = 187
    · exact g3 ⟨c2, Or.inl (by omega)⟩
    · exact g4 ⟨by omega, by omega⟩
theorem form_P {x : VC} {B : Nat → Bool} (so : SgO (hn (xH_ x)) (xm_ x)) (h0 : 0 < rN (xm_ x)) (hb : ∀ p, rC (xm_ x) p < 256) (h : form x = .inr B) : FormP x B ∧ FB1 x (rN (xm_ x)) B := by
  have hN := so.2.2.2.1
  have f : FB1 x (rN (xm_ x)) B := by
    rcases form_i h with f | f
    · exact f
    · omega
  obtain ⟨o1, o2⟩ := form_o h hN
  refine ⟨⟨f.2.1 h0, fun p hp => ?_⟩, f⟩
  obtain ⟨c1, c2, c3, c4, c5⟩ := f.2.2 p hp
  obtain ⟨z1, z2, z3⟩ := wrg_z c2
  have k := w70_ok (p := p) z3
  have ot : isBr (rC (xm_ x) p) = true → stB x B (tgt (rC (xm_ x)) p) = true := fun hbr => by
    cases e : stB x B (tgt (rC (xm_ x)) p) with
    | true => rfl
    | false =>
      have := o1 p (by unfold brBad; rw [hp, hbr, e]; rfl)
      omega
  have oi : opi (rC (xm_ x)) p < 256 := by
    unfold opi
    split
    · omega
    · exact hb _
  refine ⟨c1, ⟨⟨z1, z2, hb p, oi, k.1, k.2.1, fun e => ⟨?_, k.2.2.1 e⟩, k.2.2.2.1, k.2.2.2.2.1, k.2.2.2.2.2⟩, fun hbr => (stB_i.mp (ot hbr)).1⟩, fun _ h => c4 h, fun hbr => (stB_i.mp (ot hbr)).2, fun h hm => ?_⟩
  · unfold opi
    rw [e, if_neg (by decide)]
  · have := o2 h hm
    unfold hdOk at this
    rw [Bool.and_eq_true, Bool.and_eq_true, Bool.and_eq_true] at this
    exact (stB_i.mp this.2.2.1).2
