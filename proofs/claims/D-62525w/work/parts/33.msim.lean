/-! LAYER C: the model's instruction on types -/
theorem m_in {M : MW} {x lo hi : Int} (h : (-2147483648 ≤ x ∧ x < 2147483648) ∧ (-2147483648 ≤ lo ∧ lo < 2147483648) ∧ -2147483648 ≤ hi ∧ hi < 2147483648) : f_X6_in x lo hi M = some (b2i (decide (lo ≤ x ∧ x ≤ hi)), M) := by
  unfold f_X6_in
  simp (disch := omega) only [w32_i]
  repeat' split
  all_goals first | (rw [decide_eq_true (by omega)]; rfl) | (rw [decide_eq_false (by omega)]; rfl)
theorem mB_in {α : Type} {M : MW} {x lo hi : Int} {κ : Int → MW → Option α} (h : (-2147483648 ≤ x ∧ x < 2147483648) ∧ (-2147483648 ≤ lo ∧ lo < 2147483648) ∧ -2147483648 ≤ hi ∧ hi < 2147483648) : mB (f_X6_in x lo hi M) κ = κ (b2i (decide (lo ≤ x ∧ x ≤ hi))) M := by
  rw [m_in h, mB_k]
/-- a function that only reads its numbers -/
def PuM {α : Type} (f : MW → Option (α × MW)) : Prop := ∃ v, ∀ M, f M = some (v, M)
def m00 : MW := (fun _ _ => 0, fun _ _ => 0)
theorem pu_ite {α : Type} {c : Prop} [Decidable c] {f g : MW → Option (α × MW)} (h : PuM f) (k : PuM g) : PuM (fun M => if c then f M else g M) := by
  by_cases hc : c
  · obtain ⟨v, hv⟩ := h
    exact ⟨v, fun M => (if_pos hc).trans (hv M)⟩
  · obtain ⟨v, hv⟩ := k
    exact ⟨v, fun M => (if_neg hc).trans (hv M)⟩
theorem pu_mB {α β : Type} {f : MW → Option (α × MW)} {κ : α → MW → Option (β × MW)} (h : PuM f) (k : ∀ v, PuM (κ v)) : PuM (fun M => mB (f M) κ) := by
  obtain ⟨v, hv⟩ := h
  obtain ⟨w, hw⟩ := k v
  exact ⟨w, fun M => by show mB (f M) κ = _; rw [hv, mB_k]; exact hw M⟩
theorem pu_in (x a b : Int) : PuM (fun M => f_X6_in x a b M) := by
  unfold f_X6_in
  exact pu_ite ⟨_, fun _ => rfl⟩ (pu_ite ⟨_, fun _ => rfl⟩ ⟨_, fun _ => rfl⟩)
theorem PuM.at0 {α : Type} {f : MW → Option (α × MW)} (h : PuM f) {v : α} (e : (f m00).map (·.1) = some v) (M : MW) : f M = some (v, M) := by
  obtain ⟨w, hw⟩ := h
  rw [hw] at e
  cases e
  exact hw M
theorem pu_322 (s : Int) : PuM (fun M => f_X6_length_b322 s M) := by
  unfold f_X6_length_b322
  exact pu_ite ⟨_, fun _ => rfl⟩ ⟨_, fun _ => rfl⟩
theorem pu_208 (x s : Int) : PuM (fun M => f_X6_length_b208 x s M) := by
  unfold f_X6_length_b208 f_X6_length_b317
  repeat' first
    | with_reducible apply pu_ite
    | with_reducible apply pu_mB
    | with_reducible apply pu_in
    | with_reducible apply pu_322
    | intro _
theorem pu_len (x : Int) : PuM (fun M => f_X6_length x M) := by
  unfold f_X6_length f_X6_length_b203
  repeat' first
    | with_reducible apply pu_ite
    | with_reducible apply pu_mB
    | with_reducible apply pu_in
    | with_reducible apply pu_208
    | exact ⟨_, fun _ => rfl⟩
    | intro _
theorem len_all : ∀ x : Fin 256, (f_X6_length ((x.val : Nat) : Int) m00).map (·.1) = some (szo x.val : Int) := by decide +kernel
theorem m_length {M : MW} {op : Nat} (h : op < 256) : f_X6_length (op : Int) M = some ((szo op : Int), M) := (pu_len op).at0 (len_all ⟨op, h⟩) M
theorem m_branches {M : MW} {op : Nat} (h : op < 256) : f_X6_branches (op : Int) M = some (b2i (isBr op), M) := by
  unfold f_X6_branches isBr
  simp (disch := omega) only [↓mB_in, ↓ite_b, decide_eq_true_eq]
  repeat' split
  all_goals first | (rw [decide_eq_true (by omega)]; rfl) | (rw [decide_eq_false (by omega)]; rfl)
theorem m_stops {M : MW} {op : Nat} (h : op < 256) : f_X6_stops (op : Int) M = some (b2i (isLa op), M) := by
  unfold f_X6_stops isLa
  simp (disch := omega) only [↓mB_in, ↓ite_b, decide_eq_true_eq, w32_i]
  repeat' split
  all_goals first | (rw [decide_eq_true (by omega)]; rfl) | (rw [decide_eq_false (by omega)]; rfl)
/-! what the model holds of fields and methods -/
def FOK (F : FT) (H : HT) : Prop := fN F ≤ 16 ∧ (∀ i, i < fN F → fC F i < hn H ∧ tyT (hn H) (fT F i) = true) ∧ ∀ i, fN F ≤ i → fT F i = 0
def MF (M : MW) (F : FT) : Prop := mI M 0 4 = (fN F : Int) ∧ ∀ i, i < 16 → mI M 3 i = (fC F i : Int) ∧ mI M 4 i = (fT F i : Int) ∧ mI M 5 i = b2i (fS F i)
def SgO (n : Nat) (m : MR) : Prop := (rA m).length ≤ 4 ∧ (∀ t ∈ rA m, tyT n t = true) ∧ (rR m = 0 ∨ tyT n (rR m) = true) ∧ rN m ≤ 120 ∧ rS m ≤ 12 ∧ rL m ≤ 12 ∧ ∀ p, rC m p < 256
def MSg (M : MW) (i : Nat) (m : MR) : Prop := mI M 7 i = ((rA m).length : Int) ∧ (∀ k (t : Nat), (rA m)[k]? = some t → mI M 6 (4 * i + k) = (t : Int)) ∧ mI M 8 i = (rR m : Int) ∧ mI M 9 i = (rN m : Int) ∧ mI M 11 i = (rS m : Int) ∧ mI M 12 i = (rL m : Int) ∧ ∀ p, p < 120 → mI M 10 (120 * i + p) = (rC m p : Int)
/-- the context of an instruction: method a, place p -/
def SMx (M : MW) (x : VC) (a : Nat) : Prop :=
  MH M (xH_ x) ∧ (MF M (xF_ x) ∧ FOK (xF_ x) (xH_ x)) ∧ (mI M 0 8 = ((xM_ x).length : Int) ∧ (xM_ x).length ≤ 8 ∧ ∀ i m, (xM_ x)[i]? = some m → SgO (hn (xH_ x)) m ∧ MSg M i m) ∧ a < 8 ∧ mI M 0 33 = (a : Int) ∧ (xM_ x)[a]? = some (xm_ x)
/-- nothing changed but what an instruction is tried on -/
def FrS (M0 M : MW) : Prop := mJ M = mJ M0 ∧ (∀ k j, k ≠ 0 → k ≠ 29 → k ≠ 31 → mI M k j = mI M0 k j) ∧ ∀ j, j ≠ 40 → j ≠ 35 → mI M 0 j = mI M0 0 j
theorem FrS.rfl' (M : MW) : FrS M M := ⟨rfl, fun _ _ _ _ _ => rfl, fun _ _ _ => rfl⟩
theorem FrS.tr {M0 M1 M2 : MW} (h : FrS M0 M1) (k : FrS M1 M2) : FrS M0 M2 := ⟨k.1.trans h.1, fun a b c d e => (k.2.1 a b c d e).trans (h.2.1 a b c d e), fun a b c => (k.2.2 a b c).trans (h.2.2 a b c)⟩
theorem SMx.mv {M0 M : MW} {x : VC} {a : Nat} (h : SMx M0 x a) (f : FrS M0 M) : SMx M x a := by
  obtain ⟨_, f1, f2⟩ := f
  obtain ⟨⟨a1, a2, a3, a4⟩, ⟨⟨b1, b2⟩, b3⟩, ⟨c1, c2, c3⟩, d1, d2, d3⟩ := h
  refine ⟨⟨a1, by rw [f2 _ (by omega) (by omega)]; exact a2, fun k hk => by rw [f1 _ _ (by omega) (by omega) (by omega)]; exact a3 k hk, fun k hk => by rw [f1 _ _ (by omega) (by omega) (by omega)]; exact a4 k hk⟩, ⟨⟨by rw [f2 _ (by omega) (by omega)]; exact b1, fun i hi => ?_⟩, b3⟩, ⟨by rw [f2 _ (by omega) (by omega)]; exact c1, c2, fun i m hm => ?_⟩, d1, by rw [f2 _ (by omega) (by omega)]; exact d2, d3⟩
  · rw [f1 _ _ (by omega) (by omega) (by omega), f1 _ _ (by omega) (by omega) (by omega), f1 _ _ (by omega) (by omega) (by omega)]
    exact b2 i hi
  · obtain ⟨e0, e1, e2, e3, e4, e5, e6, e7⟩ := c3 i m hm
    refine ⟨e0, by rw [f1 _ _ (by omega) (by omega) (by omega)]; exact e1, fun k t ht => by rw [f1 _ _ (by omega) (by omega) (by omega)]; exact e2 k t ht, by rw [f1 _ _ (by omega) (by omega) (by omega)]; exact e3, by rw [f1 _ _ (by omega) (by omega) (by omega)]; exact e4, by rw [f1 _ _ (by omega) (by omega) (by omega)]; exact e5, by rw [f1 _ _ (by omega) (by omega) (by omega)]; exact e6, fun p hp => by rw [f1 _ _ (by omega) (by omega) (by omega)]; exact e7 p hp⟩
/-- a stack's entry from below -/
def nth : List Nat → Nat → Nat
  | [], _ => 0
  | t :: l, k => if k = l.length then t else nth l k
def WTs (n sz : Nat) (s : TS) : Prop := (∀ k, tyV n sz (s.1 k)) ∧ ∀ t ∈ s.2, tyV n sz t
def xz (x : VC) : Nat := rN (xm_ x)
def SimM (M0 M : MW) (x : VC) (s : TS) : Prop :=
  FrS M0 M ∧ (∀ k, k < rL (xm_ x) → mI M 29 k = (s.1 k : Int)) ∧ (∀ k, k < s.2.length → mI M 31 k = (nth s.2 k : Int)) ∧ mI M 0 40 = (s.2.length : Int) ∧ mI M 0 35 = 0 ∧ WTs (hn (xH_ x)) (xz x) s ∧ wds s.2 ≤ rS (xm_ x) ∧ ∀ k, rL (xm_ x) ≤ k → s.1 k = 0
def BadM (M0 M : MW) (b : Nat) : Prop := FrS M0 M ∧ (∃ c : Nat, c ≤ 13 ∧ mI M 0 40 = (c : Int)) ∧ mI M 0 35 = (b : Int) ∧ 0 < b ∧ b < 11
def SE (M0 M : MW) (x : VC) (r : Nat ⊕ TS) : Prop := match r with
  | .inl b => BadM M0 M b
  | .inr s => SimM M0 M x s
def SV (M0 M : MW) (x : VC) (v : Int) (r : Nat ⊕ (Nat × TS)) : Prop := match r with
  | .inl b => BadM M0 M b
  | .inr a => v = (a.1 : Int) ∧ SimM M0 M x a.2 ∧ tyV (hn (xH_ x)) (xz x) a.1
theorem SE.fr {M0 M : MW} {x : VC} {r : Nat ⊕ TS} (h : SE M0 M x r) : FrS M0 M := by
  cases r with
  | inl b => exact h.1
  | inr s => exact h.1
theorem SV.fr {M0 M : MW} {x : VC} {v : Int} {r : Nat ⊕ (Nat × TS)} (h : SV M0 M x v r) : FrS M0 M := by
  cases r with
  | inl b => exact h.1
  | inr s => exact h.2.1.1
theorem wds_len (l : List Nat) : l.length ≤ wds l := by
  induction l with
  | nil => exact Nat.le_refl _
  | cons t l ih =>
    show l.length + 1 ≤ (if t = 2 then 2 else 1) + wds l
    split <;> omega
theorem sB_a {α β δ γ : Type} (r : γ ⊕ α) (f : α → γ ⊕ β) (g : β → γ ⊕ δ) : sB (sB r f) g = sB r (fun a => sB (f a) g) := by cases r <;> rfl
theorem sB_i {α β γ : Type} (a : α) (f : α → γ ⊕ β) : sB (.inr a) f = f a := rfl
theorem sB_l {α β γ : Type} (n : γ) (f : α → γ ⊕ β) : sB (.inl n) f = .inl n := rfl
theorem sB_id {α γ : Type} (r : γ ⊕ α) : sB r (fun a => .inr a) = r := by cases r <;> rfl
/-! the first fault stays -/
def bO {α : Type} (r : Nat ⊕ α) (n : Nat) : Nat := match r with
  | .inl b => b
  | .inr _ => n
theorem m_miss {M0 M : MW} {x : VC} {r : Nat ⊕ TS} (h : SE M0 M x r) (hS : rS (xm_ x) ≤ 12) (n : Nat) (hn : 0 < n ∧ n < 11) : ∃ M', f_X6_miss (n : Int) M = some ((), M') ∧ BadM M0 M' (bO r n) := by
  unfold f_X6_miss
  cases r with
  | inl b =>
    obtain ⟨h1, h2, h3, h4, h5⟩ := h
    rw [rd_k, h3, w32_n _ (by omega), if_neg (by omega), rd_k, rd_k]
    refine ⟨_, rfl, ⟨h1.1, fun k j c d e => ?_, fun j c d => ?_⟩, ?_, mI_s rfl, h4, h5⟩
    · rw [mI_o (Or.inl c)]; exact h1.2.1 k j c d e
    · rw [mI_o (Or.inr d)]; exact h1.2.2 j c d
    · obtain ⟨c, hc, e⟩ := h2
      exact ⟨c, hc, by rw [mI_o (by omega)]; exact e⟩
  | inr s =>
    obtain ⟨h1, h2, h3, h4, h5, h6, h7, h8⟩ := h
    rw [rd_k, h5, if_pos (by decide), rd_k]
    refine ⟨_, rfl, ⟨h1.1, fun k j c d e => ?_, fun j c d => ?_⟩, ?_, mI_s rfl, hn.1, hn.2⟩
    · rw [mI_o (Or.inl c)]; exact h1.2.1 k j c d e
    · rw [mI_o (Or.inr d)]; exact h1.2.2 j c d
    · have := wds_len s.2
      exact ⟨s.2.length, by omega, by rw [mI_o (by omega)]; exact h4⟩
