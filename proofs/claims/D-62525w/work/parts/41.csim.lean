/-! LAYER C: the component's instruction on types: the world around it, faults -/
/-- an ArrayList holds these references -/
def ALs (C : CW) (q : Nat) (l : List Nat) : Prop := hK C q = 15 ∧ hI C q 2 = (l.length : Int) ∧ l.length < 1000000 ∧ ∃ a, hR C q 1 = some a ∧ hK C a = 68 ∧ l.length ≤ hL C a ∧ hL C a < 1000000000 ∧ ∀ i (r : Nat), l[i]? = some r → hR C a i = some r
def FdC (C : CW) (q : Nat) (F : FT) (i : Nat) : Prop := hK C q = 8 ∧ hI C q 0 = (i : Int) ∧ hI C q 1 = (fC F i : Int) ∧ hI C q 2 = (fT F i : Int) ∧ hI C q 3 = b2i (fS F i)
/-- a method's object: what was told of it, its code -/
def MsC (C : CW) (q : Nat) (m : MR) : Prop := hK C q = 7 ∧
  (∃ aa, hR C q 0 = some aa ∧ hB C + 77 < aa ∧ hK C aa = 64 ∧ hL C aa = (rA m).length ∧ ∀ k (t : Nat), (rA m)[k]? = some t → hI C aa k = (t : Int)) ∧
  hI C q 1 = (rR m : Int) ∧ (rN m = 0 → hR C q 2 = none) ∧
  (0 < rN m → ∃ ac, hR C q 2 = some ac ∧ hK C ac = 67 ∧ hL C ac = rN m ∧ ∀ p, p < rN m → iAnd (hI C ac p) 255 = (rC m p : Int)) ∧
  hI C q 3 = (rS m : Int) ∧ hI C q 4 = (rL m : Int)
/-- the objects of a state: locals, stack -/
def StO (C : CW) (q l s : Nat) : Prop := hK C q = 6 ∧ hR C q 0 = some l ∧ hR C q 1 = some s ∧ hK C l = 64 ∧ hL C l = 12 ∧ hK C s = 64 ∧ hL C s = 12
/-- the context of an instruction: the method's object, the place -/
def SCx (C : CW) (x : VC) (qf qs : List Nat) (qm : Nat) (p : Nat) : Prop :=
  CH C (xH_ x) ∧ (ALs C (hB C + 4) qf ∧ qf.length = fN (xF_ x) ∧ (∀ (i q : Nat), qf[i]? = some q → FdC C q (xF_ x) i) ∧ FOK (xF_ x) (xH_ x)) ∧
  (ALs C (hB C + 5) qs ∧ qs.length = (xM_ x).length ∧ (xM_ x).length ≤ 8 ∧ (∀ (i q : Nat) m, qs[i]? = some q → (xM_ x)[i]? = some m → MsC C q m) ∧ ∀ (i : Nat) m, (xM_ x)[i]? = some m → SgO (hn (xH_ x)) m) ∧
  (cR C 204 7 = some qm ∧ MsC C qm (xm_ x) ∧ SgO (hn (xH_ x)) (xm_ x) ∧ 0 < rN (xm_ x)) ∧ cI C 204 8 = (p : Int) ∧ StO C (hB C + 8) (hB C + 9) (hB C + 10) ∧ 77 < hZ C ∧ hZ C + 1 ≤ 600384 ∧ hS C + 8 ≤ 7290858
/-- nothing changed but the ints of the state that is tried on -/
def FrN (C0 C : CW) : Prop := cI C = cI C0 ∧ cJ C = cJ C0 ∧ cR C = cR C0 ∧ hK C = hK C0 ∧ hL C = hL C0 ∧ (∀ q, q ≠ hB C0 + 8 → q ≠ hB C0 + 9 → q ≠ hB C0 + 10 → hI C q = hI C0 q) ∧ hJ C = hJ C0 ∧ hR C = hR C0 ∧ hB C = hB C0 ∧ hZ C = hZ C0 ∧ hS C = hS C0 ∧ hE C = hE C0
theorem FrN.r (C : CW) : FrN C C := ⟨rfl, rfl, rfl, rfl, rfl, fun _ _ _ _ => rfl, rfl, rfl, rfl, rfl, rfl, rfl⟩
theorem FrN.st {C0 C : CW} (h : FrN C0 C) {q i : Nat} {v : Int} (hq : q = hB C0 + 8 ∨ q = hB C0 + 9 ∨ q = hB C0 + 10) : FrN C0 (hsI C q i v) := by
  obtain ⟨h1, h2, h3, h4, h5, h6, h7, h8, h9, ha, hb, hc⟩ := h
  refine ⟨h1, h2, h3, h4, h5, fun q' a b c => ?_, h7, h8, h9, ha, hb, hc⟩
  rw [← h6 q' a b c]
  funext j
  exact hI_ohsI (Or.inl (by omega))
theorem ALs.mv {C C' : CW} {q : Nat} {l : List Nat} (h : ALs C q l) (h1 : hK C' = hK C) (h2 : hL C' = hL C) (h3 : hR C' = hR C) (h4 : hI C' q = hI C q) : ALs C' q l := by
  unfold ALs at *
  rw [h1, h2, h3, h4]
  exact h
theorem SCx.mv {C0 C : CW} {x : VC} {qf qs : List Nat} {qm p : Nat} (c : SCx C0 x qf qs qm p) (f : FrN C0 C) : SCx C x qf qs qm p := by
  obtain ⟨f1, f2, f3, f4, f5, f6, f7, f8, f9, fa, fb, fc⟩ := f
  obtain ⟨c1, ⟨a1, a2, a3, a4⟩, ⟨b1, b2, b3, b4, b5⟩, ⟨d1, d2, d3, d4⟩, e1, e2, e3, e4, e5⟩ := c
  have ne : ∀ q, hK C0 q ≠ 6 → hK C0 q ≠ 64 → hI C q = hI C0 q := by
    intro q h1 h2
    refine f6 q (fun h => ?_) (fun h => ?_) (fun h => ?_)
    · subst h; exact h1 e2.1
    · subst h; exact h2 e2.2.2.2.1
    · subst h; exact h2 e2.2.2.2.2.2.1
  have mm : ∀ q m, MsC C0 q m → MsC C q m := by
    intro q m ⟨g1, ⟨aa, g2, g3, g4, g5, g6⟩, g7, g8, g9, ga, gb⟩
    have eq := ne q (by omega) (by omega)
    refine ⟨by rw [f4]; exact g1, ⟨aa, by rw [f8]; exact g2, by rw [f9]; exact g3, by rw [f4]; exact g4, by rw [f5]; exact g5, fun k t ht => ?_⟩, by rw [eq]; exact g7, fun h => by rw [f8]; exact g8 h, fun h => ?_, by rw [eq]; exact ga, by rw [eq]; exact gb⟩
    · rw [f6 aa (by omega) (by omega) (by omega)]; exact g6 k t ht
    · obtain ⟨ac, k1, k2, k3, k4⟩ := g9 h
      exact ⟨ac, by rw [f8]; exact k1, by rw [f4]; exact k2, by rw [f5]; exact k3, fun p hp => by rw [ne ac (by omega) (by omega)]; exact k4 p hp⟩
  refine ⟨?_, ⟨?_, a2, fun i q hq => ?_, a4⟩, ⟨?_, b2, b3, fun i q m h1 h2 => mm q m (b4 i q m h1 h2), b5⟩, ⟨by rw [f3]; exact d1, mm _ _ d2, d3, d4⟩, by rw [f1]; exact e1, ?_, by rw [fa]; exact e3, by rw [fa]; exact e4, by rw [fb]; exact e5⟩
  · unfold CH at *
    rw [f1]; exact c1
  · rw [f9]; exact a1.mv f4 f5 f8 (ne _ (by rw [a1.1]; decide) (by rw [a1.1]; decide))
  · obtain ⟨g1, g2, g3, g4, g5⟩ := a3 i q hq
    have eq := ne q (by omega) (by omega)
    unfold FdC
    rw [f4, eq]
    exact ⟨g1, g2, g3, g4, g5⟩
  · rw [f9]; exact b1.mv f4 f5 f8 (ne _ (by rw [b1.1]; decide) (by rw [b1.1]; decide))
  · unfold StO at *
    rw [f4, f5, f8, f9]; exact e2
/-- the state that is tried on -/
def SimC (C0 C : CW) (x : VC) (s : TS) : Prop :=
  FrN C0 C ∧ (∀ k, k < 12 → hI C (hB C0 + 9) k = (s.1 k : Int)) ∧ (∀ k, k < s.2.length → hI C (hB C0 + 10) k = (nth s.2 k : Int)) ∧ hI C (hB C0 + 8) 2 = (s.2.length : Int) ∧ hI C (hB C0 + 8) 3 = (wds s.2 : Int) ∧ WTs (hn (xH_ x)) (xz x) s ∧ wds s.2 ≤ rS (xm_ x) ∧ ∀ k, rL (xm_ x) ≤ k → s.1 k = 0
/-- a new cell q of kind K stands in C', with w slots; all else is C's -/
def NwX (C C' : CW) (q K w : Nat) : Prop := q = hB C + hZ C ∧ hK C' q = K ∧ cI C' = cI C ∧ cJ C' = cJ C ∧ cR C' = cR C ∧ hB C' = hB C ∧ hZ C' = hZ C + 1 ∧ hS C' = hS C + w ∧ hE C' = hE C ∧ ∀ q', q' ≠ q → hK C' q' = hK C q' ∧ hL C' q' = hL C q' ∧ hI C' q' = hI C q' ∧ hJ C' q' = hJ C q' ∧ hR C' q' = hR C q'
theorem c_J3 {C : CW} {q K : Nat} (hK' : hK C q = K) (hc : exK (K - 1) = true) (hK1 : 0 < K) (h4 : hR C q 4 = none) : f_J3_init q C = some ((), hsR (hsR (hsR C q 0 (some q)) q 1 (hE C 1)) q 2 (hE C 2)) := by
  unfold f_J3_init
  rw [hK', hc, h4, show decide (K = K - 1 + 1) = true from decide_eq_true (by omega)]
  rfl
/-- a new exception's cell after Throwable() -/
theorem c_excNew {C : CW} {K w : Nat} (hc : exK (K - 1) = true) (hK1 : 0 < K) : ∃ C', f_J3_init (hB C + hZ C) (hNew C K 0 w) = some ((), C') ∧ NwX C C' (hB C + hZ C) K w ∧ ∀ i, hI C' (hB C + hZ C) i = 0 := by
  have hk : hK (hNew C K 0 w) (hB C + hZ C) = K := hK_sN rfl
  have hr : hR (hNew C K 0 w) (hB C + hZ C) 4 = none := hR_sN rfl
  refine ⟨_, c_J3 hk hc hK1 hr, ⟨rfl, hk, rfl, rfl, rfl, rfl, rfl, rfl, rfl, fun q' hq' => ⟨?_, ?_, ?_, ?_, ?_⟩⟩, fun i => ?_⟩
  · show hK (hNew C K 0 w) q' = _
    exact hK_oN hq'
  · show hL (hNew C K 0 w) q' = _
    exact hL_oN hq'
  · show hI (hNew C K 0 w) q' = _
    exact hI_oN hq'
  · show hJ (hNew C K 0 w) q' = _
    exact hJ_oN hq'
  · funext j
    rw [hR_ohsR (Or.inl hq'), hR_ohsR (Or.inl hq'), hR_ohsR (Or.inl hq'), hR_oN hq']
  · show hI (hNew C K 0 w) (hB C + hZ C) i = 0
    exact hI_sN rfl
theorem c_hold {C : CW} (g : Bool) (n p : Int) (r1 : hZ C + 1 ≤ 600384) (r2 : hS C + 8 ≤ 7290858) : (g = true ∧ f_X1_hold (b2i g) n p C = some (.inr (), C)) ∨ (g = false ∧ ∃ C', f_X1_hold (b2i g) n p C = some (.inl (hB C + hZ C), C') ∧ NwX C C' (hB C + hZ C) 13 8 ∧ hI C' (hB C + hZ C) 6 = n ∧ hI C' (hB C + hZ C) 7 = p) := by
  cases g with
  | true => exact Or.inl ⟨rfl, by unfold f_X1_hold; rw [if_neg (by decide)]⟩
  | false =>
    refine Or.inr ⟨rfl, ?_⟩
    unfold f_X1_hold f_X10_init f_J5_init f_J4_init
    obtain ⟨C1, e1, ⟨k1, k2, k3, k4, k5, k6, k7, k8, k9, ka⟩, kb⟩ := c_excNew (C := C) (K := 13) (w := 8) (by decide) (by decide)
    rw [if_pos (by decide), al_k ⟨r1, r2⟩, rd_k, dr_k, dr_k, dr_k, dr_k, e1, cB_k, cB_k, cB_k, dr_k, gd_e k2, rd_k, dr_k]
    have k2' : hK (hsI C1 (hB C + hZ C) 6 n) (hB C + hZ C) = 13 := k2
    rw [gd_e k2', rd_k, cB_k, dr_k]
    refine ⟨_, rfl, ⟨rfl, k2, k3, k4, k5, k6, k7, k8, k9, fun q' hq' => ⟨(ka q' hq').1, (ka q' hq').2.1, ?_, (ka q' hq').2.2.2.1, (ka q' hq').2.2.2.2⟩⟩, ?_, ?_⟩
    · funext j
      rw [hI_ohsI (Or.inl hq'), hI_ohsI (Or.inl hq'), (ka q' hq').2.2.1]
    · rw [hI_ohsI (by omega), hI_shsI rfl]
    · rw [hI_shsI rfl]
/-- a fault b at p was thrown out of C0's instruction: the exception's cell is q -/
def FXc (C0 C' : CW) (q b : Nat) (p : Int) : Prop := ∃ C, FrN C0 C ∧ NwX C C' q 13 8 ∧ hI C' q 6 = (b : Int) ∧ hI C' q 7 = p
def RX (C0 : CW) (x : VC) (p : Nat) (r : Nat ⊕ TS) (o : Option ((Nat ⊕ Unit) × CW)) : Prop := match r with
  | .inl b => ∃ q C', o = some (.inl q, C') ∧ FXc C0 C' q b p
  | .inr s => ∃ C', o = some (.inr (), C') ∧ SimC C0 C' x s
def RV (C0 : CW) (x : VC) (p : Nat) (r : Nat ⊕ (Nat × TS)) (o : Option ((Nat ⊕ Int) × CW)) : Prop := match r with
  | .inl b => ∃ q C', o = some (.inl q, C') ∧ FXc C0 C' q b p
  | .inr a => ∃ C', o = some (.inr (a.1 : Int), C') ∧ SimC C0 C' x a.2 ∧ tyV (hn (xH_ x)) (xz x) a.1
theorem RX.bind {C0 : CW} {x : VC} {p : Nat} {r : Nat ⊕ TS} {o : Option ((Nat ⊕ Unit) × CW)} {κs : TS → Nat ⊕ TS} {κ : Unit → CW → Option ((Nat ⊕ Unit) × CW)} (h : RX C0 x p r o) (k : ∀ s C', r = .inr s → SimC C0 C' x s → RX C0 x p (κs s) (κ () C')) : RX C0 x p (sB r κs) (xB o κ) := by
  cases r with
  | inl b =>
    obtain ⟨q, C', e, f⟩ := h
    exact ⟨q, C', by rw [e, xB_l], f⟩
  | inr s =>
    obtain ⟨C', e, f⟩ := h
    rw [e, xB_r, sB_i]
    exact k s C' rfl f
theorem RV.bind {C0 : CW} {x : VC} {p : Nat} {r : Nat ⊕ (Nat × TS)} {o : Option ((Nat ⊕ Int) × CW)} {κs : Nat × TS → Nat ⊕ TS} {κ : Int → CW → Option ((Nat ⊕ Unit) × CW)} (h : RV C0 x p r o) (k : ∀ t s C', r = .inr (t, s) → SimC C0 C' x s → tyV (hn (xH_ x)) (xz x) t → RX C0 x p (κs (t, s)) (κ (t : Int) C')) : RX C0 x p (sB r κs) (xB o κ) := by
  cases r with
  | inl b =>
    obtain ⟨q, C', e, f⟩ := h
    exact ⟨q, C', by rw [e, xB_l], f⟩
  | inr a =>
    obtain ⟨C', e, f, g⟩ := h
    rw [e, xB_r, sB_i]
    exact k a.1 a.2 C' rfl f g
theorem RV.bindV {C0 : CW} {x : VC} {p : Nat} {r : Nat ⊕ (Nat × TS)} {o : Option ((Nat ⊕ Int) × CW)} {κs : Nat × TS → Nat ⊕ (Nat × TS)} {κ : Int → CW → Option ((Nat ⊕ Int) × CW)} (h : RV C0 x p r o) (k : ∀ t s C', r = .inr (t, s) → SimC C0 C' x s → tyV (hn (xH_ x)) (xz x) t → RV C0 x p (κs (t, s)) (κ (t : Int) C')) : RV C0 x p (sB r κs) (xB o κ) := by
  cases r with
  | inl b =>
    obtain ⟨q, C', e, f⟩ := h
    exact ⟨q, C', by rw [e, xB_l], f⟩
  | inr a =>
    obtain ⟨C', e, f, g⟩ := h
    rw [e, xB_r, sB_i]
    exact k a.1 a.2 C' rfl f g
theorem c_need {C0 C : CW} {x : VC} {qf qs : List Nat} {qm p : Nat} (c : SCx C0 x qf qs qm p) (f : FrN C0 C) (g : Bool) (n : Nat) : (g = true ∧ f_X3_need (b2i g) n C = some (.inr (), C)) ∨ (g = false ∧ ∃ q C', f_X3_need (b2i g) n C = some (.inl q, C') ∧ FXc C0 C' q n p) := by
  have cC := c.mv f
  unfold f_X3_need
  rw [rd_k, cC.2.2.2.2.1]
  rcases c_hold (C := C) g n p cC.2.2.2.2.2.2.2.1 cC.2.2.2.2.2.2.2.2 with ⟨h1, h2⟩ | ⟨h1, C', h2, h3, h4, h5⟩
  · exact Or.inl ⟨h1, by rw [h2, xB_r]⟩
  · exact Or.inr ⟨h1, _, C', by rw [h2, xB_l], C, f, h3, h4, h5⟩
/-- a check, then more -/
theorem RX.need {C0 C : CW} {x : VC} {qf qs : List Nat} {qm p : Nat} {s : TS} {κs : TS → Nat ⊕ TS} {κ : Unit → CW → Option ((Nat ⊕ Unit) × CW)} (c : SCx C0 x qf qs qm p) (f : FrN C0 C) (g : Bool) (n : Nat) (z : Int) (hz : z = b2i g) (w : Int) (hw : w = (n : Int)) (k : g = true → RX C0 x p (κs s) (κ () C)) : RX C0 x p (if g = true then κs s else .inl n) (xB (f_X3_need z w C) κ) := by
  subst hz hw
  rcases c_need c f g n with ⟨h1, h2⟩ | ⟨h1, q, C', h2, h3⟩
  · rw [h2, xB_r, h1, if_pos rfl]
    exact k h1
  · rw [h2, xB_l, h1, if_neg (by decide)]
    exact ⟨q, C', rfl, h3⟩
theorem RV.need {C0 C : CW} {x : VC} {qf qs : List Nat} {qm p : Nat} {r : Nat ⊕ (Nat × TS)} {κ : Unit → CW → Option ((Nat ⊕ Int) × CW)} (c : SCx C0 x qf qs qm p) (f : FrN C0 C) (g : Bool) (n : Nat) (z : Int) (hz : z = b2i g) (w : Int) (hw : w = (n : Int)) (k : g = true → RV C0 x p r (κ () C)) : RV C0 x p (if g = true then r else .inl n) (xB (f_X3_need z w C) κ) := by
  subst hz hw
  rcases c_need c f g n with ⟨h1, h2⟩ | ⟨h1, q, C', h2, h3⟩
  · rw [h2, xB_r, h1, if_pos rfl]
    exact k h1
  · rw [h2, xB_l, h1, if_neg (by decide)]
    exact ⟨q, C', rfl, h3⟩
