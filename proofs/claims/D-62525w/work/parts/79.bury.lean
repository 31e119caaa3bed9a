/-! LAYER C: dead rows, in plain words -/
def liv (B : Nat → Bool) (T : Nat → Option TS) (p : Nat) : Bool := B p && (T p).isSome
def ded (B : Nat → Bool) (T : Nat → Option TS) (p : Nat) : Bool := B p && (T p).isNone
def rend (N : Nat) (B : Nat → Bool) (T : Nat → Option TS) : Nat → Nat → Nat
  | 0, q => q
  | n + 1, q => if N ≤ q then q else if liv B T q = true then q else rend N B T n (q + 1)
def cut1 (a b : Nat) (h : HD) : List HD := if dT h ≤ a ∨ b ≤ dF h then [h] else (if dF h < a then [(dF h, a, dP h, dC h)] else []) ++ (if b < dT h then [(b, dT h, dP h, dC h)] else [])
def cuts (a b : Nat) (hs : List HD) : List HD := hs.flatMap (cut1 a b)
def bu1 (N : Nat) (B : Nat → Bool) (T : Nat → Option TS) : Nat → Nat → List HD → (Nat × Nat) ⊕ List HD
  | 0, _, hs => .inr hs
  | n + 1, p, hs => if N ≤ p then .inr hs else if ded B T p = true then (if 12 < (cuts p (rend N B T 121 p) hs).length then .inl (10, p) else bu1 N B T n (rend N B T 121 p) (cuts p (rend N B T 121 p) hs)) else bu1 N B T n (p + 1) hs
/-- code, begins, dead rows, maxStack -/
abbrev BS : Type := (Nat → Nat) × (Nat → Bool) × (Nat → Bool) × Nat
def rowS (p e : Nat) (z : BS) : BS := (fun k => if p ≤ k ∧ k < e then (if k + 1 = e then 191 else 0) else z.1 k, fun k => if p ≤ k ∧ k < e then false else z.2.1 k, up1 z.2.2.1 p true, if z.2.2.2 = 0 then 1 else z.2.2.2)
def bu2 (N : Nat) (B : Nat → Bool) (T : Nat → Option TS) : Nat → Nat → BS → BS
  | 0, _, z => z
  | n + 1, p, z => if N ≤ p then z else if ded B T p = true then bu2 N B T n (rend N B T 121 p) (rowS p (rend N B T 121 p) z) else bu2 N B T n (p + 1) z
theorem liv_ded {B : Nat → Bool} {T : Nat → Option TS} {p : Nat} (h : ded B T p = true) : liv B T p = false := by
  unfold ded at h
  unfold liv
  rw [Bool.and_eq_true] at h
  cases e : T p with
  | none => rw [Option.isSome_none, Bool.and_false]
  | some s => rw [e, Option.isNone_some] at h; exact absurd h.2 (by decide)
theorem rend_ge {N : Nat} {B : Nat → Bool} {T : Nat → Option TS} : ∀ n p, p ≤ rend N B T n p
  | 0, p => Nat.le_refl _
  | n + 1, p => by
    unfold rend
    split
    · exact Nat.le_refl _
    · split
      · exact Nat.le_refl _
      · have := rend_ge (N := N) (B := B) (T := T) n (p + 1); omega
theorem rend_le {N : Nat} {B : Nat → Bool} {T : Nat → Option TS} : ∀ n p, p ≤ N → rend N B T n p ≤ N
  | 0, p, h => h
  | n + 1, p, h => by
    unfold rend
    split
    · exact h
    · split
      · exact h
      · exact rend_le n (p + 1) (by omega)
theorem rend_f {N : Nat} {B : Nat → Bool} {T : Nat → Option TS} : ∀ n n' p, N < n + p → N < n' + p → rend N B T n p = rend N B T n' p
  | 0, 0, _, _, _ => rfl
  | 0, n' + 1, p, h, _ => by unfold rend; rw [if_pos (by omega)]
  | n + 1, 0, p, _, h => by unfold rend; rw [if_pos (by omega)]
  | n + 1, n' + 1, p, h, h' => by
    unfold rend
    rw [rend_f n n' (p + 1) (by omega) (by omega)]
theorem rend_s {N : Nat} {B : Nat → Bool} {T : Nat → Option TS} : ∀ (d n n' p : Nat), N < n + p → N < n' + (p + d) → p + d ≤ N → (∀ r, p ≤ r → r < p + d → liv B T r = false) → rend N B T n p = rend N B T n' (p + d)
  | 0, n, n', p, h, h', _, _ => rend_f n n' p h h'
  | d + 1, 0, n', p, h, h', hd, hr => by omega
  | d + 1, n + 1, n', p, h, h', hd, hr => by
    have e : p + (d + 1) = p + 1 + d := by omega
    have b0 := hr p (Nat.le_refl _) (by omega)
    rw [e, ← rend_s d n n' (p + 1) (by omega) (by omega) (by omega) (fun r h1 h2 => hr r (by omega) (by omega))]
    show (if N ≤ p then p else if liv B T p = true then p else rend N B T n (p + 1)) = _
    rw [if_neg (by omega), b0, if_neg (by decide)]
theorem rend_lv {N : Nat} {B : Nat → Bool} {T : Nat → Option TS} : ∀ n p, N < n + p → rend N B T n p < N → liv B T (rend N B T n p) = true
  | 0, p, h, h2 => by unfold rend at h2; omega
  | n + 1, p, h, h2 => by
    unfold rend at h2 ⊢
    split
    · rename_i h3; rw [if_pos h3] at h2; omega
    · rename_i h3
      rw [if_neg h3] at h2
      split
      · rename_i h4; exact h4
      · rename_i h4
        rw [if_neg h4] at h2
        exact rend_lv n (p + 1) (by omega) h2
theorem rend_nl {N : Nat} {B : Nat → Bool} {T : Nat → Option TS} : ∀ n p r, p ≤ r → r < rend N B T n p → liv B T r = false
  | 0, p, r, h1, h2 => by unfold rend at h2; omega
  | n + 1, p, r, h1, h2 => by
    unfold rend at h2
    split at h2
    · omega
    · split at h2
      · omega
      · rename_i h4
        by_cases e : r = p
        · rw [e]; cases h : liv B T p with
          | true => exact absurd h h4
          | false => rfl
        · exact rend_nl n (p + 1) r (by omega) h2
theorem rend_gt {N : Nat} {B : Nat → Bool} {T : Nat → Option TS} {p : Nat} (h : ded B T p = true) (hp : p < N) : p < rend N B T 121 p := by
  show p < (if N ≤ p then p else if liv B T p = true then p else rend N B T 120 (p + 1))
  rw [if_neg (by omega), liv_ded h, if_neg (by decide)]
  have := rend_ge (N := N) (B := B) (T := T) 120 (p + 1)
  omega
theorem bu1_f {N : Nat} {B : Nat → Bool} {T : Nat → Option TS} : ∀ n n' p hs, N < n + p → N < n' + p → bu1 N B T n p hs = bu1 N B T n' p hs
  | 0, 0, _, _, _, _ => rfl
  | 0, n' + 1, p, hs, h, _ => by unfold bu1; rw [if_pos (by omega)]
  | n + 1, 0, p, hs, _, h => by unfold bu1; rw [if_pos (by omega)]
  | n + 1, n' + 1, p, hs, h, h' => by
    unfold bu1
    by_cases e : N ≤ p
    · rw [if_pos e, if_pos e]
    rw [if_neg e, if_neg e, bu1_f n n' (p + 1) hs (by omega) (by omega)]
    by_cases e2 : ded B T p = true
    · have := rend_gt e2 (show p < N by omega)
      rw [if_pos e2, if_pos e2, bu1_f n n' (rend N B T 121 p) _ (by omega) (by omega)]
    · rw [if_neg e2, if_neg e2]
theorem bu1_s {N : Nat} {B : Nat → Bool} {T : Nat → Option TS} {hs : List HD} : ∀ (d n n' p : Nat), N < n + p → N < n' + (p + d) → p + d ≤ N → (∀ r, p ≤ r → r < p + d → ded B T r = false) → bu1 N B T n p hs = bu1 N B T n' (p + d) hs
  | 0, n, n', p, h, h', _, _ => bu1_f n n' p hs h h'
  | d + 1, 0, n', p, h, h', hd, hr => by omega
  | d + 1, n + 1, n', p, h, h', hd, hr => by
    have e : p + (d + 1) = p + 1 + d := by omega
    have b0 := hr p (Nat.le_refl _) (by omega)
    rw [e, ← bu1_s d n n' (p + 1) (by omega) (by omega) (by omega) (fun r h1 h2 => hr r (by omega) (by omega))]
    show (if N ≤ p then _ else if ded B T p = true then _ else bu1 N B T n (p + 1) hs) = _
    rw [if_neg (by omega), b0, if_neg (by decide)]
theorem bu2_f {N : Nat} {B : Nat → Bool} {T : Nat → Option TS} : ∀ n n' p z, N < n + p → N < n' + p → bu2 N B T n p z = bu2 N B T n' p z
  | 0, 0, _, _, _, _ => rfl
  | 0, n' + 1, p, z, h, _ => by unfold bu2; rw [if_pos (by omega)]
  | n + 1, 0, p, z, _, h => by unfold bu2; rw [if_pos (by omega)]
  | n + 1, n' + 1, p, z, h, h' => by
    unfold bu2
    by_cases e : N ≤ p
    · rw [if_pos e, if_pos e]
    rw [if_neg e, if_neg e, bu2_f n n' (p + 1) z (by omega) (by omega)]
    by_cases e2 : ded B T p = true
    · have := rend_gt e2 (show p < N by omega)
      rw [if_pos e2, if_pos e2, bu2_f n n' (rend N B T 121 p) _ (by omega) (by omega)]
    · rw [if_neg e2, if_neg e2]
theorem bu2_s {N : Nat} {B : Nat → Bool} {T : Nat → Option TS} {z : BS} : ∀ (d n n' p : Nat), N < n + p → N < n' + (p + d) → p + d ≤ N → (∀ r, p ≤ r → r < p + d → ded B T r = false) → bu2 N B T n p z = bu2 N B T n' (p + d) z
  | 0, n, n', p, h, h', _, _ => bu2_f n n' p z h h'
  | d + 1, 0, n', p, h, h', hd, hr => by omega
  | d + 1, n + 1, n', p, h, h', hd, hr => by
    have e : p + (d + 1) = p + 1 + d := by omega
    have b0 := hr p (Nat.le_refl _) (by omega)
    rw [e, ← bu2_s d n n' (p + 1) (by omega) (by omega) (by omega) (fun r h1 h2 => hr r (by omega) (by omega))]
    show (if N ≤ p then _ else if ded B T p = true then _ else bu2 N B T n (p + 1) z) = _
    rw [if_neg (by omega), b0, if_neg (by decide)]
/-! the model's cuts -/
def CtM (M : MW) (hs : List HD) : Prop := mI M 0 45 = (hs.length : Int) ∧ ∀ i h, hs[i]? = some h → mI M 34 i = (dF h : Int) ∧ mI M 35 i = (dT h : Int) ∧ mI M 36 i = (dP h : Int) ∧ mI M 37 i = dC h
def KCt (k j : Nat) : Prop := (34 ≤ k ∧ k ≤ 37) ∨ (k = 0 ∧ j = 45)
theorem m_addCut {M : MW} {hs : List HD} (h : CtM M hs) (hl : hs.length < 40) (f t p c : Int) (g : HD) (e : f = (dF g : Int) ∧ t = (dT g : Int) ∧ p = (dP g : Int) ∧ c = dC g) : ∃ M', f_X6_addCut f t p c M = some ((), M') ∧ CtM M' (hs ++ [g]) ∧ ChM M M' KCt := by
  obtain ⟨h1, h2⟩ := h
  obtain ⟨e1, e2, e3, e4⟩ := e
  subst e1 e2 e3 e4
  unfold f_X6_addCut
  let M1 := msI M 34 hs.length (dF g : Int)
  let M2 := msI M1 35 hs.length (dT g : Int)
  let M3 := msI M2 36 hs.length (dP g : Int)
  let M4 := msI M3 37 hs.length (dC g)
  have q1 : mI M1 0 45 = (hs.length : Int) := by show mI (msI M 34 _ _) 0 45 = _; rw [mI_o (by omega)]; exact h1
  have q2 : mI M2 0 45 = (hs.length : Int) := by show mI (msI M1 35 _ _) 0 45 = _; rw [mI_o (by omega)]; exact q1
  have q3 : mI M3 0 45 = (hs.length : Int) := by show mI (msI M2 36 _ _) 0 45 = _; rw [mI_o (by omega)]; exact q2
  have q4 : mI M4 0 45 = (hs.length : Int) := by show mI (msI M3 37 _ _) 0 45 = _; rw [mI_o (by omega)]; exact q3
  refine ⟨msI M4 0 45 ((hs.length : Int) + 1), ?_, ⟨?_, fun i h hi => ?_⟩, (((((ChM.r M KCt).st (Or.inl (by omega))).st (Or.inl (by omega))).st (Or.inl (by omega))).st (Or.inl (by omega))).st (Or.inr ⟨rfl, rfl⟩)⟩
  · rw [rd_k (mI M 0 45), h1, ax_k (by omega), Int.toNat_natCast, rd_k (msI M 34 _ _), rd_k, show mI (msI M 34 hs.length (dF g : Int)) 0 45 = _ from q1, ax_k (by omega), Int.toNat_natCast, rd_k (msI M1 35 _ _), rd_k, show mI (msI M1 35 hs.length (dT g : Int)) 0 45 = _ from q2, ax_k (by omega), Int.toNat_natCast, rd_k (msI M2 36 _ _), rd_k, show mI (msI M2 36 hs.length (dP g : Int)) 0 45 = _ from q3, ax_k (by omega), Int.toNat_natCast, rd_k (msI M3 37 _ _), rd_k, show mI (msI M3 37 hs.length (dC g)) 0 45 = _ from q4, rd_k]
  · rw [mI_s rfl, List.length_append]; rfl
  · by_cases ei : i = hs.length
    · have eg : h = g := by
        rw [ei, List.getElem?_append_right (Nat.le_refl _), Nat.sub_self] at hi
        cases hi; rfl
      subst eg ei
      refine ⟨?_, ?_, ?_, ?_⟩
      · rw [mI_o (by omega)]; show mI (msI M3 37 _ _) 34 _ = _; rw [mI_o (by omega)]; show mI (msI M2 36 _ _) 34 _ = _; rw [mI_o (by omega)]; show mI (msI M1 35 _ _) 34 _ = _; rw [mI_o (by omega)]; exact mI_s rfl
      · rw [mI_o (by omega)]; show mI (msI M3 37 _ _) 35 _ = _; rw [mI_o (by omega)]; show mI (msI M2 36 _ _) 35 _ = _; rw [mI_o (by omega)]; exact mI_s rfl
      · rw [mI_o (by omega)]; show mI (msI M3 37 _ _) 36 _ = _; rw [mI_o (by omega)]; exact mI_s rfl
      · rw [mI_o (by omega)]; exact mI_s rfl
    · have hi2 : hs[i]? = some h := by
        have : i < (hs ++ [g]).length := (List.getElem?_eq_some_iff.mp hi).1
        rw [List.length_append] at this
        have e1 : [g].length = 1 := rfl
        rw [List.getElem?_append_left (by omega)] at hi
        exact hi
      obtain ⟨g1, g2, g3, g4⟩ := h2 i h hi2
      have o : ∀ k, 34 ≤ k → mI (msI M4 0 45 ((hs.length : Int) + 1)) k i = mI M k i := by
        intro k hk
        rw [mI_o (by omega)]; show mI (msI M3 37 _ _) k i = _; rw [mI_o (by omega)]; show mI (msI M2 36 _ _) k i = _; rw [mI_o (by omega)]; show mI (msI M1 35 _ _) k i = _; rw [mI_o (by omega)]; show mI (msI M 34 _ _) k i = _; rw [mI_o (by omega)]
      rw [o _ (by omega), o _ (by omega), o _ (by omega), o _ (by omega)]
      exact ⟨g1, g2, g3, g4⟩
