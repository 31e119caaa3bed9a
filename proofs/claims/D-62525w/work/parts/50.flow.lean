/-! LAYER C: the flow of types, in plain words -/
abbrev FS : Type := (Nat → Option TS) × (Nat → Bool)
def mrgS (H : HT) (h s : TS) : TS := (fun k => mrg H (h.1 k) (s.1 k), List.zipWith (mrg H) h.2 s.2)
def chgd (h g : TS) : Bool := decide (g.2 ≠ h.2) || (List.range 12).any fun k => decide (g.1 k ≠ h.1 k)
/-- a place gets a state -/
def gv (x : VC) (q : Nat) (s : TS) (fs : FS) : (Nat × Nat) ⊕ FS := match fs.1 q with
  | none => .inr (up1 fs.1 q (some s), up1 fs.2 q true)
  | some h => if h.2.length = s.2.length then (if 0 ∈ (mrgS (xH_ x) h s).2 then .inl (9, q) else .inr (up1 fs.1 q (some (mrgS (xH_ x) h s)), up1 fs.2 q (fs.2 q || chgd h (mrgS (xH_ x) h s)))) else .inl (9, q)
def isSt (op : Nat) : Bool := decide (op = 54 ∨ op = 55 ∨ op = 58)
/-- handlers get the state before, and behind a store the one after -/
def gvH (x : VC) (p : Nat) (s s' : TS) (st : Bool) : List HD → FS → (Nat × Nat) ⊕ FS
  | [], fs => .inr fs
  | h :: hs, fs => if dF h ≤ p ∧ p < dT h then (if 0 < rS (xm_ x) then sB (gv x (dP h) (s.1, [32 + dK h]) fs) fun fs => sB (if st = true then gv x (dP h) (s'.1, [32 + dK h]) fs else .inr fs) fun fs => gvH x p s s' st hs fs else .inl (7, p)) else gvH x p s s' st hs fs
/-- an instruction at p, tried on s -/
def lk (x : VC) (p : Nat) (s : TS) (fs : FS) : (Nat × Nat) ⊕ FS :=
  match sStep x p (rC (xm_ x) p) (opi (rC (xm_ x)) p) s with
  | .inl b => .inl (b, p)
  | .inr s' =>
    if isLa (rC (xm_ x) p) = false ∧ rN (xm_ x) ≤ p + szo (rC (xm_ x) p) then .inl (8, p)
    else sB (gvH x p s s' (isSt (rC (xm_ x) p)) (rH (xm_ x)) fs) fun fs =>
      sB (if isLa (rC (xm_ x) p) = true then .inr fs else gv x (p + szo (rC (xm_ x) p)) s' fs) fun fs =>
      if isBr (rC (xm_ x) p) = true then gv x (tgt (rC (xm_ x)) p).toNat s' fs else .inr fs
/-- the least place that waits -/
def lw (w : Nat → Bool) : Option Nat := (List.range 120).find? w
def flw (x : VC) : Nat → FS → Option ((Nat × Nat) ⊕ FS)
  | 0, _ => none
  | n + 1, fs => match lw fs.2 with
    | none => some (.inr fs)
    | some p => match fs.1 p with
      | none => none
      | some s => match lk x p s (fs.1, up1 fs.2 p false) with
        | .inl e => some (.inl e)
        | .inr fs' => flw x n fs'
/-- the arguments in their places -/
def argL : Nat → List Nat → (Nat → Nat) → Nat → Nat
  | _, [], L => L
  | i, t :: l, L => argL (i + (if t = 2 then 2 else 1)) l (up1 L i t)
def st0 (x : VC) : TS := (argL 0 (rA (xm_ x)) (fun _ => 0), [])
def fs0 : FS := (fun _ => none, fun _ => false)
/-! what stands of states in the flow -/
def SOk (x : VC) (s : TS) : Prop := WTs (hn (xH_ x)) (xz x) s ∧ wds s.2 ≤ rS (xm_ x) ∧ (∀ k, rL (xm_ x) ≤ k → s.1 k = 0) ∧ ∀ t ∈ s.2, t ≠ 0
def FOk (x : VC) (fs : FS) : Prop := ∀ p s, fs.1 p = some s → p < 120 ∧ SOk x s
theorem nth_zip {f : Nat → Nat → Nat} : ∀ (a b : List Nat), a.length = b.length → ∀ k, k < a.length → nth (List.zipWith f a b) k = f (nth a k) (nth b k)
  | [], _, _, k, h => absurd h (Nat.not_lt_zero _)
  | _ :: _, [], h, _, _ => absurd h (by simp)
  | t :: a, u :: b, h, k, hk => by
    have h' : a.length = b.length := Nat.succ.inj h
    have hk' : k < a.length + 1 := hk
    show (if k = (List.zipWith f a b).length then f t u else nth (List.zipWith f a b) k) = f (if k = a.length then t else nth a k) (if k = b.length then u else nth b k)
    rw [List.length_zipWith, ← h', Nat.min_self]
    split
    · rfl
    · exact nth_zip a b h' k (by omega)
theorem zip_len {f : Nat → Nat → Nat} {a b : List Nat} (h : a.length = b.length) : (List.zipWith f a b).length = a.length := by
  rw [List.length_zipWith, ← h, Nat.min_self]
theorem nth_ext : ∀ (a b : List Nat), a.length = b.length → (∀ k, k < a.length → nth a k = nth b k) → a = b
  | [], [], _, _ => rfl
  | [], _ :: _, h, _ => absurd h (by simp)
  | _ :: _, [], h, _ => absurd h (by simp)
  | t :: a, u :: b, h, hk => by
    have h' : a.length = b.length := Nat.succ.inj h
    have e1 : t = u := by
      have := hk a.length (Nat.lt_succ_self _)
      rw [nth_top, h', nth_top] at this
      exact this
    have e2 : a = b := nth_ext a b h' (fun k hk2 => by
      have := hk k (Nat.lt_succ_of_lt hk2)
      rw [nth_lt hk2, nth_lt (by omega)] at this
      exact this)
    rw [e1, e2]
theorem mem_nthz {f : Nat → Nat → Nat} {a b : List Nat} (h : a.length = b.length) {u : Nat} : u ∈ List.zipWith f a b ↔ ∃ k, k < a.length ∧ f (nth a k) (nth b k) = u := by
  constructor
  · intro hm
    obtain ⟨k, hk, e⟩ := mem_nth _ hm
    rw [zip_len h] at hk
    exact ⟨k, hk, by rw [← nth_zip (f := f) a b h k hk]; exact e⟩
  · rintro ⟨k, hk, e⟩
    rw [← e, ← nth_zip (f := f) a b h k hk]
    exact nth_mem _ _ (by rw [zip_len h]; exact hk)
theorem zip_ne {f : Nat → Nat → Nat} {a b : List Nat} (h : a.length = b.length) : List.zipWith f a b ≠ a ↔ ∃ k, k < a.length ∧ f (nth a k) (nth b k) ≠ nth a k := by
  constructor
  · intro hne
    apply Classical.byContradiction
    intro hno
    apply hne
    refine nth_ext _ _ (zip_len h) (fun k hk => ?_)
    rw [zip_len h] at hk
    rw [nth_zip a b h k hk]
    exact Classical.byContradiction (fun hc => hno ⟨k, hk, hc⟩)
  · rintro ⟨k, hk, e⟩ heq
    apply e
    rw [← nth_zip (f := f) a b h k hk, heq]
theorem mrg_self (H : HT) (t : Nat) : mrg H t t = t := if_pos rfl
theorem mrg_2 {H : HT} {t u : Nat} (h : mrg H t u ≠ 0) : mrg H t u = 2 ↔ t = 2 := by
  unfold mrg at h ⊢
  by_cases e : t = u
  · rw [if_pos e]
  · rw [if_neg e] at h ⊢
    by_cases r : rfc t = false ∨ rfc u = false
    · rw [if_pos r] at h; exact absurd rfl h
    · rw [if_neg r]
      have rt : rfc t = true := by
        cases q : rfc t
        · exact absurd (Or.inl q) r
        · rfl
      have ru : rfc u = true := by
        cases q : rfc u
        · exact absurd (Or.inr q) r
        · rfl
      have t2 : t ≠ 2 := by intro e; rw [e] at rt; exact absurd rt (by decide)
      have u2 : u ≠ 2 := by intro e; rw [e] at ru; exact absurd ru (by decide)
      constructor
      · intro h2
        exfalso
        split at h2
        · exact u2 h2
        split at h2
        · exact t2 h2
        split at h2
        · omega
        split at h2
        · omega
        · omega
      · intro h2; exact absurd h2 t2
theorem wds_zip {H : HT} : ∀ (a b : List Nat), a.length = b.length → ¬ 0 ∈ List.zipWith (mrg H) a b → wds (List.zipWith (mrg H) a b) = wds a
  | [], _, _, _ => rfl
  | _ :: _, [], h, _ => absurd h (by simp)
  | t :: a, u :: b, h, h0 => by
    have h' : a.length = b.length := Nat.succ.inj h
    have z1 : mrg H t u ≠ 0 := fun e => h0 (by rw [← e]; exact List.mem_cons_self ..)
    have z2 : ¬ 0 ∈ List.zipWith (mrg H) a b := fun e => h0 (List.mem_cons_of_mem _ e)
    show (if mrg H t u = 2 then 2 else 1) + wds (List.zipWith (mrg H) a b) = (if t = 2 then 2 else 1) + wds a
    rw [wds_zip a b h' z2]
    by_cases e : t = 2
    · rw [if_pos e, if_pos ((mrg_2 z1).mpr e)]
    · rw [if_neg e, if_neg (fun h => e ((mrg_2 z1).mp h))]
theorem SOk.mg {x : VC} {h s : TS} (hH : HOK (xH_ x)) (hh : SOk x h) (hs : SOk x s) (hl : h.2.length = s.2.length) (h0 : ¬ 0 ∈ (mrgS (xH_ x) h s).2) : SOk x (mrgS (xH_ x) h s) := by
  refine ⟨⟨fun k => mrg_tyV hH (hh.1.1 k) (hs.1.1 k), fun t ht => ?_⟩, ?_, fun k hk => ?_, fun t ht e => ?_⟩
  · obtain ⟨k, hk, e⟩ := (mem_nthz hl).mp ht
    rw [← e]
    exact mrg_tyV hH (hh.1.2 _ (nth_mem _ k hk)) (hs.1.2 _ (nth_mem _ k (by omega)))
  · show wds (List.zipWith (mrg (xH_ x)) h.2 s.2) ≤ _
    rw [wds_zip _ _ hl h0]; exact hh.2.1
  · show mrg (xH_ x) (h.1 k) (s.1 k) = 0
    rw [hh.2.2.1 k hk, hs.2.2.1 k hk, mrg_self]
  · subst e; exact h0 ht
theorem gv_ok {x : VC} {q : Nat} {s : TS} {fs fs' : FS} (hH : HOK (xH_ x)) (hq : q < 120) (hs : SOk x s) (hf : FOk x fs) (h : gv x q s fs = .inr fs') : FOk x fs' := by
  unfold gv at h
  cases e : fs.1 q with
  | none =>
    rw [e] at h
    cases h
    intro p s' hp
    dsimp only [up1] at hp
    by_cases ep : p = q
    · rw [if_pos ep] at hp
      cases hp
      exact ⟨by omega, hs⟩
    · rw [if_neg ep] at hp
      exact hf p s' hp
  | some g =>
    rw [e] at h
    dsimp only at h
    by_cases hl : g.2.length = s.2.length
    · rw [if_pos hl] at h
      by_cases h0 : 0 ∈ (mrgS (xH_ x) g s).2
      · rw [if_pos h0] at h; cases h
      · rw [if_neg h0] at h
        cases h
        intro p s' hp
        dsimp only [up1] at hp
        by_cases ep : p = q
        · rw [if_pos ep] at hp
          cases hp
          exact ⟨by omega, (hf q g e).2.mg hH hs hl h0⟩
        · rw [if_neg ep] at hp
          exact hf p s' hp
    · rw [if_neg hl] at h; cases h
