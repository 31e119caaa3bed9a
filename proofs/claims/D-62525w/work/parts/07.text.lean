/-! TEXT: the words of the decompiled functions, and rows that take a step of the text with a step of the machine -/
def rd {α β : Type} (a : α) (κ : α → β) : β := κ a
def ax {β : Type} (i : Int) (n : Nat) (κ : Nat → Option β) : Option β := if 0 ≤ w32 i ∧ w32 i < (n : Int) then κ (w32 i).toNat else none
def mB {α β : Type} (m : Option (α × MW)) (κ : α → MW → Option β) : Option β := match m with
  | none => none
  | some (a, M) => κ a M
def sw {β : Type} (x lo : Int) (arms : List β) (D : β) : β := if lo ≤ x then (arms[(x - lo).toNat]?).getD D else D
def gdB {β : Type} (b : Bool) (m : Option β) : Option β := if b = true then m else none
def isZ (a : Int) : Bool := a == 0 || a == 1
def eI (a : Int) : Option Value := some (.int (iI a))
def eJ (a : Int) : Option Value := some (.long (iJ a))
def eV (_ : Unit) : Option Value := none
def eR (r : Option Nat) : Option Value := some (va_rf r)
def QM {α : Type} (e : α → Option Value) (a : α) (M : MW) (C : CW) : Out → XW → Prop := fun o X => o = .inr (e a) ∧ X = (M, C)
/-- the fuel of a loop: never used up -/
def FU : Nat := 1152921504606846976
theorem ax_some {β : Type} {i : Int} {n : Nat} {κ : Nat → Option β} {z : β} (h : ax i n κ = some z) : (0 ≤ w32 i ∧ w32 i < (n : Int)) ∧ κ (w32 i).toNat = some z := by
  unfold ax at h
  split at h
  · rename_i hc
    exact ⟨hc, h⟩
  · cases h
theorem mB_some {α β : Type} {m : Option (α × MW)} {κ : α → MW → Option β} {z : β} (h : mB m κ = some z) : ∃ a M, m = some (a, M) ∧ κ a M = some z := by
  unfold mB at h
  split at h
  · cases h
  · exact ⟨_, _, rfl, h⟩
theorem gdB_some {β : Type} {b : Bool} {m : Option β} {z : β} (h : gdB b m = some z) : b = true ∧ m = some z := by
  unfold gdB at h
  split at h
  · rename_i hc
    exact ⟨hc, h⟩
  · cases h
theorem isZ_or {a : Int} (h : isZ a = true) : a = 0 ∨ a = 1 := by
  simpa [isZ] using h
/-- a virtual method, all that the tables say of it -/
def VF (y2 : MD) (nm : MethodName) (n : Nat) : Prop := ML y2 nm ∧ Cond.instanceMethod nm ∈ lw_tbl ∧ Cond.selects nm.cls nm nm ∈ lw_tbl ∧ (parseMethodDescriptor nm.desc).map (fun d => d.parameters.length) = some n
def SF (y2 : MD) (nm : MethodName) (n : Nat) : Prop := ML y2 nm ∧ Cond.static nm ∈ lw_tbl ∧ (parseMethodDescriptor nm.desc).map (fun d => d.parameters.length) = some n
section TX
variable {g : Gx} {d d2 : Nat} {y y2 : MD} {pc : Nat} {kn : List (Nat × Value)} {st rest : List Value} {M : MW} {C : CW} {X : XW} {Q : Out → XW → Prop} {β : Type} {z : β}
theorem tx_if_eq {a off : Int} {A B r : Option β} (t : Nat) (h : (if w32 a = 0 then A else B) = r) (hd : decode y.2.2.1 pc = .ok (.ifCond .eq off, 3)) (ht : (pc : Int) + off = (t : Int)) (k1 : A = r → Ex g d y t kn st X Q) (k2 : B = r → Ex g d y (pc + 3) kn st X Q) : Ex g d y pc kn (.int (iI a) :: st) X Q :=
  ex_if_eq t hd ht (fun c => k1 (by rw [if_pos c] at h; exact h)) (fun c => k2 (by rw [if_neg c] at h; exact h))
theorem tx_if_ne {a off : Int} {A B r : Option β} (t : Nat) (h : (if w32 a = 0 then B else A) = r) (hd : decode y.2.2.1 pc = .ok (.ifCond .ne off, 3)) (ht : (pc : Int) + off = (t : Int)) (k1 : A = r → Ex g d y t kn st X Q) (k2 : B = r → Ex g d y (pc + 3) kn st X Q) : Ex g d y pc kn (.int (iI a) :: st) X Q :=
  ex_if_ne t hd ht (fun c => k1 (by rw [if_neg c] at h; exact h)) (fun c => k2 (by rw [if_pos c] at h; exact h))
theorem tx_if_lt {a off : Int} {A B r : Option β} (t : Nat) (h : (if w32 a < 0 then A else B) = r) (hd : decode y.2.2.1 pc = .ok (.ifCond .lt off, 3)) (ht : (pc : Int) + off = (t : Int)) (k1 : A = r → Ex g d y t kn st X Q) (k2 : B = r → Ex g d y (pc + 3) kn st X Q) : Ex g d y pc kn (.int (iI a) :: st) X Q :=
  ex_if_lt t hd ht (fun c => k1 (by rw [if_pos c] at h; exact h)) (fun c => k2 (by rw [if_neg c] at h; exact h))
theorem tx_if_ge {a off : Int} {A B r : Option β} (t : Nat) (h : (if 0 ≤ w32 a then A else B) = r) (hd : decode y.2.2.1 pc = .ok (.ifCond .ge off, 3)) (ht : (pc : Int) + off = (t : Int)) (k1 : A = r → Ex g d y t kn st X Q) (k2 : B = r → Ex g d y (pc + 3) kn st X Q) : Ex g d y pc kn (.int (iI a) :: st) X Q :=
  ex_if_ge t hd ht (fun c => k1 (by rw [if_pos c] at h; exact h)) (fun c => k2 (by rw [if_neg c] at h; exact h))
theorem tx_if_gt {a off : Int} {A B r : Option β} (t : Nat) (h : (if 0 < w32 a then A else B) = r) (hd : decode y.2.2.1 pc = .ok (.ifCond .gt off, 3)) (ht : (pc : Int) + off = (t : Int)) (k1 : A = r → Ex g d y t kn st X Q) (k2 : B = r → Ex g d y (pc + 3) kn st X Q) : Ex g d y pc kn (.int (iI a) :: st) X Q :=
  ex_if_gt t hd ht (fun c => k1 (by rw [if_pos c] at h; exact h)) (fun c => k2 (by rw [if_neg c] at h; exact h))
theorem tx_if_le {a off : Int} {A B r : Option β} (t : Nat) (h : (if w32 a ≤ 0 then A else B) = r) (hd : decode y.2.2.1 pc = .ok (.ifCond .le off, 3)) (ht : (pc : Int) + off = (t : Int)) (k1 : A = r → Ex g d y t kn st X Q) (k2 : B = r → Ex g d y (pc + 3) kn st X Q) : Ex g d y pc kn (.int (iI a) :: st) X Q :=
  ex_if_le t hd ht (fun c => k1 (by rw [if_pos c] at h; exact h)) (fun c => k2 (by rw [if_neg c] at h; exact h))
theorem tx_icmp_eq {a b off : Int} {A B r : Option β} (t : Nat) (h : (if w32 a = w32 b then A else B) = r) (hd : decode y.2.2.1 pc = .ok (.if_icmp .eq off, 3)) (ht : (pc : Int) + off = (t : Int)) (k1 : A = r → Ex g d y t kn st X Q) (k2 : B = r → Ex g d y (pc + 3) kn st X Q) : Ex g d y pc kn (.int (iI b) :: .int (iI a) :: st) X Q :=
  ex_icmp_eq t hd ht (fun c => k1 (by rw [if_pos c] at h; exact h)) (fun c => k2 (by rw [if_neg c] at h; exact h))
theorem tx_icmp_ne {a b off : Int} {A B r : Option β} (t : Nat) (h : (if w32 a = w32 b then B else A) = r) (hd : decode y.2.2.1 pc = .ok (.if_icmp .ne off, 3)) (ht : (pc : Int) + off = (t : Int)) (k1 : A = r → Ex g d y t kn st X Q) (k2 : B = r → Ex g d y (pc + 3) kn st X Q) : Ex g d y pc kn (.int (iI b) :: .int (iI a) :: st) X Q :=
  ex_icmp_ne t hd ht (fun c => k1 (by rw [if_neg c] at h; exact h)) (fun c => k2 (by rw [if_pos c] at h; exact h))
theorem tx_icmp_lt {a b off : Int} {A B r : Option β} (t : Nat) (h : (if w32 a < w32 b then A else B) = r) (hd : decode y.2.2.1 pc = .ok (.if_icmp .lt off, 3)) (ht : (pc : Int) + off = (t : Int)) (k1 : A = r → Ex g d y t kn st X Q) (k2 : B = r → Ex g d y (pc + 3) kn st X Q) : Ex g d y pc kn (.int (iI b) :: .int (iI a) :: st) X Q :=
  ex_icmp_lt t hd ht (fun c => k1 (by rw [if_pos c] at h; exact h)) (fun c => k2 (by rw [if_neg c] at h; exact h))
theorem tx_icmp_ge {a b off : Int} {A B r : Option β} (t : Nat) (h : (if w32 b ≤ w32 a then A else B) = r) (hd : decode y.2.2.1 pc = .ok (.if_icmp .ge off, 3)) (ht : (pc : Int) + off = (t : Int)) (k1 : A = r → Ex g d y t kn st X Q) (k2 : B = r → Ex g d y (pc + 3) kn st X Q) : Ex g d y pc kn (.int (iI b) :: .int (iI a) :: st) X Q :=
  ex_icmp_ge t hd ht (fun c => k1 (by rw [if_pos c] at h; exact h)) (fun c => k2 (by rw [if_neg c] at h; exact h))
theorem tx_icmp_gt {a b off : Int} {A B r : Option β} (t : Nat) (h : (if w32 b < w32 a then A else B) = r) (hd : decode y.2.2.1 pc = .ok (.if_icmp .gt off, 3)) (ht : (pc : Int) + off = (t : Int)) (k1 : A = r → Ex g d y t kn st X Q) (k2 : B = r → Ex g d y (pc + 3) kn st X Q) : Ex g d y pc kn (.int (iI b) :: .int (iI a) :: st) X Q :=
  ex_icmp_gt t hd ht (fun c => k1 (by rw [if_pos c] at h; exact h)) (fun c => k2 (by rw [if_neg c] at h; exact h))
theorem tx_icmp_le {a b off : Int} {A B r : Option β} (t : Nat) (h : (if w32 a ≤ w32 b then A else B) = r) (hd : decode y.2.2.1 pc = .ok (.if_icmp .le off, 3)) (ht : (pc : Int) + off = (t : Int)) (k1 : A = r → Ex g d y t kn st X Q) (k2 : B = r → Ex g d y (pc + 3) kn st X Q) : Ex g d y pc kn (.int (iI b) :: .int (iI a) :: st) X Q :=
  ex_icmp_le t hd ht (fun c => k1 (by rw [if_pos c] at h; exact h)) (fun c => k2 (by rw [if_neg c] at h; exact h))
def ArmsOk {β : Type} (P : Int → β → Prop) : List Int → List β → Prop
  | [], [] => True
  | o :: os, A :: As => P o A ∧ ArmsOk P os As
  | [], _ :: _ => False
  | _ :: _, [] => False
theorem ArmsOk.at {β : Type} {P : Int → β → Prop} : ∀ {os : List Int} {As : List β}, ArmsOk P os As → ∀ (j : Nat) (o : Int), os[j]? = some o → ∃ A, As[j]? = some A ∧ P o A
  | [], _, _, j, o, h => by simp at h
  | _ :: _, [], hA, _, _, _ => hA.elim
  | a :: os, A :: As, hA, 0, o, h => by
    simp at h
    subst h
    exact ⟨A, rfl, hA.1⟩
  | a :: os, A :: As, hA, j + 1, o, h => by
    have := ArmsOk.at hA.2 j o (by simpa using h)
    simpa using this
theorem ArmsOk.len {β : Type} {P : Int → β → Prop} : ∀ {os : List Int} {As : List β}, ArmsOk P os As → os.length = As.length
  | [], [], _ => rfl
  | _ :: _, [], hA => hA.elim
  | [], _ :: _, hA => hA.elim
  | a :: os, A :: As, hA => by simp [ArmsOk.len hA.2]
theorem tx_tsw {a dflt lo hi : Int} {offs : Array Int} {len : Nat} {arms : List (Option β)} {D r : Option β} (td : Nat) (h : sw (w32 a) lo arms D = r) (hd : decode y.2.2.1 pc = .ok (.tableswitch dflt lo hi offs, len)) (hn : hi = lo + (offs.size : Int) - 1) (htd : (pc : Int) + dflt = (td : Int)) (kD : D = r → Ex g d y td kn st X Q)
    (kA : ArmsOk (fun off A => ∃ t : Nat, (pc : Int) + off = (t : Int) ∧ (A = r → Ex g d y t kn st X Q)) offs.toList arms) : Ex g d y pc kn (.int (iI a) :: st) X Q := by
  have hlen := kA.len
  rw [Array.length_toList] at hlen
  refine ex_tsw hd ?_ ?_ ?_
  · intro j off hj hle ho
    obtain ⟨A, h1, t, ht, hk⟩ := kA.at j off (by rw [Array.getElem?_toList]; exact ho)
    refine ⟨t, ht, hk ?_⟩
    unfold sw at h
    rw [if_pos (by omega), show (w32 a - lo).toNat = j by omega, h1] at h
    exact h
  · intro j hj
    have : j < offs.size := by omega
    exact ⟨offs[j], by simp [this]⟩
  · intro ho
    refine ⟨td, htd, kD ?_⟩
    unfold sw at h
    rcases ho with ho | ho
    · rw [if_neg (by omega)] at h
      exact h
    · by_cases hl : lo ≤ w32 a
      · rw [if_pos hl, List.getElem?_eq_none (by omega)] at h
        exact h
      · rw [if_neg hl] at h
        exact h
/-! the model's rows -/
theorem mx_gI {k o ci j idx : Nat} {κ : Int → β} (h : rd (mI M k j) κ = z) (hg : gS g = true) (hd : decode y.2.2.1 pc = .ok (.getfield idx, 3)) (hl : FLk y.1 idx ci j) (hk : sKind k = ci + 1) (ho : sOff k = o) (hm : Nat.blt k 200 = true) (hc : sfc k j = 0) (n : ∀ v, κ v = z → Ex g d y (pc + 3) kn (.int (iI v) :: rest) (M, C) Q) : Ex g d y pc kn (.ref (gB g + o) :: rest) (M, C) Q :=
  ex_mgI hg hd hl hk ho (Nat.blt_eq.mp hm) hc (n _ h)
theorem mx_gJ {k o ci j idx : Nat} {κ : Int → β} (h : rd (mJ M k j) κ = z) (hg : gS g = true) (hd : decode y.2.2.1 pc = .ok (.getfield idx, 3)) (hl : FLk y.1 idx ci j) (hk : sKind k = ci + 1) (ho : sOff k = o) (hm : Nat.blt k 200 = true) (hc : sfc k j = 1) (n : ∀ v, κ v = z → Ex g d y (pc + 3) kn (.long (iJ v) :: rest) (M, C) Q) : Ex g d y pc kn (.ref (gB g + o) :: rest) (M, C) Q :=
  ex_mgJ hg hd hl hk ho (Nat.blt_eq.mp hm) hc (n _ h)
theorem mx_pI {k o ci j idx : Nat} {v : Int} {κ : MW → β} (h : rd (msI M k j v) κ = z) (hg : gS g = true) (hd : decode y.2.2.1 pc = .ok (.putfield idx, 3)) (hl : FLk y.1 idx ci j) (hk : sKind k = ci + 1) (ho : sOff k = o) (hm : Nat.blt k 200 = true) (hc : sfc k j = 0) (hfin : (clT ci j).2.2.2 = false) (hY : clY ci j = .int) (n : ∀ M1, κ M1 = z → Ex g d y (pc + 3) kn rest (M1, C) Q) : Ex g d y pc kn (.int (iI v) :: .ref (gB g + o) :: rest) (M, C) Q :=
  ex_mpI hg hd hl hk ho (Nat.blt_eq.mp hm) hc hfin (by rw [hY]; rfl) (by rw [hY]; rfl) (n _ h)
theorem mx_pZ {k o ci j idx : Nat} {v : Int} {κ : MW → Option β} {z : β} (h : gdB (isZ v) (rd (msI M k j v) κ) = some z) (hg : gS g = true) (hd : decode y.2.2.1 pc = .ok (.putfield idx, 3)) (hl : FLk y.1 idx ci j) (hk : sKind k = ci + 1) (ho : sOff k = o) (hm : Nat.blt k 200 = true) (hc : sfc k j = 0) (hfin : (clT ci j).2.2.2 = false) (hY : clY ci j = .boolean) (n : ∀ M1, κ M1 = some z → Ex g d y (pc + 3) kn rest (M1, C) Q) : Ex g d y pc kn (.int (iI v) :: .ref (gB g + o) :: rest) (M, C) Q := by
  obtain ⟨hz, h⟩ := gdB_some h
  have hz := isZ_or hz
  refine ex_mpI hg hd hl hk ho (Nat.blt_eq.mp hm) hc hfin ?_ ?_ (n _ h)
  · rw [hY]; exact nrw_z hz
  · rw [hY]; rcases hz with rfl | rfl <;> rfl
theorem mx_pJ {k o ci j idx : Nat} {v : Int} {κ : MW → β} (h : rd (msJ M k j v) κ = z) (hg : gS g = true) (hd : decode y.2.2.1 pc = .ok (.putfield idx, 3)) (hl : FLk y.1 idx ci j) (hk : sKind k = ci + 1) (ho : sOff k = o) (hm : Nat.blt k 200 = true) (hc : sfc k j = 1) (hfin : (clT ci j).2.2.2 = false) (hY : clY ci j = .long) (n : ∀ M1, κ M1 = z → Ex g d y (pc + 3) kn rest (M1, C) Q) : Ex g d y pc kn (.long (iJ v) :: .ref (gB g + o) :: rest) (M, C) Q :=
  ex_mpJ hg hd hl hk ho (Nat.blt_eq.mp hm) hc hfin (by rw [hY]; rfl) (by rw [hY]; rfl) (n _ h)
theorem mx_ald {k o n : Nat} {i : Int} {κ : Int → Option β} {z : β} (h : ax i n (fun j => rd (mI M k j) κ) = some z) (hg : gS g = true) (hd : decode y.2.2.1 pc = .ok (.iaload, 1)) (hk : sKind k = 64 + 0) (ho : sOff k = o) (hm : Nat.blt k 200 = true) (hn : sLen k = n) (nx : ∀ v, κ v = some z → Ex g d y (pc + 1) kn (.int (iI v) :: rest) (M, C) Q) : Ex g d y pc kn (.int (iI i) :: .ref (gB g + o) :: rest) (M, C) Q := by
  obtain ⟨hb, h⟩ := ax_some h
  exact ex_mald hg hd hk ho (Nat.blt_eq.mp hm) (Or.inl ⟨rfl, rfl⟩) (by rw [hn]; exact hb) (nx _ h)
theorem mx_zld {k o n : Nat} {i : Int} {κ : Int → Option β} {z : β} (h : ax i n (fun j => rd (mI M k j) κ) = some z) (hg : gS g = true) (hd : decode y.2.2.1 pc = .ok (.baload, 1)) (hk : sKind k = 64 + 2) (ho : sOff k = o) (hm : Nat.blt k 200 = true) (hn : sLen k = n) (nx : ∀ v, κ v = some z → Ex g d y (pc + 1) kn (.int (iI v) :: rest) (M, C) Q) : Ex g d y pc kn (.int (iI i) :: .ref (gB g + o) :: rest) (M, C) Q := by
  obtain ⟨hb, h⟩ := ax_some h
  exact ex_mald hg hd hk ho (Nat.blt_eq.mp hm) (Or.inr ⟨rfl, rfl⟩) (by rw [hn]; exact hb) (nx _ h)
theorem mx_lld {k o n : Nat} {i : Int} {κ : Int → Option β} {z : β} (h : ax i n (fun j => rd (mJ M k j) κ) = some z) (hg : gS g = true) (hd : decode y.2.2.1 pc = .ok (.laload, 1)) (hk : sKind k = 64 + 1) (ho : sOff k = o) (hm : Nat.blt k 200 = true) (hn : sLen k = n) (nx : ∀ v, κ v = some z → Ex g d y (pc + 1) kn (.long (iJ v) :: rest) (M, C) Q) : Ex g d y pc kn (.int (iI i) :: .ref (gB g + o) :: rest) (M, C) Q := by
  obtain ⟨hb, h⟩ := ax_some h
  exact ex_maldJ hg hd hk ho (Nat.blt_eq.mp hm) (by rw [hn]; exact hb) (nx _ h)
/-- an array that is the model's, which one being a number -/
theorem mx_aldK {k : Nat} {i : Int} {κ : Int → Option β} {z : β} (h : gdB (Nat.blt k 200 && sKind k == 64) (ax i (sLen k) (fun j => rd (mI M k j) κ)) = some z) (hg : gS g = true) (hd : decode y.2.2.1 pc = .ok (.iaload, 1)) (nx : ∀ v, κ v = some z → Ex g d y (pc + 1) kn (.int (iI v) :: rest) (M, C) Q) : Ex g d y pc kn (.int (iI i) :: .ref (gB g + sOff k) :: rest) (M, C) Q := by
  obtain ⟨hb, h⟩ := gdB_some h
  rw [Bool.and_eq_true, beq_iff_eq] at hb
  exact mx_ald h hg hd hb.2 rfl hb.1 rfl nx
theorem mx_ast {k o n : Nat} {i x : Int} {κ : MW → Option β} {z : β} (h : ax i n (fun j => rd (msI M k j x) κ) = some z) (hg : gS g = true) (hd : decode y.2.2.1 pc = .ok (.iastore, 1)) (hk : sKind k = 64 + 0) (ho : sOff k = o) (hm : Nat.blt k 200 = true) (hn : sLen k = n) (nx : ∀ M1, κ M1 = some z → Ex g d y (pc + 1) kn rest (M1, C) Q) : Ex g d y pc kn (.int (iI x) :: .int (iI i) :: .ref (gB g + o) :: rest) (M, C) Q := by
  obtain ⟨hb, h⟩ := ax_some h
  exact ex_mast hg hd hk ho (Nat.blt_eq.mp hm) (Or.inl ⟨rfl, rfl⟩) (by rw [hn]; exact hb) (nx _ h)
theorem mx_zst {k o n : Nat} {i x : Int} {κ : MW → Option β} {z : β} (h : ax i n (fun j => rd (msI M k j (iAnd x 1)) κ) = some z) (hg : gS g = true) (hd : decode y.2.2.1 pc = .ok (.bastore, 1)) (hk : sKind k = 64 + 2) (ho : sOff k = o) (hm : Nat.blt k 200 = true) (hn : sLen k = n) (nx : ∀ M1, κ M1 = some z → Ex g d y (pc + 1) kn rest (M1, C) Q) : Ex g d y pc kn (.int (iI x) :: .int (iI i) :: .ref (gB g + o) :: rest) (M, C) Q := by
  obtain ⟨hb, h⟩ := ax_some h
  exact ex_mast hg hd hk ho (Nat.blt_eq.mp hm) (Or.inr ⟨rfl, rfl⟩) (by rw [hn]; exact hb) (nx _ h)
theorem mx_lst {k o n : Nat} {i x : Int} {κ : MW → Option β} {z : β} (h : ax i n (fun j => rd (msJ M k j x) κ) = some z) (hg : gS g = true) (hd : decode y.2.2.1 pc = .ok (.lastore, 1)) (hk : sKind k = 64 + 1) (ho : sOff k = o) (hm : Nat.blt k 200 = true) (hn : sLen k = n) (nx : ∀ M1, κ M1 = some z → Ex g d y (pc + 1) kn rest (M1, C) Q) : Ex g d y pc kn (.long (iJ x) :: .int (iI i) :: .ref (gB g + o) :: rest) (M, C) Q := by
  obtain ⟨hb, h⟩ := ax_some h
  exact ex_mastJ hg hd hk ho (Nat.blt_eq.mp hm) (by rw [hn]; exact hb) (nx _ h)
theorem tx_idiv {a b : Int} {κ : Option β} {z : β} (h : gdB (w32 b != 0) κ = some z) (hd : decode y.2.2.1 pc = .ok (.idiv, 1)) (n : κ = some z → Ex g d y (pc + 1) kn (.int (iI (iDiv a b)) :: rest) X Q) : Ex g d y pc kn (.int (iI b) :: .int (iI a) :: rest) X Q := by
  obtain ⟨hb, h⟩ := gdB_some h
  exact ex_idiv hd (by simpa using hb) (n h)
theorem tx_irem {a b : Int} {κ : Option β} {z : β} (h : gdB (w32 b != 0) κ = some z) (hd : decode y.2.2.1 pc = .ok (.irem, 1)) (n : κ = some z → Ex g d y (pc + 1) kn (.int (iI (iRem a b)) :: rest) X Q) : Ex g d y pc kn (.int (iI b) :: .int (iI a) :: rest) X Q := by
  obtain ⟨hb, h⟩ := gdB_some h
  exact ex_irem hd (by simpa using hb) (n h)
theorem tx_ldiv {a b : Int} {κ : Option β} {z : β} (h : gdB (w64 b != 0) κ = some z) (hd : decode y.2.2.1 pc = .ok (.ldiv, 1)) (n : κ = some z → Ex g d y (pc + 1) kn (.long (iJ (jDiv a b)) :: rest) X Q) : Ex g d y pc kn (.long (iJ b) :: .long (iJ a) :: rest) X Q := by
  obtain ⟨hb, h⟩ := gdB_some h
  exact ex_ldiv hd (by simpa using hb) (n h)
/-- a name for a number that stands on top -/
theorem tx_top {a : Int} {κ : Int → β} (h : rd a κ = z) (n : ∀ v, κ v = z → Ex g d y pc kn (.int (iI v) :: rest) X Q) : Ex g d y pc kn (.int (iI a) :: rest) X Q := n a h
theorem tx_topJ {a : Int} {κ : Int → β} (h : rd a κ = z) (n : ∀ v, κ v = z → Ex g d y pc kn (.long (iJ v) :: rest) X Q) : Ex g d y pc kn (.long (iJ a) :: rest) X Q := n a h
/-! the model's calls -/
theorem mx_V {α : Type} {e1 : α → Option Value} {f : Option (α × MW)} {κ : α → MW → Option β} {z : β} {as : List Value} {k o ci idx : Nat} {nm : MethodName} (h : mB f κ = some z) (hg : gS g = true) (hd : decode y.2.2.1 pc = .ok (.invokevirtual idx, 3)) (hl : LKm y.1 idx nm) (hv : VF y2 nm as.length) (hk : sKind k = ci + 1) (ho : sOff k = o) (hc : Nat.blt ci 19 = true) (hC : clR ci = nm.cls) (hst : as.reverse ++ .ref (gB g + o) :: rest = st)
    (hb1 : Nat.ble (lg_sl (.ref (gB g + o) :: as)).length y2.2.2.2.1 = true) (hb2 : Nat.ble (d2 + 1) d = true) (hb3 : Nat.ble (2 * rest.length + y2.2.2.2.1) 370 = true) (K : ∀ a M', f = some (a, M') → Ex g d2 y2 0 (lv_args 0 (.ref (gB g + o) :: as)) [] (M, C) (QM e1 a M' C)) (n : ∀ a M', κ a M' = some z → Ex g d y (pc + 3) kn ((e1 a).toList ++ rest) (M', C) Q) : Ex g d y pc kn st (M, C) Q := by
  obtain ⟨a, M', hf, h⟩ := mB_some h
  refine ex_invV hd hl hv.1 hv.2.1 hv.2.2.1 (RC.stat hg hk ho (Nat.blt_eq.mp hc) hC) hst hv.2.2.2 (Nat.le_of_ble_eq_true hb1) (Nat.le_of_ble_eq_true hb2) (Nat.le_of_ble_eq_true hb3) (K a M' hf) ?_
  rintro _ _ ⟨rfl, rfl⟩
  exact n a M' h
theorem mx_S {α : Type} {e1 : α → Option Value} {f : Option (α × MW)} {κ : α → MW → Option β} {z : β} {as : List Value} {idx : Nat} {nm : MethodName} (h : mB f κ = some z) (hd : decode y.2.2.1 pc = .ok (.invokestatic idx, 3)) (hl : LKm y.1 idx nm) (hv : SF y2 nm as.length) (hst : as.reverse ++ rest = st)
    (hb1 : Nat.ble (lg_sl as).length y2.2.2.2.1 = true) (hb2 : Nat.ble (d2 + 1) d = true) (hb3 : Nat.ble (2 * rest.length + y2.2.2.2.1) 370 = true) (K : ∀ a M', f = some (a, M') → Ex g d2 y2 0 (lv_args 0 as) [] (M, C) (QM e1 a M' C)) (n : ∀ a M', κ a M' = some z → Ex g d y (pc + 3) kn ((e1 a).toList ++ rest) (M', C) Q) : Ex g d y pc kn st (M, C) Q := by
  obtain ⟨a, M', hf, h⟩ := mB_some h
  refine ex_invS hd hl hv.1 hv.2.1 hst hv.2.2 (Nat.le_of_ble_eq_true hb1) (Nat.le_of_ble_eq_true hb2) (Nat.le_of_ble_eq_true hb3) (K a M' hf) ?_
  rintro _ _ ⟨rfl, rfl⟩
  exact n a M' h
theorem ap_I {a : Int} (k : Ex g d y pc kn (.int (iI a) :: rest) X Q) : Ex g d y pc kn ((eI a).toList ++ rest) X Q := k
theorem ap_J {a : Int} (k : Ex g d y pc kn (.long (iJ a) :: rest) X Q) : Ex g d y pc kn ((eJ a).toList ++ rest) X Q := k
theorem ap_V {a : Unit} (k : Ex g d y pc kn rest X Q) : Ex g d y pc kn ((eV a).toList ++ rest) X Q := k
theorem ap_R {a : Option Nat} (k : Ex g d y pc kn (va_rf a :: rest) X Q) : Ex g d y pc kn ((eR a).toList ++ rest) X Q := k
/-! the model's ends -/
theorem mx_iret {v a0 : Int} {M0 : MW} (h : some (v, M) = some (a0, M0)) (hd : decode y.2.2.1 pc = .ok (.ireturn, 1)) (hr : y.2.2.2.2.1 = some .int) : Ex g d y pc kn [.int (iI v)] (M, C) (QM eI a0 M0 C) := by
  cases h
  exact ex_iret hd hr ⟨rfl, rfl⟩
theorem mx_zret {v a0 : Int} {M0 : MW} (h : gdB (isZ v) (some (v, M)) = some (a0, M0)) (hd : decode y.2.2.1 pc = .ok (.ireturn, 1)) (hr : y.2.2.2.2.1 = some .boolean) : Ex g d y pc kn [.int (iI v)] (M, C) (QM eI a0 M0 C) := by
  obtain ⟨hz, h⟩ := gdB_some h
  cases h
  exact ex_zret hd hr (isZ_or hz) ⟨rfl, rfl⟩
theorem mx_zret0 {a0 : Int} {M0 : MW} (h : some ((0 : Int), M) = some (a0, M0)) (hd : decode y.2.2.1 pc = .ok (.ireturn, 1)) (hr : y.2.2.2.2.1 = some .boolean) : Ex g d y pc kn [.int (iI 0)] (M, C) (QM eI a0 M0 C) := by
  cases h
  exact ex_zret hd hr (Or.inl rfl) ⟨rfl, rfl⟩
theorem mx_zret1 {a0 : Int} {M0 : MW} (h : some ((1 : Int), M) = some (a0, M0)) (hd : decode y.2.2.1 pc = .ok (.ireturn, 1)) (hr : y.2.2.2.2.1 = some .boolean) : Ex g d y pc kn [.int (iI 1)] (M, C) (QM eI a0 M0 C) := by
  cases h
  exact ex_zret hd hr (Or.inr rfl) ⟨rfl, rfl⟩
theorem mx_lret {v a0 : Int} {M0 : MW} (h : some (v, M) = some (a0, M0)) (hd : decode y.2.2.1 pc = .ok (.lreturn, 1)) (hr : y.2.2.2.2.1 = some .long) : Ex g d y pc kn [.long (iJ v)] (M, C) (QM eJ a0 M0 C) := by
  cases h
  exact ex_lret hd hr ⟨rfl, rfl⟩
theorem mx_vret {a0 : Unit} {M0 : MW} (h : some ((), M) = some (a0, M0)) (hd : decode y.2.2.1 pc = .ok (.return_, 1)) (hr : y.2.2.2.2.1 = none) : Ex g d y pc kn [] (M, C) (QM eV a0 M0 C) := by
  cases h
  exact ex_vret hd hr ⟨rfl, rfl⟩
end TX
