/-! LAYER C: bits of what waits -/
/-- a long's bits -/
def bJ (v : Int) (k : Nat) : Bool := (iJ v).toBitVec.getLsbD k
def bI (v : Int) (k : Nat) : Bool := (iI v).toBitVec.getLsbD k
theorem bJ_or (a b : Int) (k : Nat) : bJ (jOr a b) k = (bJ a k || bJ b k) := by
  unfold bJ jOr
  rw [iJ_t, Int64.toBitVec_or, BitVec.getLsbD_or]
theorem bJ_and (a b : Int) (k : Nat) : bJ (jAnd a b) k = (bJ a k && bJ b k) := by
  unfold bJ jAnd
  rw [iJ_t, Int64.toBitVec_and, BitVec.getLsbD_and]
theorem bI_and (a b : Int) (k : Nat) : bI (iAnd a b) k = (bI a k && bI b k) := by
  unfold bI iAnd
  rw [iI_t, Int32.toBitVec_and, BitVec.getLsbD_and]
theorem bI_xor (a b : Int) (k : Nat) : bI (iXor a b) k = (bI a k ^^ bI b k) := by
  unfold bI iXor
  rw [iI_t, Int32.toBitVec_xor, BitVec.getLsbD_xor]
theorem bJ_sh_all : ∀ b k : Fin 64, bJ (jShl 1 ((b.val : Nat) : Int)) k.val = decide (k = b) := by decide +kernel
theorem bJ_sh {b k : Nat} (hb : b < 64) (hk : k < 64) : bJ (jShl 1 (b : Int)) k = decide (k = b) := by
  rw [bJ_sh_all ⟨b, hb⟩ ⟨k, hk⟩]
  by_cases e : k = b
  · rw [decide_eq_true e, decide_eq_true (Fin.ext e)]
  · rw [decide_eq_false e, decide_eq_false (fun h => e (congrArg Fin.val h))]
theorem iShr6_all : ∀ p : Fin 128, iShr ((p.val : Nat) : Int) 6 = ((p.val / 64 : Nat) : Int) := by decide +kernel
theorem iAnd63_all : ∀ p : Fin 128, iAnd ((p.val : Nat) : Int) 63 = ((p.val % 64 : Nat) : Int) := by decide +kernel
theorem bJ_tb (v : Int) (k : Nat) : bJ v k = (iJ v).toBitVec.toNat.testBit k := rfl
theorem bI_tb (v : Int) (k : Nat) : bI v k = (iI v).toBitVec.toNat.testBit k := rfl
theorem nJ64 (v : Int) : ((iJ v).toBitVec.toNat : Int) = v % 18446744073709551616 := by
  unfold iJ
  rw [Int64.toBitVec_ofInt, BitVec.toNat_ofInt]
  have : (0 : Int) ≤ v % ((2 ^ 64 : Nat) : Int) := Int.emod_nonneg _ (by decide)
  omega
theorem nI32 (v : Int) : ((iI v).toBitVec.toNat : Int) = v % 4294967296 := by
  unfold iI
  rw [Int32.toBitVec_ofInt, BitVec.toNat_ofInt]
  have : (0 : Int) ≤ v % ((2 ^ 32 : Nat) : Int) := Int.emod_nonneg _ (by decide)
  omega
/-- one less than a number: the bits below the lowest one turn -/
theorem tb_pred {n b : Nat} (hb : n.testBit b = true) (hl : ∀ j, j < b → n.testBit j = false) (k : Nat) : (n - 1).testBit k = if k < b then true else if k = b then false else n.testBit k := by
  have e1 : n % 2 ^ b = 0 := by
    apply Nat.eq_of_testBit_eq
    intro i
    rw [Nat.testBit_mod_two_pow, Nat.zero_testBit]
    by_cases h : i < b
    · rw [hl i h, Bool.and_false]
    · rw [decide_eq_false h, Bool.false_and]
  have e2 : (n / 2 ^ b) % 2 = 1 := by
    have := hb
    rw [Nat.testBit_eq_decide_div_mod_eq] at this
    exact of_decide_eq_true this
  have e3 : n = 2 ^ b * (n / 2 ^ b) := by
    have := Nat.div_add_mod n (2 ^ b)
    omega
  obtain ⟨m, hm⟩ : ∃ m, n / 2 ^ b = 2 * m + 1 := ⟨n / 2 ^ b / 2, by omega⟩
  rw [hm] at e3
  have pp : 0 < 2 ^ b := Nat.two_pow_pos b
  have ps : 2 ^ (b + 1) = 2 ^ b * 2 := Nat.pow_succ 2 b
  have e4 : n = 2 ^ (b + 1) * m + 2 ^ b := by
    rw [e3, ps, Nat.mul_add, Nat.mul_one, Nat.mul_assoc]
  have e5 : n - 1 = 2 ^ (b + 1) * m + (2 ^ b - 1) := by omega
  have lt1 : 2 ^ b - 1 < 2 ^ (b + 1) := by omega
  have lt2 : 2 ^ b < 2 ^ (b + 1) := by omega
  rw [e5, Nat.testBit_two_pow_mul_add m lt1, Nat.testBit_two_pow_sub_one]
  by_cases k1 : k < b
  · rw [if_pos (by omega), if_pos k1, decide_eq_true k1]
  by_cases k2 : k = b
  · rw [if_pos (by omega), if_neg k1, if_pos k2, decide_eq_false k1]
  · rw [if_neg (by omega), if_neg k1, if_neg k2]
    rw [e4, Nat.testBit_two_pow_mul_add m lt2, if_neg (by omega)]
theorem bJ_pred {v : Int} {b : Nat} (hb : bJ v b = true) (hl : ∀ j, j < b → bJ v j = false) (k : Nat) : bJ (v - 1) k = if k < b then (decide (k < 64)) else if k = b then false else bJ v k := by
  have b64 : b < 64 := by
    apply Classical.byContradiction
    intro h
    rw [bJ, BitVec.getLsbD_of_ge _ _ (by omega)] at hb
    cases hb
  have h1 := nJ64 v
  have h2 := nJ64 (v - 1)
  have h0 : (iJ v).toBitVec.toNat ≠ 0 := by
    intro e
    rw [bJ_tb, e, Nat.zero_testBit] at hb
    cases hb
  have e : (iJ (v - 1)).toBitVec.toNat = (iJ v).toBitVec.toNat - 1 := by omega
  rw [bJ_tb, e, tb_pred hb hl k]
  by_cases k1 : k < b
  · rw [if_pos k1, if_pos k1, decide_eq_true (by omega)]
  · rw [if_neg k1, if_neg k1]; rfl
theorem bI_pred {v : Int} {b : Nat} (hb : bI v b = true) (hl : ∀ j, j < b → bI v j = false) (k : Nat) : bI (v - 1) k = if k < b then true else if k = b then false else bI v k := by
  have h1 := nI32 v
  have h2 := nI32 (v - 1)
  have h0 : (iI v).toBitVec.toNat ≠ 0 := by
    intro e
    rw [bI_tb, e, Nat.zero_testBit] at hb
    cases hb
  have e : (iI (v - 1)).toBitVec.toNat = (iI v).toBitVec.toNat - 1 := by omega
  rw [bI_tb, e, tb_pred hb hl k]
  rfl
theorem bI_m1_all : ∀ k : Fin 32, bI (-1) k.val = true := by decide +kernel
/-- the low int of a long has its low bits -/
theorem bI_low (v : Int) {k : Nat} (hk : k < 32) : bI v k = bJ v k := by
  have h1 := nI32 v
  have h2 := nJ64 v
  rw [bI_tb, bJ_tb]
  have e : (iI v).toBitVec.toNat = (iJ v).toBitVec.toNat % 2 ^ 32 := by omega
  rw [e, Nat.testBit_mod_two_pow, decide_eq_true hk, Bool.true_and]
theorem bJ_ushr (v : Int) {k : Nat} (hk : k < 32) : bJ (jUshr v 32) k = bJ v (k + 32) := by
  have e : (iJ (jUshr v 32)).toBitVec = (iJ v).toBitVec >>> 32 := by
    unfold jUshr
    rw [iJ_t]
    have : ((iI 32).toInt64.toUInt64 &&& Int64.toUInt64 63) = 32 := by decide +kernel
    rw [this]
    rfl
  unfold bJ
  rw [e, BitVec.getLsbD_ushiftRight, Nat.add_comm]
theorem z_all (v : Int) : w32 v = 0 ↔ ∀ k, k < 32 → bI v k = false := by
  have h1 := nI32 v
  constructor
  · intro h k hk
    have : (iI v).toBitVec.toNat = 0 := by unfold w32 at h; omega
    rw [bI_tb, this, Nat.zero_testBit]
  · intro h
    have : (iI v).toBitVec.toNat = 0 := by
      apply Nat.eq_of_testBit_eq
      intro i
      rw [Nat.zero_testBit]
      by_cases hi : i < 32
      · exact h i hi
      · exact BitVec.getLsbD_of_ge _ _ (by omega)
    unfold w32
    omega
theorem zJ_all (v : Int) : w32 (jCmp v 0) = 0 ↔ ∀ k, k < 64 → bJ v k = false := by
  have e : w32 (jCmp v 0) = 0 ↔ iJ v = iJ 0 := by
    unfold jCmp lg_cmp
    constructor
    · intro h
      by_cases g : iJ v > iJ 0
      · rw [if_pos g] at h; exact absurd h (by decide)
      · rw [if_neg g] at h
        by_cases q : iJ v = iJ 0
        · exact q
        · rw [if_neg q] at h; exact absurd h (by decide)
    · intro h
      rw [h, if_neg (by decide), if_pos rfl]; decide
  rw [e]
  constructor
  · intro h k hk
    unfold bJ
    rw [h]
    show (BitVec.ofInt 64 0).getLsbD k = false
    rw [show BitVec.ofInt 64 0 = 0#64 by decide, BitVec.getLsbD_zero]
  · intro h
    apply Int64.toBitVec_inj.mp
    apply BitVec.eq_of_getLsbD_eq
    intro k hk
    have h0 : (iJ 0).toBitVec.getLsbD k = false := by
      show (BitVec.ofInt 64 0).getLsbD k = false
      rw [show BitVec.ofInt 64 0 = 0#64 by decide, BitVec.getLsbD_zero]
    rw [h0]
    exact h k hk
/-- a function of the component that only reads its numbers -/
def PuC {α : Type} (f : CW → Option (α × CW)) : Prop := ∃ v, ∀ C, f C = some (v, C)
def c00 : CW := (fun _ _ => 0, fun _ _ => 0, fun _ _ => none, fun _ => 0, fun _ => 0, fun _ _ => 0, fun _ _ => 0, fun _ _ => none, 0, 0, 0, fun _ => none)
theorem pc_ite {α : Type} {c : Prop} [Decidable c] {f g : CW → Option (α × CW)} (h : PuC f) (k : PuC g) : PuC (fun C => if c then f C else g C) := by
  by_cases hc : c
  · obtain ⟨v, hv⟩ := h
    exact ⟨v, fun C => (if_pos hc).trans (hv C)⟩
  · obtain ⟨v, hv⟩ := k
    exact ⟨v, fun C => (if_neg hc).trans (hv C)⟩
theorem PuC.at0 {α : Type} {f : CW → Option (α × CW)} (h : PuC f) {v : α} (e : (f c00).map (·.1) = some v) (C : CW) : f C = some (v, C) := by
  obtain ⟨w, hw⟩ := h
  rw [hw] at e
  cases e
  exact hw C
def ntzT (y : Int) (C : CW) : Option (Int × CW) := if 0 < w32 y then (if w32 y ≤ w32 65536 then f_J14_numberOfTrailingZeros_b34 y 1 C else f_J14_numberOfTrailingZeros_b34 (iUshr y 16) (1 + 16) C) else some ((iAnd y 32), C)
theorem pc_62 (y n : Int) : PuC (fun C => f_J14_numberOfTrailingZeros_b62 y n C) := by
  unfold f_J14_numberOfTrailingZeros_b62 f_J14_numberOfTrailingZeros_b74
  exact pc_ite ⟨_, fun _ => rfl⟩ ⟨_, fun _ => rfl⟩
theorem pc_49 (y n : Int) : PuC (fun C => f_J14_numberOfTrailingZeros_b49 y n C) := by
  unfold f_J14_numberOfTrailingZeros_b49
  exact pc_ite (pc_62 _ _) (pc_62 _ _)
theorem pc_34 (y n : Int) : PuC (fun C => f_J14_numberOfTrailingZeros_b34 y n C) := by
  unfold f_J14_numberOfTrailingZeros_b34
  exact pc_ite (pc_49 _ _) (pc_49 _ _)
theorem pc_ntz (y : Int) : PuC (fun C => ntzT y C) := by
  unfold ntzT
  exact pc_ite (pc_ite (pc_34 _ _) (pc_34 _ _)) ⟨_, fun _ => rfl⟩
theorem ntz_all : ∀ b : Fin 32, (ntzT (((2 ^ b.val - 1 : Nat) : Int)) c00).map (·.1) = some ((b.val : Nat) : Int) := by decide +kernel
theorem c_ntz32 {v : Int} {b : Nat} {C : CW} (hb : bI v b = true) (hl : ∀ j, j < b → bI v j = false) : f_J14_numberOfTrailingZeros v C = some ((b : Int), C) := by
  have b32 : b < 32 := by
    apply Classical.byContradiction
    intro h
    rw [bI, BitVec.getLsbD_of_ge _ _ (by omega)] at hb
    cases hb
  have e : iAnd (iXor v (-1)) (v - 1) = ((2 ^ b - 1 : Nat) : Int) := by
    have n1 : (iI (iAnd (iXor v (-1)) (v - 1))).toBitVec.toNat = 2 ^ b - 1 := by
      apply Nat.eq_of_testBit_eq
      intro k
      rw [Nat.testBit_two_pow_sub_one]
      by_cases hk : k < 32
      · show bI _ k = _
        rw [bI_and, bI_xor, bI_m1_all ⟨k, hk⟩, bI_pred hb hl]
        by_cases k1 : k < b
        · rw [if_pos k1, hl k k1, decide_eq_true k1]; rfl
        · rw [if_neg k1, decide_eq_false k1]
          by_cases k2 : k = b
          · rw [if_pos k2, Bool.and_false]
          · rw [if_neg k2]
            cases bI v k <;> rfl
      · rw [decide_eq_false (by omega)]
        exact BitVec.getLsbD_of_ge _ _ (by omega)
    have n2 := nI32 (iAnd (iXor v (-1)) (v - 1))
    have r1 : iAnd (iXor v (-1)) (v - 1) < 2147483648 := Int32.toInt_lt _
    have r2 : -2147483648 ≤ iAnd (iXor v (-1)) (v - 1) := Int32.le_toInt _
    have r3 : 2 ^ b ≤ 2 ^ 31 := Nat.pow_le_pow_right (by omega) (by omega)
    rw [n1] at n2
    have r4 : 2 ^ 31 = 2147483648 := by decide
    omega
  unfold f_J14_numberOfTrailingZeros
  rw [rd_k, e]
  exact (pc_ntz _).at0 (ntz_all ⟨b, b32⟩) C
theorem c_ntz {v : Int} {b : Nat} {C : CW} (hb : bJ v b = true) (hl : ∀ j, j < b → bJ v j = false) : f_J13_numberOfTrailingZeros v C = some ((b : Int), C) := by
  have b64 : b < 64 := by
    apply Classical.byContradiction
    intro h
    rw [bJ, BitVec.getLsbD_of_ge _ _ (by omega)] at hb
    cases hb
  unfold f_J13_numberOfTrailingZeros
  by_cases h32 : b < 32
  · have nz : ¬ w32 v = 0 := by
      intro h
      have := (z_all v).mp h b h32
      rw [bI_low v h32, hb] at this
      cases this
    rw [if_neg nz, c_ntz32 (b := b) (by rw [bI_low v h32]; exact hb) (fun j hj => by rw [bI_low v (by omega)]; exact hl j hj), cB_k]
  · have z : w32 v = 0 := (z_all v).mpr (fun k hk => by rw [bI_low v hk]; exact hl k (by omega))
    have l2 : ∀ j, j < 32 → bI (jUshr v 32) j = bJ v (j + 32) := fun j hj => by rw [bI_low _ hj, bJ_ushr v hj]
    have e : b - 32 + 32 = b := by omega
    rw [if_pos z, c_ntz32 (b := b - 32) (by rw [l2 _ (by omega), e]; exact hb) (fun j hj => by rw [l2 _ (by omega)]; exact hl _ (by omega)), cB_k]
    congr 2
    omega
/-- what waits, in the component's two longs -/
def WtC (C : CW) (w : Nat → Bool) : Prop := ∀ i k, i < 2 → k < 64 → bJ (cJ C 206 i) k = w (64 * i + k)
theorem c_wait {C : CW} {w : Nat → Bool} {p : Nat} (hp : p < 120) (h : WtC C w) : ∃ v, f_X3_wait (p : Int) C = some ((), csJ C 206 (p / 64) v) ∧ WtC (csJ C 206 (p / 64) v) (up1 w p true) := by
  have e1 : iShr (p : Int) 6 = ((p / 64 : Nat) : Int) := iShr6_all ⟨p, by omega⟩
  have e2 : iAnd (p : Int) 63 = ((p % 64 : Nat) : Int) := iAnd63_all ⟨p, by omega⟩
  unfold f_X3_wait
  rw [e1, e2, ax_k (by omega), Int.toNat_natCast, rd_k, ax_k (by omega), Int.toNat_natCast, rd_k]
  refine ⟨_, rfl, fun i k hi hk => ?_⟩
  show _ = if 64 * i + k = p then true else w (64 * i + k)
  by_cases ei : i = p / 64
  · rw [ei, cJ_scsJ rfl, bJ_or, h _ _ (by omega) hk, bJ_sh (by omega) hk]
    by_cases ek : k = p % 64
    · rw [if_pos (by omega), decide_eq_true ek, Bool.or_true]
    · rw [if_neg (by omega), decide_eq_false ek, Bool.or_false]
  · rw [cJ_ocsJ (Or.inr ei), h _ _ hi hk, if_neg (by omega)]
theorem c_next {C : CW} {w : Nat → Bool} (hw : ∀ k, 120 ≤ k → w k = false) (h : WtC C w) :
    match lw w with
    | none => f_X3_next C = some (-1, C)
    | some p => ∃ i v, f_X3_next C = some ((p : Int), csJ C 206 i v) ∧ WtC (csJ C 206 i v) (up1 w p false) := by
  -- a word with nothing in it
  have zero : ∀ i n : Nat, i < 2 → (∀ k, k < 64 → w (64 * i + k) = false) → f_X3_next_b2 (n + 1) (i : Int) C = f_X3_next_b2 n ((i : Int) + 1) C := by
    intro i n hi hz
    show f_X3_next_s2 (f_X3_next_b2 n) (i : Int) C = _
    unfold f_X3_next_s2
    rw [w32_n i (by omega), show w32 2 = 2 by decide, if_neg (by omega), ax_k (by omega), Int.toNat_natCast, rd_k, if_pos ((zJ_all _).mpr (fun k hk => by rw [h i k hi hk]; exact hz k hk))]
  have one : ∀ i n b : Nat, i < 2 → b < 64 → w (64 * i + b) = true → (∀ k, k < b → w (64 * i + k) = false) → ∃ v, f_X3_next_b2 (n + 1) (i : Int) C = some (((64 * i + b : Nat) : Int), csJ C 206 i v) ∧ WtC (csJ C 206 i v) (up1 w (64 * i + b) false) := by
    intro i n b hi hb h1 h2
    have t1 : bJ (cJ C 206 i) b = true := by rw [h i b hi hb]; exact h1
    have t2 : ∀ j, j < b → bJ (cJ C 206 i) j = false := fun j hj => by rw [h i j hi (by omega)]; exact h2 j hj
    have nz : ¬ w32 (jCmp (cJ C 206 i) 0) = 0 := fun hz => by
      have := (zJ_all _).mp hz b hb
      rw [t1] at this
      cases this
    show ∃ v, f_X3_next_s2 (f_X3_next_b2 n) (i : Int) C = _ ∧ _
    unfold f_X3_next_s2
    rw [w32_n i (by omega), show w32 2 = 2 by decide, if_neg (by omega), ax_k (by omega), Int.toNat_natCast, rd_k, if_neg nz, ax_k (by omega), Int.toNat_natCast, rd_k, c_ntz t1 t2, cB_k, ax_k (by omega), Int.toNat_natCast, rd_k, ax_k (by omega), Int.toNat_natCast, rd_k, ax_k (by omega), Int.toNat_natCast, rd_k]
    refine ⟨_, by
      have e : (64 * (i : Int) + (b : Int)) = ((64 * i + b : Nat) : Int) := by omega
      rw [e], fun j k hj hk => ?_⟩
    show _ = if 64 * j + k = 64 * i + b then false else w (64 * j + k)
    by_cases ej : j = i
    · rw [ej, cJ_scsJ rfl, bJ_and, bJ_pred t1 t2, h i k hi hk]
      by_cases k1 : k < b
      · rw [if_pos k1, if_neg (by omega), h2 k k1]; rfl
      · rw [if_neg k1]
        by_cases k2 : k = b
        · rw [if_pos k2, if_pos (by omega), Bool.and_false]
        · rw [if_neg k2, if_neg (by omega), Bool.and_self]
    · rw [cJ_ocsJ (Or.inr ej), h j k hj hk, if_neg (by omega)]
  unfold f_X3_next
  cases e : lw w with
  | none =>
    have z := lw_none.mp e
    have z2 : ∀ k, w k = false := fun k => by
      by_cases hk : k < 120
      · exact z k hk
      · exact hw k (by omega)
    dsimp only
    have a1 := zero 0 1152921504606846975 (by omega) (fun k _ => z2 _)
    have a2 := zero 1 1152921504606846974 (by omega) (fun k _ => z2 _)
    exact (a1.trans a2).trans rfl
  | some p =>
    obtain ⟨h1, h2, h3⟩ := lw_some.mp e
    dsimp only
    by_cases p64 : p < 64
    · obtain ⟨v, f1, f2⟩ := one 0 1152921504606846975 p (by omega) p64 (by rw [show 64 * 0 + p = p by omega]; exact h2) (fun k hk => by rw [show 64 * 0 + k = k by omega]; exact h3 k hk)
      rw [show 64 * 0 + p = p by omega] at f1 f2
      exact ⟨0, v, f1, f2⟩
    · have a1 := zero 0 1152921504606846975 (by omega) (fun k hk => h3 _ (by omega))
      obtain ⟨v, f1, f2⟩ := one 1 1152921504606846974 (p - 64) (by omega) (by omega) (by rw [show 64 * 1 + (p - 64) = p by omega]; exact h2) (fun k hk => h3 _ (by omega))
      rw [show 64 * 1 + (p - 64) = p by omega] at f1 f2
      exact ⟨1, v, a1.trans f1, f2⟩
