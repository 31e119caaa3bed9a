/-! LAYER C: the component's form, loops -/
def Kfm (k j : Nat) : Prop := k = 205 ∨ (k = 204 ∧ j = 8)
theorem CsE.ch {C1 C : CW} (h : CsE C1 C) (A R : Nat → Prop) : ChC C1 C Kfm A R := by
  obtain ⟨k1, k2, a1, a2, a3, a4, a5, a6, a7, a8, a9, a10⟩ := h
  exact ⟨fun a b hn => ⟨k1 a b (fun e => hn (Or.inl e)) (fun e => hn (Or.inr e)), by rw [k2]⟩, a10, a6, a9, by omega, by omega, fun q _ => ⟨by rw [a1], by rw [a2], by rw [a4], fun _ => by rw [a3], fun _ => by rw [a5]⟩, fun q _ => by rw [a1]⟩
def FxF (C1 C' : CW) (q b p : Nat) : Prop := hK C' q = 13 ∧ hI C' q 6 = (b : Int) ∧ hI C' q 7 = (p : Int) ∧ ChC C1 C' Kfm (S3B C1) (fun _ => False) ∧ hZ C' ≤ hZ C1 + 1 ∧ hS C' ≤ hS C1 + 8
theorem FXc.ff {C1 C C' : CW} {q b p : Nat} (h : FXc C C' q b p) (k : CsE C1 C) : FxF C1 C' q b p := by
  obtain ⟨Cm, f, n, h6, h7⟩ := h
  have kz : hZ C = hZ C1 ∧ hS C = hS C1 ∧ hB C = hB C1 := ⟨k.2.2.2.2.2.2.2.2.1, k.2.2.2.2.2.2.2.2.2.1, k.2.2.2.2.2.2.2.1⟩
  have fz : hZ Cm = hZ C ∧ hS Cm = hS C := ⟨f.2.2.2.2.2.2.2.2.2.1, f.2.2.2.2.2.2.2.2.2.2.1⟩
  have nz : hZ C' = hZ Cm + 1 ∧ hS C' = hS Cm + 8 := ⟨n.2.2.2.2.2.2.1, n.2.2.2.2.2.2.2.1⟩
  refine ⟨n.2.1, h6, h7, ((k.ch (S3B C1) (fun _ => False)).tr ((f.hio.ch Kfm (fun _ => False)).mono (fun _ _ h => h) (fun q _ h => Or.inl (by rw [← kz.2.2]; exact h)) (fun _ _ h => h))).tr (n.ch _ _ _), by omega, by omega⟩
theorem c_form131 {C : CW} {x : VC} {qf qs qh : List Nat} {qm hl p : Nat} {C1 : CW} (hf : FCp C x qf qs qm hl qh) (hcs : CsE C1 C) (hp : cI C 204 8 = (p : Int)) (hpN : p < rN (xm_ x)) (z1 : 0 < szo (rC (xm_ x) p)) (z2 : p + szo (rC (xm_ x) p) ≤ rN (xm_ x)) (r1 : hZ C + 1 ≤ 600384) (r2 : hS C + 8 ≤ 7290858) {k : Int → CW → Option ((Nat ⊕ Unit) × CW)} {y : Int} {i : Nat} (hi : i < 256) (h132 : rC (xm_ x) p ≠ 132 → i = opi (rC (xm_ x)) p ∨ szo (rC (xm_ x) p) ≠ 2) :
    (w70 x (rC (xm_ x) p) (opi (rC (xm_ x)) p) = 0 ∧ f_X3_form_b131 k y (rC (xm_ x) p) i C = k y (csI C 204 8 ((p + szo (rC (xm_ x) p) : Nat) : Int))) ∨
    (w70 x (rC (xm_ x) p) (opi (rC (xm_ x)) p) ≠ 0 ∧ ∃ q C', f_X3_form_b131 k y (rC (xm_ x) p) i C = some (.inl q, C') ∧ FxF C1 C' q (w70 x (rC (xm_ x) p) (opi (rC (xm_ x)) p)) p) := by
  have c := hf.sc hp r1 r2
  have hN : rN (xm_ x) ≤ 120 := c.xz
  have o256 : rC (xm_ x) p < 256 := c.2.2.2.1.2.2.1.2.2.2.2.2.2 p
  have o2 := c.2.2.2.1.2.1
  unfold f_X3_form_b131
  rcases c_operand c rfl hi z1 z2 h132 with ⟨h1, h2⟩ | ⟨h1, q, C', h2, h3⟩
  · refine Or.inl ⟨h1, ?_⟩
    rw [h2, xB_r, rd_k, hp, rd_k, c.2.2.2.1.1, rd_k, dr_k, gd_e o2.1, c_at o2 hN hpN rfl, cB_k, c_sizeOf o256, cB_k, rd_k]
    rfl
  · exact Or.inr ⟨h1, q, C', by rw [h2, xB_l], h3.ff hcs⟩
theorem c_fo1 {C1 : CW} {x : VC} {qf qs qh : List Nat} {qm hl : Nat} (hf1 : FCp C1 x qf qs qm hl qh) (r1 : hZ C1 + 1 ≤ 600384) (r2 : hS C1 + 8 ≤ 7290858) : ∀ (n' n p : Nat) (b : Nat → Bool) (C : CW), rN (xm_ x) < n' + p → rN (xm_ x) < n + p → p ≤ rN (xm_ x) → CsE C1 C → cI C 204 8 = (p : Int) → BgC C b →
    match fo1 x n' p b with
    | .inl e => ∃ q C', f_X3_form_b40 n (rN (xm_ x) : Int) C = some (.inl q, C') ∧ FxF C1 C' q e.1 e.2
    | .inr B => ∃ C', f_X3_form_b40 n (rN (xm_ x) : Int) C = f_X3_form_b165 FU (rN (xm_ x) : Int) C' ∧ CsE C1 C' ∧ cI C' 204 8 = 0 ∧ BgC C' B := by
  intro n'
  induction n' with
  | zero => intro n p b C h1 h2 h3; omega
  | succ n' ih =>
    intro n p b C h1 h2 hp cs p8 hb
    have hf := hf1.cs cs
    have kz : hZ C = hZ C1 ∧ hS C = hS C1 := ⟨cs.2.2.2.2.2.2.2.2.1, cs.2.2.2.2.2.2.2.2.2.1⟩
    have c := hf.sc p8 (by omega) (by omega)
    have hN : rN (xm_ x) ≤ 120 := c.xz
    have o256 : rC (xm_ x) p < 256 := c.2.2.2.1.2.2.1.2.2.2.2.2.2 p
    have o2 := c.2.2.2.1.2.1
    have o1 := c.2.2.2.1.1
    obtain ⟨n, rfl⟩ : ∃ k, n = k + 1 := ⟨n - 1, by omega⟩
    rw [show f_X3_form_b40 (n + 1) (rN (xm_ x) : Int) C = f_X3_form_s40 (f_X3_form_b40 n) (rN (xm_ x) : Int) C from rfl]
    unfold f_X3_form_s40
    rw [rd_k, p8, w32_n _ (by omega), w32_n p (by omega)]
    by_cases e : rN (xm_ x) ≤ p
    · rw [if_pos (by omega), show fo1 x (n' + 1) p b = .inr b from if_pos e, rd_k]
      exact ⟨_, rfl, cs.st (Or.inr ⟨rfl, rfl⟩), cI_scsI rfl, fun j hj => by rw [cI_ocsI (by omega)]; exact hb j hj⟩
    · rw [if_neg (by omega), rd_k, o1, rd_k, dr_k, gd_e o2.1, c_at o2 hN (k := p) (by omega) rfl, cB_k, c_sizeOf o256, cB_k, w32_n _ (by have := szo_le (rC (xm_ x) p); omega)]
      have szl := szo_le (rC (xm_ x) p)
      have bad : ∀ C0 : CW, C0 = C → wrg x p = 1 → ∃ q C', f_X3_form_b82 (f_X3_form_b40 n) (rN (xm_ x) : Int) (szo (rC (xm_ x) p) : Int) C0 = some (.inl q, C') ∧ FxF C1 C' q (wrg x p) p := by
        intro C0 e0 hw
        subst e0
        unfold f_X3_form_b82 f_X3_form_b83
        rcases c_need c (FrN.r _) false 1 with ⟨h1, _⟩ | ⟨_, q, C', h2, h3⟩
        · cases h1
        · rw [hw]
          refine ⟨q, C', ?_, h3.ff cs⟩
          rw [show f_X3_need 0 1 C0 = some (.inl q, C') from h2, xB_l]
      by_cases e2 : szo (rC (xm_ x) p) = 0
      · have hw : wrg x p = 1 := by unfold wrg; rw [if_pos (Or.inl e2)]
        rw [if_pos (by omega), show fo1 x (n' + 1) p b = .inl (wrg x p, p) from (if_neg e).trans (if_neg (by omega))]
        exact bad C rfl hw
      · rw [if_neg (by omega), rd_k, p8, w32_i (by omega)]
        by_cases e3 : rN (xm_ x) < p + szo (rC (xm_ x) p)
        · have hw : wrg x p = 1 := by unfold wrg; rw [if_pos (Or.inr e3)]
          rw [if_pos (by omega), show fo1 x (n' + 1) p b = .inl (wrg x p, p) from (if_neg e).trans (if_neg (by omega))]
          exact bad C rfl hw
        · have hw : wrg x p = w70 x (rC (xm_ x) p) (opi (rC (xm_ x)) p) := by unfold wrg; rw [if_neg (fun h => h.elim e2 e3)]
          rw [if_neg (by omega)]
          let D := csI C 205 p 1
          have csD : CsE C1 D := cs.st (Or.inl rfl)
          have p8D : cI D 204 8 = (p : Int) := by show cI (csI C 205 p 1) 204 8 = _; rw [cI_ocsI (by omega)]; exact p8
          have hfD := hf1.cs csD
          have bD : BgC D (up1 b p true) := fun j hj => by
            show cI (csI C 205 p 1) 205 j = b2i (if j = p then true else b j)
            by_cases ej : j = p
            · rw [if_pos ej, ej, cI_scsI rfl]; rfl
            · rw [if_neg ej, cI_ocsI (by omega)]; exact hb j hj
          have o1D : cR D 204 7 = some qm := o1
          have o2D : MsC D qm (xm_ x) := hfD.2.2.2.2.2.1.2.1
          have st : ∃ i : Nat, i < 256 ∧ (rC (xm_ x) p ≠ 132 → i = opi (rC (xm_ x)) p ∨ szo (rC (xm_ x) p) ≠ 2) ∧ f_X3_form_b83 (f_X3_form_b40 n) (rN (xm_ x) : Int) (szo (rC (xm_ x) p) : Int) 1 C = f_X3_form_b131 (f_X3_form_b40 n) (rN (xm_ x) : Int) (rC (xm_ x) p : Int) (i : Int) D := by
            unfold f_X3_form_b83
            rcases c_need c (FrN.r _) true 1 with ⟨_, h2⟩ | ⟨h1, _⟩
            · rw [show f_X3_need 1 1 C = some (.inr (), C) from h2, xB_r, rd_k, p8, ax_k (by omega), Int.toNat_natCast, iAnd_11, rd_k, rd_k, show cR (csI C 205 p 1) 204 7 = some qm from o1D, rd_k, show cI (csI C 205 p 1) 204 8 = (p : Int) from p8D, dr_k, gd_e o2D.1, c_at o2D hN (k := p) (by omega) rfl, cB_k, w32_n _ (by omega), show w32 2 = 2 by decide]
              by_cases e4 : szo (rC (xm_ x) p) = 2
              · refine ⟨rC (xm_ x) (p + 1), c.2.2.2.1.2.2.1.2.2.2.2.2.2 _, fun _ => Or.inl (by unfold opi; rw [if_neg (by omega)]), ?_⟩
                rw [if_pos (by omega), rd_k, show cR (csI C 205 p 1) 204 7 = some qm from o1D, rd_k, show cI (csI C 205 p 1) 204 8 = (p : Int) from p8D, dr_k, gd_e o2D.1, c_at o2D hN (k := p + 1) (by omega) (by omega), cB_k]
              · exact ⟨0, by omega, fun _ => Or.inr e4, by rw [if_neg (by omega)]; rfl⟩
            · cases h1
          obtain ⟨i, i1, i2, i3⟩ := st
          rw [i3]
          rcases c_form131 (k := f_X3_form_b40 n) (y := (rN (xm_ x) : Int)) hfD csD p8D (by omega) (by omega) (by omega) (by show hZ C + 1 ≤ _; omega) (by show hS C + 8 ≤ _; omega) i1 i2 with ⟨h1, h2⟩ | ⟨h1, q, C', h2, h3⟩
          · rw [h2, show fo1 x (n' + 1) p b = fo1 x n' (p + szo (rC (xm_ x) p)) (up1 b p true) from (if_neg e).trans (if_pos (by omega))]
            exact ih n (p + szo (rC (xm_ x) p)) (up1 b p true) _ (by omega) (by omega) (by omega) (csD.st (Or.inr ⟨rfl, rfl⟩)) (cI_scsI rfl) (fun j hj => by rw [cI_ocsI (by omega)]; exact bD j hj)
          · rw [h2, show fo1 x (n' + 1) p b = .inl (wrg x p, p) from (if_neg e).trans (if_neg (by omega)), hw]
            exact ⟨q, C', rfl, h3⟩
theorem c_fo2 {C1 : CW} {x : VC} {qf qs qh : List Nat} {qm hl : Nat} {B : Nat → Bool} (hB' : FB1 x (rN (xm_ x)) B) (hf1 : FCp C1 x qf qs qm hl qh) (r1 : hZ C1 + 1 ≤ 600384) (r2 : hS C1 + 8 ≤ 7290858) : ∀ (n' n p : Nat) (C : CW), rN (xm_ x) < n' + p → rN (xm_ x) < n + p → p ≤ rN (xm_ x) → CsE C1 C → cI C 204 8 = (p : Int) → BgC C B →
    match fo2 x B n' p with
    | some e => ∃ q C', f_X3_form_b165 n (rN (xm_ x) : Int) C = some (.inl q, C') ∧ FxF C1 C' q 4 e
    | none => ∃ C', f_X3_form_b165 n (rN (xm_ x) : Int) C = f_X3_form_b237 FU (rN (xm_ x) : Int) 0 C' ∧ CsE C1 C' ∧ BgC C' B := by
  intro n'
  induction n' with
  | zero => intro n p C h1 h2 h3; omega
  | succ n' ih =>
    intro n p C h1 h2 hp cs p8 hb
    have hf := hf1.cs cs
    have kz : hZ C = hZ C1 ∧ hS C = hS C1 := ⟨cs.2.2.2.2.2.2.2.2.1, cs.2.2.2.2.2.2.2.2.2.1⟩
    have c := hf.sc p8 (by omega) (by omega)
    have hN : rN (xm_ x) ≤ 120 := c.xz
    have o256 : rC (xm_ x) p < 256 := c.2.2.2.1.2.2.1.2.2.2.2.2.2 p
    have o2 := c.2.2.2.1.2.1
    have o1 := c.2.2.2.1.1
    obtain ⟨n, rfl⟩ : ∃ k, n = k + 1 := ⟨n - 1, by omega⟩
    rw [show f_X3_form_b165 (n + 1) (rN (xm_ x) : Int) C = f_X3_form_s165 (f_X3_form_b165 n) (rN (xm_ x) : Int) C from rfl]
    unfold f_X3_form_s165
    rw [rd_k, p8, w32_n _ (by omega), w32_n p (by omega)]
    by_cases e : rN (xm_ x) ≤ p
    · rw [if_pos (by omega), show fo2 x B (n' + 1) p = none from if_pos e]
      exact ⟨C, rfl, cs, hb⟩
    · have nx : brBad x B p = false → match fo2 x B (n' + 1) p with
          | some e => ∃ q C', f_X3_form_b222 (f_X3_form_b165 n) (rN (xm_ x) : Int) C = some (.inl q, C') ∧ FxF C1 C' q 4 e
          | none => ∃ C', f_X3_form_b222 (f_X3_form_b165 n) (rN (xm_ x) : Int) C = f_X3_form_b237 FU (rN (xm_ x) : Int) 0 C' ∧ CsE C1 C' ∧ BgC C' B := by
        intro hbr
        unfold f_X3_form_b222
        rw [rd_k, p8, rd_k, show fo2 x B (n' + 1) p = fo2 x B n' (p + 1) from (if_neg e).trans (if_neg (by rw [hbr]; decide))]
        exact ih n (p + 1) _ (by omega) (by omega) (by omega) (cs.st (Or.inr ⟨rfl, rfl⟩)) (cI_scsI rfl) (fun j hj => by rw [cI_ocsI (by omega)]; exact hb j hj)
      rw [if_neg (by omega), rd_k, ax_k (by omega), Int.toNat_natCast, rd_k, hb p (by omega), ite_b]
      cases eb : B p with
      | false =>
        rw [if_neg (by decide)]
        exact nx (by unfold brBad; rw [eb]; rfl)
      | true =>
        obtain ⟨_, c2, _⟩ := hB'.2.2 p eb
        have zz := wrg_z c2
        rw [if_pos rfl, rd_k, o1, rd_k, dr_k, gd_e o2.1, c_at o2 hN (k := p) (by omega) rfl, cB_k, c_isBranch o256, cB_k, ite_b]
        cases ebr : isBr (rC (xm_ x) p) with
        | false =>
          rw [if_neg (by decide)]
          exact nx (by unfold brBad; rw [ebr, Bool.and_false]; rfl)
        | true =>
          have s3 : szo (rC (xm_ x) p) = 3 := szo_br ebr
          rw [if_pos rfl, rd_k, o1, rd_k, p8, dr_k, gd_e o2.1, c_target o2 hN (by omega), cB_k, c_isStart hf hb (tgt_b _ _ (by omega)), cB_k]
          rcases c_need c (FrN.r _) (stB x B (tgt (rC (xm_ x)) p)) 4 with ⟨h1, h2⟩ | ⟨h1, q, C', h2, h3⟩
          · rw [show f_X3_need (b2i (stB x B (tgt (rC (xm_ x)) p))) 4 C = some (.inr (), C) from h2, xB_r]
            exact nx (by unfold brBad; rw [h1, Bool.not_true, Bool.and_false])
          · rw [show f_X3_need (b2i (stB x B (tgt (rC (xm_ x)) p))) 4 C = some (.inl q, C') from h2, xB_l, show fo2 x B (n' + 1) p = some p from (if_neg e).trans (if_pos (by unfold brBad; rw [eb, ebr, h1]; rfl))]
            exact ⟨q, C', rfl, h3.ff cs⟩
