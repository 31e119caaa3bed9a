/-! LAYER A: rows of memory -/
/-- the field link (own, idx) is field j of class ci -/
def FLk (own : String) (idx ci j : Nat) : Prop := ci < 19 ∧ j < clN ci ∧ ∃ ref : String, (Cond.fieldLink own idx ref (clT ci j).2.1 (clT ci j).2.2.1 ∈ lw_tbl ∨ ∃ host : String, Cond.fieldLinkNest own idx ref (clT ci j).2.1 (clT ci j).2.2.1 host ∈ lw_tbl) ∧ (ref = (clT ci j).1 ∨ Cond.sameField ref (clT ci j).1 (clT ci j).2.1 (clT ci j).2.2.1 ∈ lw_tbl)
theorem lay_tab (C : String) (T : u_T) (k : Nat) : (u_lay C T k).onTables = true ∧ stW (u_lay C T k) = true := by
  unfold u_lay
  split <;> exact ⟨rfl, rfl⟩
theorem cl_hts {s : State} {args : Array Value} (h : TB s) {ci : Nat} (hc : ci < 19) : ∀ w ∈ u_ws (clR ci) (clT ci) (clN ci), w.before args s = true := by
  intro w hw
  obtain ⟨k, hk, rfl⟩ := List.mem_map.mp hw
  exact va_tabs (lay_tab _ _ _).1 rfl (h _ (cl_ws ci hc k (List.mem_range.mp hk)) (lay_tab _ _ _).2)
theorem cAt.kept {g : Gx} {K n : Nat} {V : Nat → Value} {a : Nat} {H H1 : Heap} (h : cAt g K n V a H) (hq : H1[a]? = H[a]?) : cAt g K n V a H1 := by
  unfold cAt at h ⊢
  split
  · rename_i hK
    rw [if_pos hK] at h
    exact ⟨⟨h.1.1, fun c hc => h.1.2 c (by rw [← hq]; exact hc)⟩, h.2.kept hq⟩
  · rename_i hK
    rw [if_neg hK] at h
    exact ⟨h.1, hq.trans h.2⟩
theorem cAt.to {g : Gx} {K n : Nat} {V V' : Nat → Value} {a : Nat} {H : Heap} (h : cAt g K n V a H) (hv : ∀ j, V j = V' j) : cAt g K n V' a H := by
  have : V = V' := funext hv
  exact this ▸ h
theorem cAt.lt {g : Gx} {K n : Nat} {V : Nat → Value} {a : Nat} {H : Heap} (h : cAt g K n V a H) : a < H.size := by
  unfold cAt at h
  split at h
  · obtain ⟨-, cell, h2, -⟩ := h
    exact (Array.getElem?_eq_some_iff.mp h2).1
  · exact (Array.getElem?_eq_some_iff.mp h.2).1
section MEM
variable {p : Program} {l : Launch} {e : Env} {R : Room} {s : State} {m : MethodId} {args : Array Value} {below : List Frame} {meth : Method} {c : Code} {H : Heap} {locs : List Loc} {cells slots : Nat} {Q' : State → Prop} {ls : Array Slot}
variable {g : Gx} {d : Nat} {y : MD} {pc : Nat} {kn : List (Nat × Value)} {st rest : List Value} {X : XW} {Q : Out → XW → Prop} {y0 : Nat}
theorem kn_cl (hK : KN g s) {ci : Nat} (hc : ci < 19) : u_Kn s (clR ci) (clT ci) (clN ci) ((gD g).1 ci) ((gD g).2 ci) := hK.1 ci _ (cl_at ci hc)
theorem kn_arr (hK : KN g s) {t : Nat} (ht : t < 7) : ArrOfT s (gA g t) (atT t) ∧ va_RA s (gA g t) (atT t) := hK.2 t (gA g t, atT t) (by simp [tyL, ht])
theorem get_core (C : Cx g d y p e R s m meth c y0) {K n ci j idx a : Nat} {V : Nat → Value} (hP : cAt g K n V a H) (hk : K = ci + 1) (hl : FLk y.1 idx ci j) (hd : decode y.2.2.1 pc = .ok (.getfield idx, 3))
    (kk : W p l e R s m args below meth c H locs cells slots Q' (F0 m (pc + 3) ls (V j :: rest))) : W p l e R s m args below meth c H locs cells slots Q' (F0 m pc ls (.ref a :: rest)) := by
  subst hk
  obtain ⟨hc, hj, ref, hlink, hsame⟩ := hl
  unfold cAt at hP
  rw [if_pos (by omega), Nat.add_sub_cancel] at hP
  obtain ⟨-, cell, q1, q2, q3, q4⟩ := hP
  obtain ⟨hS, hfc, kC, hkC, hkind⟩ := kn_cl C.kno hc
  obtain ⟨cf, kf, fi, f, hi, hsl⟩ := hS j hj
  have hst := (u_facts (args := args) hfc hkC (u_lays (cl_hts C.tb hc) (fun _ h => h) hj) hi).1
  have hi2 : s.fieldFound? ref (clT ci j).2.1 (clT ci j).2.2.1 = some (cf, kf, fi, f) := by
    rcases hsame with h | h
    · rw [h]; exact hi
    · exact u_same (args := #[]) (C.tb _ h rfl) _ hi
  have hv : cell.slots[f.slot]? = some (V j) := by rw [hsl]; exact q4 j hj
  rcases hlink with h | ⟨host, h⟩
  · exact W.getf C.exec C.code C.own (va_tabs rfl rfl (C.tb _ h rfl)) hi2 hst q1 (by rw [q3]; exact fun h => by cases h) hv rfl rfl hd kk
  · exact va_Wgetf C.exec C.code C.own (va_tabs rfl rfl (C.tb _ h rfl)) hi2 hst q1 (by rw [q3]; exact fun h => by cases h) hv rfl rfl hd kk
theorem put_core (C : Cx g d y p e R s m meth c y0) {K n ci j idx a : Nat} {V : Nat → Value} {v : Value} (hP : cAt g K n V a H) (hk : K = ci + 1) (hl : FLk y.1 idx ci j) (hd : decode y.2.2.1 pc = .ok (.putfield idx, 3))
    (hfin : (clT ci j).2.2.2 = false ∨ ((clT ci j).2.2.2 = true ∧ y.2.1 = "<init>" ∧ (clT ci j).1 = y.1)) (hn : narrow (clY ci j) v = v) (hf : fits (clY ci j) v = true)
    (kk : ∀ (H1 : Heap) (f : Nat), cAt g K n (updV V j v) a H1 → H1.size = H.size → (∀ q : Nat, q ≠ a → H1[q]? = H[q]?) → W p l e R s m args below meth c H1 (locs ++ [⟨a, f⟩]) cells slots Q' (F0 m (pc + 3) ls rest)) : W p l e R s m args below meth c H locs cells slots Q' (F0 m pc ls (v :: .ref a :: rest)) := by
  subst hk
  obtain ⟨hc, hj, ref, hlink, hsame⟩ := hl
  have hin : ∀ w ∈ u_ws (clR ci) (clT ci) (clN ci), w ∈ u_ws (clR ci) (clT ci) (clN ci) := fun _ h => h
  have hap := va_apart (own := y.1) (D := gD g) (cl := clL) (tys := tyL g) (cl_hts (args := args) C.tb hc) hin (clY ci) (cl_ty ci hc) (cl_nm ci hc) C.kno (cl_at ci hc)
  unfold cAt at hP
  rw [if_pos (by omega), Nat.add_sub_cancel] at hP
  obtain ⟨hle, cell, q1, q2, q3, q4⟩ := hP
  obtain ⟨hS, hfc, kC, hkC, hkind⟩ := kn_cl C.kno hc
  obtain ⟨cf, kf, fi, f, hi, hsl⟩ := hS j hj
  have hst := (u_facts (args := args) hfc hkC (u_lays (cl_hts C.tb hc) hin hj) hi).1
  have hi2 : s.fieldFound? ref (clT ci j).2.1 (clT ci j).2.2.1 = some (cf, kf, fi, f) := by
    rcases hsame with h | h
    · rw [h]; exact hi
    · exact u_same (args := #[]) (C.tb _ h rfl) _ hi
  have hd2 := cl_ty ci hc j hj
  have hlay := cl_hts (args := args) C.tb hc _ (hin _ (u_in_lay hj))
  have back : ∀ H' : Heap, H'[a]? = some (cell.setSlot f.slot v) → cAt g (ci + 1) n (updV V j v) a H' := by
    intro H' e1
    rw [hsl] at e1
    unfold cAt
    rw [if_pos (by omega), Nat.add_sub_cancel]
    exact ⟨⟨hle.1, fun c' hc' => by
      rw [e1] at hc'
      cases hc'
      exact hle.2 cell q1⟩, _, e1, q2, q3, t_set q4 hap hj v⟩
  have hlt : f.slot < cell.slots.size := by rw [hsl]; exact k2_hasslot (q4 j hj)
  rcases hfin with hfin | ⟨hfin, hini, hdecl⟩
  · unfold u_lay at hlay
    rw [if_neg (by rw [hfin]; decide)] at hlay
    have h6 := u_store hfc hkC hkind hlay hi hd2 hn hf
    rcases hlink with h | ⟨host, h⟩
    · exact W.putK C.exec C.code (f := f) ⟨C.own, va_tabs rfl rfl (C.tb _ h rfl), ⟨_, _, _, hi2⟩, hst⟩ (by rw [q2]; exact h6) q1 q3 hlt rfl rfl hd fun H' e1 e2 e3 => kk H' _ (back H' e1) e2 e3
    · exact va_WputK C.exec C.code (f := f) C.own (va_tabs rfl rfl (C.tb _ h rfl)) hi2 hst (by rw [q2]; exact h6) q1 q3 hlt rfl rfl hd fun H' e1 e2 e3 => kk H' _ (back H' e1) e2 e3
  · unfold u_lay at hlay
    rw [if_pos hfin] at hlay
    have hcf : m.cls = cf := by
      obtain ⟨_, _, c', _, _, _, -, -, hf', -, -, -, hown2, -⟩ := Cond.laysFinal_spec hlay
      have e1 : c' = cf := by have := hi.symm.trans hf'; simp at this; exact this.1.symm
      rw [hdecl] at hown2
      rw [← e1]; exact Option.some.inj (C.own.symm.trans hown2)
    have h6 := u_fits hfc hkC hkind (Or.inr hlay) hi hd2 hn hf
    rcases hlink with h | ⟨host, h⟩
    · exact W.putFinK C.exec C.code C.own (va_tabs rfl rfl (C.tb _ h rfl)) hi2 hst hcf (by rw [C.name, hini]) (by rw [q2]; exact h6) q1 q3 hlt rfl rfl hd fun H' e1 e2 e3 => kk H' _ (back H' e1) e2 e3
    · have ha : a < H.size := (Array.getElem?_eq_some_iff.mp q1).1
      refine va_Wputf C.exec C.code C.own (va_tabs rfl rfl (C.tb _ h rfl)) hi2 hst (Or.inr ⟨hcf, by rw [C.name, hini]⟩) q1 (by rw [q3]; exact fun h => by cases h) hlt h6.1 (by rw [q3, q2]; exact h6.2) rfl rfl hd ?_
      refine kk _ _ (back _ ?_) ?_ ?_
      · simp [Array.getElem?_setIfInBounds, ha]
      · simp
      · intro q hq
        simp [Array.getElem?_setIfInBounds, Ne.symm hq]
/-- an array's cell, out of cAt -/
theorem cAt.arr {t n a : Nat} {V : Nat → Value} (h : cAt g (64 + t) n V a H) : t < 7 ∧ H[a]? = some (arrV (gA g t) n V) := by
  unfold cAt at h
  rw [if_neg (by omega), Nat.add_sub_cancel_left] at h
  exact ⟨by omega, h.2⟩
theorem cAt.ofArr {t n a : Nat} {V : Nat → Value} (ht : t < 7) (h : H[a]? = some (arrV (gA g t) n V)) : cAt g (64 + t) n V a H := by
  unfold cAt
  rw [if_neg (by omega), Nat.add_sub_cancel_left]
  exact ⟨by omega, h⟩
theorem in_arr {n : Nat} {i : Int} {cA : ClassId} {V : Nat → Value} (h : 0 ≤ w32 i ∧ w32 i < n) : ¬ (iI i < 0 ∨ (arrV cA n V).slots.size ≤ (iI i).toNatClampNeg) := by
  rw [arrV_size]
  exact iI_in h
theorem rd_arr {n : Nat} {i : Int} {cA : ClassId} {V : Nat → Value} (h : 0 ≤ w32 i ∧ w32 i < n) : (arrV cA n V).slots[(iI i).toNatClampNeg]? = some (V (w32 i).toNat) := by
  rw [iI_clamp]
  exact arrV_read _ _ (by omega)
theorem ald_core (C : Cx g d y p e R s m meth c y0) {t n a : Nat} {i : Int} {V : Nat → Value} {ins : Instr} (hP : cAt g (64 + t) n V a H) (hd : decode y.2.2.1 pc = .ok (ins, 1)) (hins : (t = 0 ∧ ins = .iaload) ∨ (t = 1 ∧ ins = .laload) ∨ ((t = 2 ∨ t = 3) ∧ ins = .baload) ∨ (4 ≤ t ∧ ins = .aaload)) (hin : 0 ≤ w32 i ∧ w32 i < n)
    (kk : W p l e R s m args below meth c H locs cells slots Q' (F0 m (pc + 1) ls (V (w32 i).toNat :: rest))) : W p l e R s m args below meth c H locs cells slots Q' (F0 m pc ls (.int (iI i) :: .ref a :: rest)) := by
  obtain ⟨ht, hA⟩ := hP.arr
  have hK := (kn_arr C.kno ht).1 n V
  rcases hins with ⟨rfl, rfl⟩ | ⟨rfl, rfl⟩ | ⟨rfl | rfl, rfl⟩ | ⟨h4, rfl⟩
  · exact W.iald C.exec C.code hA hK (fun q => by cases q) (in_arr hin) (rd_arr hin) rfl rfl hd kk
  · exact W.lald C.exec C.code hA hK (fun q => by cases q) (in_arr hin) (rd_arr hin) rfl rfl hd kk
  · exact W.zald C.exec C.code hA hK (fun q => by cases q) (in_arr hin) (rd_arr hin) rfl rfl hd kk
  · exact W.bald C.exec C.code hA hK (fun q => by cases q) (in_arr hin) (rd_arr hin) rfl rfl hd kk
  · have hty : ∃ nm, atT t = .object nm := by
      unfold atT
      rw [if_neg (by omega), if_neg (by omega), if_neg (by omega), if_neg (by omega)]
      split
      · exact ⟨_, rfl⟩
      · split <;> exact ⟨_, rfl⟩
    obtain ⟨nm, hty⟩ := hty
    exact W.aald (ty := atT t) C.exec C.code hA hK (by rw [hty]; rfl) (fun q => by cases q) (in_arr hin) (rd_arr hin) rfl rfl hd kk
/-- what a store of an int lays down, by the array's type -/
def nrw (t : Nat) (a : Int) : Int := if t = 2 then iAnd a 1 else if t = 3 then i2b a else a
theorem nrw_b (a : Int) : narrow .byte (.int (iI a)) = .int (iI (i2b a)) := by rw [i2b, iI_t]; rfl
theorem nrw_z2 (a : Int) : narrow .boolean (.int (iI a)) = .int (iI (iAnd a 1)) := by rw [iAnd, iI_t]; rfl
theorem ast_core (C : Cx g d y p e R s m meth c y0) {t n a : Nat} {i x : Int} {V : Nat → Value} {ins : Instr} {v w : Value} (hP : cAt g (64 + t) n V a H) (hd : decode y.2.2.1 pc = .ok (ins, 1)) (hins : (t = 0 ∧ ins = .iastore ∧ v = .int (iI x) ∧ w = .int (iI x)) ∨ (t = 1 ∧ ins = .lastore ∧ v = .long (iJ x) ∧ w = .long (iJ x)) ∨ ((t = 2 ∨ t = 3) ∧ ins = .bastore ∧ v = .int (iI x) ∧ w = .int (iI (nrw t x)))) (hin : 0 ≤ w32 i ∧ w32 i < n)
    (kk : ∀ (H1 : Heap) (f : Nat), cAt g (64 + t) n (updV V (w32 i).toNat w) a H1 → H1.size = H.size → (∀ q : Nat, q ≠ a → H1[q]? = H[q]?) → W p l e R s m args below meth c H1 (locs ++ [⟨a, f⟩]) cells slots Q' (F0 m (pc + 1) ls rest)) : W p l e R s m args below meth c H locs cells slots Q' (F0 m pc ls (v :: .int (iI i) :: .ref a :: rest)) := by
  obtain ⟨ht, hA⟩ := hP.arr
  have hK := (kn_arr C.kno ht).1 n V
  rcases hins with ⟨rfl, rfl, rfl, rfl⟩ | ⟨rfl, rfl, rfl, rfl⟩ | ⟨rfl | rfl, rfl, rfl, rfl⟩
  · refine W.iast C.exec C.code hA hK (fun q => by cases q) (in_arr hin) rfl rfl hd fun H1 e1 z oq => kk H1 _ (cAt.ofArr ht ?_) z oq
    rw [e1, arrV_store, iI_clamp]
  · refine W.last C.exec C.code hA hK (fun q => by cases q) (in_arr hin) rfl rfl hd fun H1 e1 z oq => kk H1 _ (cAt.ofArr ht ?_) z oq
    rw [e1, arrV_store, iI_clamp]
  · refine W.zast C.exec C.code hA hK (fun q => by cases q) (in_arr hin) rfl rfl hd fun H1 e1 z oq => kk H1 _ (cAt.ofArr ht ?_) z oq
    rw [e1, arrV_store, iI_clamp, nrw_z2]
    rfl
  · refine W.bast C.exec C.code hA hK (fun q => by cases q) (in_arr hin) rfl rfl hd fun H1 e1 z oq => kk H1 _ (cAt.ofArr ht ?_) z oq
    rw [e1, arrV_store, iI_clamp, nrw_b]
    rfl
/-! the abstract world moves along -/
theorem Rp.size (h : Rp g X H) : H.size = gB g + hZ X.2 := h.1
theorem Rp.base (h : Rp g X H) : hB X.2 = gB g := h.2.1.1
theorem Rp.olds (h : Rp g X H) : hE X.2 = gE g := h.2.1.2
theorem Rp.stat (h : Rp g X H) (hs : gS g = true) {k : Nat} (hk : sKind k ≠ 0) : cAt g (sKind k) (sLen k) (sV g X k) (gB g + sOff k) H := h.2.2.2.1 k hs hk
theorem Rp.heap (h : Rp g X H) {q : Nat} (hq : hK X.2 q ≠ 0) : cAt g (hK X.2 q) (hL X.2 q) (hV g X.2 q) q H := (h.2.2.2.2.1 q hq).1
theorem Rp.hge (h : Rp g X H) {q : Nat} (hq : hK X.2 q ≠ 0) : gB g ≤ q ∨ hL X.2 q = 0 ∧ 64 ≤ hK X.2 q := (h.2.2.2.2.1 q hq).2
theorem Rp.sz (h : Rp g X H) : hZ X.2 ≤ 600384 := h.2.2.2.2.2.2.1
theorem Rp.sl (h : Rp g X H) : hS X.2 ≤ 7290858 := h.2.2.2.2.2.2.2
/-- one static cell is written -/
theorem Rp.putS {X' : XW} {H1 : Heap} {k0 : Nat} (hR : Rp g X H) (hs : gS g = true) (hk0 : sKind k0 ≠ 0) (hX : ∀ k, k ≠ k0 → sV g X' k = sV g X k) (hC : hK X'.2 = hK X.2 ∧ hL X'.2 = hL X.2 ∧ (hB X'.2 = hB X.2 ∧ hE X'.2 = hE X.2) ∧ hZ X'.2 = hZ X.2 ∧ hS X'.2 = hS X.2 ∧ ∀ q, hV g X'.2 q = hV g X.2 q)
    (he : cAt g (sKind k0) (sLen k0) (sV g X' k0) (gB g + sOff k0) H1) (hz : H1.size = H.size) (oq : ∀ q : Nat, q ≠ gB g + sOff k0 → H1[q]? = H[q]?) : Rp g X' H1 := by
  obtain ⟨r1, r2, ⟨r3, r3b⟩, r4, r5, r6, r7, r8⟩ := hR
  obtain ⟨c1, c2, c3, c4, c5, c6⟩ := hC
  refine ⟨by rw [hz, c4]; exact r1, ⟨by rw [c3.1]; exact r2.1, by rw [c3.2]; exact r2.2⟩, ⟨r3, fun q hq => by rw [oq q (by omega)]; exact r3b q hq⟩, fun k hs hk => ?_, fun q hq => ?_, fun k hs hk => by rw [c1]; exact r6 k hs hk, by rw [c4]; exact r7, by rw [c5]; exact r8⟩
  · by_cases hkk : k = k0
    · subst hkk; exact he
    · rw [hX k hkk]
      refine (r4 k hs hk).kept (oq _ fun z => hkk ?_)
      rw [← sInv_ok k hk, ← sInv_ok k0 hk0]
      congr 1
      omega
  · rw [c1] at hq ⊢
    rw [c2, c6 q]
    refine ⟨(r5 q hq).1.kept (oq q fun z => hq ?_), (r5 q hq).2⟩
    rw [z]; exact r6 k0 hs hk0
/-- one cell of the heap is written -/
theorem Rp.putH {C' : CW} {H1 : Heap} {q0 : Nat} (hR : Rp g X H) (hq0 : hK X.2 q0 ≠ 0) (hge : gB g ≤ q0) (hX : ∀ k, sV g (X.1, C') k = sV g X k) (hC : hK C' = hK X.2 ∧ hL C' = hL X.2 ∧ (hB C' = hB X.2 ∧ hE C' = hE X.2) ∧ hZ C' = hZ X.2 ∧ hS C' = hS X.2 ∧ ∀ q, q ≠ q0 → hV g C' q = hV g X.2 q)
    (he : cAt g (hK X.2 q0) (hL X.2 q0) (hV g C' q0) q0 H1) (hz : H1.size = H.size) (oq : ∀ q : Nat, q ≠ q0 → H1[q]? = H[q]?) : Rp g (X.1, C') H1 := by
  obtain ⟨r1, r2, ⟨r3, r3b⟩, r4, r5, r6, r7, r8⟩ := hR
  obtain ⟨c1, c2, c3, c4, c5, c6⟩ := hC
  refine ⟨by rw [hz]; show _ = _ + hZ C'; rw [c4]; exact r1, ⟨by show hB C' = _; rw [c3.1]; exact r2.1, by show hE C' = _; rw [c3.2]; exact r2.2⟩, ⟨r3, fun q hq => by rw [oq q (by omega)]; exact r3b q hq⟩, fun k hs hk => ?_, fun q hq => ?_, fun k hs hk => by show hK C' _ = _; rw [c1]; exact r6 k hs hk, by show hZ C' ≤ _; rw [c4]; exact r7, by show hS C' ≤ _; rw [c5]; exact r8⟩
  · rw [hX k]
    exact (r4 k hs hk).kept (oq _ fun z => hq0 (by rw [← z]; exact r6 k hs hk))
  · have hq' : hK X.2 q ≠ 0 := by
      have : hK C' q ≠ 0 := hq
      rw [c1] at this
      exact this
    show cAt g (hK C' q) (hL C' q) (hV g C' q) q H1 ∧ (_ ∨ hL C' q = 0 ∧ 64 ≤ hK C' q)
    rw [c1, c2]
    refine ⟨?_, (r5 q hq').2⟩
    by_cases hqq : q = q0
    · subst hqq; exact he
    · rw [c6 q hqq]
      exact (r5 q hq').1.kept (oq q hqq)
end MEM
section MROW
variable {g : Gx} {d : Nat} {y : MD} {pc : Nat} {kn : List (Nat × Value)} {st rest : List Value} {M : MW} {C : CW} {Q : Out → XW → Prop}
theorem up2_self {α : Type} (f : Nat → Nat → α) (k i : Nat) (v : α) : up2 f k i v k i = v := by simp [up2]
theorem up2_k {α : Type} {f : Nat → Nat → α} {k i a : Nat} {v : α} (h : a ≠ k) : up2 f k i v a = f a := by
  funext b
  simp [up2, h]
theorem up2_i {α : Type} {f : Nat → Nat → α} {k i a b : Nat} {v : α} (h : b ≠ i) : up2 f k i v a b = f a b := by simp [up2, h]
theorem fvl_up {b code k i j : Nat} {fI fJ : Nat → Nat → Int} {r : Option Nat} {v : Int} : fvl b code (up2 fI k i v k j) (fJ k j) r = if j = i ∧ code = 0 then .int (iI v) else fvl b code (fI k j) (fJ k j) r := by
  by_cases h : j = i
  · subst h
    rw [up2_self]
    unfold fvl
    by_cases h0 : code = 0 <;> simp [h0]
  · rw [up2_i h]
    simp [h]
theorem fvl_upJ {b code k i j : Nat} {fI fJ : Nat → Nat → Int} {r : Option Nat} {v : Int} : fvl b code (fI k j) (up2 fJ k i v k j) r = if j = i ∧ code = 1 then .long (iJ v) else fvl b code (fI k j) (fJ k j) r := by
  by_cases h : j = i
  · subst h
    rw [up2_self]
    unfold fvl
    by_cases h0 : code = 1 <;> simp [h0]
  · rw [up2_i h]
    simp [h]
theorem sV_msI {k i : Nat} {v : Int} (hk : k < 200) (hc : scd k i = 0) : sV g (msI M k i v, C) k = updV (sV g (M, C) k) i (.int (iI v)) := by
  funext j
  show fvl _ _ (stI (msI M k i v, C) k j) _ _ = _
  have e1 : stI (msI M k i v, C) k = up2 M.1 k i v k := by unfold stI; rw [if_pos hk]; rfl
  have e2 : stI (M, C) k = M.1 k := by unfold stI; rw [if_pos hk]; rfl
  have e3 : stJ (msI M k i v, C) k = stJ (M, C) k := rfl
  rw [e1, e3]
  unfold updV
  by_cases h : j = i
  · subst h
    rw [up2_self, if_pos rfl, hc]
    rfl
  · rw [if_neg h, up2_i h]
    unfold sV
    rw [e2]
theorem sV_msJ {k i : Nat} {v : Int} (hk : k < 200) (hc : scd k i = 1) : sV g (msJ M k i v, C) k = updV (sV g (M, C) k) i (.long (iJ v)) := by
  funext j
  show fvl _ _ (stI (msJ M k i v, C) k j) (stJ (msJ M k i v, C) k j) _ = _
  have e1 : stJ (msJ M k i v, C) k = up2 M.2 k i v k := by unfold stJ; rw [if_pos hk]; rfl
  have e2 : stJ (M, C) k = M.2 k := by unfold stJ; rw [if_pos hk]; rfl
  have e3 : stI (msJ M k i v, C) k = stI (M, C) k := rfl
  rw [e1, e3]
  unfold updV
  by_cases h : j = i
  · subst h
    rw [up2_self, if_pos rfl, hc]
    rfl
  · rw [if_neg h, up2_i h]
    unfold sV
    rw [e2]
theorem sV_msI_o {k k' i : Nat} {v : Int} (h : k' ≠ k) : sV g (msI M k i v, C) k' = sV g (M, C) k' := by
  funext j
  unfold sV
  have e1 : stI (msI M k i v, C) k' = stI (M, C) k' := by
    unfold stI
    show (if k' < 200 then up2 M.1 k i v k' else _) = _
    rw [up2_k h]
    rfl
  rw [e1]
  rfl
theorem sV_msJ_o {k k' i : Nat} {v : Int} (h : k' ≠ k) : sV g (msJ M k i v, C) k' = sV g (M, C) k' := by
  funext j
  unfold sV
  have e1 : stJ (msJ M k i v, C) k' = stJ (M, C) k' := by
    unfold stJ
    show (if k' < 200 then up2 M.2 k i v k' else _) = _
    rw [up2_k h]
    rfl
  rw [e1]
  rfl
/-- a field of a static object is read -/
theorem ex_gets {k o ci j idx : Nat} {v : Value} (hg : gS g = true) (hd : decode y.2.2.1 pc = .ok (.getfield idx, 3)) (hl : FLk y.1 idx ci j) (hk : sKind k = ci + 1) (ho : sOff k = o) (hv : fvl (gB g) (sfc k j) (stI (M, C) k j) (stJ (M, C) k j) (cR C k j) = v) (h : Ex g d y (pc + 3) kn (v :: rest) (M, C) Q) : Ex g d y pc kn (.ref (gB g + o) :: rest) (M, C) Q := by
  intro p l e R s m args below meth c H locs cells slots y0 ls C0 hR h1 h2 h3 hl2
  have hP := hR.stat hg (k := k) (by omega)
  rw [ho] at hP
  refine get_core C0 hP hk hl hd ?_
  have e1 : sV g (M, C) k j = v := by
    rw [← hv]
    unfold sV scd
    rw [if_pos (by have := hl.1; omega)]
  rw [e1]
  exact h p l e R s m args below meth c H locs cells slots y0 ls C0 hR h1 h2 h3 hl2
theorem ex_mgI {k o ci j idx : Nat} (hg : gS g = true) (hd : decode y.2.2.1 pc = .ok (.getfield idx, 3)) (hl : FLk y.1 idx ci j) (hk : sKind k = ci + 1) (ho : sOff k = o) (hm : k < 200) (hc : sfc k j = 0) (h : Ex g d y (pc + 3) kn (.int (iI (mI M k j)) :: rest) (M, C) Q) : Ex g d y pc kn (.ref (gB g + o) :: rest) (M, C) Q :=
  ex_gets hg hd hl hk ho (by rw [hc]; unfold stI; rw [if_pos hm]; rfl) h
theorem ex_mgJ {k o ci j idx : Nat} (hg : gS g = true) (hd : decode y.2.2.1 pc = .ok (.getfield idx, 3)) (hl : FLk y.1 idx ci j) (hk : sKind k = ci + 1) (ho : sOff k = o) (hm : k < 200) (hc : sfc k j = 1) (h : Ex g d y (pc + 3) kn (.long (iJ (mJ M k j)) :: rest) (M, C) Q) : Ex g d y pc kn (.ref (gB g + o) :: rest) (M, C) Q :=
  ex_gets hg hd hl hk ho (by rw [hc]; unfold stJ; rw [if_pos hm]; rfl) h
/-- a fixed reference is read -/
theorem ex_gfix {k o ci j idx o' : Nat} (hg : gS g = true) (hd : decode y.2.2.1 pc = .ok (.getfield idx, 3)) (hl : FLk y.1 idx ci j) (hk : sKind k = ci + 1) (ho : sOff k = o) (hc : sfc k j = 16 + o') (h : Ex g d y (pc + 3) kn (.ref (gB g + o') :: rest) (M, C) Q) : Ex g d y pc kn (.ref (gB g + o) :: rest) (M, C) Q :=
  ex_gets hg hd hl hk ho (by unfold fvl; rw [hc, if_neg (by omega), if_neg (by omega), if_neg (by omega), Nat.add_sub_cancel_left]) h
/-- an int field of the model's object is written -/
theorem ex_mpI {k o ci j idx : Nat} {v : Int} (hg : gS g = true) (hd : decode y.2.2.1 pc = .ok (.putfield idx, 3)) (hl : FLk y.1 idx ci j) (hk : sKind k = ci + 1) (ho : sOff k = o) (hm : k < 200) (hc : sfc k j = 0) (hfin : (clT ci j).2.2.2 = false) (hn : narrow (clY ci j) (.int (iI v)) = .int (iI v)) (hf : fits (clY ci j) (.int (iI v)) = true) (h : Ex g d y (pc + 3) kn rest (msI M k j v, C) Q) : Ex g d y pc kn (.int (iI v) :: .ref (gB g + o) :: rest) (M, C) Q := by
  intro p l e R s m args below meth c H locs cells slots y0 ls C0 hR h1 h2 h3 hl2
  have hk0 : sKind k ≠ 0 := by omega
  have hP := hR.stat hg hk0
  have hsc : scd k j = 0 := by unfold scd; rw [if_pos (by have := hl.1; omega)]; exact hc
  rw [← ho]
  refine put_core C0 hP hk hl hd (Or.inl hfin) hn hf fun H1 f e1 z oq => ?_
  rw [← sV_msI hm hsc] at e1
  exact h p l e R s m args below meth c H1 (locs ++ [⟨gB g + sOff k, f⟩]) cells slots y0 ls C0 (hR.putS hg hk0 (fun k' hk' => sV_msI_o hk') ⟨rfl, rfl, ⟨rfl, rfl⟩, rfl, rfl, fun _ => rfl⟩ e1 z oq) (by rw [z]; exact h1) h2 (fun q hq => by
    rcases List.mem_append.mp hq with hq | hq
    · exact h3 q hq
    · rw [List.mem_singleton.mp hq]; exact Nat.le_add_right _ _) hl2
theorem ex_mpJ {k o ci j idx : Nat} {v : Int} (hg : gS g = true) (hd : decode y.2.2.1 pc = .ok (.putfield idx, 3)) (hl : FLk y.1 idx ci j) (hk : sKind k = ci + 1) (ho : sOff k = o) (hm : k < 200) (hc : sfc k j = 1) (hfin : (clT ci j).2.2.2 = false) (hn : narrow (clY ci j) (.long (iJ v)) = .long (iJ v)) (hf : fits (clY ci j) (.long (iJ v)) = true) (h : Ex g d y (pc + 3) kn rest (msJ M k j v, C) Q) : Ex g d y pc kn (.long (iJ v) :: .ref (gB g + o) :: rest) (M, C) Q := by
  intro p l e R s m args below meth c H locs cells slots y0 ls C0 hR h1 h2 h3 hl2
  have hk0 : sKind k ≠ 0 := by omega
  have hP := hR.stat hg hk0
  have hsc : scd k j = 1 := by unfold scd; rw [if_pos (by have := hl.1; omega)]; exact hc
  rw [← ho]
  refine put_core C0 hP hk hl hd (Or.inl hfin) hn hf fun H1 f e1 z oq => ?_
  rw [← sV_msJ hm hsc] at e1
  exact h p l e R s m args below meth c H1 (locs ++ [⟨gB g + sOff k, f⟩]) cells slots y0 ls C0 (hR.putS hg hk0 (fun k' hk' => sV_msJ_o hk') ⟨rfl, rfl, ⟨rfl, rfl⟩, rfl, rfl, fun _ => rfl⟩ e1 z oq) (by rw [z]; exact h1) h2 (fun q hq => by
    rcases List.mem_append.mp hq with hq | hq
    · exact h3 q hq
    · rw [List.mem_singleton.mp hq]; exact Nat.le_add_right _ _) hl2
/-- the model's arrays -/
theorem ex_mald {k o t : Nat} {i : Int} {ins : Instr} (hg : gS g = true) (hd : decode y.2.2.1 pc = .ok (ins, 1)) (hk : sKind k = 64 + t) (ho : sOff k = o) (hm : k < 200) (hins : (t = 0 ∧ ins = .iaload) ∨ (t = 2 ∧ ins = .baload)) (hin : 0 ≤ w32 i ∧ w32 i < sLen k) (h : Ex g d y (pc + 1) kn (.int (iI (mI M k (w32 i).toNat)) :: rest) (M, C) Q) : Ex g d y pc kn (.int (iI i) :: .ref (gB g + o) :: rest) (M, C) Q := by
  intro p l e R s m args below meth c H locs cells slots y0 ls C0 hR h1 h2 h3 hl2
  have hP := hR.stat hg (k := k) (by omega)
  rw [hk] at hP
  rw [← ho]
  refine ald_core C0 hP hd (by rcases hins with ⟨a, b⟩ | ⟨a, b⟩; exact Or.inl ⟨a, b⟩; exact Or.inr (Or.inr (Or.inl ⟨Or.inl a, b⟩))) hin ?_
  have e1 : sV g (M, C) k (w32 i).toNat = .int (iI (mI M k (w32 i).toNat)) := by
    unfold sV scd
    rw [if_neg (by omega), hk, Nat.add_sub_cancel_left]
    have : acd t = 0 := by rcases hins with ⟨rfl, -⟩ | ⟨rfl, -⟩ <;> rfl
    rw [this]
    unfold stI
    rw [if_pos hm]
    rfl
  rw [e1]
  exact h p l e R s m args below meth c H locs cells slots y0 ls C0 hR h1 h2 h3 hl2
theorem ex_maldJ {k o : Nat} {i : Int} (hg : gS g = true) (hd : decode y.2.2.1 pc = .ok (.laload, 1)) (hk : sKind k = 64 + 1) (ho : sOff k = o) (hm : k < 200) (hin : 0 ≤ w32 i ∧ w32 i < sLen k) (h : Ex g d y (pc + 1) kn (.long (iJ (mJ M k (w32 i).toNat)) :: rest) (M, C) Q) : Ex g d y pc kn (.int (iI i) :: .ref (gB g + o) :: rest) (M, C) Q := by
  intro p l e R s m args below meth c H locs cells slots y0 ls C0 hR h1 h2 h3 hl2
  have hP := hR.stat hg (k := k) (by omega)
  rw [hk] at hP
  rw [← ho]
  refine ald_core C0 hP hd (Or.inr (Or.inl ⟨rfl, rfl⟩)) hin ?_
  have e1 : sV g (M, C) k (w32 i).toNat = .long (iJ (mJ M k (w32 i).toNat)) := by
    unfold sV scd
    rw [if_neg (by omega), hk, Nat.add_sub_cancel_left]
    unfold stJ
    rw [if_pos hm]
    rfl
  rw [e1]
  exact h p l e R s m args below meth c H locs cells slots y0 ls C0 hR h1 h2 h3 hl2
theorem ex_mast {k o t : Nat} {i x : Int} {ins : Instr} (hg : gS g = true) (hd : decode y.2.2.1 pc = .ok (ins, 1)) (hk : sKind k = 64 + t) (ho : sOff k = o) (hm : k < 200) (hins : (t = 0 ∧ ins = .iastore) ∨ (t = 2 ∧ ins = .bastore)) (hin : 0 ≤ w32 i ∧ w32 i < sLen k) (h : Ex g d y (pc + 1) kn rest (msI M k (w32 i).toNat (nrw t x), C) Q) : Ex g d y pc kn (.int (iI x) :: .int (iI i) :: .ref (gB g + o) :: rest) (M, C) Q := by
  intro p l e R s m args below meth c H locs cells slots y0 ls C0 hR h1 h2 h3 hl2
  have hk0 : sKind k ≠ 0 := by omega
  have hP := hR.stat hg hk0
  have hsc : scd k (w32 i).toNat = 0 := by
    unfold scd
    rw [if_neg (by omega), hk, Nat.add_sub_cancel_left]
    rcases hins with ⟨rfl, -⟩ | ⟨rfl, -⟩ <;> rfl
  rw [hk] at hP
  rw [← ho]
  refine ast_core (w := .int (iI (nrw t x))) (x := x) C0 hP hd (by rcases hins with ⟨rfl, b⟩ | ⟨a, b⟩; exact Or.inl ⟨rfl, b, rfl, rfl⟩; exact Or.inr (Or.inr ⟨Or.inl a, b, rfl, rfl⟩)) hin fun H1 f e1 z oq => ?_
  rw [← sV_msI hm hsc, ← hk] at e1
  exact h p l e R s m args below meth c H1 (locs ++ [⟨gB g + sOff k, f⟩]) cells slots y0 ls C0 (hR.putS hg hk0 (fun k' hk' => sV_msI_o hk') ⟨rfl, rfl, ⟨rfl, rfl⟩, rfl, rfl, fun _ => rfl⟩ e1 z oq) (by rw [z]; exact h1) h2 (fun q hq => by
    rcases List.mem_append.mp hq with hq | hq
    · exact h3 q hq
    · rw [List.mem_singleton.mp hq]; exact Nat.le_add_right _ _) hl2
theorem ex_mastJ {k o : Nat} {i x : Int} (hg : gS g = true) (hd : decode y.2.2.1 pc = .ok (.lastore, 1)) (hk : sKind k = 64 + 1) (ho : sOff k = o) (hm : k < 200) (hin : 0 ≤ w32 i ∧ w32 i < sLen k) (h : Ex g d y (pc + 1) kn rest (msJ M k (w32 i).toNat x, C) Q) : Ex g d y pc kn (.long (iJ x) :: .int (iI i) :: .ref (gB g + o) :: rest) (M, C) Q := by
  intro p l e R s m args below meth c H locs cells slots y0 ls C0 hR h1 h2 h3 hl2
  have hk0 : sKind k ≠ 0 := by omega
  have hP := hR.stat hg hk0
  have hsc : scd k (w32 i).toNat = 1 := by
    unfold scd
    rw [if_neg (by omega), hk, Nat.add_sub_cancel_left]
    rfl
  rw [hk] at hP
  rw [← ho]
  refine ast_core (w := .long (iJ x)) (x := x) C0 hP hd (Or.inr (Or.inl ⟨rfl, rfl, rfl, rfl⟩)) hin fun H1 f e1 z oq => ?_
  rw [← sV_msJ hm hsc, ← hk] at e1
  exact h p l e R s m args below meth c H1 (locs ++ [⟨gB g + sOff k, f⟩]) cells slots y0 ls C0 (hR.putS hg hk0 (fun k' hk' => sV_msJ_o hk') ⟨rfl, rfl, ⟨rfl, rfl⟩, rfl, rfl, fun _ => rfl⟩ e1 z oq) (by rw [z]; exact h1) h2 (fun q hq => by
    rcases List.mem_append.mp hq with hq | hq
    · exact h3 q hq
    · rw [List.mem_singleton.mp hq]; exact Nat.le_add_right _ _) hl2
end MROW
