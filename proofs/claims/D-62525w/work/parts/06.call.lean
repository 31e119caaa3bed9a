/-! LAYER A: calls -/
section CALL
variable {g : Gx} {d d2 : Nat} {y y2 : MD} {pc : Nat} {kn kn2 : List (Nat × Value)} {st rest : List Value} {X : XW} {Q Q2 : Out → XW → Prop}
/-- the words of a callee: what stands in the tables of it -/
def ML (y2 : MD) (nm : MethodName) : Prop := y2.1 = nm.cls ∧ y2.2.1 = nm.name ∧ plainFor nm = true ∧ (nm.cls ≠ "java/lang/invoke/MethodHandle" ∧ nm.cls ≠ "java/lang/invoke/VarHandle") ∧ Cond.initialized nm.cls ∈ lw_tbl ∧
  ((y2.2.2.2.2.2 = [] ∧ Cond.code nm y2.2.2.1 y2.2.2.2.1 y2.2.2.2.2.1 ∈ lw_tbl) ∨ Cond.codeWith nm y2.2.2.1 y2.2.2.2.1 y2.2.2.2.2.1 y2.2.2.2.2.2 ∈ lw_tbl)
theorem ML.get {nm : MethodName} (h : ML y2 nm) {s : State} (ht : TB s) : ∃ (mk : MethodId) (methk : Method) (ck : Code), s.methodNamed? nm = some mk ∧ s.vm.method? mk = some methk ∧ methk.code = some ck ∧ ck.code = y2.2.2.1 ∧ ck.maxLocals = y2.2.2.2.1 ∧ methk.sig.returnType = y2.2.2.2.2.1 ∧ methk.locks = false ∧
    ck.exceptionTable.toList.map (fun h => (h.startPc, h.endPc, h.handlerPc, h.catchType)) = y2.2.2.2.2.2 ∧ parseMethodDescriptor nm.desc = some methk.sig := by
  obtain ⟨-, -, -, -, -, hc⟩ := h
  rcases hc with ⟨he, hc⟩ | hc
  · have hb : (Cond.code nm y2.2.2.1 y2.2.2.2.1 y2.2.2.2.2.1).before #[] s = true := ht _ hc rfl
    obtain ⟨mk, hn⟩ := Cond.code_named hb
    obtain ⟨methk, ck, h1, h2, h3, h4, h5, h6, h7, h8⟩ := Cond.code_spec hn hb
    refine ⟨mk, methk, ck, hn, h1, h2, h3, h4, h5, h6, ?_, h8⟩
    rw [he]
    have : ck.exceptionTable = #[] := by simpa using h7
    rw [this]
    rfl
  · have hb : (Cond.codeWith nm y2.2.2.1 y2.2.2.2.1 y2.2.2.2.2.1 y2.2.2.2.2.2).before #[] s = true := ht _ hc rfl
    obtain ⟨mk, methk, ck, h1, h2, h3, h4, h5, h6, h7, h8, h9⟩ := Cond.codeWith_spec hb
    exact ⟨mk, methk, ck, h1, h2, h3, h4, h5, h7, h8, h6, h9⟩
theorem call_core {p : Program} {l : Launch} {e : Env} {R : Room} {s : State} {m : MethodId} {args : Array Value} {below : List Frame} {meth : Method} {c : Code} {T : State} {locs : List Loc} {cells slots y0 : Nat}
    (C0 : Cx g d y p e R s m meth c y0) (X0 : Stand p l e R s m args below meth c T locs cells slots) (hR : Rp g X T.heap) (hsz : T.heap.size = s.heap.size + cells) (hsl : hS X.2 = y0 + slots)
    (As : List Value) (K : Ex g d2 y2 0 kn2 [] X Q2) (hkn : lv_args 0 As = kn2) (hlen : (lg_sl As).length ≤ y2.2.2.2.1) (hd2 : d2 + 1 ≤ d)
    {nm : MethodName} (hML : ML y2 nm) {mk : MethodId} (hmk : s.methodNamed? nm = some mk)
    {gf : JFrame} (hg : gf.method = m) (hgs : gf.locals.size = c.maxLocals) {ig : Instr} {len : Nat} (hdg : decode c.code gf.pc = .ok (ig, len)) (hroom : 2 * gf.monitorRoom + (gf.stack.map fun v => v.category).sum + (y2.2.2.2.1 + 11) ≤ 390) :
    ∃ (t : State) (o : Out) (X' : XW) (T' : State) (L : List Loc) (k n : Nat), (∀ acts, Steps p.tables e below (doInvoke e (T.setTop gf) acts mk As.toArray).1 t) ∧ Q2 o X' ∧ Stand p l e R s m args below meth c T' (locs ++ L) (cells + k) (slots + n) ∧ Rp g X' T'.heap ∧ T'.heap.size = s.heap.size + (cells + k) ∧ hS X'.2 = y0 + (slots + n) ∧ (∀ q ∈ L, gB g ≤ q.base) ∧
      t = (match o with
        | .inr v => T'.setTop { gf with pc := gf.pc + len, stack := v.toList ++ gf.stack }
        | .inl a => (T'.setTop gf).pushFrame (.throwing a)) := by
  have hTB : TB T := C0.tb.warm X0.warmed
  have hal : s.vm.Alike T.vm := X0.warmed.alike
  obtain ⟨mk', methk, ck, hn, h1, h2, h3, h4, h5, h6, h7, h8⟩ := hML.get hTB
  have hmkT : T.methodNamed? nm = some mk := X0.named hmk
  cases hn.symm.trans hmkT
  obtain ⟨e1, e2, hplain, hnot, hini, -⟩ := hML
  have hrc := C0.cells
  have hrs := C0.slots
  have hrf := C0.frames
  have hrl := C0.locals
  have hz := hR.sz
  have hzl := hR.sl
  have hzz := hR.size
  obtain ⟨Y, hin⟩ := X0.into hg hgs hdg As.toArray (R' := { frames := d2, cells := gB g + 600384 - T.heap.size, slots := 7290858 - hS X.2, locals := 390 * d2 }) h1 h2 h6 (State.plainMethod.of_named hplain hmkT h1)
    (by show d2 + 1 ≤ _; omega) (by show _ + 390 * d2 ≤ _; rw [h4]; omega) (by show cells + (gB g + 600384 - T.heap.size) ≤ _; omega) (by show slots + (7290858 - hS X.2) ≤ _; omega)
  have hC2 : Cx g d2 y2 p e { frames := d2, cells := gB g + 600384 - T.heap.size, slots := 7290858 - hS X.2, locals := 390 * d2 } (T.calling gf mk As.toArray) mk methk ck (hS X.2) := by
    refine ⟨C0.exec, C0.2.1, h3, h4, h5, h6, h7, ?_, ?_, ?_, ?_, ?_, ?_, Nat.le_refl _, Nat.le_refl _, ?_, ?_, ?_⟩
    · rw [e1]
      exact findClass_of_methodNamed (s := T) hmkT
    · rw [e2]
      exact (name_of_methodNamed hmkT h1).1
    · exact TB.warm (U := T.calling gf mk As.toArray) (State.WarmedH.refl T) hTB
    · exact va_K.moved (u := T) (U := T.calling gf mk As.toArray) (Vm.Alike.refl T.vm) (va_K.moved hal C0.kno)
    · exact C0.olds _ hal
    · exact fun s' h => C0.olds s' (hal.trans h)
    · show _ ≤ (gB g + 600384 - T.heap.size) + T.heap.size; omega
    · show 7290858 ≤ (7290858 - hS X.2) + hS X.2; omega
    · show gB g ≤ T.heap.size; omega
  have hl2 := lv_entry As hlen
  have K2 := K p l e _ (T.calling gf mk As.toArray) mk As.toArray (.java gf :: below) methk ck T.heap [] 0 0 (hS X.2) _ hC2 hR (by show T.heap.size = T.heap.size + 0; rfl) rfl (fun _ h => by cases h) (hkn ▸ hl2)
  obtain ⟨t, hst, o, X', L, k, n, b1, b2, b3, b4, b5, b6, b7, b8, b9⟩ := K2 _ (by rfl) Y
  rw [← lg_entry_eq] at hst
  have hsteps : ∀ acts, Steps p.tables e below (doInvoke e (T.setTop gf) acts mk As.toArray).1 t := by
    intro acts
    rw [hin acts, h4]
    exact Steps.weaken (mid := [.java gf]) (by rw [h4] at hst; exact hst)
  have b6' : t.heap.size = T.heap.size + k := b6
  cases o with
  | inr v =>
    obtain ⟨T', X1, hW1, -, ht⟩ := X0.outOf hg hdg b2 b7 b8
    have hh : T'.heap = t.heap := by rw [ht]; rfl
    refine ⟨t, .inr v, X', T', L, k, n, hsteps, b3, X1, by rw [hh]; exact b4, by rw [hh, b6', hsz]; omega, by rw [b5, hsl]; omega, b9, ht⟩
  | inl a =>
    obtain ⟨T', X1, hW1, -, ht⟩ := X0.outOfThrown hg b2 b7 b8
    have hh : T'.heap = t.heap := by rw [ht]; rfl
    refine ⟨t, .inl a, X', T', L, k, n, hsteps, b3, X1, by rw [hh]; exact b4, by rw [hh, b6', hsz]; omega, by rw [b5, hsl]; omega, b9, ht⟩
/-- what comes behind a call -/
def Aft (g : Gx) (d : Nat) (y : MD) (pc : Nat) (kn : List (Nat × Value)) (rest : List Value) (Q : Out → XW → Prop) (o : Out) (X : XW) : Prop := match o with
  | .inr v => Ex g d y (pc + 3) kn (v.toList ++ rest) X Q
  | .inl a => ExT g d y pc kn a X Q
/-- the receiver: an object of class C stands at b -/
def RC (g : Gx) (X : XW) (b : Nat) (C : String) : Prop := ∃ (ci n : Nat) (V : Nat → Value), ci < 19 ∧ clR ci = C ∧ ∀ H : Heap, Rp g X H → cAt g (ci + 1) n V b H
theorem RC.stat {k o ci : Nat} {C : String} (hs : gS g = true) (hk : sKind k = ci + 1) (ho : sOff k = o) (hc : ci < 19) (hC : clR ci = C) : RC g X (gB g + o) C :=
  ⟨ci, sLen k, sV g X k, hc, hC, fun H hR => by have := hR.stat hs (k := k) (by omega); rw [hk, ho] at this; exact this⟩
theorem RC.heap {q ci : Nat} {C : String} (hk : hK X.2 q = ci + 1) (hc : ci < 19) (hC : clR ci = C) : RC g X q C :=
  ⟨ci, hL X.2 q, hV g X.2 q, hc, hC, fun H hR => by have := hR.heap (q := q) (by omega); rw [hk] at this; exact this⟩
theorem cat_le (v : Value) : v.category ≤ 2 := by rcases lv_cat v with h | h <;> omega
theorem cat_sum (l : List Value) : (l.map fun v => v.category).sum ≤ 2 * l.length := by
  induction l with
  | nil => exact Nat.le_refl 0
  | cons v l ih =>
    have := cat_le v
    simp only [List.map_cons, List.sum_cons, List.length_cons]
    omega
/-- a call, once its instruction is known to come to the callee -/
theorem ex_call {As : List Value} (K : Ex g d2 y2 0 (lv_args 0 As) [] X Q2) {nm : MethodName} (hML : ML y2 nm) (hlen : (lg_sl As).length ≤ y2.2.2.2.1) (hd2 : d2 + 1 ≤ d) (hrm : 2 * rest.length + y2.2.2.2.1 ≤ 370) {ig : Instr} (hd : decode y.2.2.1 pc = .ok (ig, 3))
    (hstep : ∀ {p : Program} {l : Launch} {e : Env} {R : Room} {s : State} {m : MethodId} {args : Array Value} {below : List Frame} {meth : Method} {c : Code} {locs : List Loc} {cells slots y0 : Nat} {ls : Array Slot} {T : State}, Cx g d y p e R s m meth c y0 → Rp g X T.heap → ls.size = y.2.2.2.1 → Stand p l e R s m args below meth c T locs cells slots →
      ∃ (mk : MethodId) (vm' : Vm), s.methodNamed? nm = some mk ∧ Stand p l e R s m args below meth c (T.setVm vm') locs cells slots ∧ ∀ target, (∀ acts, Steps p.tables e below (doInvoke e ((T.setVm vm').setTop (F0 m pc ls rest)) acts mk As.toArray).1 target) → Steps p.tables e below (T.setTop (F0 m pc ls st)) target)
    (k : ∀ o X', Q2 o X' → Aft g d y pc kn rest Q o X') : Ex g d y pc kn st X Q := by
  intro p l e R s m args below meth c H locs cells slots y0 ls C0 hR h1 h2 h3 hl
  intro T hT X0
  subst hT
  obtain ⟨mk, vm', hmk, X1, hst⟩ := hstep C0 hR hl.1 X0
  have hcs := cat_sum rest
  obtain ⟨t, o, X', T', L, kk, n, b1, b2, b3, b4, b5, b6, b7, b8⟩ := call_core C0 X1 hR h1 h2 As K rfl hlen hd2 hML hmk (gf := F0 m pc ls rest) rfl (by rw [C0.maxL]; exact hl.1) (ig := ig) (len := 3) (by rw [C0.code]; exact hd) (by show 2 * 0 + (rest.map fun v => v.category).sum + _ ≤ _; omega)
  have hlocs : ∀ q ∈ locs ++ L, gB g ≤ q.base := fun q hq => by
    rcases List.mem_append.mp hq with h | h
    · exact h3 q h
    · exact b7 q h
  have hk := k o X' b2
  cases o with
  | inr v =>
    obtain ⟨t2, c1, c2⟩ := hk p l e R s m args below meth c T'.heap (locs ++ L) (cells + kk) (slots + n) y0 ls C0 b4 b5 b6 hlocs hl T' rfl b3
    subst b8
    exact ⟨t2, hst t2 fun acts => (b1 acts).trans c1, c2⟩
  | inl a =>
    obtain ⟨t2, c1, c2⟩ := hk p l e R s m args below meth c T'.heap (locs ++ L) (cells + kk) (slots + n) y0 ls rest C0 b4 b5 b6 hlocs hl T' rfl b3
    subst b8
    exact ⟨t2, hst t2 fun acts => (b1 acts).trans c1, c2⟩
def LKm (own : String) (idx : Nat) (nm : MethodName) : Prop := Cond.methodLink own idx nm ∈ lw_tbl ∨ ∃ host : String, Cond.methodLinkNest own idx nm host ∈ lw_tbl
theorem ex_invV {as : List Value} {b idx : Nat} {nm : MethodName} (hd : decode y.2.2.1 pc = .ok (.invokevirtual idx, 3)) (hl : LKm y.1 idx nm) (hML : ML y2 nm) (hin : Cond.instanceMethod nm ∈ lw_tbl) (hse : Cond.selects nm.cls nm nm ∈ lw_tbl) (hrc : RC g X b nm.cls) (hst : as.reverse ++ .ref b :: rest = st) (hpar : (parseMethodDescriptor nm.desc).map (fun d => d.parameters.length) = some as.length)
    (hlen : (lg_sl (.ref b :: as)).length ≤ y2.2.2.2.1) (hd2 : d2 + 1 ≤ d) (hrm : 2 * rest.length + y2.2.2.2.1 ≤ 370) (K : Ex g d2 y2 0 (lv_args 0 (.ref b :: as)) [] X Q2) (k : ∀ o X', Q2 o X' → Aft g d y pc kn rest Q o X') : Ex g d y pc kn st X Q := by
  subst hst
  refine ex_call K hML hlen hd2 hrm hd ?_ k
  intro p l e R s m args below meth c locs cells slots y0 ls T C0 hR hls X0
  obtain ⟨ci, n, V, hc, hC, hat⟩ := hrc
  have hP := hat _ hR
  unfold cAt at hP
  rw [if_pos (by omega), Nat.add_sub_cancel] at hP
  obtain ⟨-, cell, q1, q2, q3, -⟩ := hP
  have hfc : s.vm.findClass nm.cls = some cell.cls := by rw [← hC, q2]; exact (kn_cl C0.kno hc).2.1
  have hnot := hML.2.2.2.1
  obtain ⟨mk0, methk, ck, hn, g1, g2, g3, g4, g5, g6, g7, g8⟩ := hML.get C0.tb
  obtain ⟨mk, methM, hnamed, hmethM, hstM, habM⟩ := Cond.instanceMethod_spec (C0.tb _ hin rfl)
  cases hn.symm.trans hnamed
  cases g1.symm.trans hmethM
  obtain ⟨c2, r2, m2, w1, w2, w3, w4, kP, hkP, hkPi⟩ := Cond.selects_spec (C0.tb _ hse rfl)
  cases hfc.symm.trans w1
  cases (State.methodFound?_of_named hnamed hnot).symm.trans w2
  cases hnamed.symm.trans w3
  have hselP : selectMethod e.platform s.vm cell.cls mk0 = .method mk0 := by rw [Launch.admits_selectMethod X0.admits]; exact w4
  have hlen2 : as.length = methk.sig.parameters.length := by rw [g8] at hpar; exact (Option.some.inj hpar).symm
  rcases hl with h | ⟨host, h⟩
  · obtain ⟨vm1, X1, hs1⟩ := X0.invokevirtual C0.exec C0.own (va_tabs rfl rfl (C0.tb _ h rfl)) hnamed hmethM hstM hkP hkPi hnot (a := b) (cell := cell) q1 (fun z h => by rw [q3] at h; cases h) hselP hmethM habM hkP hkPi (g := F0 m pc ls (as.reverse ++ .ref b :: rest)) rfl (argsL := as) (rest := rest) hlen2 rfl (by rw [C0.code]; exact hd)
    exact ⟨mk0, vm1, hnamed, X1, hs1⟩
  · obtain ⟨vm1, X1, hs1⟩ := X0.invokevirtualNest C0.exec C0.own (va_tabs rfl rfl (C0.tb _ h rfl)) hnamed hmethM hstM hkP hkPi hnot (a := b) (cell := cell) q1 (fun z h => by rw [q3] at h; cases h) hselP hmethM habM hkP hkPi (g := F0 m pc ls (as.reverse ++ .ref b :: rest)) rfl (argsL := as) (rest := rest) hlen2 rfl (by rw [C0.code]; exact hd)
    exact ⟨mk0, vm1, hnamed, X1, hs1⟩
theorem ex_invS {as : List Value} {idx : Nat} {nm : MethodName} (hd : decode y.2.2.1 pc = .ok (.invokestatic idx, 3)) (hl : LKm y.1 idx nm) (hML : ML y2 nm) (hsta : Cond.static nm ∈ lw_tbl) (hst : as.reverse ++ rest = st) (hpar : (parseMethodDescriptor nm.desc).map (fun d => d.parameters.length) = some as.length)
    (hlen : (lg_sl as).length ≤ y2.2.2.2.1) (hd2 : d2 + 1 ≤ d) (hrm : 2 * rest.length + y2.2.2.2.1 ≤ 370) (K : Ex g d2 y2 0 (lv_args 0 as) [] X Q2) (k : ∀ o X', Q2 o X' → Aft g d y pc kn rest Q o X') : Ex g d y pc kn st X Q := by
  subst hst
  refine ex_call K hML hlen hd2 hrm hd ?_ k
  intro p l e R s m args below meth c locs cells slots y0 ls T C0 hR hls X0
  have hnot := hML.2.2.2.1
  obtain ⟨mk0, methk, ck, hn, g1, g2, g3, g4, g5, g6, g7, g8⟩ := hML.get C0.tb
  have hstatic : methk.isStatic = true := Cond.static_spec hn g1 (C0.tb _ hsta rfl)
  obtain ⟨kP, hkP, -⟩ := className_of_methodNamed hn
  have hinitP : kP.init = .initialized := Cond.initialized_spec (findClass_of_methodNamed hn) hkP (C0.tb _ hML.2.2.2.2.1 rfl)
  have hlen2 : as.length = methk.sig.parameters.length := by rw [g8] at hpar; exact (Option.some.inj hpar).symm
  rcases hl with h | ⟨host, h⟩
  · obtain ⟨vm1, X1, hs1⟩ := X0.invokestatic C0.exec C0.own (va_tabs rfl rfl (C0.tb _ h rfl)) hn g1 hstatic hkP hinitP hnot (g := F0 m pc ls (as.reverse ++ rest)) rfl (argsL := as) (rest := rest) hlen2 rfl (by rw [C0.code]; exact hd)
    exact ⟨mk0, vm1, hn, X1, hs1⟩
  · obtain ⟨vm1, X1, hs1⟩ := X0.invokestaticNest C0.exec C0.own (va_tabs rfl rfl (C0.tb _ h rfl)) hn g1 hstatic hkP hinitP hnot (g := F0 m pc ls (as.reverse ++ rest)) rfl (argsL := as) (rest := rest) hlen2 rfl (by rw [C0.code]; exact hd)
    exact ⟨mk0, vm1, hn, X1, hs1⟩
end CALL
