/-! LAYER A: Throwable's fillInStackTrace() (a launch without stack traces), and Throwable() -/
theorem thrW : ∀ w ∈ Bundle.throwableAtoms, w ∈ lw_tbl := by
  intro w hw
  simp only [Bundle.throwableAtoms, List.mem_cons, List.not_mem_nil, or_false] at hw
  rcases hw with rfl | rfl | rfl | rfl | rfl | rfl | rfl | rfl | rfl | rfl | rfl | rfl | rfl | rfl | rfl | rfl | rfl | rfl | rfl | rfl | rfl | rfl | rfl | rfl
  · exact lw_at lw_m1 10 rfl
  · exact lw_at lw_m2 51 rfl
  · exact lw_at lw_m2 60 rfl
  · exact lw_at lw_m2 68 rfl
  · exact lw_at lw_m2 71 rfl
  · exact lw_at lw_m2 73 rfl
  · exact lw_at lw_m2 52 rfl
  · exact lw_at lw_m2 53 rfl
  · exact lw_at lw_m1 41 rfl
  · exact lw_at lw_m1 42 rfl
  · exact lw_at lw_m2 54 rfl
  · exact lw_at lw_m2 59 rfl
  · exact lw_at lw_m2 69 rfl
  · exact lw_at lw_m2 86 rfl
  · exact lw_at lw_m2 41 rfl
  · exact lw_at lw_m2 87 rfl
  · exact lw_at lw_m2 43 rfl
  · exact lw_at lw_m2 88 rfl
  · exact lw_at lw_m2 45 rfl
  · exact lw_at lw_m2 55 rfl
  · exact lw_at lw_m2 56 rfl
  · exact lw_at lw_m2 57 rfl
  · exact lw_at lw_m2 58 rfl
  · exact lw_at lw_m2 47 rfl
theorem thrS : ∀ w ∈ Bundle.throwableAtoms, stW w = true ∨ w = Cond.laysStatic (gsN 1).1 (gsN 1).2.1 (gsN 1).2.2 ∨ w = Cond.laysStatic (gsN 2).1 (gsN 2).2.1 (gsN 2).2.2 := by
  intro w hw
  simp only [Bundle.throwableAtoms, List.mem_cons, List.not_mem_nil, or_false] at hw
  rcases hw with rfl | rfl | rfl | rfl | rfl | rfl | rfl | rfl | rfl | rfl | rfl | rfl | rfl | rfl | rfl | rfl | rfl | rfl | rfl | rfl | rfl | rfl | rfl | rfl <;> first | exact Or.inl rfl | exact Or.inr (Or.inl rfl) | exact Or.inr (Or.inr rfl)
theorem thrB : Cond.fieldLink "java/lang/Throwable" 198 "java/lang/Throwable" "backtrace" "Ljava/lang/Object;" ∈ lw_tbl := lw_at lw_m2 84 rfl
/-- the classes of exceptions -/
def exK (ci : Nat) : Bool := ci == 12 || ci == 13 || ci == 15 || ci == 16 || ci == 17 || ci == 18
theorem exK_F {ci : Nat} (h : exK ci = true) : ci < 19 ∧ 5 ≤ clN ci ∧ (clT ci 1 = ("java/lang/Throwable", "stackTrace", "[Ljava/lang/StackTraceElement;", false)) ∧ (clT ci 4 = ("java/lang/Throwable", "backtrace", "Ljava/lang/Object;", false)) ∧ clF ci 1 = 2 ∧ clF ci 4 = 2 ∧ (clY ci 1 = .array (.object "java/lang/StackTraceElement")) := by
  unfold exK at h
  simp only [Bool.or_eq_true, beq_iff_eq] at h
  rcases h with ((((rfl | rfl) | rfl) | rfl) | rfl) | rfl <;> exact ⟨by decide, by decide, rfl, rfl, rfl, rfl, rfl⟩
theorem exK_W {ci : Nat} (h : exK ci = true) : Cond.selects (clR ci) Bundle.tFill Bundle.tFill ∈ lw_tbl ∧ Cond.selects (clR ci) Bundle.tFill0 Bundle.tFill0 ∈ lw_tbl := by
  unfold exK at h
  simp only [Bool.or_eq_true, beq_iff_eq] at h
  rcases h with ((((rfl | rfl) | rfl) | rfl) | rfl) | rfl
  · exact ⟨lw_at lw_m2 62 rfl, lw_at lw_m3 164 rfl⟩
  · exact ⟨lw_at lw_m2 63 rfl, lw_at lw_m5 168 rfl⟩
  · exact ⟨lw_at lw_m2 39 rfl, lw_at lw_m2 38 rfl⟩
  · exact ⟨lw_at lw_m2 65 rfl, lw_at lw_m2 103 rfl⟩
  · exact ⟨lw_at lw_m2 67 rfl, lw_at lw_m4 213 rfl⟩
  · exact ⟨lw_at lw_m2 66 rfl, lw_at lw_m5 30 rfl⟩
theorem fill_room {e : Env} {V : State} {g : JFrame} {self : Nat} (htop : V.topJava?.isSome) (T : ThrowableC) (cell : Cell) {lim : Nat × Nat} (hlim : e.platform.stackLimits V.me = lim) (hframes : V.frames.length + 2 < lim.1) (hwords : (stackUse (.java g :: V.frames.tail)).2 + 41 ≤ lim.2) :
    e.platform.stackFull ((((fillInside V g T.fill self cell).setTop (fillJ T.fill self 16 [])).threads[((fillInside V g T.fill self cell).setTop (fillJ T.fill self 16 [])).cur]?).getD { frames := [] }) ((fillInside V g T.fill self cell).setTop (fillJ T.fill self 16 [])).frames (nativeFrameWords "java/lang/Throwable" "fillInStackTrace" 2) = false := by
  obtain ⟨g₀, hg⟩ := Option.isSome_iff_exists.mp htop
  obtain ⟨tl, htl⟩ := State.topJava?_eq_some.mp hg
  have hlen : V.frames.length = (Frame.java g :: V.frames.tail).length := by rw [htl]; rfl
  have htopE : (V.setCell self (cell.withEntry V.cur)).topJava?.isSome := htop
  have hfF : (fillInside V g T.fill self cell).frames = .java (entryFrameSync T.fill #[.ref self] 1 self) :: .java g :: V.frames.tail := frames_entered (g := g) htopE _
  have htopF : (fillInside V g T.fill self cell).topJava?.isSome := by rw [State.topJava?_of_frames hfF]; rfl
  have hlimF : e.platform.stackLimits (fillInside V g T.fill self cell).me = lim := by
    rw [State.stackLimits_pushFrame, State.stackLimits_setTop _ htopE]; exact hlim
  have hw26 : (stackUse [Frame.java (fillJ T.fill self 16 [])]).2 ≤ 26 := by
    rw [stackUse_java, stackUse_nil]
    simp [operandWords]
  exact roomAbove (pl := e.platform) (u := (fillInside V g T.fill self cell).setTop (fillJ T.fill self 16 [])) (vars := (nativeFrameWords "java/lang/Throwable" "fillInStackTrace" 2))
      (pushed := [.java (fillJ T.fill self 16 [])]) (base := .java g :: V.frames.tail) (free := 41) (lim := lim) (State.frames_setTop _ hfF) (by rw [State.stackLimits_setTop _ htopF]; exact hlimF)
      (by rw [← hlen]; simp only [List.length_cons, List.length_nil]; omega) hwords (by have : nativeFrameWords "java/lang/Throwable" "fillInStackTrace" 2 + 11 ≤ 15 := (by decide); omega)
theorem cell_same {S : State} {q : Nat} {cell : Cell} (h : S.heap[q]? = some cell) : S.setCell q cell = S := by
  obtain ⟨hlt, hv⟩ := Array.getElem?_eq_some_iff.mp h
  have hs : S.heap.setIfInBounds q cell = S.heap := Array.ext (Array.size_setIfInBounds ..) fun j h1 h2 => by
    rw [Array.getElem_setIfInBounds]
    split
    · rename_i hij; subst hij; exact hv.symm
    · rfl
  show ({ S with heap := S.heap.setIfInBounds q cell } : State) = S
  rw [hs]
section XROW
variable {g : Gx} {d d2 : Nat} {y y2 : MD} {pc : Nat} {kn kn2 : List (Nat × Value)} {st rest : List Value} {M : MW} {C : CW} {X : XW} {Q Q2 : Out → XW → Prop} {α β : Type} {z : β}
theorem ex_fill {q ci : Nat} (ho : OLDg g) (hy : y.1 = "java/lang/Throwable") (hd : decode y.2.2.1 pc = .ok (.invokevirtual 27, 3)) (hk : hK C q = ci + 1) (hex : exK ci = true) (h1 : hR C q 1 = hE C 1) (h4 : hR C q 4 = none) (hd3 : Nat.ble 4 d = true) (hr : Nat.ble (2 * rest.length) 370 = true) (k : Ex g d y (pc + 3) kn (.ref q :: rest) (M, C) Q) : Ex g d y pc kn (.ref q :: rest) (M, C) Q := by
  intro p l e R s m args below meth c H locs cells slots y0 ls C0 hRp g1 g2 g3 hl2
  intro T hT X0
  have hrf := C0.frames
  have hrl := C0.locals
  have hd3 := Nat.le_of_ble_eq_true hd3
  have hr := Nat.le_of_ble_eq_true hr
  have hcs := cat_sum rest
  obtain ⟨hc, hn, t1, t4, f1, f4, y1⟩ := exK_F hex
  have howns : e.platform.frameOwnsMonitors = true := by rw [X0.admits.platform]
  have hfin : e.platform.finalization = false := by rw [X0.admits.platform]
  have hpl : e.platform.magicAccessors = ({} : Platform).magicAccessors := by rw [X0.admits.platform]
  have hsame : ∀ q : Nat, q < gB g → H[q]? = (gH g)[q]? := hRp.2.2.1.2
  have hlays : ∀ i, i < 3 → (Cond.laysStatic (gsN i).1 (gsN i).2.1 (gsN i).2.2).before #[] s = true := by
    intro i hi
    obtain ⟨c1, k1, i1, f1, a1, cell1, z1, z2, z3, z4, z5, z6, z7, z8, z9⟩ := (ho s C0.old).2.2 i hi
    have hba : gB g = (gH g).size := hRp.2.2.1.1
    have ha1 : a1 < gB g := by rw [hba]; exact (Array.getElem?_eq_some_iff.mp z5).1
    have hsg := C0.base
    have hsa : s.heap[a1]? = some s.heap[a1] := Array.getElem?_eq_getElem (by omega)
    obtain ⟨cellT, y1, y2, y3, -⟩ := X0.same.2.2.2.2.2 a1 _ hsa
    have y1' : (gH g)[a1]? = some cellT := by rw [← hsame _ ha1, ← hT]; exact y1
    cases Option.some.inj (z5.symm.trans y1')
    have e1 : (s.heap[a1]).vm = cell1.vm := by rw [y2]
    have e2 : (s.heap[a1]).cls = cell1.cls := by rw [y2]
    have e3 : (s.heap[a1]).slots.size = cell1.slots.size := y3.symm
    simp [Cond.before, Cond.holds, Cond.value, z1, z2, z3, z4, hsa, e1, e2, e3, z6, z7, z8, z9]
  have hat : ∀ w ∈ Bundle.throwableAtoms, w.before #[] s = true := by
    intro w hw
    rcases thrS w hw with h | h | h
    · exact C0.tb _ (thrW w hw) h
    · rw [h]; exact hlays 1 (by omega)
    · rw [h]; exact hlays 2 (by omega)
  obtain ⟨T1, Z, L, LZ, Y⟩ := ThrowableC.of_atoms (args := #[]) howns hfin hpl hat
  have hm : m.cls = T1.cT := by
    have h := C0.own
    rw [hy] at h
    exact Option.some.inj (h.symm.trans Y.found)
  have hge : gB g ≤ q := by
    rcases hRp.hge (q := q) (by show hK C q ≠ 0; omega) with h | ⟨-, h⟩
    · exact h
    · exfalso
      have : 64 ≤ hK C q := h
      omega
  have hPq := hRp.heap (q := q) (by show hK C q ≠ 0; omega)
  have hPq' : cAt g (ci + 1) (hL C q) (hV g C q) q H := by have e : hK (M, C).2 q = ci + 1 := hk; rw [e] at hPq; exact hPq
  unfold cAt at hPq'
  rw [if_pos (by omega), Nat.add_sub_cancel] at hPq'
  obtain ⟨⟨-, hmon⟩, cell, q1, q2, q3, q4⟩ := hPq'
  obtain ⟨mon1, mon2⟩ := hmon _ q1
  obtain ⟨hS, hfc, kC, hkC, hkind⟩ := kn_cl C0.kno hc
  obtain ⟨cf, kf, fi, f, hi, hsl⟩ := hS 1 (by omega)
  rw [t1] at hi
  have e1 := hi.symm.trans Y.stack
  simp only [Option.some.injEq, Prod.mk.injEq] at e1
  obtain ⟨rfl, rfl, rfl, rfl⟩ := e1
  have hv1 : hV g C q 1 = va_rf (hE C 1) := by
    unfold hV
    rw [show hcd (hK C q) 1 = 2 by unfold hcd; rw [if_pos (by omega), hk, Nat.add_sub_cancel]; exact f1, h1]
    rfl
  have hv4 : hV g C q 4 = .null := by
    unfold hV
    rw [show hcd (hK C q) 4 = 2 by unfold hcd; rw [if_pos (by omega), hk, Nat.add_sub_cancel]; exact f4, h4]
    rfl
  have hvS : cell.slots[T1.fStack.slot]? = some (va_rf (hE C 1)) := by rw [hsl, q4 1 (by omega), hv1]
  have hrefE : (va_rf (hE C 1)).isRef = true := by cases hE C 1 <;> rfl
  obtain ⟨cf2, kf2, fi2, fU, aU, cellS, w1, w2, w3, w4, w5, w6, w7, w8⟩ := (ho s C0.old).1 1 (by omega)
  have e2 := (show s.fieldFound? Bundle.tN "UNASSIGNED_STACK" Bundle.steD = _ from w1).symm.trans Y.unassigned
  simp only [Option.some.injEq, Prod.mk.injEq] at e2
  obtain ⟨rfl, rfl, rfl, rfl⟩ := e2
  have e3 := w4.symm.trans L.statics
  simp only [Option.some.injEq] at e3
  subst e3
  have w8' : ¬ gB g ≤ T1.aS := w8
  have hcellS : H[T1.aS]? = some cellS := by rw [hsame _ (by omega)]; exact w5
  have hneS : T1.aS ≠ q := Nat.ne_of_lt (Nat.lt_of_lt_of_le (Nat.lt_of_not_le w8') hge)
  have hgE : hE C = gE g := hRp.olds
  rw [← hgE] at w7
  obtain ⟨tyS, dS, hdS, hdnS⟩ := Cond.laysAt (args := args) (first := s) (o := none) (idx := []) hfc hkC Y.stack (by
    have := cl_hts (args := args) C0.tb hc _ (u_in_lay (show 1 < clN ci by omega))
    unfold u_lay at this
    rw [t1] at this
    exact this)
  have htS : Takes s cell T1.fStack (va_rf (hE C 1)) := by
    refine ⟨(Array.getElem?_eq_some_iff.mp hvS).1, ?_⟩
    have hlay := cl_hts (args := args) C0.tb hc _ (u_in_lay (show 1 < clN ci by omega))
    unfold u_lay at hlay
    rw [t1] at hlay
    have hd2 := cl_ty ci hc 1 (by omega)
    rw [t1] at hd2
    have h6 := u_fits hfc hkC hkind (Or.inl hlay) hi hd2 (nf_ref (by rw [y1]; rfl) (hE C 1)).1 (nf_ref (by rw [y1]; rfl) (hE C 1)).2
    rw [q3, q2]
    exact h6.2
  obtain ⟨ci198, i198, fB, hk198, hg198, ha198, hsB, -, hnB, htB, hffB⟩ := Cond.ownField (args := #[]) (C := "java/lang/Throwable") (C' := clR ci) (name := "backtrace") (desc := "Ljava/lang/Object;") (first := s) (o := none) (idx := []) (t := .object "java/lang/Object") Y.found L.cls (by decide +kernel) (C0.tb _ thrB rfl) (by
    have := cl_hts (args := #[]) C0.tb hc _ (u_in_lay (show 4 < clN ci by omega))
    unfold u_lay at this
    rw [t4] at this
    exact this) e.platform hpl
  obtain ⟨cf3, kf3, fi3, f3, hi3, hsl3⟩ := hS 4 (by omega)
  rw [t4] at hi3
  have e4 := hi3.symm.trans hffB
  simp only [Option.some.injEq, Prod.mk.injEq] at e4
  obtain ⟨rfl, rfl, rfl, rfl⟩ := e4
  have hvB : cell.slots[f3.slot]? = some .null := by rw [hsl3, q4 4 (by omega), hv4]
  have hcls : s.vm.findClass (clR ci) = some cell.cls := by rw [q2]; exact hfc
  have hsel0 : selectMethod e.platform s.vm cell.cls T1.fill0 = .method T1.fill0 := by
    obtain ⟨c2, r2, m2, z1, z2, z3, z4, -⟩ := Cond.selects_spec (C0.tb _ (exK_W hex).2 rfl)
    cases Option.some.inj (z1.symm.trans hcls)
    cases Option.some.inj (z2.symm.trans (State.methodFound?_of_named Y.fill0 (by decide)))
    cases Option.some.inj (z3.symm.trans Y.fill0)
    rw [Launch.admits_selectMethod X0.admits]; exact z4
  have hselF : selectMethod e.platform s.vm cell.cls T1.fill = .method T1.fill := by
    obtain ⟨c2, r2, m2, z1, z2, z3, z4, -⟩ := Cond.selects_spec (C0.tb _ (exK_W hex).1 rfl)
    cases Option.some.inj (z1.symm.trans hcls)
    cases Option.some.inj (z2.symm.trans (State.methodFound?_of_named Y.fill (by decide)))
    cases Option.some.inj (z3.symm.trans Y.fill)
    rw [Launch.admits_selectMethod X0.admits]; exact z4
  have hdc : decode c.code (F0 m pc ls (.ref q :: rest)).pc = .ok (.invokevirtual 27, 3) := by rw [C0.code]; exact hd
  obtain ⟨vm1, hW1, st1⟩ := Steps.invokeVirtualCold (tb := p.tables) (s₀ := s) (U := T) (f := F0 m pc ls (.ref q :: rest)) (args := []) (rest := rest) (a := q) (cell := cell) (r := T1.fill) (m := T1.fill) X0.here C0.exec hdc X0.warmed
    (by rw [show (F0 m pc ls (.ref q :: rest)).method = m from rfl, hm]; exact L.mlink27) (by rw [show (F0 m pc ls (.ref q :: rest)).method = m from rfl, hm]; exact L.mright27) L.notHandle (by rw [show (F0 m pc ls (.ref q :: rest)).method = m from rfl, hm]; exact L.cls) L.file L.pool27 L.cls L.notInterface (L.method L.fillAt) L.fillStatic (by rw [L.fillParams]; rfl) rfl (by rw [hT]; exact q1) (fun k h => by rw [q3] at h; cases h) hselF (L.method L.fillAt) L.fillAbstract L.cls L.notInterface
  have X1 := X0.noted hW1
  have hsz : (F0 m pc ls rest).locals.size = c.maxLocals := by rw [C0.maxL]; exact hl2.1
  have hr0 : (F0 m pc ls rest).monitorRoom = 0 := rfl
  obtain ⟨vm2, hW2, st2⟩ := Steps.fillColdAnyV p (V := T.setVm vm1) (g := F0 m pc ls rest) (c := c) (self := q) X1.here C0.exec T1 L hW1 (Nn := fun u => u) heapOnly_id (fun _ _ => rfl) (fun _ => rfl) (fun u x y => setCell_twice _ _ _ _)
    (cell := cell) (cellS := cellS) (cN := cell.withEntry (T.setVm vm1).cur) (u0 := ⟨va_rf (hE C 1), hrefE⟩) [] (show T.heap[q]? = some cell by rw [hT]; exact q1) (fun k h => by rw [q3] at h; cases h) (fun h => by rw [q3] at h; cases h) (Or.inl mon1) hvS hsel0 (show T.heap[T1.aS]? = some cellS by rw [hT]; exact hcellS) hneS (fun h => by rw [h] at w6; cases w6) w7
    (fun _ hu => hu) (fun _ hu => hu) rfl rfl rfl rfl htS (show decode c.code pc = .ok (.invokevirtual 27, 3) from hdc)
    (fun _ vm3 hW3 hA t' hrest => L.nativeOff p C0.2.1 hA (by exact hW3) (by
      have X3 := X0.noted hW3
      exact fill_room (V := (T.setVm vm1).setVm vm3) X3.here.top T1 cell rfl (X3.framesAbove (n := 2) (by omega)) (X3.stackAbove (g := F0 m pc ls rest) hsz (K := 41) (by rw [hr0]; show 2 * 0 + (rest.map fun v => v.category).sum + 41 ≤ _; omega))) hrest)
    (X1.notFull (g := F0 m pc ls rest) hsz (vars := 1 + 2) (by omega) (by rw [hr0]; show 2 * 0 + (rest.map fun v => v.category).sum + _ ≤ _; omega))
    ⟨{ ci198 := ci198, i198 := fi3, fBack := f3 }, ⟨hk198, hg198, ha198, hsB⟩, hvB, fun _ _ => rfl⟩
  have hback : ((cell.withEntry (T.setVm vm1).cur).setSlot T1.fStack.slot (va_rf (hE C 1))).left = cell := by
    rw [Cell.setSlot_same (x := cell.withEntry (T.setVm vm1).cur) hvS]
    exact Cell.left_withEntry _ mon1 mon2
  have X2 := X0.noted hW2
  obtain ⟨t, a1, b1⟩ := k p l e R s m args below meth c H locs cells slots y0 ls C0 hRp g1 g2 g3 hl2 (T.setVm vm2) hT X2
  refine ⟨t, st1 t (st2 t ?_), b1⟩
  have hset : (((T.setVm vm1).setVm vm2).setCell q ((cell.withEntry (T.setVm vm1).cur).setSlot T1.fStack.slot (va_rf (hE C 1))).left) = T.setVm vm2 := by
    rw [hback]
    exact cell_same (show (T.setVm vm2).heap[q]? = some cell by show T.heap[q]? = _; rw [hT]; exact q1)
  show Steps p.tables e below (((((T.setVm vm1).setVm vm2).setCell q ((cell.withEntry (T.setVm vm1).cur).setSlot T1.fStack.slot (va_rf (hE C 1))).left)).setTop _) t
  rw [hset]
  exact a1
end XROW
