/-! LAYER A: rows -/
section EXA
variable {g : Gx} {d : Nat} {y : MD} {pc : Nat} {kn : List (Nat × Value)} {st rest : List Value} {X : XW} {Q : Out → XW → Prop}
theorem Cx.exec {p e R s m meth c y0} (C : Cx g d y p e R s m meth c y0) : p.tables.exec = Jvm.exec := C.1
theorem Cx.code {p e R s m meth c y0} (C : Cx g d y p e R s m meth c y0) : c.code = y.2.2.1 := C.2.2.1
theorem Cx.maxL {p e R s m meth c y0} (C : Cx g d y p e R s m meth c y0) : c.maxLocals = y.2.2.2.1 := C.2.2.2.1
theorem Cx.ret {p e R s m meth c y0} (C : Cx g d y p e R s m meth c y0) : meth.sig.returnType = y.2.2.2.2.1 := C.2.2.2.2.1
theorem Cx.locks {p e R s m meth c y0} (C : Cx g d y p e R s m meth c y0) : meth.locks = false := C.2.2.2.2.2.1
theorem Cx.tab {p e R s m meth c y0} (C : Cx g d y p e R s m meth c y0) : c.exceptionTable.toList.map (fun h => (h.startPc, h.endPc, h.handlerPc, h.catchType)) = y.2.2.2.2.2 := C.2.2.2.2.2.2.1
theorem Cx.own {p e R s m meth c y0} (C : Cx g d y p e R s m meth c y0) : s.vm.findClass y.1 = some m.cls := C.2.2.2.2.2.2.2.1
theorem Cx.name {p e R s m meth c y0} (C : Cx g d y p e R s m meth c y0) : meth.name = y.2.1 := C.2.2.2.2.2.2.2.2.1
theorem Cx.tb {p e R s m meth c y0} (C : Cx g d y p e R s m meth c y0) : TB s := C.2.2.2.2.2.2.2.2.2.1
theorem Cx.kno {p e R s m meth c y0} (C : Cx g d y p e R s m meth c y0) : KN g s := C.2.2.2.2.2.2.2.2.2.2.1
theorem Cx.old {p e R s m meth c y0} (C : Cx g d y p e R s m meth c y0) : gO g s := C.2.2.2.2.2.2.2.2.2.2.2.1
theorem Cx.olds {p e R s m meth c y0} (C : Cx g d y p e R s m meth c y0) : ∀ s' : State, s.vm.Alike s'.vm → gO g s' := C.2.2.2.2.2.2.2.2.2.2.2.2.1
theorem Cx.frames {p e R s m meth c y0} (C : Cx g d y p e R s m meth c y0) : d ≤ R.frames := C.2.2.2.2.2.2.2.2.2.2.2.2.2.1
theorem Cx.locals {p e R s m meth c y0} (C : Cx g d y p e R s m meth c y0) : 390 * d ≤ R.locals := C.2.2.2.2.2.2.2.2.2.2.2.2.2.2.1
theorem Cx.cells {p e R s m meth c y0} (C : Cx g d y p e R s m meth c y0) : gB g + 600384 ≤ R.cells + s.heap.size := C.2.2.2.2.2.2.2.2.2.2.2.2.2.2.2.1
theorem Cx.slots {p e R s m meth c y0} (C : Cx g d y p e R s m meth c y0) : 7290858 ≤ R.slots + y0 := C.2.2.2.2.2.2.2.2.2.2.2.2.2.2.2.2.1
theorem Cx.base {p e R s m meth c y0} (C : Cx g d y p e R s m meth c y0) : gB g ≤ s.heap.size := C.2.2.2.2.2.2.2.2.2.2.2.2.2.2.2.2.2
theorem W.mono {p : Program} {l : Launch} {e : Env} {R : Room} {s : State} {m : MethodId} {args : Array Value} {below : List Frame} {meth : Method} {c : Code} {H : Heap} {locs : List Loc} {cells slots : Nat} {Q1 Q2 : State → Prop} {f : JFrame} (h : ∀ t, Q1 t → Q2 t)
    (k : W p l e R s m args below meth c H locs cells slots Q1 f) : W p l e R s m args below meth c H locs cells slots Q2 f := by
  intro T hT X
  obtain ⟨t, a, b⟩ := k T hT X
  exact ⟨t, a, h t b⟩
/-- a row of the kit's that touches nothing but pc and operands -/
theorem Ex.lift {pc' : Nat} {st' : List Value} (k : Ex g d y pc' kn st' X Q)
    (h : ∀ {p : Program} {l : Launch} {e : Env} {R : Room} {s : State} {m : MethodId} {args : Array Value} {below : List Frame} {meth : Method} {c : Code} {H : Heap} {locs : List Loc} {cells slots : Nat} {Q' : State → Prop} {ls : Array Slot},
      p.tables.exec = Jvm.exec → c.code = y.2.2.1 → lv_has ls y.2.2.2.1 kn → s.vm.findClass y.1 = some m.cls → TB s → W p l e R s m args below meth c H locs cells slots Q' (F0 m pc' ls st') → W p l e R s m args below meth c H locs cells slots Q' (F0 m pc ls st)) : Ex g d y pc kn st X Q := by
  intro p l e R s m args below meth c H locs cells slots y0 ls C hR h1 h2 h3 hl
  exact h C.exec C.code hl C.own C.tb (k p l e R s m args below meth c H locs cells slots y0 ls C hR h1 h2 h3 hl)
theorem Ex.lift2 {P1 P2 : Prop} {pc1 pc2 : Nat} {st1 st2 : List Value} (k1 : P1 → Ex g d y pc1 kn st1 X Q) (k2 : P2 → Ex g d y pc2 kn st2 X Q)
    (h : ∀ {p : Program} {l : Launch} {e : Env} {R : Room} {s : State} {m : MethodId} {args : Array Value} {below : List Frame} {meth : Method} {c : Code} {H : Heap} {locs : List Loc} {cells slots : Nat} {Q' : State → Prop} {ls : Array Slot},
      p.tables.exec = Jvm.exec → c.code = y.2.2.1 → (P1 → W p l e R s m args below meth c H locs cells slots Q' (F0 m pc1 ls st1)) → (P2 → W p l e R s m args below meth c H locs cells slots Q' (F0 m pc2 ls st2)) → W p l e R s m args below meth c H locs cells slots Q' (F0 m pc ls st)) : Ex g d y pc kn st X Q := by
  intro p l e R s m args below meth c H locs cells slots y0 ls C hR h1 h2 h3 hl
  exact h C.exec C.code (fun q => k1 q p l e R s m args below meth c H locs cells slots y0 ls C hR h1 h2 h3 hl) (fun q => k2 q p l e R s m args below meth c H locs cells slots y0 ls C hR h1 h2 h3 hl)
theorem Ex.eq {st' : List Value} (e : st' = st) (k : Ex g d y pc kn st' X Q) : Ex g d y pc kn st X Q := e ▸ k
/-- fewer known locals -/
theorem Ex.sub {kn' : List (Nat × Value)} (ks : List Nat) (h : lv_pick kn ks = kn') (k : Ex g d y pc kn' st X Q) : Ex g d y pc kn st X Q := by
  intro p l e R s m args below meth c H locs cells slots y0 ls C hR h1 h2 h3 hl
  exact k p l e R s m args below meth c H locs cells slots y0 ls C hR h1 h2 h3 (lv_sub hl ks h)
theorem Ex.post {Q' : Out → XW → Prop} (hq : ∀ o X', Q' o X' → Q o X') (k : Ex g d y pc kn st X Q') : Ex g d y pc kn st X Q := by
  intro p l e R s m args below meth c H locs cells slots y0 ls C hR h1 h2 h3 hl
  refine W.mono ?_ (k p l e R s m args below meth c H locs cells slots y0 ls C hR h1 h2 h3 hl)
  rintro t ⟨o, X', L, k, n, a1, a2, a3, a4⟩
  exact ⟨o, X', L, k, n, a1, a2, hq o X' a3, a4⟩
/-! constants, locals, stack -/
theorem ex_iconst {n v : Int} (hd : decode y.2.2.1 pc = .ok (.iconst n, 1)) (hv : n = v) (k : Ex g d y (pc + 1) kn (.int (iI v) :: st) X Q) : Ex g d y pc kn st X Q :=
  Ex.lift k fun hx hb _ _ _ k => lv_iconst hx hb hd (by rw [hv]; rfl) k
theorem ex_bipush {n v : Int} (hd : decode y.2.2.1 pc = .ok (.bipush n, 2)) (hv : (Int8.ofInt n).toInt32 = iI v) (k : Ex g d y (pc + 2) kn (.int (iI v) :: st) X Q) : Ex g d y pc kn st X Q :=
  Ex.lift k fun hx hb _ _ _ k => lv_bipush hx hb hd hv k
theorem ex_sipush {n v : Int} (hd : decode y.2.2.1 pc = .ok (.sipush n, 3)) (hv : (Int16.ofInt n).toInt32 = iI v) (k : Ex g d y (pc + 3) kn (.int (iI v) :: st) X Q) : Ex g d y pc kn st X Q :=
  Ex.lift k fun hx hb _ _ _ k => lv_sipush hx hb hd hv k
theorem ex_lconst {n : Fin 2} {v : Int} (hd : decode y.2.2.1 pc = .ok (.lconst n, 1)) (hv : Int64.ofNat (n : Nat) = iJ v) (k : Ex g d y (pc + 1) kn (.long (iJ v) :: st) X Q) : Ex g d y pc kn st X Q :=
  Ex.lift k fun hx hb _ _ _ k => lv_lconst hx hb hd hv k
theorem ex_null (hd : decode y.2.2.1 pc = .ok (.aconst_null, 1)) (k : Ex g d y (pc + 1) kn (.null :: st) X Q) : Ex g d y pc kn st X Q :=
  Ex.lift k fun hx hb _ _ _ k => lv_null hx hb hd k
theorem ex_ldc {i : Nat} {v : Int} (hd : decode y.2.2.1 pc = .ok (.ldc i, 2)) (hw : Cond.constant y.1 i (iI v) ∈ lw_tbl) (k : Ex g d y (pc + 2) kn (.int (iI v) :: st) X Q) : Ex g d y pc kn st X Q :=
  Ex.lift k fun hx hb _ ho ht k => lv_ldc (args := _) hx hb ho (va_tabs rfl rfl (ht _ hw rfl)) hd k
theorem ex_ldcw {i : Nat} {v : Int} (hd : decode y.2.2.1 pc = .ok (.ldc_w i, 3)) (hw : Cond.constant y.1 i (iI v) ∈ lw_tbl) (k : Ex g d y (pc + 3) kn (.int (iI v) :: st) X Q) : Ex g d y pc kn st X Q :=
  Ex.lift k fun hx hb _ ho ht k => lv_ldcw (args := _) hx hb ho (va_tabs rfl rfl (ht _ hw rfl)) hd k
theorem ex_ldc2 {i : Nat} {v : Int} (hd : decode y.2.2.1 pc = .ok (.ldc2_w i, 3)) (hw : Cond.constantLong y.1 i (iJ v) ∈ lw_tbl) (k : Ex g d y (pc + 3) kn (.long (iJ v) :: st) X Q) : Ex g d y pc kn st X Q :=
  Ex.lift k fun hx hb _ ho ht k => lv_ldc2 (args := _) hx hb ho (va_tabs rfl rfl (ht _ hw rfl)) hd k
theorem ex_iload_n {i : Fin 4} {a : Int} (j : Nat) (hd : decode y.2.2.1 pc = .ok (.iload_n i, 1)) (hl : kn[j]? = some ((i : Nat), .int (iI a))) (k : Ex g d y (pc + 1) kn (.int (iI a) :: st) X Q) : Ex g d y pc kn st X Q :=
  Ex.lift k fun hx hb h _ _ k => lv_iload_n hx hb hd rfl (lv_at h j hl) k
theorem ex_iload {i : Nat} {a : Int} (j : Nat) (hd : decode y.2.2.1 pc = .ok (.iload i, 2)) (hl : kn[j]? = some (i, .int (iI a))) (k : Ex g d y (pc + 2) kn (.int (iI a) :: st) X Q) : Ex g d y pc kn st X Q :=
  Ex.lift k fun hx hb h _ _ k => lv_iload hx hb hd (lv_at h j hl) k
theorem ex_lload_n {i : Fin 4} {a : Int} (j : Nat) (hd : decode y.2.2.1 pc = .ok (.lload_n i, 1)) (hl : kn[j]? = some ((i : Nat), .long (iJ a))) (k : Ex g d y (pc + 1) kn (.long (iJ a) :: st) X Q) : Ex g d y pc kn st X Q :=
  Ex.lift k fun hx hb h _ _ k => lv_lload_n hx hb hd rfl (lv_at h j hl) k
theorem ex_lload {i : Nat} {a : Int} (j : Nat) (hd : decode y.2.2.1 pc = .ok (.lload i, 2)) (hl : kn[j]? = some (i, .long (iJ a))) (k : Ex g d y (pc + 2) kn (.long (iJ a) :: st) X Q) : Ex g d y pc kn st X Q :=
  Ex.lift k fun hx hb h _ _ k => lv_lload hx hb hd (lv_at h j hl) k
theorem ex_aload_n {i : Fin 4} {a : Nat} (j : Nat) (hd : decode y.2.2.1 pc = .ok (.aload_n i, 1)) (hl : kn[j]? = some ((i : Nat), .ref a)) (k : Ex g d y (pc + 1) kn (.ref a :: st) X Q) : Ex g d y pc kn st X Q :=
  Ex.lift k fun hx hb h _ _ k => lv_aload_n hx hb hd rfl (lv_at h j hl) k
theorem ex_aload {i : Nat} {a : Nat} (j : Nat) (hd : decode y.2.2.1 pc = .ok (.aload i, 2)) (hl : kn[j]? = some (i, .ref a)) (k : Ex g d y (pc + 2) kn (.ref a :: st) X Q) : Ex g d y pc kn st X Q :=
  Ex.lift k fun hx hb h _ _ k => lv_aload hx hb hd (lv_at h j hl) k
theorem ex_aload_nq {i : Fin 4} {r : Option Nat} (j : Nat) (hd : decode y.2.2.1 pc = .ok (.aload_n i, 1)) (hl : kn[j]? = some ((i : Nat), va_rf r)) (k : Ex g d y (pc + 1) kn (va_rf r :: st) X Q) : Ex g d y pc kn st X Q := by
  cases r with
  | none => exact Ex.lift k fun hx hb h _ _ k => lv_aload_nN hx hb hd rfl (lv_at h j hl) k
  | some a => exact Ex.lift k fun hx hb h _ _ k => lv_aload_n hx hb hd rfl (lv_at h j hl) k
theorem ex_aloadq {i : Nat} {r : Option Nat} (j : Nat) (hd : decode y.2.2.1 pc = .ok (.aload i, 2)) (hl : kn[j]? = some (i, va_rf r)) (k : Ex g d y (pc + 2) kn (va_rf r :: st) X Q) : Ex g d y pc kn st X Q := by
  cases r with
  | none => exact Ex.lift k fun hx hb h _ _ k => lv_aloadN hx hb hd (lv_at h j hl) k
  | some a => exact Ex.lift k fun hx hb h _ _ k => lv_aload hx hb hd (lv_at h j hl) k
theorem Ex.liftS {pc' : Nat} {st' : List Value} {kn' : List (Nat × Value)} (k : Ex g d y pc' kn' st' X Q)
    (h : ∀ {p : Program} {l : Launch} {e : Env} {R : Room} {s : State} {m : MethodId} {args : Array Value} {below : List Frame} {meth : Method} {c : Code} {H : Heap} {locs : List Loc} {cells slots : Nat} {Q' : State → Prop} {ls : Array Slot},
      p.tables.exec = Jvm.exec → c.code = y.2.2.1 → lv_has ls y.2.2.2.1 kn → (∀ ls' : Array Slot, lv_has ls' y.2.2.2.1 kn' → W p l e R s m args below meth c H locs cells slots Q' (F0 m pc' ls' st')) → W p l e R s m args below meth c H locs cells slots Q' (F0 m pc ls st)) : Ex g d y pc kn st X Q := by
  intro p l e R s m args below meth c H locs cells slots y0 ls C hR h1 h2 h3 hl
  exact h C.exec C.code hl (fun ls' hl' => k p l e R s m args below meth c H locs cells slots y0 ls' C hR h1 h2 h3 hl')
theorem ex_istore_n {i : Fin 4} {a : Int} {kn' : List (Nat × Value)} (hd : decode y.2.2.1 pc = .ok (.istore_n i, 1)) (hn : (i : Nat) < y.2.2.2.1) (hl : ((i : Nat), Value.int (iI a)) :: kn.filter (fun q => !(q.1 == (i : Nat)) && !(q.1 + 1 == (i : Nat) && q.2.category == 2)) = kn') (k : Ex g d y (pc + 1) kn' st X Q) : Ex g d y pc kn (.int (iI a) :: st) X Q :=
  Ex.liftS k fun hx hb h k => lv_istore_n hx hb hd rfl h hn hl k
theorem ex_istore {i : Nat} {a : Int} {kn' : List (Nat × Value)} (hd : decode y.2.2.1 pc = .ok (.istore i, 2)) (hn : i < y.2.2.2.1) (hl : (i, Value.int (iI a)) :: kn.filter (fun q => !(q.1 == i) && !(q.1 + 1 == i && q.2.category == 2)) = kn') (k : Ex g d y (pc + 2) kn' st X Q) : Ex g d y pc kn (.int (iI a) :: st) X Q :=
  Ex.liftS k fun hx hb h k => lv_istore hx hb hd h hn hl k
theorem ex_lstore_n {i : Fin 4} {a : Int} {kn' : List (Nat × Value)} (hd : decode y.2.2.1 pc = .ok (.lstore_n i, 1)) (hn : (i : Nat) + 1 < y.2.2.2.1) (hl : ((i : Nat), Value.long (iJ a)) :: kn.filter (fun q => !(q.1 == (i : Nat)) && (!(q.1 == (i : Nat) + 1) && !(q.1 + 1 == (i : Nat) && q.2.category == 2))) = kn') (k : Ex g d y (pc + 1) kn' st X Q) : Ex g d y pc kn (.long (iJ a) :: st) X Q :=
  Ex.liftS k fun hx hb h k => lv_lstore_n hx hb hd rfl h hn hl k
theorem ex_lstore {i : Nat} {a : Int} {kn' : List (Nat × Value)} (hd : decode y.2.2.1 pc = .ok (.lstore i, 2)) (hn : i + 1 < y.2.2.2.1) (hl : (i, Value.long (iJ a)) :: kn.filter (fun q => !(q.1 == i) && (!(q.1 == i + 1) && !(q.1 + 1 == i && q.2.category == 2))) = kn') (k : Ex g d y (pc + 2) kn' st X Q) : Ex g d y pc kn (.long (iJ a) :: st) X Q :=
  Ex.liftS k fun hx hb h k => lv_lstore hx hb hd h hn hl k
theorem ex_astore_n {i : Fin 4} {a : Nat} {kn' : List (Nat × Value)} (hd : decode y.2.2.1 pc = .ok (.astore_n i, 1)) (hn : (i : Nat) < y.2.2.2.1) (hl : ((i : Nat), Value.ref a) :: kn.filter (fun q => !(q.1 == (i : Nat)) && !(q.1 + 1 == (i : Nat) && q.2.category == 2)) = kn') (k : Ex g d y (pc + 1) kn' st X Q) : Ex g d y pc kn (.ref a :: st) X Q :=
  Ex.liftS k fun hx hb h k => lv_astore_n hx hb hd rfl h hn hl k
theorem ex_astore {i : Nat} {a : Nat} {kn' : List (Nat × Value)} (hd : decode y.2.2.1 pc = .ok (.astore i, 2)) (hn : i < y.2.2.2.1) (hl : (i, Value.ref a) :: kn.filter (fun q => !(q.1 == i) && !(q.1 + 1 == i && q.2.category == 2)) = kn') (k : Ex g d y (pc + 2) kn' st X Q) : Ex g d y pc kn (.ref a :: st) X Q :=
  Ex.liftS k fun hx hb h k => lv_astore hx hb hd h hn hl k
theorem ex_astore_nq {i : Fin 4} {r : Option Nat} {kn' : List (Nat × Value)} (hd : decode y.2.2.1 pc = .ok (.astore_n i, 1)) (hn : (i : Nat) < y.2.2.2.1) (hl : ((i : Nat), va_rf r) :: kn.filter (fun q => !(q.1 == (i : Nat)) && !(q.1 + 1 == (i : Nat) && q.2.category == 2)) = kn') (k : Ex g d y (pc + 1) kn' st X Q) : Ex g d y pc kn (va_rf r :: st) X Q := by
  cases r with
  | none => exact Ex.liftS k fun hx hb h k => lv_astore_nN hx hb hd rfl h hn hl k
  | some a => exact Ex.liftS k fun hx hb h k => lv_astore_n hx hb hd rfl h hn hl k
theorem ex_astoreq {i : Nat} {r : Option Nat} {kn' : List (Nat × Value)} (hd : decode y.2.2.1 pc = .ok (.astore i, 2)) (hn : i < y.2.2.2.1) (hl : (i, va_rf r) :: kn.filter (fun q => !(q.1 == i) && !(q.1 + 1 == i && q.2.category == 2)) = kn') (k : Ex g d y (pc + 2) kn' st X Q) : Ex g d y pc kn (va_rf r :: st) X Q := by
  cases r with
  | none => exact Ex.liftS k fun hx hb h k => lv_astoreN hx hb hd h hn hl k
  | some a => exact Ex.liftS k fun hx hb h k => lv_astore hx hb hd h hn hl k
theorem ex_iinc {i : Nat} {n a : Int} {kn' : List (Nat × Value)} (j : Nat) (hd : decode y.2.2.1 pc = .ok (.iinc i n, 3)) (hj : kn[j]? = some (i, .int (iI a))) (hn : i < y.2.2.2.1) (hl : (i, Value.int (iI (a + n))) :: kn.filter (fun q => !(q.1 == i) && !(q.1 + 1 == i && q.2.category == 2)) = kn') (k : Ex g d y (pc + 3) kn' st X Q) : Ex g d y pc kn st X Q :=
  Ex.liftS k fun hx hb h k => lv_iinc hx hb hd h hj (iI_add a n) hn hl k
theorem ex_dup {v : Value} (hd : decode y.2.2.1 pc = .ok (.dup, 1)) (hv : v.category = 1) (k : Ex g d y (pc + 1) kn (v :: v :: st) X Q) : Ex g d y pc kn (v :: st) X Q :=
  Ex.lift k fun hx hb _ _ _ k => lv_dup hx hb hd hv k
theorem ex_pop {v : Value} (hd : decode y.2.2.1 pc = .ok (.pop, 1)) (hv : v.category = 1) (k : Ex g d y (pc + 1) kn st X Q) : Ex g d y pc kn (v :: st) X Q :=
  Ex.lift k fun hx hb _ _ _ k => lv_pop hx hb hd hv k
theorem ex_pop2 {v : Value} (hd : decode y.2.2.1 pc = .ok (.pop2, 1)) (hv : v.category = 2) (k : Ex g d y (pc + 1) kn st X Q) : Ex g d y pc kn (v :: st) X Q :=
  Ex.lift k fun hx hb _ _ _ k => lv_pop2_2 hx hb hd hv k
theorem ex_dup_x1 {v w : Value} (hd : decode y.2.2.1 pc = .ok (.dup_x1, 1)) (hv : v.category = 1) (hw : w.category = 1) (k : Ex g d y (pc + 1) kn (v :: w :: v :: st) X Q) : Ex g d y pc kn (v :: w :: st) X Q :=
  Ex.lift k fun hx hb _ _ _ k => lv_dup_x1 hx hb hd hv hw k
theorem ex_dup2 {v w : Value} (hd : decode y.2.2.1 pc = .ok (.dup2, 1)) (hv : v.category = 1) (hw : w.category = 1) (k : Ex g d y (pc + 1) kn (v :: w :: v :: w :: st) X Q) : Ex g d y pc kn (v :: w :: st) X Q :=
  Ex.lift k fun hx hb _ _ _ k => lv_dup2_11 hx hb hd hv hw k
theorem cat_rf (r : Option Nat) : (va_rf r).category = 1 := by cases r <;> rfl
/-! arithmetic -/
theorem ex_iadd {a b : Int} (hd : decode y.2.2.1 pc = .ok (.iadd, 1)) (k : Ex g d y (pc + 1) kn (.int (iI (a + b)) :: st) X Q) : Ex g d y pc kn (.int (iI b) :: .int (iI a) :: st) X Q :=
  Ex.lift k fun hx hb _ _ _ k => lv_iadd hx hb hd (by rw [iI_add]; exact k)
theorem ex_isub {a b : Int} (hd : decode y.2.2.1 pc = .ok (.isub, 1)) (k : Ex g d y (pc + 1) kn (.int (iI (a - b)) :: st) X Q) : Ex g d y pc kn (.int (iI b) :: .int (iI a) :: st) X Q :=
  Ex.lift k fun hx hb _ _ _ k => lv_isub hx hb hd (by rw [iI_sub]; exact k)
theorem ex_imul {a b : Int} (hd : decode y.2.2.1 pc = .ok (.imul, 1)) (k : Ex g d y (pc + 1) kn (.int (iI (a * b)) :: st) X Q) : Ex g d y pc kn (.int (iI b) :: .int (iI a) :: st) X Q :=
  Ex.lift k fun hx hb _ _ _ k => lv_imul hx hb hd (by rw [iI_mul]; exact k)
theorem ex_ladd {a b : Int} (hd : decode y.2.2.1 pc = .ok (.ladd, 1)) (k : Ex g d y (pc + 1) kn (.long (iJ (a + b)) :: st) X Q) : Ex g d y pc kn (.long (iJ b) :: .long (iJ a) :: st) X Q :=
  Ex.lift k fun hx hb _ _ _ k => lv_ladd hx hb hd (by rw [iJ_add]; exact k)
theorem ex_lsub {a b : Int} (hd : decode y.2.2.1 pc = .ok (.lsub, 1)) (k : Ex g d y (pc + 1) kn (.long (iJ (a - b)) :: st) X Q) : Ex g d y pc kn (.long (iJ b) :: .long (iJ a) :: st) X Q :=
  Ex.lift k fun hx hb _ _ _ k => lv_lsub hx hb hd (by rw [iJ_sub]; exact k)
theorem ex_lmul {a b : Int} (hd : decode y.2.2.1 pc = .ok (.lmul, 1)) (k : Ex g d y (pc + 1) kn (.long (iJ (a * b)) :: st) X Q) : Ex g d y pc kn (.long (iJ b) :: .long (iJ a) :: st) X Q :=
  Ex.lift k fun hx hb _ _ _ k => lv_lmul hx hb hd (by rw [iJ_mul]; exact k)
def iAnd (a b : Int) : Int := (iI a &&& iI b).toInt
def iOr (a b : Int) : Int := (iI a ||| iI b).toInt
def iXor (a b : Int) : Int := (iI a ^^^ iI b).toInt
def iShl (a b : Int) : Int := (iI a <<< (iI b &&& 31)).toInt
def iShr (a b : Int) : Int := (iI a >>> (iI b &&& 31)).toInt
def iUshr (a b : Int) : Int := ((iI a).toUInt32 >>> ((iI b).toUInt32 &&& Int32.toUInt32 31)).toInt32.toInt
def iDiv (a b : Int) : Int := (iI a / iI b).toInt
def iRem (a b : Int) : Int := (iI a - iI a / iI b * iI b).toInt
def jAnd (a b : Int) : Int := (iJ a &&& iJ b).toInt
def jOr (a b : Int) : Int := (iJ a ||| iJ b).toInt
def jShl (a b : Int) : Int := (iJ a <<< ((iI b).toInt64 &&& 63)).toInt
def jUshr (a b : Int) : Int := ((iJ a).toUInt64 >>> ((iI b).toInt64.toUInt64 &&& Int64.toUInt64 63)).toInt64.toInt
def jDiv (a b : Int) : Int := (iJ a / iJ b).toInt
def i2b (a : Int) : Int := (iI a).toInt8.toInt32.toInt
def i2s (a : Int) : Int := (iI a).toInt16.toInt32.toInt
def jCmp (a b : Int) : Int := (lg_cmp (iJ a) (iJ b)).toInt
theorem ex_iand {a b : Int} (hd : decode y.2.2.1 pc = .ok (.iand, 1)) (k : Ex g d y (pc + 1) kn (.int (iI (iAnd a b)) :: st) X Q) : Ex g d y pc kn (.int (iI b) :: .int (iI a) :: st) X Q :=
  Ex.lift k fun hx hb _ _ _ k => lv_iand hx hb hd (by rw [iAnd, iI_t] at k; exact k)
theorem ex_ior {a b : Int} (hd : decode y.2.2.1 pc = .ok (.ior, 1)) (k : Ex g d y (pc + 1) kn (.int (iI (iOr a b)) :: st) X Q) : Ex g d y pc kn (.int (iI b) :: .int (iI a) :: st) X Q :=
  Ex.lift k fun hx hb _ _ _ k => lv_ior hx hb hd (by rw [iOr, iI_t] at k; exact k)
theorem ex_ixor {a b : Int} (hd : decode y.2.2.1 pc = .ok (.ixor, 1)) (k : Ex g d y (pc + 1) kn (.int (iI (iXor a b)) :: st) X Q) : Ex g d y pc kn (.int (iI b) :: .int (iI a) :: st) X Q :=
  Ex.lift k fun hx hb _ _ _ k => lv_ixor hx hb hd (by rw [iXor, iI_t] at k; exact k)
theorem ex_ishl {a b : Int} (hd : decode y.2.2.1 pc = .ok (.ishl, 1)) (k : Ex g d y (pc + 1) kn (.int (iI (iShl a b)) :: st) X Q) : Ex g d y pc kn (.int (iI b) :: .int (iI a) :: st) X Q :=
  Ex.lift k fun hx hb _ _ _ k => lv_ishl hx hb hd (by rw [iShl, iI_t] at k; exact k)
theorem ex_ishr {a b : Int} (hd : decode y.2.2.1 pc = .ok (.ishr, 1)) (k : Ex g d y (pc + 1) kn (.int (iI (iShr a b)) :: st) X Q) : Ex g d y pc kn (.int (iI b) :: .int (iI a) :: st) X Q :=
  Ex.lift k fun hx hb _ _ _ k => lv_ishr hx hb hd (by rw [iShr, iI_t] at k; exact k)
theorem ex_iushr {a b : Int} (hd : decode y.2.2.1 pc = .ok (.iushr, 1)) (k : Ex g d y (pc + 1) kn (.int (iI (iUshr a b)) :: st) X Q) : Ex g d y pc kn (.int (iI b) :: .int (iI a) :: st) X Q :=
  Ex.lift k fun hx hb _ _ _ k => lv_iushr hx hb hd (by rw [iUshr, iI_t]) k
theorem ex_land {a b : Int} (hd : decode y.2.2.1 pc = .ok (.land, 1)) (k : Ex g d y (pc + 1) kn (.long (iJ (jAnd a b)) :: st) X Q) : Ex g d y pc kn (.long (iJ b) :: .long (iJ a) :: st) X Q :=
  Ex.lift k fun hx hb _ _ _ k => lv_land hx hb hd (by rw [jAnd, iJ_t] at k; exact k)
theorem ex_lor {a b : Int} (hd : decode y.2.2.1 pc = .ok (.lor, 1)) (k : Ex g d y (pc + 1) kn (.long (iJ (jOr a b)) :: st) X Q) : Ex g d y pc kn (.long (iJ b) :: .long (iJ a) :: st) X Q :=
  Ex.lift k fun hx hb _ _ _ k => lv_lor hx hb hd (by rw [jOr, iJ_t] at k; exact k)
theorem ex_lshl {a b : Int} (hd : decode y.2.2.1 pc = .ok (.lshl, 1)) (k : Ex g d y (pc + 1) kn (.long (iJ (jShl a b)) :: st) X Q) : Ex g d y pc kn (.int (iI b) :: .long (iJ a) :: st) X Q :=
  Ex.lift k fun hx hb _ _ _ k => lv_lshl hx hb hd (by rw [jShl, iJ_t]) k
theorem ex_lushr {a b : Int} (hd : decode y.2.2.1 pc = .ok (.lushr, 1)) (k : Ex g d y (pc + 1) kn (.long (iJ (jUshr a b)) :: st) X Q) : Ex g d y pc kn (.int (iI b) :: .long (iJ a) :: st) X Q :=
  Ex.lift k fun hx hb _ _ _ k => lv_lushr hx hb hd (by rw [jUshr, iJ_t]) k
theorem ex_lcmp {a b : Int} (hd : decode y.2.2.1 pc = .ok (.lcmp, 1)) (k : Ex g d y (pc + 1) kn (.int (iI (jCmp a b)) :: st) X Q) : Ex g d y pc kn (.long (iJ b) :: .long (iJ a) :: st) X Q :=
  Ex.lift k fun hx hb _ _ _ k => W.lcmp hx hb hd (by rw [jCmp, iI_t] at k; exact k)
theorem iI_ne0 {b : Int} (h : w32 b ≠ 0) : ¬ iI b = 0 := fun q => h (by rw [show (0 : Int32) = iI 0 from rfl, iI_eq] at q; exact q)
theorem iJ_ne0 {b : Int} (h : w64 b ≠ 0) : ¬ iJ b = 0 := fun q => h (by rw [show (0 : Int64) = iJ 0 from rfl, iJ_eq] at q; exact q)
theorem ex_idiv {a b : Int} (hd : decode y.2.2.1 pc = .ok (.idiv, 1)) (hz : w32 b ≠ 0) (k : Ex g d y (pc + 1) kn (.int (iI (iDiv a b)) :: st) X Q) : Ex g d y pc kn (.int (iI b) :: .int (iI a) :: st) X Q :=
  Ex.lift k fun hx hb _ _ _ k => lv_idiv hx hb hd (iI_ne0 hz) (by rw [iDiv, iI_t] at k; exact k)
theorem ex_irem {a b : Int} (hd : decode y.2.2.1 pc = .ok (.irem, 1)) (hz : w32 b ≠ 0) (k : Ex g d y (pc + 1) kn (.int (iI (iRem a b)) :: st) X Q) : Ex g d y pc kn (.int (iI b) :: .int (iI a) :: st) X Q :=
  Ex.lift k fun hx hb _ _ _ k => lv_irem hx hb hd (iI_ne0 hz) (by rw [iRem, iI_t] at k; exact k)
theorem ex_ldiv {a b : Int} (hd : decode y.2.2.1 pc = .ok (.ldiv, 1)) (hz : w64 b ≠ 0) (k : Ex g d y (pc + 1) kn (.long (iJ (jDiv a b)) :: st) X Q) : Ex g d y pc kn (.long (iJ b) :: .long (iJ a) :: st) X Q :=
  Ex.lift k fun hx hb _ _ _ k => lv_ldiv hx hb hd (iJ_ne0 hz) (by rw [jDiv, iJ_t] at k; exact k)
theorem ex_i2l {a : Int} (hd : decode y.2.2.1 pc = .ok (.i2l, 1)) (k : Ex g d y (pc + 1) kn (.long (iJ (w32 a)) :: st) X Q) : Ex g d y pc kn (.int (iI a) :: st) X Q :=
  Ex.lift k fun hx hb _ _ _ k => lv_i2l hx hb hd (iI_l a) k
theorem ex_l2i {a : Int} (hd : decode y.2.2.1 pc = .ok (.l2i, 1)) (k : Ex g d y (pc + 1) kn (.int (iI a) :: st) X Q) : Ex g d y pc kn (.long (iJ a) :: st) X Q :=
  Ex.lift k fun hx hb _ _ _ k => lv_l2i hx hb hd (iJ_i a) k
theorem ex_i2b {a : Int} (hd : decode y.2.2.1 pc = .ok (.i2b, 1)) (k : Ex g d y (pc + 1) kn (.int (iI (i2b a)) :: st) X Q) : Ex g d y pc kn (.int (iI a) :: st) X Q :=
  Ex.lift k fun hx hb _ _ _ k => lv_i2b hx hb hd (by rw [i2b, iI_t]) k
theorem ex_i2s {a : Int} (hd : decode y.2.2.1 pc = .ok (.i2s, 1)) (k : Ex g d y (pc + 1) kn (.int (iI (i2s a)) :: st) X Q) : Ex g d y pc kn (.int (iI a) :: st) X Q :=
  Ex.lift k fun hx hb _ _ _ k => lv_i2s hx hb hd (by rw [i2s, iI_t]) k
/-! branches -/
theorem iI_z (a : Int) : iI a = 0 ↔ w32 a = 0 := by rw [show (0 : Int32) = iI 0 from rfl, iI_eq]; rfl
theorem ex_goto {off : Int} (t : Nat) (hd : decode y.2.2.1 pc = .ok (.goto off, 3)) (ht : (pc : Int) + off = (t : Int)) (k : Ex g d y t kn st X Q) : Ex g d y pc kn st X Q :=
  Ex.lift k fun hx hb _ _ _ k => lv_goto hx hb hd ht k
theorem ex_if_eq {a off : Int} (t : Nat) (hd : decode y.2.2.1 pc = .ok (.ifCond .eq off, 3)) (ht : (pc : Int) + off = (t : Int)) (k1 : w32 a = 0 → Ex g d y t kn st X Q) (k2 : ¬ w32 a = 0 → Ex g d y (pc + 3) kn st X Q) : Ex g d y pc kn (.int (iI a) :: st) X Q :=
  Ex.lift2 k1 k2 fun hx hb k1 k2 => lv_if_eq hx hb hd ht (fun q => k1 ((iI_z a).mp q)) (fun q => k2 (fun z => q ((iI_z a).mpr z)))
theorem ex_if_ne {a off : Int} (t : Nat) (hd : decode y.2.2.1 pc = .ok (.ifCond .ne off, 3)) (ht : (pc : Int) + off = (t : Int)) (k1 : ¬ w32 a = 0 → Ex g d y t kn st X Q) (k2 : w32 a = 0 → Ex g d y (pc + 3) kn st X Q) : Ex g d y pc kn (.int (iI a) :: st) X Q :=
  Ex.lift2 k1 k2 fun hx hb k1 k2 => lv_if_ne hx hb hd ht (fun q => k1 (fun z => q ((iI_z a).mpr z))) (fun q => k2 ((iI_z a).mp q))
theorem iI_l0 (a : Int) : iI a < 0 ↔ w32 a < 0 := by rw [show (0 : Int32) = iI 0 from rfl, iI_lt]; rfl
theorem iI_0l (a : Int) : 0 < iI a ↔ 0 < w32 a := by rw [show (0 : Int32) = iI 0 from rfl, iI_lt]; rfl
theorem iI_e0 (a : Int) : iI a ≤ 0 ↔ w32 a ≤ 0 := by rw [show (0 : Int32) = iI 0 from rfl, iI_le]; rfl
theorem iI_0e (a : Int) : 0 ≤ iI a ↔ 0 ≤ w32 a := by rw [show (0 : Int32) = iI 0 from rfl, iI_le]; rfl
theorem ex_if_lt {a off : Int} (t : Nat) (hd : decode y.2.2.1 pc = .ok (.ifCond .lt off, 3)) (ht : (pc : Int) + off = (t : Int)) (k1 : w32 a < 0 → Ex g d y t kn st X Q) (k2 : ¬ w32 a < 0 → Ex g d y (pc + 3) kn st X Q) : Ex g d y pc kn (.int (iI a) :: st) X Q :=
  Ex.lift2 k1 k2 fun hx hb k1 k2 => lv_if_lt hx hb hd ht (fun q => k1 ((iI_l0 a).mp q)) (fun q => k2 (fun z => q ((iI_l0 a).mpr z)))
theorem ex_if_ge {a off : Int} (t : Nat) (hd : decode y.2.2.1 pc = .ok (.ifCond .ge off, 3)) (ht : (pc : Int) + off = (t : Int)) (k1 : 0 ≤ w32 a → Ex g d y t kn st X Q) (k2 : ¬ 0 ≤ w32 a → Ex g d y (pc + 3) kn st X Q) : Ex g d y pc kn (.int (iI a) :: st) X Q :=
  Ex.lift2 k1 k2 fun hx hb k1 k2 => lv_if_ge hx hb hd ht (fun q => k1 ((iI_0e a).mp q)) (fun q => k2 (fun z => q ((iI_0e a).mpr z)))
theorem ex_if_gt {a off : Int} (t : Nat) (hd : decode y.2.2.1 pc = .ok (.ifCond .gt off, 3)) (ht : (pc : Int) + off = (t : Int)) (k1 : 0 < w32 a → Ex g d y t kn st X Q) (k2 : ¬ 0 < w32 a → Ex g d y (pc + 3) kn st X Q) : Ex g d y pc kn (.int (iI a) :: st) X Q :=
  Ex.lift2 k1 k2 fun hx hb k1 k2 => lv_if_gt hx hb hd ht (fun q => k1 ((iI_0l a).mp q)) (fun q => k2 (fun z => q ((iI_0l a).mpr z)))
theorem ex_if_le {a off : Int} (t : Nat) (hd : decode y.2.2.1 pc = .ok (.ifCond .le off, 3)) (ht : (pc : Int) + off = (t : Int)) (k1 : w32 a ≤ 0 → Ex g d y t kn st X Q) (k2 : ¬ w32 a ≤ 0 → Ex g d y (pc + 3) kn st X Q) : Ex g d y pc kn (.int (iI a) :: st) X Q :=
  Ex.lift2 k1 k2 fun hx hb k1 k2 => lv_if_le hx hb hd ht (fun q => k1 ((iI_e0 a).mp q)) (fun q => k2 (fun z => q ((iI_e0 a).mpr z)))
theorem ex_icmp_eq {a b off : Int} (t : Nat) (hd : decode y.2.2.1 pc = .ok (.if_icmp .eq off, 3)) (ht : (pc : Int) + off = (t : Int)) (k1 : w32 a = w32 b → Ex g d y t kn st X Q) (k2 : ¬ w32 a = w32 b → Ex g d y (pc + 3) kn st X Q) : Ex g d y pc kn (.int (iI b) :: .int (iI a) :: st) X Q :=
  Ex.lift2 k1 k2 fun hx hb k1 k2 => lv_icmp_eq hx hb hd ht (fun q => k1 ((iI_eq a b).mp q)) (fun q => k2 (fun z => q ((iI_eq a b).mpr z)))
theorem ex_icmp_lt {a b off : Int} (t : Nat) (hd : decode y.2.2.1 pc = .ok (.if_icmp .lt off, 3)) (ht : (pc : Int) + off = (t : Int)) (k1 : w32 a < w32 b → Ex g d y t kn st X Q) (k2 : ¬ w32 a < w32 b → Ex g d y (pc + 3) kn st X Q) : Ex g d y pc kn (.int (iI b) :: .int (iI a) :: st) X Q :=
  Ex.lift2 k1 k2 fun hx hb k1 k2 => lv_icmp_lt hx hb hd ht (fun q => k1 ((iI_lt a b).mp q)) (fun q => k2 (fun z => q ((iI_lt a b).mpr z)))
theorem ex_icmp_ge {a b off : Int} (t : Nat) (hd : decode y.2.2.1 pc = .ok (.if_icmp .ge off, 3)) (ht : (pc : Int) + off = (t : Int)) (k1 : w32 b ≤ w32 a → Ex g d y t kn st X Q) (k2 : ¬ w32 b ≤ w32 a → Ex g d y (pc + 3) kn st X Q) : Ex g d y pc kn (.int (iI b) :: .int (iI a) :: st) X Q :=
  Ex.lift2 k1 k2 fun hx hb k1 k2 => lv_icmp_ge hx hb hd ht (fun q => k1 ((iI_le b a).mp q)) (fun q => k2 (fun z => q ((iI_le b a).mpr z)))
theorem ex_icmp_gt {a b off : Int} (t : Nat) (hd : decode y.2.2.1 pc = .ok (.if_icmp .gt off, 3)) (ht : (pc : Int) + off = (t : Int)) (k1 : w32 b < w32 a → Ex g d y t kn st X Q) (k2 : ¬ w32 b < w32 a → Ex g d y (pc + 3) kn st X Q) : Ex g d y pc kn (.int (iI b) :: .int (iI a) :: st) X Q :=
  Ex.lift2 k1 k2 fun hx hb k1 k2 => lv_icmp_gt hx hb hd ht (fun q => k1 ((iI_lt b a).mp q)) (fun q => k2 (fun z => q ((iI_lt b a).mpr z)))
theorem ex_icmp_le {a b off : Int} (t : Nat) (hd : decode y.2.2.1 pc = .ok (.if_icmp .le off, 3)) (ht : (pc : Int) + off = (t : Int)) (k1 : w32 a ≤ w32 b → Ex g d y t kn st X Q) (k2 : ¬ w32 a ≤ w32 b → Ex g d y (pc + 3) kn st X Q) : Ex g d y pc kn (.int (iI b) :: .int (iI a) :: st) X Q :=
  Ex.lift2 k1 k2 fun hx hb k1 k2 => lv_icmp_le hx hb hd ht (fun q => k1 ((iI_le a b).mp q)) (fun q => k2 (fun z => q ((iI_le a b).mpr z)))
theorem ex_icmp_ne {a b off : Int} (t : Nat) (hd : decode y.2.2.1 pc = .ok (.if_icmp .ne off, 3)) (ht : (pc : Int) + off = (t : Int)) (k1 : ¬ w32 a = w32 b → Ex g d y t kn st X Q) (k2 : w32 a = w32 b → Ex g d y (pc + 3) kn st X Q) : Ex g d y pc kn (.int (iI b) :: .int (iI a) :: st) X Q :=
  Ex.lift2 k1 k2 fun hx hb k1 k2 => lv_icmp_ne hx hb hd ht (fun q => k1 (fun z => q ((iI_eq a b).mpr z))) (fun q => k2 ((iI_eq a b).mp q))
theorem ex_ifnull {r : Option Nat} {off : Int} (t : Nat) (hd : decode y.2.2.1 pc = .ok (.ifnull off, 3)) (ht : (pc : Int) + off = (t : Int)) (k1 : r = none → Ex g d y t kn st X Q) (k2 : ∀ q, r = some q → Ex g d y (pc + 3) kn st X Q) : Ex g d y pc kn (va_rf r :: st) X Q := by
  cases r with
  | none => exact Ex.lift (k1 rfl) fun hx hb _ _ _ k => lv_ifnullN hx hb hd ht k
  | some q => exact Ex.lift (k2 q rfl) fun hx hb _ _ _ k => lv_ifnull hx hb hd k
theorem ex_ifnonnull {r : Option Nat} {off : Int} (t : Nat) (hd : decode y.2.2.1 pc = .ok (.ifnonnull off, 3)) (ht : (pc : Int) + off = (t : Int)) (k1 : ∀ q, r = some q → Ex g d y t kn st X Q) (k2 : r = none → Ex g d y (pc + 3) kn st X Q) : Ex g d y pc kn (va_rf r :: st) X Q := by
  cases r with
  | none => exact Ex.lift (k2 rfl) fun hx hb _ _ _ k => lv_ifnonnullN hx hb hd k
  | some q => exact Ex.lift (k1 q rfl) fun hx hb _ _ _ k => lv_ifnonnull hx hb hd ht k
theorem ex_acmp_eq {r q : Option Nat} {off : Int} (t : Nat) (hd : decode y.2.2.1 pc = .ok (.if_acmp .eq off, 3)) (ht : (pc : Int) + off = (t : Int)) (k1 : r = q → Ex g d y t kn st X Q) (k2 : ¬ r = q → Ex g d y (pc + 3) kn st X Q) : Ex g d y pc kn (va_rf q :: va_rf r :: st) X Q :=
  Ex.lift2 k1 k2 fun hx hb k1 k2 => lv_acmp_eq hx hb hd ht k1 k2
theorem ex_acmp_ne {r q : Option Nat} {off : Int} (t : Nat) (hd : decode y.2.2.1 pc = .ok (.if_acmp .ne off, 3)) (ht : (pc : Int) + off = (t : Int)) (k1 : ¬ r = q → Ex g d y t kn st X Q) (k2 : r = q → Ex g d y (pc + 3) kn st X Q) : Ex g d y pc kn (va_rf q :: va_rf r :: st) X Q :=
  Ex.lift2 k1 k2 fun hx hb k1 k2 => lv_acmp_ne hx hb hd ht k1 k2
/-- a switch over a run of numbers: the arm by the number, or the default -/
theorem ex_tsw {a dflt lo hi : Int} {offs : Array Int} {len : Nat} (hd : decode y.2.2.1 pc = .ok (.tableswitch dflt lo hi offs, len)) (k1 : ∀ (j : Nat) (off : Int), w32 a = lo + j → w32 a ≤ hi → offs[j]? = some off → ∃ t : Nat, (pc : Int) + off = (t : Int) ∧ Ex g d y t kn st X Q) (hl : ∀ j : Nat, lo + j ≤ hi → ∃ off, offs[j]? = some off)
    (k2 : w32 a < lo ∨ hi < w32 a → ∃ t : Nat, (pc : Int) + dflt = (t : Int) ∧ Ex g d y t kn st X Q) : Ex g d y pc kn (.int (iI a) :: st) X Q := by
  by_cases h : w32 a < lo ∨ hi < w32 a
  · obtain ⟨t, ht, k⟩ := k2 h
    exact Ex.lift k fun hx hb _ _ _ k => lv_tableOut hx hb hd (by rw [iI_w]; exact h) ht k
  · have hj : w32 a = lo + ((w32 a - lo).toNat : Nat) := by omega
    obtain ⟨off, ho⟩ := hl (w32 a - lo).toNat (by omega)
    obtain ⟨t, ht, k⟩ := k1 _ off hj (by omega) ho
    exact Ex.lift k fun hx hb _ _ _ k => lv_tableIn hx hb hd (by rw [iI_w]; omega) (by rw [iI_w]; omega) (by rw [iI_w]; exact ho) ht k
theorem ex_lsw {a dflt : Int} {ps : Array (Int × Int)} {len : Nat} (off : Int) (t : Nat) (hd : decode y.2.2.1 pc = .ok (.lookupswitch dflt ps, len)) (hp : (ps.toList.zip (ps.toList.drop 1)).all (fun (a, next) => a.1 < next.1) = true) (ho : Op.lookupswitch.offset ps.toList dflt (w32 a) = off) (ht : (pc : Int) + off = (t : Int)) (k : Ex g d y t kn st X Q) : Ex g d y pc kn (.int (iI a) :: st) X Q :=
  Ex.lift k fun hx hb _ _ _ k => lv_lookup hx hb hd hp (by rw [iI_w]; exact ho) ht k
/-! the end of a method -/
theorem Ex.ends {v : Option Value} {f : Array Slot → List Value}
    (h : ∀ {p : Program} {l : Launch} {e : Env} {R : Room} {s : State} {m : MethodId} {args : Array Value} {below : List Frame} {meth : Method} {c : Code} {H : Heap} {locs : List Loc} {cells slots : Nat} {ls : Array Slot}, p.tables.exec = Jvm.exec → c.code = y.2.2.1 → meth.sig.returnType = y.2.2.2.2.1 → meth.locks = false → (∀ q ∈ locs, gB g ≤ q.base) →
      W p l e R s m args below meth c H locs cells slots (MQ below (fun _ _ o t => o = .returned v ∧ t.heap = H) args s cells slots (fun q => gB g ≤ q)) (F0 m pc ls st))
    (hq : Q (.inr v) X) : Ex g d y pc kn st X Q := by
  intro p l e R s m args below meth c H locs cells slots y0 ls C hR h1 h2 h3 hl
  refine W.mono ?_ (h C.exec C.code C.ret C.locks h3)
  rintro t ⟨o, hrun, hend, ⟨rfl, hh⟩, L, ⟨-, hW, hSm⟩, hL⟩
  exact ⟨.inr v, X, L, cells, slots, hrun, hend, hq, by rw [hh]; exact hR, h2, by rw [hh]; exact h1, hW, hSm, hL⟩
theorem ex_iret {a : Int} (hd : decode y.2.2.1 pc = .ok (.ireturn, 1)) (hr : y.2.2.2.2.1 = some .int) (hq : Q (.inr (some (.int (iI a)))) X) : Ex g d y pc kn [.int (iI a)] X Q :=
  Ex.ends (f := fun _ => []) (fun hx hb hr' hlk hl => W.iret hx hb (hr'.trans hr) (fun t ht _ => ⟨rfl, ht⟩) hl hd hlk) hq
theorem nrw_z {a : Int} (h : a = 0 ∨ a = 1) : narrow .boolean (.int (iI a)) = .int (iI a) := by rcases h with rfl | rfl <;> rfl
theorem ex_zret {a : Int} (hd : decode y.2.2.1 pc = .ok (.ireturn, 1)) (hr : y.2.2.2.2.1 = some .boolean) (ha : a = 0 ∨ a = 1) (hq : Q (.inr (some (.int (iI a)))) X) : Ex g d y pc kn [.int (iI a)] X Q :=
  Ex.ends (f := fun _ => []) (fun hx hb hr' hlk hl => W.zret hx hb (hr'.trans hr) (nrw_z ha) (fun t ht _ => ⟨rfl, ht⟩) hl hd hlk) hq
theorem ex_lret {a : Int} (hd : decode y.2.2.1 pc = .ok (.lreturn, 1)) (hr : y.2.2.2.2.1 = some .long) (hq : Q (.inr (some (.long (iJ a)))) X) : Ex g d y pc kn [.long (iJ a)] X Q :=
  Ex.ends (f := fun _ => []) (fun hx hb hr' hlk hl => W.lret hx hb (hr'.trans hr) (fun t ht _ => ⟨rfl, ht⟩) hl hd hlk) hq
theorem ex_vret (hd : decode y.2.2.1 pc = .ok (.return_, 1)) (hr : y.2.2.2.2.1 = none) (hq : Q (.inr none) X) : Ex g d y pc kn [] X Q :=
  Ex.ends (f := fun _ => []) (fun hx hb hr' hlk hl => W.vret hx hb (hr'.trans hr) (fun t ht _ => ⟨rfl, ht⟩) hl hd hlk) hq
theorem rf_or (r : Option Nat) : va_rf r = .null ∨ ∃ a, va_rf r = .ref a := by
  cases r with
  | none => exact Or.inl rfl
  | some a => exact Or.inr ⟨a, rfl⟩
theorem ex_aret {r : Option Nat} {rt : FieldType} (hd : decode y.2.2.1 pc = .ok (.areturn, 1)) (hr : y.2.2.2.2.1 = some rt) (hrt : (∃ n, rt = .object n) ∨ ∃ t, rt = .array t) (hq : Q (.inr (some (va_rf r))) X) : Ex g d y pc kn [va_rf r] X Q :=
  Ex.ends (f := fun _ => []) (fun hx hb hr' hlk hl => W.aret hx hb (hr'.trans hr) hrt (rf_or r) (fun t ht _ => ⟨rfl, ht⟩) hl hd hlk) hq
end EXA
