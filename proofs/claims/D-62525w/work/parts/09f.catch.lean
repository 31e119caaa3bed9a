/-! LAYER A: an exception is caught in the method -/
theorem go_cold {E : CtlPost} {e : Env} {d : Bool} {acts : List Action} {s : State} {f : JFrame} {a : Addr} {Q : Handler → Pre} {x : ExceptionTableEntry} {t : List ExceptionTableEntry} {c : ClassId} {cell : Cell} {vm' : Vm} (hx : covers x f.pc = true) (h0 : x.catchType ≠ 0)
    (hg : (Jvm.resolveClass f.method.cls x.catchType).Gives e.toSetting s.vm (.ok c) vm') (hsz : vm'.classes.size ≤ s.vm.classes.size) (hcell : s.heap[a]? = some cell) (hobj : ∀ k, cell.vm ≠ .statics k)
    (hk : ∃ k, vm'.classes[cell.cls]? = some k) (hc : ∃ k, vm'.classes[c]? = some k) :
    wp (findHandler.go f a (x :: t)) Q E e d acts s ↔
      if vm'.assignable cell.cls c = true then Q (.found x.handlerPc) d acts (s.setVm vm') else wp (findHandler.go f a t) Q E e d acts (s.setVm vm') := by
  simp only [covers] at hx
  obtain ⟨ha, ht⟩ := hg.op (op := VmOp.resolveClass f.method.cls x.catchType) rfl
  have hcell' : (s.setVm vm').heap[a]? = some cell := hcell
  cases hfit : vm'.assignable cell.cls c <;>
    simp [findHandler.go, hx, h0, ha, ht, hsz, hcell, hcell', hobj, hk, hc, hfit, VmOp.dirties, VmOp.acts]
/-- who catches an exception of class ci: the entries before don't cover, or name a class that it is not of -/
def Srch (g : Gx) (own : String) (pc ci : Nat) : List (Nat × Nat × Nat × Nat) → Nat → Prop
  | [], _ => False
  | h :: t, r => ((decide (h.1 ≤ pc) && decide (pc < h.2.1)) = false ∧ Srch g own pc ci t r) ∨
      ((decide (h.1 ≤ pc) && decide (pc < h.2.1)) = true ∧ h.2.2.2 ≠ 0 ∧ ∃ nm : String, Cond.classLink own h.2.2.2 nm ∈ lw_tbl ∧ ((nm = clR ci ∧ r = h.2.2.1) ∨ ((∀ s : State, gO g s → (Cond.not (.castable (clR ci) nm)).before #[] s = true) ∧ Srch g own pc ci t r)))
theorem find_list {g : Gx} {own : String} {e : Env} {s U : State} {f : JFrame} {a ci r : Nat} {cell : Cell} (hpl : e.platform.magicAccessors = ({} : Platform).magicAccessors) (hTB : TB s) (hO : gO g s) (hown : s.vm.findClass own = some f.method.cls) (hcell : U.heap[a]? = some cell) (hobj : ∀ k, cell.vm ≠ .statics k) (hcl : ClassAt s (clR ci) cell.cls) :
    ∀ (t : List ExceptionTableEntry) (vm1 : Vm), s.WarmedH vm1 → Srch g own f.pc ci (t.map (fun h => (h.startPc, h.endPc, h.handlerPc, h.catchType))) r →
      ∃ vm2, s.WarmedH vm2 ∧ ∀ (Q : Handler → Pre) (E : CtlPost) (d : Bool) (acts : List Action), wp (findHandler.go f a t) Q E e d acts (U.setVm vm1) ↔ Q (.found r) d acts (U.setVm vm2) := by
  intro t
  induction t with
  | nil => intro vm1 hW h; cases h
  | cons x t ih =>
    intro vm1 hW h
    rcases h with ⟨hx, h⟩ | ⟨hx, h0, nm, hl, h⟩
    · obtain ⟨vm2, hW2, st⟩ := ih vm1 hW h
      exact ⟨vm2, hW2, fun Q E d acts => (W.findHandler_go_skip hx).trans (st Q E d acts)⟩
    · obtain ⟨c', hc', hlk⟩ := Cond.classLink_spec hown (va_tabs (A := #[]) (A' := #[]) rfl rfl (hTB _ hl rfl)) e.platform hpl
      obtain ⟨dk, _, _, kt, hd, _, _, _, _, hkt, _, hopen⟩ := hlk.here
      have hlk1 := hW.classLinks hlk
      have hW' : s.WarmedH (vm1.noted f.method.cls x.catchType (.cls c')) := hW.noted hd hopen (State.rightAt_cls hlk)
      obtain ⟨kc, hkc, -⟩ := hcl.2
      obtain ⟨ks', hks', -⟩ := hW'.alike.2.2 _ _ hkc
      obtain ⟨kt', hkt', -⟩ := hW'.alike.2.2 _ _ hkt
      have hgo : ∀ (Q : Handler → Pre) (E : CtlPost) (d : Bool) (acts : List Action), wp (findHandler.go f a (x :: t)) Q E e d acts (U.setVm vm1) ↔ if (vm1.noted f.method.cls x.catchType (.cls c')).assignable cell.cls c' = true then Q (.found x.handlerPc) d acts (U.setVm (vm1.noted f.method.cls x.catchType (.cls c'))) else wp (findHandler.go f a t) Q E e d acts (U.setVm (vm1.noted f.method.cls x.catchType (.cls c'))) := fun Q E d acts => go_cold (s := U.setVm vm1) (t := t) hx h0 (resolveClass_links e.toSetting hlk1) (by show (vm1.noted _ _ _).classes.size ≤ vm1.classes.size; simp [Vm.noted]) hcell hobj ⟨_, hks'⟩ ⟨_, hkt'⟩
      rcases h with ⟨hnm, rfl⟩ | ⟨hno, h⟩
      · refine ⟨_, hW', fun Q E d acts => ?_⟩
        rw [hgo, if_pos (by
          rw [hW'.alike.assignable]
          rw [hnm] at hc'
          cases hc'.symm.trans hcl.1
          exact va_assign hcl)]
      · obtain ⟨vm2, hW2, st⟩ := ih (vm1.noted f.method.cls x.catchType (.cls c')) hW' h
        refine ⟨vm2, hW2, fun Q E d acts => ?_⟩
        rw [hgo, if_neg (by
          rw [hW'.alike.assignable]
          have := hno s hO
          simp [Cond.before, Cond.holds, Cond.value, hcl.1, hc'] at this
          simpa using this)]
        exact st Q E d acts
theorem throw_catchV {e : Env} {s s' : State} {a : Addr} {f : JFrame} {r : List Frame} {pc : Nat} (hfind : ∀ (Q : Handler → Pre) (E : CtlPost) (d : Bool) (acts : List Action), wp (findHandler f a) Q E e d acts s ↔ Q (.found pc) d acts s') :
    (stepThrowing e s a (.java f :: r)).1 = s'.setFrames (.java { f with pc := pc, stack := [.ref a] } :: r) := by
  simp only [stepThrowing, searchFrame, vmDo]
  generalize hr : Sem.go _ e false [] s = res
  obtain ⟨as, rfl, ha⟩ := Sem.eq_ok_of hr (a := Handler.found pc) (s' := s') (acts' := []) (by simp [hfind _ _ _ _])
  rfl
section YROW
variable {g : Gx} {d d2 : Nat} {y y2 : MD} {pc : Nat} {kn kn2 : List (Nat × Value)} {st rest : List Value} {M : MW} {C : CW} {X : XW} {Q Q2 : Out → XW → Prop} {α β : Type} {z : β}
theorem ext_catch {a ci t : Nat} (hk : hK C a = ci + 1) (hci : ci < 19) (hs : Srch g y.1 pc ci y.2.2.2.2.2 t) (k : Ex g d y t kn [.ref a] (M, C) Q) : ExT g d y pc kn a (M, C) Q := by
  intro p l e R s m args below meth c H locs cells slots y0 ls st C0 hRp h1 h2 h3 hl2
  intro T hT X0
  have hpl : e.platform.magicAccessors = ({} : Platform).magicAccessors := by rw [X0.admits.platform]
  have hPq := hRp.heap (q := a) (by show hK C a ≠ 0; omega)
  have hPq' : cAt g (ci + 1) (hL C a) (hV g C a) a H := by have e : hK (M, C).2 a = ci + 1 := hk; rw [e] at hPq; exact hPq
  unfold cAt at hPq'
  rw [if_pos (by omega), Nat.add_sub_cancel] at hPq'
  obtain ⟨-, cell, q1, q2, q3, -⟩ := hPq'
  have hcl : ClassAt s (clR ci) cell.cls := by rw [q2]; exact (kn_cl C0.kno hci).2
  have hU : ((T.setTop (F0 m pc ls st)).pushFrame (.throwing a)).heap[a]? = some cell := by rw [Stand.throwing_heap, hT]; exact q1
  obtain ⟨vm2, hW2, hf⟩ := find_list (own := y.1) (U := (T.setTop (F0 m pc ls st)).pushFrame (.throwing a)) (f := F0 m pc ls st) hpl C0.tb C0.old C0.own hU (fun k h => by rw [q3] at h; cases h) hcl c.exceptionTable.toList T.vm X0.warmed (r := t) (by rw [C0.tab]; exact hs)
  have hvm : ((T.setTop (F0 m pc ls st)).pushFrame (.throwing a)).setVm T.vm = (T.setTop (F0 m pc ls st)).pushFrame (.throwing a) := by
    have := Stand.throwing_vm T (F0 m pc ls st) a
    conv => rhs; rw [← State.setVm_self ((T.setTop (F0 m pc ls st)).pushFrame (.throwing a))]
    rw [this]
  rw [hvm] at hf
  have hfind : ∀ (Q : Handler → Pre) (E : CtlPost) (d : Bool) (acts : List Action), wp (findHandler (F0 m pc ls st) a) Q E e d acts ((T.setTop (F0 m pc ls st)).pushFrame (.throwing a)) ↔ Q (.found t) d acts (((T.setTop (F0 m pc ls st)).pushFrame (.throwing a)).setVm vm2) := fun Q E d acts =>
    (W.findHandler_eq (meth := meth) (code := c) (by rw [Stand.throwing_vm]; exact X0.method') X0.code).trans (hf Q E d acts)
  have X2 := X0.noted hW2
  obtain ⟨t1, a1, b1⟩ := k p l e R s m args below meth c H locs cells slots y0 ls C0 hRp h1 h2 h3 hl2 (T.setVm vm2) hT X2
  refine ⟨t1, ?_, b1⟩
  have h : At T (F0 m pc ls st).method c below := X0.here
  obtain ⟨hgo, hw⟩ := h.throwing (g := F0 m pc ls st) a
  refine Steps.head hgo hw ?_
  rw [stepThread_throwing (frames_entered h.top _), throw_catchV (s := (T.setTop (F0 m pc ls st)).pushFrame (.throwing a)) hfind]
  obtain ⟨g₀, hg⟩ := Option.isSome_iff_exists.mp h.top
  obtain ⟨r, hr⟩ := State.topJava?_eq_some.mp hg
  have e1 : (((T.setTop (F0 m pc ls st)).pushFrame (.throwing a)).setVm vm2).setFrames (.java { (F0 m pc ls st) with pc := t, stack := [.ref a] } :: T.frames.tail) = (T.setVm vm2).setTop (F0 m t ls [.ref a]) := by
    have hc : ∀ (S : State) (fs : List Frame) (vm : Vm), (S.setFrames fs).setVm vm = (S.setVm vm).setFrames fs := fun _ _ _ => rfl
    rw [State.setTop_of_frames _ (show (T.setVm vm2).frames = _ from hr), State.pushFrame, State.setTop_of_frames _ hr, hr, hc, hc, State.setFrames_setFrames, State.setFrames_setFrames]
    rfl
  rw [e1]
  exact a1
/-- a call that may throw, and a handler -/
theorem aft_h {e1 : α → Option Value} {a : Nat ⊕ α} {C' : CW} {Q : Out → XW → Prop} (hin : ∀ q, a = .inl q → ExT g d y pc kn q (M, C') Q) (n : ∀ a1, a = .inr a1 → Ex g d y (pc + 3) kn ((e1 a1).toList ++ rest) (M, C') Q) : ∀ o X', QX e1 a C' M o X' → Aft g d y pc kn rest Q o X' := by
  rintro o X' ⟨ho, rfl⟩
  cases a with
  | inl q =>
    subst ho
    exact hin q rfl
  | inr a =>
    subst ho
    exact n a rfl
end YROW
section YROW2
variable {g : Gx} {d d2 : Nat} {y y2 : MD} {pc : Nat} {kn kn2 : List (Nat × Value)} {st rest : List Value} {cs : List Nat} {M : MW} {C : CW} {X : XW} {Q Q2 : Out → XW → Prop} {α β : Type} {z : β}
theorem cx_VH {e1 : α → Option Value} {f : Option ((Nat ⊕ α) × CW)} {η : Nat → CW → Option β} {κ : α → CW → Option β} {as : List Value} {k o ci idx : Nat} {nm : MethodName} (h : xH f η κ = some z) (hg : gS g = true) (hd : decode y.2.2.1 pc = .ok (.invokevirtual idx, 3)) (hl : LKm y.1 idx nm) (hv : VF y2 nm as.length) (hk : sKind k = ci + 1) (ho : sOff k = o) (hc : Nat.blt ci 19 = true) (hC : clR ci = nm.cls) (hst : as.reverse ++ .ref (gB g + o) :: rest = st)
    (hcat : (Value.ref (gB g + o) :: as).map Value.category = cs) (hb1 : Nat.ble cs.sum y2.2.2.2.1 = true) (hb2 : Nat.ble (d2 + 1) d = true) (hb3 : Nat.ble (2 * rest.length + y2.2.2.2.1) 370 = true) (K : ∀ a C', f = some (a, C') → Ex g d2 y2 0 (lva 0 cs (.ref (gB g + o) :: as)) [] (M, C) (QX e1 a C' M))
    (nh : ∀ q C', η q C' = some z → ExT g d y pc kn q (M, C') Q) (n : ∀ a C', κ a C' = some z → Ex g d y (pc + 3) kn ((e1 a).toList ++ rest) (M, C') Q) : Ex g d y pc kn st (M, C) Q := by
  cases f with
  | none => cases h
  | some w =>
    obtain ⟨a, C'⟩ := w
    refine ex_invV2 hd hl hv (RC.stat hg hk ho (Nat.blt_eq.mp hc) hC) hst hcat hb1 hb2 hb3 (K a C' rfl) (aft_h (fun q hq => ?_) (fun a1 ha => ?_))
    · subst hq; exact nh q C' h
    · subst ha; exact n a1 C' h
theorem hx_VH {e1 : α → Option Value} {f : Nat → Option ((Nat ⊕ α) × CW)} {η : Nat → CW → Option β} {κ : α → CW → Option β} {as : List Value} {ci idx : Nat} {nm : MethodName} {r : Option Nat} (h : dr r (fun q => gdB (hK C q == ci + 1) (xH (f q) η κ)) = some z) (hd : decode y.2.2.1 pc = .ok (.invokevirtual idx, 3)) (hl : LKm y.1 idx nm) (hv : VF y2 nm as.length) (hc : Nat.blt ci 19 = true) (hC : clR ci = nm.cls) (hst : as.reverse ++ va_rf r :: rest = st)
    (hcat : ∀ q, (Value.ref q :: as).map Value.category = cs) (hb1 : Nat.ble cs.sum y2.2.2.2.1 = true) (hb2 : Nat.ble (d2 + 1) d = true) (hb3 : Nat.ble (2 * rest.length + y2.2.2.2.1) 370 = true) (K : ∀ q a C', f q = some (a, C') → Ex g d2 y2 0 (lva 0 cs (.ref q :: as)) [] (M, C) (QX e1 a C' M))
    (nh : ∀ q C', η q C' = some z → ExT g d y pc kn q (M, C') Q) (n : ∀ a C', κ a C' = some z → Ex g d y (pc + 3) kn ((e1 a).toList ++ rest) (M, C') Q) : Ex g d y pc kn st (M, C) Q := by
  obtain ⟨q0, rfl, h⟩ := dr_some h
  obtain ⟨hk, h⟩ := gdB_some h
  cases hf : f q0 with
  | none => rw [hf] at h; cases h
  | some w =>
    obtain ⟨a, C'⟩ := w
    rw [hf] at h
    refine ex_invV2 hd hl hv (RC.heap (by simpa using hk) (Nat.blt_eq.mp hc) hC) hst (hcat q0) hb1 hb2 hb3 (K q0 a C' hf) (aft_h (fun q hq => ?_) (fun a1 ha => ?_))
    · subst hq; exact nh q C' h
    · subst ha; exact n a1 C' h
theorem tx_exc {a ci : Nat} {A B : Option β} (t : Nat) (h : (if hK C a = ci + 1 then A else B) = some z) (hci : Nat.blt ci 19 = true) (hs : Srch g y.1 pc ci y.2.2.2.2.2 t) (k : A = some z → Ex g d y t kn [va_rf (some a)] (M, C) Q) (k2 : B = some z → ExT g d y pc kn a (M, C) Q) : ExT g d y pc kn a (M, C) Q := by
  by_cases hk : hK C a = ci + 1
  · rw [if_pos hk] at h
    exact ext_catch hk (Nat.blt_eq.mp hci) hs (k h)
  · rw [if_neg hk] at h
    exact k2 h
theorem exFL {ci : Nat} (h : exK ci = true) : ci < 19 ∧ (FLk "java/lang/Throwable" 7 ci 0 ∧ clF ci 0 = 2 ∧ (clT ci 0).2.2.2 = false ∧ (clY ci 0).isReference = true) ∧ (FLk "java/lang/Throwable" 17 ci 1 ∧ clF ci 1 = 2 ∧ (clT ci 1).2.2.2 = false ∧ (clY ci 1).isReference = true) ∧ (FLk "java/lang/Throwable" 24 ci 2 ∧ clF ci 2 = 2 ∧ (clT ci 2).2.2.2 = false ∧ (clY ci 2).isReference = true) := by
  have w7 : Cond.fieldLink "java/lang/Throwable" 7 "java/lang/Throwable" "cause" "Ljava/lang/Throwable;" ∈ lw_tbl := thrW _ (by simp [Bundle.throwableAtoms, Bundle.tN])
  have w17 : Cond.fieldLink "java/lang/Throwable" 17 "java/lang/Throwable" "stackTrace" "[Ljava/lang/StackTraceElement;" ∈ lw_tbl := thrW _ (by simp [Bundle.throwableAtoms, Bundle.tN, Bundle.steD])
  have w24 : Cond.fieldLink "java/lang/Throwable" 24 "java/lang/Throwable" "suppressedExceptions" "Ljava/util/List;" ∈ lw_tbl := thrW _ (by simp [Bundle.throwableAtoms, Bundle.tN, Bundle.listD])
  unfold exK at h
  simp only [Bool.or_eq_true, beq_iff_eq] at h
  rcases h with ((((rfl | rfl) | rfl) | rfl) | rfl) | rfl <;> exact ⟨by decide, ⟨⟨by decide, by decide, _, Or.inl w7, Or.inl rfl⟩, rfl, rfl, rfl⟩, ⟨⟨by decide, by decide, _, Or.inl w17, Or.inl rfl⟩, rfl, rfl, rfl⟩, ⟨⟨by decide, by decide, _, Or.inl w24, Or.inl rfl⟩, rfl, rfl, rfl⟩⟩
/-- Throwable(): cause itself, the two statics; the stack trace stays what it was -/
def f_J3_init (x0 : Nat) (C : CW) : Option (Unit × CW) :=
  gdB (decide (hK C x0 = hK C x0 - 1 + 1) && exK (hK C x0 - 1)) <| gdB (hR C x0 4 == none) <|
  rd (hsR C x0 0 (some x0)) fun C1 => rd (hsR C1 x0 1 (hE C1 1)) fun C2 => rd (hsR C2 x0 2 (hE C2 2)) fun C3 => some ((), C3)
theorem hx_pRk {ci j idx q : Nat} {v : Option Nat} {κ : CW → Option β} {z : β} (h : rd (hsR C q j v) κ = some z) (hk : hK C q = ci + 1) (hd : decode y.2.2.1 pc = .ok (.putfield idx, 3)) (hl : FLk y.1 idx ci j ∧ clF ci j = 2 ∧ (clT ci j).2.2.2 = false ∧ (clY ci j).isReference = true)
    (n : ∀ C1, κ C1 = some z → hK C1 q = ci + 1 → hE C1 = hE C → (∀ i, i ≠ j → hR C1 q i = hR C q i) → hR C1 q j = v → Ex g d y (pc + 3) kn rest (M, C1) Q) : Ex g d y pc kn (va_rf v :: va_rf (some q) :: rest) (M, C) Q := by
  have hcd : hcd (hK C q) j = 2 := by unfold hcd; rw [hk, if_pos (by have := hl.1.1; omega)]; exact hl.2.1
  refine ex_hput (C' := hsR C q j v) hd hl.1 hk (Or.inl hl.2.2.1) (nf_ref hl.2.2.2 v).1 (nf_ref hl.2.2.2 v).2 (fun _ => rfl) ⟨rfl, rfl, ⟨rfl, rfl⟩, rfl, rfl, fun q' hq' => hV_hsR_o hq'⟩ (hV_hsR hcd) (n _ h hk rfl (fun i hi => ?_) ?_)
  · show up2 (hR C) q j v q i = hR C q i
    unfold up2
    rw [if_neg (fun h => hi h.2)]
  · show up2 (hR C) q j v q j = v
    unfold up2
    rw [if_pos ⟨rfl, rfl⟩]
end YROW2
/-! a switch by a list of numbers -/
def lsw {β : Type} (x : Int) : List (Int × β) → β → β
  | [], D => D
  | a :: r, D => if x = a.1 then a.2 else lsw x r D
def LArms {β : Type} (P : Int → β → Prop) : List (Int × Int) → List (Int × β) → Prop
  | [], [] => True
  | (k, o) :: os, (k', A) :: As => k = k' ∧ P o A ∧ LArms P os As
  | [], _ :: _ => False
  | _ :: _, [] => False
theorem lsw_at {β : Type} {P : Int → β → Prop} {x dflt : Int} {D r : β} : ∀ {os : List (Int × Int)} {As : List (Int × β)}, LArms P os As → lsw x As D = r → (Op.lookupswitch.offset os dflt x = dflt ∧ D = r) ∨ ∃ o A, Op.lookupswitch.offset os dflt x = o ∧ P o A ∧ A = r
  | [], [], _, h => Or.inl ⟨rfl, h⟩
  | [], _ :: _, hA, _ => hA.elim
  | _ :: _, [], hA, _ => hA.elim
  | (k, o) :: os, (k', A) :: As, hA, h => by
    obtain ⟨hk, hP, hA⟩ := hA
    subst hk
    rw [Op.lookupswitch.offset_cons]
    unfold lsw at h
    by_cases hx : k = x
    · rw [if_pos hx]
      rw [if_pos hx.symm] at h
      exact Or.inr ⟨o, A, rfl, hP, h⟩
    · rw [if_neg hx]
      rw [if_neg (fun q => hx q.symm)] at h
      exact lsw_at hA h
section YROW3
variable {g : Gx} {d d2 : Nat} {y y2 : MD} {pc : Nat} {kn kn2 : List (Nat × Value)} {st rest : List Value} {X : XW} {Q Q2 : Out → XW → Prop} {α β : Type}
theorem tx_lsw {a dflt : Int} {ps : Array (Int × Int)} {len : Nat} {arms : List (Int × Option β)} {D r : Option β} (td : Nat) (h : lsw (w32 a) arms D = r) (hd : decode y.2.2.1 pc = .ok (.lookupswitch dflt ps, len)) (hp : (ps.toList.zip (ps.toList.drop 1)).all (fun (a, next) => a.1 < next.1) = true) (htd : (pc : Int) + dflt = (td : Int)) (kD : D = r → Ex g d y td kn st X Q)
    (kA : LArms (fun off A => ∃ t : Nat, (pc : Int) + off = (t : Int) ∧ (A = r → Ex g d y t kn st X Q)) ps.toList arms) : Ex g d y pc kn (.int (iI a) :: st) X Q := by
  rcases lsw_at (dflt := dflt) kA h with ⟨ho, hD⟩ | ⟨o, A, ho, ⟨t, ht, hk⟩, hA⟩
  · exact ex_lsw dflt td hd hp ho htd (kD hD)
  · exact ex_lsw o t hd hp ho ht (hk hA)
end YROW3
