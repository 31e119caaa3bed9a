/-! LAYER A: constructors, exceptions, casts, stores of references -/
section IROW
variable {g : Gx} {d d2 : Nat} {y y2 : MD} {pc : Nat} {kn : List (Nat × Value)} {st rest : List Value} {M : MW} {C C' : CW} {X : XW} {Q Q2 : Out → XW → Prop}
theorem ex_objInit {a idx : Nat} (hd : decode y.2.2.1 pc = .ok (.invokespecial idx, 3)) (hl : Cond.methodLink y.1 idx Lib.objectInit ∈ lw_tbl) (hi : Cond.instanceMethod Lib.objectInit ∈ lw_tbl) (hc : Cond.code Lib.objectInit ⟨#[0xb1]⟩ 1 none ∈ lw_tbl) (hd1 : Nat.ble 1 d = true) (hr : Nat.ble (2 * rest.length) 370 = true) (k : Ex g d y (pc + 3) kn rest X Q) : Ex g d y pc kn (.ref a :: rest) X Q := by
  intro p l e R s m args below meth c H locs cells slots y0 ls C0 hRp h1 h2 h3 hl2
  have hrf := C0.frames
  have hrl := C0.locals
  have hd1 := Nat.le_of_ble_eq_true hd1
  have hr := Nat.le_of_ble_eq_true hr
  have hcs := cat_sum rest
  exact W.objInit C0.exec C0.code C0.own (va_tabs rfl rfl (C0.tb _ hl rfl)) (va_tabs rfl rfl (C0.tb _ hi rfl)) (va_tabs rfl rfl (C0.tb _ hc rfl)) rfl (by rw [C0.maxL]; exact hl2.1) rfl hd (by omega) (by show 2 * 0 + (rest.map fun v => v.category).sum + 12 ≤ _; omega) (k p l e R s m args below meth c H locs cells slots y0 ls C0 hRp h1 h2 h3 hl2)
/-- a constructor is called -/
theorem ex_invI {as : List Value} {b idx : Nat} {nm : MethodName} {kn2 : List (Nat × Value)} (hd : decode y.2.2.1 pc = .ok (.invokespecial idx, 3)) (hl : LKm y.1 idx nm) (hML : ML y2 nm) (hnm : nm.name = "<init>") (hret : y2.2.2.2.2.1 = none) (hnh : y2.2.2.2.2.2 = [] ∧ Cond.code nm y2.2.2.1 y2.2.2.2.1 none ∈ lw_tbl) (hin : Cond.instanceMethod nm ∈ lw_tbl) (hst : as.reverse ++ .ref b :: rest = st) (hpar : (parseMethodDescriptor nm.desc).map (fun d => d.parameters.length) = some as.length)
    (hlen : (lg_sl (.ref b :: as)).length ≤ y2.2.2.2.1) (hd2 : d2 + 1 ≤ d) (hrm : 2 * rest.length + y2.2.2.2.1 ≤ 370) (hkn : lv_args 0 (.ref b :: as) = kn2) (K : Ex g d2 y2 0 kn2 [] X Q2) (k : ∀ o X', Q2 o X' → Aft g d y pc kn rest Q o X') : Ex g d y pc kn st X Q := by
  subst hst
  subst hkn
  refine ex_call K hML hlen hd2 hrm hd ?_ k
  intro p l e R s m args below meth c locs cells slots y0 ls T C0 hR hls X0
  have hnot := hML.2.2.2.1
  have hpl : e.platform.magicAccessors = ({} : Platform).magicAccessors := by rw [X0.admits.platform]
  have hlen2 : ∀ sig, parseMethodDescriptor nm.desc = some sig → as.length = sig.parameters.length := fun sig h => by rw [h] at hpar; exact (Option.some.inj hpar).symm
  rcases hl with h | ⟨host, h⟩
  · obtain ⟨tm, meth1, cd, k1, vm1, w1, w2, w3, w4, w5, w6, w7, w8, w9, w10⟩ := Steps.initColdArgs (e := e) X0.here C0.exec X0.warmed hpl C0.own hnm hnot (va_tabs rfl rfl (C0.tb _ h rfl)) (va_tabs rfl rfl (C0.tb _ hin rfl)) (va_tabs rfl rfl (C0.tb _ hnh.2 rfl)) (f := F0 m pc ls (as.reverse ++ .ref b :: rest)) rfl (args := args) hlen2 rfl (by rw [C0.code]; exact hd)
    exact ⟨tm, vm1, w1, X0.noted w9, w10⟩
  · obtain ⟨tm, meth1, cd, k1, vm1, w1, w2, w3, w4, w5, w6, w7, w8, w9, w10⟩ := Steps.initColdArgsNest (e := e) X0.here C0.exec X0.warmed hpl C0.own hnm hnot (va_tabs rfl rfl (C0.tb _ h rfl)) (va_tabs rfl rfl (C0.tb _ hin rfl)) (va_tabs rfl rfl (C0.tb _ hnh.2 rfl)) (f := F0 m pc ls (as.reverse ++ .ref b :: rest)) rfl (args := args) hlen2 rfl (by rw [C0.code]; exact hd)
    exact ⟨tm, vm1, w1, X0.noted w9, w10⟩
/-- an exception is thrown -/
theorem ex_athrow {a : Nat} (hd : decode y.2.2.1 pc = .ok (.athrow, 1)) (k : ExT g d y pc kn a X Q) : Ex g d y pc kn (.ref a :: rest) X Q := by
  intro p l e R s m args below meth c H locs cells slots y0 ls C0 hRp h1 h2 h3 hl2
  intro T hT X0
  obtain ⟨t, a1, b1⟩ := k p l e R s m args below meth c H locs cells slots y0 ls rest C0 hRp h1 h2 h3 hl2 T hT X0
  refine ⟨t, ?_, b1⟩
  jvm_step X0.here [X0.here.top, C0.exec, C0.code, hd, Op.athrow.wp_sem]
  exact a1
/-- nobody catches it here -/
theorem ext_out {a : Nat} (ho : y.2.2.2.2.2.all (fun h => !(decide (h.1 ≤ pc) && decide (pc < h.2.1))) = true) (hq : Q (.inl a) X) : ExT g d y pc kn a X Q := by
  intro p l e R s m args below meth c H locs cells slots y0 ls st C0 hRp h1 h2 h3 hl2
  intro T hT X0
  have hout : ∀ x ∈ c.exceptionTable.toList, covers x (F0 m pc ls st).pc = false := by
    intro x hx
    have hm : (x.startPc, x.endPc, x.handlerPc, x.catchType) ∈ y.2.2.2.2.2 := by
      rw [← C0.tab]
      exact List.mem_map.mpr ⟨x, hx, rfl⟩
    have := List.all_eq_true.mp ho _ hm
    simp at this
    simp [covers]
    omega
  obtain ⟨s1, s2, s3, s4, s5⟩ := X0.leaveThrown a (g := F0 m pc ls st) rfl rfl rfl hout C0.locks
  refine ⟨_, s1, .inl a, X, locs, cells, slots, s2, s3, hq, ?_, h2, ?_, s4, s5, h3⟩
  · show Rp g X T.heap
    rw [hT]; exact hRp
  · show T.heap.size = _
    rw [hT]; exact h1
/-- a cast of an object to its own class, or of null -/
theorem ex_cast0 {idx ci : Nat} {r : Option Nat} {nm : String} (hd : decode y.2.2.1 pc = .ok (.checkcast idx, 3)) (hl : Cond.classLink y.1 idx nm ∈ lw_tbl) (hc : ci < 19) (hC : clR ci = nm) (hr : ∀ q, r = some q → hK C q = ci + 1) (k : Ex g d y (pc + 3) kn (va_rf r :: rest) (M, C) Q) : Ex g d y pc kn (va_rf r :: rest) (M, C) Q := by
  intro p l e R s m args below meth c H locs cells slots y0 ls C0 hRp h1 h2 h3 hl2
  have K := k p l e R s m args below meth c H locs cells slots y0 ls C0 hRp h1 h2 h3 hl2
  cases r with
  | none => exact lv_castN C0.exec C0.code hd K
  | some q =>
    have hk := hr q rfl
    have hP := hRp.heap (q := q) (by show hK C q ≠ 0; omega)
    have hP' : cAt g (ci + 1) (hL C q) (hV g C q) q H := by rw [← hk]; exact hP
    unfold cAt at hP'
    rw [if_pos (by omega), Nat.add_sub_cancel] at hP'
    obtain ⟨-, cell, q1, q2, q3, -⟩ := hP'
    have hKn := kn_cl C0.kno hc
    rw [hC] at hKn
    exact va_castS C0.exec C0.code C0.own (va_tabs rfl rfl (C0.tb _ hl rfl)) hKn.2 ⟨cell, q1, by rw [q3]; rfl, by rw [q2]; exact hKn.2.1⟩ hd K
/-- a cast to a wider class -/
theorem ex_castU {idx ci q : Nat} {nm : String} (hd : decode y.2.2.1 pc = .ok (.checkcast idx, 3)) (hl : Cond.classLink y.1 idx nm ∈ lw_tbl) (hc : ci < 19) (hca : Cond.castable (clR ci) nm ∈ lw_tbl) (hk : hK C q = ci + 1) (k : Ex g d y (pc + 3) kn (.ref q :: rest) (M, C) Q) : Ex g d y pc kn (.ref q :: rest) (M, C) Q := by
  intro p l e R s m args below meth c H locs cells slots y0 ls C0 hRp h1 h2 h3 hl2
  have K := k p l e R s m args below meth c H locs cells slots y0 ls C0 hRp h1 h2 h3 hl2
  have hP := hRp.heap (q := q) (by show hK C q ≠ 0; omega)
  have hP' : cAt g (ci + 1) (hL C q) (hV g C q) q H := by rw [← hk]; exact hP
  unfold cAt at hP'
  rw [if_pos (by omega), Nat.add_sub_cancel] at hP'
  obtain ⟨-, cell, q1, q2, q3, -⟩ := hP'
  exact va_castY C0.exec C0.code C0.own (va_tabs rfl rfl (C0.tb _ hl rfl)) (C0.tb _ hca rfl) ⟨cell, q1, by rw [q3]; rfl, by rw [q2]; exact (kn_cl C0.kno hc).2.1⟩ hd K
/-- an object may stand in an array of type t: its kind by number -/
def okE (t K : Nat) : Bool := if t = 5 then K == 6 else if t = 6 then K == 11 else t == 4 && (K == 7 || K == 8 || K == 9 || K == 10 || K == 11)
theorem okE_K {t K : Nat} (h : okE t K = true) : ∃ ci, ci < 19 ∧ K = ci + 1 ∧ (atT t = .object (clR ci) ∨ (t = 4 ∧ Cond.castable (clR ci) "java/lang/Object" ∈ lw_tbl)) := by
  unfold okE at h
  split at h
  · rename_i ht
    subst ht
    rw [beq_iff_eq] at h
    exact ⟨5, by omega, h, Or.inl rfl⟩
  · split at h
    · rename_i ht
      subst ht
      rw [beq_iff_eq] at h
      exact ⟨10, by omega, h, Or.inl rfl⟩
    · simp only [Bool.and_eq_true, Bool.or_eq_true, beq_iff_eq] at h
      obtain ⟨ht, h⟩ := h
      rcases h with (((h | h) | h) | h) | h
      · exact ⟨6, by omega, h, Or.inr ⟨ht, ((lw_at lw_m9 31 rfl : (Jvm.Cond.castable "MapFramer$Method" "java/lang/Object") ∈ lw_tbl))⟩⟩
      · exact ⟨7, by omega, h, Or.inr ⟨ht, ((lw_at lw_m9 30 rfl : (Jvm.Cond.castable "MapFramer$Field" "java/lang/Object") ∈ lw_tbl))⟩⟩
      · exact ⟨8, by omega, h, Or.inr ⟨ht, ((lw_at lw_m9 32 rfl : (Jvm.Cond.castable "MapFramer$Handler" "java/lang/Object") ∈ lw_tbl))⟩⟩
      · exact ⟨9, by omega, h, Or.inr ⟨ht, ((lw_at lw_m9 39 rfl : (Jvm.Cond.castable "MapFramer$Thing" "java/lang/Object") ∈ lw_tbl))⟩⟩
      · exact ⟨10, by omega, h, Or.inr ⟨ht, ((lw_at lw_m9 18 rfl : (Jvm.Cond.castable "MapFramer$Call" "java/lang/Object") ∈ lw_tbl))⟩⟩
theorem hV_arr {q t : Nat} (hk : hK C q = 64 + t) (ht : 4 ≤ t) (j : Nat) : hcd (hK C q) j = 2 := by
  unfold hcd acd
  rw [if_neg (by omega), hk, Nat.add_sub_cancel_left, if_neg (by omega), if_neg (by omega)]
theorem ex_haast {q t : Nat} {i : Int} {r : Option Nat} (hd : decode y.2.2.1 pc = .ok (.aastore, 1)) (hk : hK C q = 64 + t) (ht : 4 ≤ t) (hr : ∀ w, r = some w → okE t (hK C w) = true) (hin : 0 ≤ w32 i ∧ w32 i < hL C q) (h : Ex g d y (pc + 1) kn rest (M, hsR C q (w32 i).toNat r) Q) : Ex g d y pc kn (va_rf r :: .int (iI i) :: .ref q :: rest) (M, C) Q := by
  intro p l e R s m args below meth c H locs cells slots y0 ls C0 hRp h1 h2 h3 hl2
  have hq0 : hK (M, C).2 q ≠ 0 := by show hK C q ≠ 0; omega
  have hP := hRp.heap hq0
  have hge : gB g ≤ q := by
    rcases hRp.hge hq0 with h | ⟨h, -⟩
    · exact h
    · have : hL C q = 0 := h
      omega
  have hP' : cAt g (64 + t) (hL C q) (hV g C q) q H := by rw [← hk]; exact hP
  obtain ⟨h7, hA⟩ := hP'.arr
  have fin : ∀ (H1 : Heap), H1[q]? = some ((arrV (gA g t) (hL C q) (hV g C q)).setSlot (iI i).toNatClampNeg (va_rf r)) → H1.size = H.size → (∀ q' : Nat, q' ≠ q → H1[q']? = H[q']?) → ∀ f : Nat, W p l e R s m args below meth c H1 (locs ++ [⟨q, f⟩]) cells slots (QQ g y0 Q s below) (F0 m (pc + 1) ls rest) := by
    intro H1 e1 z oq f
    have e1' : cAt g (hK C q) (hL C q) (hV g (hsR C q (w32 i).toNat r) q) q H1 := by
      rw [hk]
      refine cAt.ofArr h7 ?_
      rw [e1, arrV_store, iI_clamp, hV_hsR (hV_arr hk ht _)]
    exact h p l e R s m args below meth c H1 (locs ++ [⟨q, f⟩]) cells slots y0 ls C0 (hRp.putH (C' := hsR C q (w32 i).toNat r) hq0 hge (fun k => rfl) ⟨rfl, rfl, ⟨rfl, rfl⟩, rfl, rfl, fun q' hq' => hV_hsR_o hq'⟩ e1' z oq) (by rw [z]; exact h1) h2 (fun q hq => by
      rcases List.mem_append.mp hq with hq | hq
      · exact h3 q hq
      · rw [List.mem_singleton.mp hq]; exact hge) hl2
  have hobj : ∃ nm, atT t = .object nm := by
    unfold atT
    rw [if_neg (by omega), if_neg (by omega), if_neg (by omega), if_neg (by omega)]
    split
    · exact ⟨_, rfl⟩
    · split <;> exact ⟨_, rfl⟩
  obtain ⟨nm, hnm⟩ := hobj
  have hka := kn_arr C0.kno h7
  cases r with
  | none =>
    have h9 := hka.1 (hL C q) (hV g C q)
    rw [hnm] at h9
    exact va_WaastN C0.exec C0.code hA h9 (fun h => by cases h) (in_arr hin) rfl rfl hd fun H1 e1 z oq => fin H1 e1 z oq _
  | some w =>
    obtain ⟨ci, hc, hkw, hty⟩ := okE_K (hr w rfl)
    have hPw := hRp.heap (q := w) (by show hK C w ≠ 0; omega)
    have hPw' : cAt g (ci + 1) (hL C w) (hV g C w) w H := by rw [← hkw]; exact hPw
    unfold cAt at hPw'
    rw [if_pos (by omega), Nat.add_sub_cancel] at hPw'
    obtain ⟨-, cellV, q1, q2, q3, -⟩ := hPw'
    have hcls := (kn_cl C0.kno hc).2
    obtain ⟨kV, hkV, -⟩ := hcls.2
    have h9 := hka.2
    rw [hnm] at h9
    obtain ⟨kA, comp, k1, k2, k3, -⟩ := h9
    obtain ⟨kcomp, hkcomp, -⟩ := Vm.findClass_spec k3
    have hasg : s.vm.assignable cellV.cls comp = true := by
      rcases hty with hty | ⟨ht4, hty⟩
      · rw [hnm] at hty
        have : nm = clR ci := by injection hty
        rw [this] at k3
        have : comp = (gD g).1 ci := Option.some.inj (k3.symm.trans hcls.1)
        rw [this, q2]
        exact va_assign hcls
      · obtain ⟨c0, t0, f1, f2, f3⟩ := Cond.castable_spec (va_Nw.use (A := args) rfl (show va_Nw _ s from C0.tb _ hty rfl))
        subst ht4
        have : nm = "java/lang/Object" := by have h := hnm; unfold atT at h; simp at h; exact h.symm
        rw [this] at k3
        cases f2.symm.trans k3
        have : c0 = (gD g).1 ci := Option.some.inj (f1.symm.trans hcls.1)
        rw [q2, ← this]
        exact f3
    exact W.aast C0.exec C0.code hA (fun q h => by cases h) (fun h => by cases h) k1 k2 rfl hkcomp ⟨by rw [iI_l0]; omega, by rw [arrV_size, iI_clamp]; omega⟩ q1 (fun q h => by rw [q3] at h; cases h) (by rw [q2]; exact hkV) hasg rfl rfl hd fun H1 e1 z oq => fin H1 e1 z oq _
end IROW
