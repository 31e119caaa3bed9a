/-! LAYER A: System.arraycopy of Object[], class objects, Arrays.copyOf -/
def hcp (C : CW) (q sp r dp n : Nat) : CW := (cI C, cJ C, cR C, hK C, hL C, hI C, hJ C, up1 (hR C) r (va_cpy (hR C q) (hR C r) sp dp n), hB C, hZ C, hS C, hE C)
def hCp {β : Type} (C : CW) (src : Option Nat) (sp : Int) (dst : Option Nat) (dp n : Int) (κ : CW → Option β) : Option β :=
  dr src fun q => dr dst fun r => gdB (hK C q == 68 && hK C r == 68 && decide (hB C ≤ r) && decide (0 ≤ w32 sp ∧ 0 ≤ w32 dp ∧ 0 ≤ w32 n ∧ w32 sp + w32 n ≤ hL C q ∧ w32 dp + w32 n ≤ hL C r) && (List.range (w32 n).toNat).all fun i => okN (hR C q ((w32 sp).toNat + i)) fun w => okE 4 (hK C w)) <|
    κ (hcp C q (w32 sp).toNat r (w32 dp).toNat (w32 n).toNat)
theorem acW : Cond.native arraycopyName ∈ lw_tbl ∧ Cond.static arraycopyName ∈ lw_tbl ∧ Cond.initialized "java/lang/System" ∈ lw_tbl := ⟨((lw_at lw_m2 221 rfl : (Jvm.Cond.native ({ cls := "java/lang/System", name := "arraycopy", desc := "(Ljava/lang/Object;ILjava/lang/Object;II)V" } : Jvm.MethodName)) ∈ lw_tbl)), ((lw_at lw_m2 220 rfl : (Jvm.Cond.static ({ cls := "java/lang/System", name := "arraycopy", desc := "(Ljava/lang/Object;ILjava/lang/Object;II)V" } : Jvm.MethodName)) ∈ lw_tbl)), ((lw_at lw_m1 19 rfl : (Jvm.Cond.initialized "java/lang/System") ∈ lw_tbl))⟩
theorem gcW : Cond.declares ⟨"java/lang/Object", "getClass", "()Ljava/lang/Class;"⟩ ∈ lw_tbl ∧ Cond.selects "[Ljava/lang/Object;" ⟨"java/lang/Object", "getClass", "()Ljava/lang/Class;"⟩ ⟨"java/lang/Object", "getClass", "()Ljava/lang/Class;"⟩ ∈ lw_tbl ∧ Cond.instanceMethod ⟨"java/lang/Object", "getClass", "()Ljava/lang/Class;"⟩ ∈ lw_tbl ∧ Cond.native ⟨"java/lang/Object", "getClass", "()Ljava/lang/Class;"⟩ ∈ lw_tbl := ⟨((lw_at lw_m9 21 rfl : (Jvm.Cond.declares ({ cls := "java/lang/Object", name := "getClass", desc := "()Ljava/lang/Class;" } : Jvm.MethodName)) ∈ lw_tbl)), ((lw_at lw_m9 20 rfl : (Jvm.Cond.selects "[Ljava/lang/Object;" ({ cls := "java/lang/Object", name := "getClass", desc := "()Ljava/lang/Class;" } : Jvm.MethodName) ({ cls := "java/lang/Object", name := "getClass", desc := "()Ljava/lang/Class;" } : Jvm.MethodName)) ∈ lw_tbl)), ((lw_at lw_m2 187 rfl : (Jvm.Cond.instanceMethod ({ cls := "java/lang/Object", name := "getClass", desc := "()Ljava/lang/Class;" } : Jvm.MethodName)) ∈ lw_tbl)), ((lw_at lw_m2 209 rfl : (Jvm.Cond.native ({ cls := "java/lang/Object", name := "getClass", desc := "()Ljava/lang/Class;" } : Jvm.MethodName)) ∈ lw_tbl))⟩
section WROW
variable {g : Gx} {d d2 : Nat} {y y2 : MD} {pc : Nat} {kn kn2 : List (Nat × Value)} {st rest : List Value} {M : MW} {C : CW} {X : XW} {Q Q2 : Out → XW → Prop} {α β : Type} {z : β}
theorem hV_arr68 {q : Nat} (hk : hK C q = 68) (j : Nat) : hV g C q j = va_rf (hR C q j) := by
  unfold hV
  rw [show hcd (hK C q) j = 2 by rw [hk]; rfl]
  rfl
theorem hx_acopy {src dst : Option Nat} {sp dp n : Int} {κ : CW → Option β} {z : β} {idx : Nat} (h : hCp C src sp dst dp n κ = some z) (hd : decode y.2.2.1 pc = .ok (.invokestatic idx, 3)) (hl : Cond.methodLink y.1 idx arraycopyName ∈ lw_tbl) (hd1 : Nat.ble 1 d = true) (hr : Nat.ble (2 * rest.length) 370 = true)
    (nx : ∀ C1, κ C1 = some z → Ex g d y (pc + 3) kn rest (M, C1) Q) : Ex g d y pc kn (.int (iI n) :: .int (iI dp) :: va_rf dst :: .int (iI sp) :: va_rf src :: rest) (M, C) Q := by
  unfold hCp at h
  obtain ⟨q, eq0, h⟩ := dr_some h
  obtain ⟨r, er0, h⟩ := dr_some h
  subst eq0 er0
  obtain ⟨hk, h⟩ := gdB_some h
  simp only [Bool.and_eq_true, beq_iff_eq, decide_eq_true_eq] at hk
  obtain ⟨⟨⟨⟨hkq, hkr⟩, hbr⟩, g1, g2, g3, g4, g5⟩, hall⟩ := hk
  intro p l e R s m args below meth c H locs cells slots y0 ls C0 hRp h1 h2 h3 hl2
  have hq0 : hK (M, C).2 q ≠ 0 := by show hK C q ≠ 0; omega
  have hr0 : hK (M, C).2 r ≠ 0 := by show hK C r ≠ 0; omega
  have hPq := hRp.heap hq0
  have hPr := hRp.heap hr0
  have hPq' : cAt g (64 + 4) (hL C q) (hV g C q) q H := by have e : hK (M, C).2 q = 64 + 4 := hkq; rw [e] at hPq; exact hPq
  have hPr' : cAt g (64 + 4) (hL C r) (hV g C r) r H := by have e : hK (M, C).2 r = 64 + 4 := hkr; rw [e] at hPr; exact hPr
  obtain ⟨h7, hA⟩ := hPq'.arr
  obtain ⟨-, hA2⟩ := hPr'.arr
  have eq1 : hV g C q = fun j => va_rf (hR C q j) := funext fun j => hV_arr68 hkq j
  have eq2 : hV g C r = fun j => va_rf (hR C r j) := funext fun j => hV_arr68 hkr j
  have hka := kn_arr C0.kno h7
  have hty : atT 4 = .object "java/lang/Object" := rfl
  rw [hty] at hka
  obtain ⟨-, k0, hk0, cm0, hkk0⟩ := hka.1 (hL C q) (hV g C q)
  obtain ⟨kA, comp, k1, k2, k3, -⟩ := hka.2
  have hkk : k0 = kA := Option.some.inj (hk0.symm.trans k1)
  subst hkk
  have nn : ∀ z : Int, (iI z).toInt = w32 z := fun z => by
    unfold iI
    rw [Int32.toInt_ofInt, ← w32_b]
  have nb : ∀ z : Int, 0 ≤ w32 z → ¬ iI z < 0 := fun z hz => by rw [iI_l0]; omega
  have hrf := C0.frames
  have hrl := C0.locals
  have hd1 := Nat.le_of_ble_eq_true hd1
  have hr := Nat.le_of_ble_eq_true hr
  have hcs := cat_sum rest
  intro T hT X0
  obtain ⟨vm', X', step⟩ := X0.arraycopy C0.exec C0.own (va_tabs rfl rfl (C0.tb _ hl rfl)) (va_tabs rfl rfl (C0.tb _ acW.1 rfl)) (va_tabs rfl rfl (C0.tb _ acW.2.1 rfl)) (va_tabs rfl rfl (C0.tb _ acW.2.2 rfl)) (src := q) (dst := r) (cs := arrV (gA g 4) (hL C q) (hV g C q)) (cd := arrV (gA g 4) (hL C r) (hV g C r)) (srcPos := iI sp) (destPos := iI dp) (n := iI n) (by rw [hT]; exact hA) (by rw [hT]; exact hA2)
    (fun _ h => by cases h) (fun _ h => by cases h) (fun h => by cases h) (fun h => by cases h) hk0 hk0 k2 k2 rfl (nb _ g1) (nb _ g2) (nb _ g3)
    (by rw [nn, nn, arrV_size]; omega) (by rw [nn, nn, arrV_size]; omega)
    (fun vm₁ hal i hi => by
      rw [iI_clamp] at hi
      have e : (arrV (gA g 4) (hL C q) (hV g C q)).slots.getD ((iI sp).toNatClampNeg + i) .null = va_rf (hR C q ((w32 sp).toNat + i)) := by
        rw [Array.getD_eq_getD_getElem?, iI_clamp, arrV_read _ _ (by omega), eq1]
        rfl
      rw [e]
      have ho := List.all_eq_true.mp hall i (List.mem_range.mpr hi)
      cases hy : hR C q ((w32 sp).toNat + i) with
      | none => exact ⟨rfl, trivial⟩
      | some w =>
        obtain ⟨ci, hc, hkw, htyp⟩ := okE_K (okN_some ho w hy)
        have hPw := hRp.heap (q := w) (by show hK C w ≠ 0; omega)
        have hPw' : cAt g (ci + 1) (hL C w) (hV g C w) w H := by rw [← hkw]; exact hPw
        unfold cAt at hPw'
        rw [if_pos (by omega), Nat.add_sub_cancel] at hPw'
        obtain ⟨-, cellV, q1, q2, q3, -⟩ := hPw'
        have hcls := (kn_cl C0.kno hc).2
        obtain ⟨kV, hkV, -⟩ := hcls.2
        obtain ⟨kE, hkE, -⟩ := Vm.findClass_spec k3
        obtain ⟨kC', hkC', -⟩ := hal.2.2 _ _ hkV
        obtain ⟨kE', hkE', -⟩ := hal.2.2 _ _ hkE
        have hasg : s.vm.assignable cellV.cls comp = true := by
          rcases htyp with htyp | ⟨-, htyp⟩
          · have : clR ci = "java/lang/Object" := by
              have := hty.symm.trans htyp
              injection this with e
              exact e.symm
            rw [this] at hcls
            have : comp = (gD g).1 ci := Option.some.inj (k3.symm.trans hcls.1)
            rw [this, q2]
            exact va_assign hcls
          · obtain ⟨c0, t0, f1, f2, f3⟩ := Cond.castable_spec (va_Nw.use (A := args) rfl (show va_Nw _ s from C0.tb _ htyp rfl))
            cases f2.symm.trans k3
            have : c0 = (gD g).1 ci := Option.some.inj (f1.symm.trans hcls.1)
            rw [q2, ← this]
            exact f3
        refine ⟨rfl, cellV, (show T.heap[w]? = some cellV by rw [hT]; exact q1), (fun q h => by rw [q3] at h; cases h), ⟨kC', by rw [q2]; exact hkC'⟩, ?_, ?_⟩
        · exact ⟨kE', hkE'⟩
        · show vm₁.assignable _ _ = true
          rw [hal.assignable]
          exact hasg)
    (g := F0 m pc ls (.int (iI n) :: .int (iI dp) :: .ref r :: .int (iI sp) :: .ref q :: rest)) rfl (by rw [C0.maxL]; exact hl2.1) (rest := rest) rfl (by rw [C0.code]; exact hd) (by omega) (by show 2 * 0 + (rest.map fun v => v.category).sum + _ ≤ _; have hw : nativeFrameWords "java/lang/System" "arraycopy" 5 + 11 ≤ 20 := (by decide); omega)
  have e1 : copied (arrV (gA g 4) (hL C q) (hV g C q)) (arrV (gA g 4) (hL C r) (hV g C r)) (iI sp) (iI dp) (iI n) = arrV (gA g 4) (hL C r) (fun j => va_rf (va_cpy (hR C q) (hR C r) (w32 sp).toNat (w32 dp).toNat (w32 n).toNat j)) := by
    rw [eq1, eq2]
    unfold copied
    rw [iI_clamp, iI_clamp, iI_clamp]
    exact va_copied (fun z => va_rf z) (gA g 4) (gA g 4) (hR C q) (hR C r) (by omega)
  rw [e1] at X' step
  have hlt : r < H.size := (Array.getElem?_eq_some_iff.mp hA2).1
  have hge : gB g ≤ r := by rw [← show hB C = gB g from hRp.base]; exact hbr
  have hheap : ((T.setVm vm').setCell r (arrV (gA g 4) (hL C r) (fun j => va_rf (va_cpy (hR C q) (hR C r) (w32 sp).toNat (w32 dp).toNat (w32 n).toNat j)))).heap = H.setIfInBounds r (arrV (gA g 4) (hL C r) (fun j => va_rf (va_cpy (hR C q) (hR C r) (w32 sp).toNat (w32 dp).toNat (w32 n).toNat j))) := by rw [← hT]; rfl
  have hkr' : hK (hcp C q (w32 sp).toNat r (w32 dp).toNat (w32 n).toNat) r = 68 := hkr
  have hRp2 : Rp g (M, hcp C q (w32 sp).toNat r (w32 dp).toNat (w32 n).toNat) (H.setIfInBounds r (arrV (gA g 4) (hL C r) (fun j => va_rf (va_cpy (hR C q) (hR C r) (w32 sp).toNat (w32 dp).toNat (w32 n).toNat j)))) := by
    refine hRp.putH (C' := hcp C q (w32 sp).toNat r (w32 dp).toNat (w32 n).toNat) hr0 hge (fun k => rfl) ⟨rfl, rfl, ⟨rfl, rfl⟩, rfl, rfl, fun q' hq' => ?_⟩ ?_ (by simp) (fun q' hq' => by simp [Array.getElem?_setIfInBounds, Ne.symm hq'])
    · funext j
      show fvl _ _ (hI C q' j) (hJ C q' j) (up1 (hR C) r _ q' j) = fvl _ _ (hI C q' j) (hJ C q' j) (hR C q' j)
      unfold up1
      rw [if_neg hq']
      rfl
    · show cAt g (hK C r) (hL C r) _ r _
      rw [hkr]
      refine cAt.ofArr (t := 4) h7 ?_
      have : hV g (hcp C q (w32 sp).toNat r (w32 dp).toNat (w32 n).toNat) r = fun j => va_rf (va_cpy (hR C q) (hR C r) (w32 sp).toNat (w32 dp).toNat (w32 n).toNat j) := by
        funext j
        rw [hV_arr68 hkr']
        show va_rf (up1 (hR C) r _ r j) = _
        unfold up1
        rw [if_pos rfl]
      rw [this]
      simp [Array.getElem?_setIfInBounds, hlt]
  obtain ⟨t, a1, b1⟩ := nx _ h p l e R s m args below meth c _ _ cells slots y0 ls C0 hRp2 (by simp; exact h1) h2 (fun q hq => by
      rcases List.mem_append.mp hq with hq | hq
      · exact h3 q hq
      · obtain ⟨z, -, hz⟩ := List.mem_map.mp hq
        rw [← hz]
        exact hge) hl2 _ hheap X'
  exact ⟨t, step t a1, b1⟩
/-- getClass() of an Object[], and the constant Object[].class -/
theorem hx_getC {r : Option Nat} {B : Option β} {z : β} {idx : Nat} (h : dr r (fun q => gdB (hK C q == 68) B) = some z) (ho : OLDg g) (hd : decode y.2.2.1 pc = .ok (.invokevirtual idx, 3)) (hl : Cond.methodLink y.1 idx ⟨"java/lang/Object", "getClass", "()Ljava/lang/Class;"⟩ ∈ lw_tbl) (hd1 : Nat.ble 1 d = true) (hr : Nat.ble (2 * rest.length) 370 = true)
    (nx : B = some z → Ex g d y (pc + 3) kn (va_rf (hE C 3) :: rest) (M, C) Q) : Ex g d y pc kn (va_rf r :: rest) (M, C) Q := by
  obtain ⟨q, er, h⟩ := dr_some h
  subst er
  obtain ⟨hk, h⟩ := gdB_some h
  rw [beq_iff_eq] at hk
  intro p l e R s m args below meth c H locs cells slots y0 ls C0 hRp h1 h2 h3 hl2
  have hq0 : hK (M, C).2 q ≠ 0 := by show hK C q ≠ 0; omega
  have hPq := hRp.heap hq0
  have hPq' : cAt g (64 + 4) (hL C q) (hV g C q) q H := by have e : hK (M, C).2 q = 64 + 4 := hk; rw [e] at hPq; exact hPq
  obtain ⟨h7, hA⟩ := hPq'.arr
  have hka := (kn_arr C0.kno h7).2
  obtain ⟨-, ⟨mi, hm, hM⟩, -⟩ := ho s C0.old
  have K := nx h p l e R s m args below meth c H locs cells slots y0 ls C0 hRp h1 h2 h3 hl2
  have hhe : hE C 3 = some mi := by rw [show hE C = gE g from hRp.olds]; exact hm
  rw [hhe] at K
  have hrf := C0.frames
  have hrl := C0.locals
  have hd1 := Nat.le_of_ble_eq_true hd1
  have hr := Nat.le_of_ble_eq_true hr
  have hcs := cat_sum rest
  exact va_getC C0.exec C0.code (by rw [C0.maxL]; exact hl2.1.symm) C0.own (va_tabs rfl rfl (C0.tb _ hl rfl)) (va_Dc.use (C0.tb _ gcW.1 rfl)) (va_tabs rfl rfl (C0.tb _ gcW.2.1 rfl)) (va_tabs rfl rfl (C0.tb _ gcW.2.2.1 rfl)) (va_tabs rfl rfl (C0.tb _ gcW.2.2.2 rfl)) hM ⟨_, hA, rfl, va_nmO (C := "java/lang/Object") hka rfl⟩ (by omega) (by omega) hd K
theorem hx_ldcM {idx : Nat} (ho : OLDg g) (hd : decode y.2.2.1 pc = .ok (.ldc idx, 2)) (hl : Cond.classLink y.1 idx "[Ljava/lang/Object;" ∈ lw_tbl) (nx : Ex g d y (pc + 2) kn (va_rf (hE C 3) :: rest) (M, C) Q) : Ex g d y pc kn rest (M, C) Q := by
  intro p l e R s m args below meth c H locs cells slots y0 ls C0 hRp h1 h2 h3 hl2
  obtain ⟨-, ⟨mi, hm, hM⟩, -⟩ := ho s C0.old
  have K := nx p l e R s m args below meth c H locs cells slots y0 ls C0 hRp h1 h2 h3 hl2
  have hhe : hE C 3 = some mi := by rw [show hE C = gE g from hRp.olds]; exact hm
  rw [hhe] at K
  exact va_ldcM C0.exec C0.code C0.own (va_tabs rfl rfl (C0.tb _ hl rfl)) hM hd K
end WROW
