/-! LAYER A: abstract worlds. MW: the model object's cells; CW: the component's single objects' cells (c..) and a heap by address (h..) -/
def iI (a : Int) : Int32 := Int32.ofInt a
def iJ (a : Int) : Int64 := Int64.ofInt a
def w32 (a : Int) : Int := (a + 2147483648) % 4294967296 - 2147483648
def w64 (a : Int) : Int := (a + 9223372036854775808) % 18446744073709551616 - 9223372036854775808
theorem w32_b (a : Int) : a.bmod 4294967296 = w32 a := by
  unfold w32
  rw [Int.bmod_def]
  split <;> omega
theorem w64_b (a : Int) : a.bmod 18446744073709551616 = w64 a := by
  unfold w64
  rw [Int.bmod_def]
  split <;> omega
def up1 {α : Type} (f : Nat → α) (k : Nat) (v : α) : Nat → α := fun a => if a = k then v else f a
def up2 {α : Type} (f : Nat → Nat → α) (k i : Nat) (v : α) : Nat → Nat → α := fun a b => if a = k ∧ b = i then v else f a b
/-- ints and longs stand as Int: a cell holds the number's remainder -/
def MW : Type := (Nat → Nat → Int) × (Nat → Nat → Int)
def CW : Type := (Nat → Nat → Int) × (Nat → Nat → Int) × (Nat → Nat → Option Nat) × (Nat → Nat) × (Nat → Nat) × (Nat → Nat → Int) × (Nat → Nat → Int) × (Nat → Nat → Option Nat) × Nat × Nat × Nat × (Nat → Option Nat)
def XW : Type := MW × CW
def mI (M : MW) : Nat → Nat → Int := M.1
def mJ (M : MW) : Nat → Nat → Int := M.2
def cI (C : CW) : Nat → Nat → Int := C.1
def cJ (C : CW) : Nat → Nat → Int := C.2.1
def cR (C : CW) : Nat → Nat → Option Nat := C.2.2.1
def hK (C : CW) : Nat → Nat := C.2.2.2.1
def hL (C : CW) : Nat → Nat := C.2.2.2.2.1
def hI (C : CW) : Nat → Nat → Int := C.2.2.2.2.2.1
def hJ (C : CW) : Nat → Nat → Int := C.2.2.2.2.2.2.1
def hR (C : CW) : Nat → Nat → Option Nat := C.2.2.2.2.2.2.2.1
def hB (C : CW) : Nat := C.2.2.2.2.2.2.2.2.1
def hZ (C : CW) : Nat := C.2.2.2.2.2.2.2.2.2.1
def hS (C : CW) : Nat := C.2.2.2.2.2.2.2.2.2.2.1
/-- references of old: statics of the JDK's -/
def hE (C : CW) : Nat → Option Nat := C.2.2.2.2.2.2.2.2.2.2.2
def msI (M : MW) (k i : Nat) (v : Int) : MW := (up2 M.1 k i v, M.2)
def msJ (M : MW) (k i : Nat) (v : Int) : MW := (M.1, up2 M.2 k i v)
def csI (C : CW) (k i : Nat) (v : Int) : CW := (up2 (cI C) k i v, cJ C, cR C, hK C, hL C, hI C, hJ C, hR C, hB C, hZ C, hS C, hE C)
def csJ (C : CW) (k i : Nat) (v : Int) : CW := (cI C, up2 (cJ C) k i v, cR C, hK C, hL C, hI C, hJ C, hR C, hB C, hZ C, hS C, hE C)
def csR (C : CW) (k i : Nat) (v : Option Nat) : CW := (cI C, cJ C, up2 (cR C) k i v, hK C, hL C, hI C, hJ C, hR C, hB C, hZ C, hS C, hE C)
def hsI (C : CW) (k i : Nat) (v : Int) : CW := (cI C, cJ C, cR C, hK C, hL C, up2 (hI C) k i v, hJ C, hR C, hB C, hZ C, hS C, hE C)
def hsJ (C : CW) (k i : Nat) (v : Int) : CW := (cI C, cJ C, cR C, hK C, hL C, hI C, up2 (hJ C) k i v, hR C, hB C, hZ C, hS C, hE C)
def hsR (C : CW) (k i : Nat) (v : Option Nat) : CW := (cI C, cJ C, cR C, hK C, hL C, hI C, hJ C, up2 (hR C) k i v, hB C, hZ C, hS C, hE C)
/-- a new cell of kind K, length n, with w slots -/
def hNew (C : CW) (K n w : Nat) : CW := (cI C, cJ C, cR C, up1 (hK C) (hB C + hZ C) K, up1 (hL C) (hB C + hZ C) n, up1 (hI C) (hB C + hZ C) (fun _ => 0), up1 (hJ C) (hB C + hZ C) (fun _ => 0), up1 (hR C) (hB C + hZ C) (fun _ => none), hB C, hZ C + 1, hS C + w, hE C)
/-- a static cell's ints, longs, references: below 200 the model's -/
def stI (X : XW) (k : Nat) : Nat → Int := if k < 200 then mI X.1 k else cI X.2 k
def stJ (X : XW) (k : Nat) : Nat → Int := if k < 200 then mJ X.1 k else cJ X.2 k
def ssI (X : XW) (k i : Nat) (v : Int) : XW := if k < 200 then (msI X.1 k i v, X.2) else (X.1, csI X.2 k i v)
def ssJ (X : XW) (k i : Nat) (v : Int) : XW := if k < 200 then (msJ X.1 k i v, X.2) else (X.1, csJ X.2 k i v)
/-- what is fixed: base, the old heap, classes' numbers and slots, arrays' classes, whether the static cells stand, old facts -/
def Gx : Type := Nat × Heap × va_G × (Nat → ClassId) × Bool × (State → Prop) × (Nat → Option Nat)
def gB (g : Gx) : Nat := g.1
def gH (g : Gx) : Heap := g.2.1
def gD (g : Gx) : va_G := g.2.2.1
def gA (g : Gx) : Nat → ClassId := g.2.2.2.1
def gS (g : Gx) : Bool := g.2.2.2.2.1
def gO (g : Gx) : State → Prop := g.2.2.2.2.2.1
def gE (g : Gx) : Nat → Option Nat := g.2.2.2.2.2.2
/-- a field's value by its code: 0 int, 1 long, 2 reference, from 16 on a fixed reference -/
def fvl (b code : Nat) (i j : Int) (r : Option Nat) : Value := if code = 0 then .int (iI i) else if code = 1 then .long (iJ j) else if code = 2 then va_rf r else .ref (b + (code - 16))
def atT (t : Nat) : FieldType := if t = 0 then .int else if t = 1 then .long else if t = 2 then .boolean else if t = 3 then .byte else if t = 4 then .object "java/lang/Object" else if t = 5 then .object "MapFramer$State" else .object "MapFramer$Call"
/-- how an array's places are read, by its type: 0 int, 1 long, 2 boolean, 3 byte, from 4 on references -/
def acd (t : Nat) : Nat := if t = 1 then 1 else if t < 4 then 0 else 2
def scd (k j : Nat) : Nat := if sKind k < 64 then sfc k j else acd (sKind k - 64)
def hcd (K j : Nat) : Nat := if K < 64 then clF (K - 1) j else acd (K - 64)
def sV (g : Gx) (X : XW) (k : Nat) (j : Nat) : Value := fvl (gB g) (scd k j) (stI X k j) (stJ X k j) (cR X.2 k j)
def hV (g : Gx) (C : CW) (q : Nat) (j : Nat) : Value := fvl (gB g) (hcd (hK C q) j) (hI C q j) (hJ C q j) (hR C q j)
/-- nobody holds the cell's monitor -/
def MonF (a : Nat) (H : Heap) : Prop := ∀ cell : Cell, H[a]? = some cell → cell.monitor.owner = none ∧ cell.monitor.count = 0
def cAt (g : Gx) (K n : Nat) (V : Nat → Value) (a : Nat) (H : Heap) : Prop := if K < 64 then (K ≤ 19 ∧ MonF a H) ∧ t_OB a ((gD g).1 (K - 1)) (clN (K - 1)) ((gD g).2 (K - 1)) H V else K < 71 ∧ H[a]? = some (arrV (gA g (K - 64)) n V)
def tyL (g : Gx) : List (ClassId × FieldType) := (List.range 7).map fun t => (gA g t, atT t)
/-- the machine's heap is the abstract world's -/
def Rp (g : Gx) (X : XW) (H : Heap) : Prop :=
  H.size = gB g + hZ X.2 ∧ (hB X.2 = gB g ∧ hE X.2 = gE g) ∧ (gB g = (gH g).size ∧ ∀ q : Nat, q < gB g → H[q]? = (gH g)[q]?) ∧
  (∀ k, gS g = true → sKind k ≠ 0 → cAt g (sKind k) (sLen k) (sV g X k) (gB g + sOff k) H) ∧
  (∀ q, hK X.2 q ≠ 0 → cAt g (hK X.2 q) (hL X.2 q) (hV g X.2 q) q H ∧ (gB g ≤ q ∨ hL X.2 q = 0 ∧ 64 ≤ hK X.2 q)) ∧
  (∀ k, gS g = true → sKind k ≠ 0 → hK X.2 (gB g + sOff k) = 0) ∧ hZ X.2 ≤ 600384 ∧ hS X.2 ≤ 7290858
/-- the tables' words, at a state -/
def stW : Cond → Bool := fun w => match w with
  | .fieldLinkNest .. => true
  | .methodLinkNest .. => true
  | .arrayOver (.object _) => true
  | .declares _ => true
  | .castable .. => true
  | w => goodWord w
def TB (s : State) : Prop := ∀ w ∈ lw_tbl, stW w = true → w.before #[] s = true
theorem TB.warm {s U : State} (hW : s.WarmedH U.vm) (h : TB s) : TB U := by
  intro w hw hs
  have hb := h w hw hs
  unfold stW at hs
  split at hs
  · exact va_Nw.warmF hW hb
  · exact va_Nw.warmM hW hb
  · exact va_AO.moved hW.alike hb
  · exact va_Nw.warmD hW hb
  · exact va_Nw.warmC hW hb
  · exact word_at hW (good_of_word hs) hb
def Out : Type := Nat ⊕ Option Value
def ocO (o : Out) : Outcome := match o with
  | .inl a => .threw a
  | .inr v => .returned v
/-- a method: its class, name, code, locals, answer, handlers -/
def MD : Type := String × String × ByteArray × Nat × Option FieldType × List (Nat × Nat × Nat × Nat)
def QQ (g : Gx) (y0 : Nat) (Q : Out → XW → Prop) (s : State) (below : List Frame) : State → Prop := fun t =>
  ∃ (o : Out) (X : XW) (L : List Loc) (k n : Nat), t.status = .running ∧ Ended t below (ocO o) ∧ Q o X ∧ Rp g X t.heap ∧ hS X.2 = y0 + n ∧ t.heap.size = s.heap.size + k ∧ s.WarmedH t.vm ∧ s.sameButNew ({ t with vm := s.vm } : State) L k n ∧ ∀ q ∈ L, gB g ≤ q.base
def KN (g : Gx) (s : State) : Prop := va_K (gD g) clL (tyL g) s
/-- what holds of the method that is walked, and of the state at its entry -/
def Cx (g : Gx) (d : Nat) (y : MD) (p : Program) (e : Env) (R : Room) (s : State) (m : MethodId) (meth : Method) (c : Code) (y0 : Nat) : Prop :=
  p.tables.exec = Jvm.exec ∧ e.platform.stackTraces = false ∧ c.code = y.2.2.1 ∧ c.maxLocals = y.2.2.2.1 ∧ meth.sig.returnType = y.2.2.2.2.1 ∧ meth.locks = false ∧
  c.exceptionTable.toList.map (fun h => (h.startPc, h.endPc, h.handlerPc, h.catchType)) = y.2.2.2.2.2 ∧ s.vm.findClass y.1 = some m.cls ∧ meth.name = y.2.1 ∧
  TB s ∧ KN g s ∧ gO g s ∧ (∀ s' : State, s.vm.Alike s'.vm → gO g s') ∧ d ≤ R.frames ∧ 390 * d ≤ R.locals ∧ gB g + 600384 ≤ R.cells + s.heap.size ∧ 7290858 ≤ R.slots + y0 ∧ gB g ≤ s.heap.size
/-- from pc, with the locals kn known and the operands st, in the world X, the method comes to its end, and then Q -/
def Ex (g : Gx) (d : Nat) (y : MD) (pc : Nat) (kn : List (Nat × Value)) (st : List Value) (X : XW) (Q : Out → XW → Prop) : Prop :=
  ∀ (p : Program) (l : Launch) (e : Env) (R : Room) (s : State) (m : MethodId) (args : Array Value) (below : List Frame) (meth : Method) (c : Code) (H : Heap) (locs : List Loc) (cells slots y0 : Nat) (ls : Array Slot),
    Cx g d y p e R s m meth c y0 → Rp g X H → H.size = s.heap.size + cells → hS X.2 = y0 + slots → (∀ q ∈ locs, gB g ≤ q.base) → lv_has ls y.2.2.2.1 kn →
    W p l e R s m args below meth c H locs cells slots (QQ g y0 Q s below) (F0 m pc ls st)
/-- the same, where the exception a has just been thrown at pc -/
def ExT (g : Gx) (d : Nat) (y : MD) (pc : Nat) (kn : List (Nat × Value)) (a : Nat) (X : XW) (Q : Out → XW → Prop) : Prop :=
  ∀ (p : Program) (l : Launch) (e : Env) (R : Room) (s : State) (m : MethodId) (args : Array Value) (below : List Frame) (meth : Method) (c : Code) (H : Heap) (locs : List Loc) (cells slots y0 : Nat) (ls : Array Slot) (st : List Value),
    Cx g d y p e R s m meth c y0 → Rp g X H → H.size = s.heap.size + cells → hS X.2 = y0 + slots → (∀ q ∈ locs, gB g ≤ q.base) → lv_has ls y.2.2.2.1 kn →
    ∀ T : State, T.heap = H → Stand p l e R s m args below meth c T locs cells slots → ∃ t, Steps p.tables e below ((T.setTop (F0 m pc ls st)).pushFrame (.throwing a)) t ∧ QQ g y0 Q s below t
theorem iI_t (x : Int32) : iI x.toInt = x := by simp [iI]
theorem iI_w (a : Int) : (iI a).toInt = w32 a := by
  rw [← w32_b]
  exact Int32.toInt_ofInt
theorem iI_w2 (a : Int) : iI (w32 a) = iI a := by rw [← iI_w, iI_t]
theorem iJ_t (x : Int64) : iJ x.toInt = x := by simp [iJ]
theorem iJ_w (a : Int) : (iJ a).toInt = w64 a := by
  rw [← w64_b]
  exact Int64.toInt_ofInt
theorem iI_add (a b : Int) : iI a + iI b = iI (a + b) := (Int32.ofInt_add a b).symm
theorem iI_sub (a b : Int) : iI a - iI b = iI (a - b) := (Int32.ofInt_sub a b).symm
theorem iI_mul (a b : Int) : iI a * iI b = iI (a * b) := (Int32.ofInt_mul a b).symm
theorem iJ_add (a b : Int) : iJ a + iJ b = iJ (a + b) := (Int64.ofInt_add a b).symm
theorem iJ_sub (a b : Int) : iJ a - iJ b = iJ (a - b) := (Int64.ofInt_sub a b).symm
theorem iJ_mul (a b : Int) : iJ a * iJ b = iJ (a * b) := (Int64.ofInt_mul a b).symm
theorem iI_eq (a b : Int) : iI a = iI b ↔ w32 a = w32 b := by rw [← Int32.toInt_inj, iI_w, iI_w]
theorem iI_lt (a b : Int) : iI a < iI b ↔ w32 a < w32 b := by rw [Int32.lt_iff_toInt_lt, iI_w, iI_w]
theorem iI_le (a b : Int) : iI a ≤ iI b ↔ w32 a ≤ w32 b := by rw [Int32.le_iff_toInt_le, iI_w, iI_w]
theorem iJ_eq (a b : Int) : iJ a = iJ b ↔ w64 a = w64 b := by rw [← Int64.toInt_inj, iJ_w, iJ_w]
theorem iJ_lt (a b : Int) : iJ a < iJ b ↔ w64 a < w64 b := by rw [Int64.lt_iff_toInt_lt, iJ_w, iJ_w]
theorem iI_l (a : Int) : (iI a).toInt64 = iJ (w32 a) := by
  rw [← Int64.toInt_inj, Int32.toInt_toInt64, iI_w, iJ_w]
  unfold w64 w32
  omega
theorem iJ_i (a : Int) : (iJ a).toInt32 = iI a := by
  rw [← Int32.toInt_inj, Int64.toInt_toInt32, iJ_w, iI_w]
  show (w64 a).bmod 4294967296 = _
  rw [w32_b]
  unfold w64 w32
  omega
theorem w32_of {a : Int} (h1 : -2147483648 ≤ a) (h2 : a < 2147483648) : w32 a = a := by unfold w32; omega
theorem w64_of {a : Int} (h1 : -9223372036854775808 ≤ a) (h2 : a < 9223372036854775808) : w64 a = a := by unfold w64; omega
theorem w32_lo (a : Int) : -2147483648 ≤ w32 a := by unfold w32; omega
theorem w32_hi (a : Int) : w32 a < 2147483648 := by unfold w32; omega
theorem w32_w32 (a : Int) : w32 (w32 a) = w32 a := w32_of (w32_lo a) (w32_hi a)
theorem iI_in {i : Int} {n : Nat} (h : 0 ≤ w32 i ∧ w32 i < n) : vp_in (iI i) n := by
  rw [vp_in_iff, iI_w]
  exact h
theorem iI_clamp (i : Int) : (iI i).toNatClampNeg = (w32 i).toNat := by
  show (iI i).toInt.toNat = _
  rw [iI_w]
theorem iI_neg1 : iI (-1) = -1 := by decide
