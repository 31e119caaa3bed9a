/-! LAYER C: what both sides compute, in plain words: types, one instruction on types -/
/-- d is among c's classes above it -/
def sb (par : Nat → Nat) (c d : Nat) : Bool :=
  if c = d then true else if h : par c < c then sb par (par c) d else false
termination_by c
decreasing_by exact h
/-- the nearest class above c that is above d too -/
def nr (par : Nat → Nat) (c d : Nat) : Nat :=
  if sb par d c = true then c else if h : par c < c then nr par (par c) d else 0
termination_by c
decreasing_by exact h
/-- classes: how many, parents, interfaces -/
abbrev HT : Type := Nat × (Nat → Nat) × (Nat → Bool)
def hn (H : HT) : Nat := H.1
def hp (H : HT) : Nat → Nat := H.2.1
def hf (H : HT) : Nat → Bool := H.2.2
def HOK (H : HT) : Prop := (2 ≤ hn H ∧ hn H ≤ 16) ∧ (∀ k, 0 < k → hp H k < k) ∧ hp H 0 = 0 ∧ (∀ k, hn H ≤ k → hp H k = 0 ∧ hf H k = false) ∧ hf H 0 = false ∧ hf H 1 = false ∧ ∀ k, hf H k = true → hp H k = 0
/-- fields: how many, classes, types, static or not -/
abbrev FT : Type := Nat × (Nat → Nat) × (Nat → Nat) × (Nat → Bool)
def fN (F : FT) : Nat := F.1
def fC (F : FT) : Nat → Nat := F.2.1
def fT (F : FT) : Nat → Nat := F.2.2.1
def fS (F : FT) : Nat → Bool := F.2.2.2
/-- a handler: from, to, place, class (-1: none) -/
abbrev HD : Type := Nat × Nat × Nat × Int
def dF (h : HD) : Nat := h.1
def dT (h : HD) : Nat := h.2.1
def dP (h : HD) : Nat := h.2.2.1
def dC (h : HD) : Int := h.2.2.2
/-- the class that is caught -/
def dK (h : HD) : Nat := if dC h = -1 then 1 else (dC h).toNat
/-- a state of types: locals, stack (its top first) -/
abbrev TS : Type := (Nat → Nat) × List Nat
/-- a method: arguments, result, size (0: no code), code, stack, locals, handlers, verified, fault, its place, beginnings, states, put out, framed -/
abbrev MR : Type := List Nat × Nat × Nat × (Nat → Nat) × Nat × Nat × List HD × Bool × Nat × Int × (Nat → Bool) × (Nat → Option TS) × (Nat → Bool) × (Nat → Bool)
def rA (m : MR) : List Nat := m.1
def rR (m : MR) : Nat := m.2.1
def rN (m : MR) : Nat := m.2.2.1
def rC (m : MR) : Nat → Nat := m.2.2.2.1
def rS (m : MR) : Nat := m.2.2.2.2.1
def rL (m : MR) : Nat := m.2.2.2.2.2.1
def rH (m : MR) : List HD := m.2.2.2.2.2.2.1
def rV (m : MR) : Bool := m.2.2.2.2.2.2.2.1
def rF (m : MR) : Nat := m.2.2.2.2.2.2.2.2.1
def rP (m : MR) : Int := m.2.2.2.2.2.2.2.2.2.1
def rB (m : MR) : Nat → Bool := m.2.2.2.2.2.2.2.2.2.2.1
def rT (m : MR) : Nat → Option TS := m.2.2.2.2.2.2.2.2.2.2.2.1
def rD (m : MR) : Nat → Bool := m.2.2.2.2.2.2.2.2.2.2.2.2.1
def rX (m : MR) : Nat → Bool := m.2.2.2.2.2.2.2.2.2.2.2.2.2
/-- what an instruction is tried in: classes, fields, methods, the method -/
abbrev VC : Type := HT × FT × List MR × MR
def xH_ (x : VC) : HT := x.1
def xF_ (x : VC) : FT := x.2.1
def xM_ (x : VC) : List MR := x.2.2.1
def xm_ (x : VC) : MR := x.2.2.2
/-- objects and arrays; and NULL -/
def thg (t : Nat) : Bool := decide (t = 3 ∨ t = 4 ∨ (32 ≤ t ∧ t < 1000))
def rfc (t : Nat) : Bool := decide (t = 5) || thg t
def cfor (H : HT) (c d : Nat) : Bool := decide (d = 0) || hf H d || sb (hp H) c d
/-- what may stand for what -/
def fit (H : HT) (t w : Nat) : Bool :=
  if t = w ∨ w = 0 then true
  else if t = 5 then thg w
  else if 32 ≤ w ∧ w < 64 then (if 32 ≤ t ∧ t < 64 then cfor H (t - 32) (w - 32) else thg t && (decide (w = 32) || hf H (w - 32)))
  else decide (64 ≤ t ∧ t < 1000 ∧ 64 ≤ w ∧ w < 1000) && cfor H (t - 64) (w - 64)
def mrg (H : HT) (t u : Nat) : Nat :=
  if t = u then t
  else if rfc t = false ∨ rfc u = false then 0
  else if t = 5 then u
  else if u = 5 then t
  else if (32 ≤ t ∧ t < 64) ∧ 32 ≤ u ∧ u < 64 then 32 + nr (hp H) (t - 32) (u - 32)
  else if (64 ≤ t ∧ t < 1000) ∧ 64 ≤ u ∧ u < 1000 then 64 + nr (hp H) (t - 64) (u - 64)
  else 32
/-- a type that may be told -/
def tyT (n t : Nat) : Bool := decide ((1 ≤ t ∧ t ≤ 4) ∨ (32 ≤ t ∧ t < 32 + n) ∨ (64 ≤ t ∧ t < 64 + n))
/-- a type that may be in a state -/
def tyV (n sz t : Nat) : Prop := t < 6 ∨ (32 ≤ t ∧ t < 32 + n) ∨ (64 ≤ t ∧ t < 64 + n) ∨ (1000 ≤ t ∧ t - 1000 + 1 < sz)
/-! instructions -/
def szo (op : Nat) : Nat :=
  if op < 16 then (if op < 11 then 1 else 0)
  else if (153 ≤ op ∧ op ≤ 167) ∨ op = 17 ∨ op = 132 ∨ op = 198 ∨ op = 199 then 3
  else if op = 16 ∨ op = 21 ∨ op = 22 ∨ op = 25 ∨ op = 54 ∨ op = 55 ∨ op = 58 ∨ (178 ≤ op ∧ op ≤ 181) ∨ op = 183 ∨ op = 184 ∨ (187 ≤ op ∧ op ≤ 189) ∨ op = 192 ∨ op = 193 then 2
  else if op = 46 ∨ op = 47 ∨ op = 50 ∨ op = 79 ∨ op = 80 ∨ op = 83 ∨ (87 ≤ op ∧ op ≤ 90) ∨ op = 92 ∨ (95 ≤ op ∧ op ≤ 97) ∨ op = 100 ∨ op = 101 ∨ op = 104 ∨ op = 105 ∨ op = 108 ∨ op = 109 ∨ op = 133 ∨ op = 136 ∨ op = 148 ∨ op = 172 ∨ op = 173 ∨ op = 176 ∨ op = 177 ∨ op = 190 ∨ op = 191 then 1
  else 0
def isBr (op : Nat) : Bool := decide ((153 ≤ op ∧ op ≤ 167) ∨ op = 198 ∨ op = 199)
def isLa (op : Nat) : Bool := decide (op = 167 ∨ (172 ≤ op ∧ op ≤ 177) ∨ op = 191)
def tgt (co : Nat → Nat) (p : Nat) : Int := (p : Int) + i2s (iOr (iShl (co (p + 1)) 8) (co (p + 2)))
/-- the second byte of an instruction, 0 for one byte -/
def opi (co : Nat → Nat) (p : Nat) : Nat := if szo (co p) = 1 then 0 else co (p + 1)
/-! one instruction on types; a fault by its number -/
def sB {α β γ : Type} (r : γ ⊕ α) (κ : α → γ ⊕ β) : γ ⊕ β := match r with
  | .inl n => .inl n
  | .inr a => κ a
def wds : List Nat → Nat
  | [] => 0
  | t :: l => (if t = 2 then 2 else 1) + wds l
def sPop (s : TS) : Nat ⊕ (Nat × TS) := match s.2 with
  | [] => .inl 6
  | t :: l => .inr (t, (s.1, l))
def sWant (H : HT) (w : Nat) (s : TS) : Nat ⊕ TS := sB (sPop s) fun a => if fit H a.1 w = true then .inr a.2 else .inl 6
def sOne (s : TS) : Nat ⊕ (Nat × TS) := sB (sPop s) fun a => if a.1 = 2 then .inl 6 else .inr a
def sRef (s : TS) : Nat ⊕ (Nat × TS) := sB (sPop s) fun a => if rfc a.1 = true then .inr a else .inl 6
/-- an array: k = 3, 4, 32 (of objects) -/
def sArr (k : Nat) (s : TS) : Nat ⊕ (Nat × TS) := sB (sPop s) fun a => if a.1 = 5 ∨ (k = 32 ∧ 64 ≤ a.1 ∧ a.1 < 1000) ∨ (k ≠ 32 ∧ a.1 = k) then .inr a else .inl 6
def sPush (mst t : Nat) (s : TS) : Nat ⊕ TS := if wds (t :: s.2) ≤ mst then .inr (s.1, t :: s.2) else .inl 7
def okL (op t : Nat) : Bool := if op = 21 ∨ op = 54 then decide (t = 1) else if op = 22 ∨ op = 55 then decide (t = 2) else rfc t || decide (1000 ≤ t)
def sLoad (mst op i : Nat) (s : TS) : Nat ⊕ TS := if okL op (s.1 i) = true then sPush mst (s.1 i) s else .inl 6
def put (L : Nat → Nat) (i t : Nat) : Nat → Nat := fun k => if k = i then t else if k = i + 1 ∧ t = 2 then 0 else if k + 1 = i ∧ L k = 2 then 0 else L k
def sStore (op i : Nat) (s : TS) : Nat ⊕ TS := sB (sPop s) fun a => if okL op a.1 = true then .inr (put a.2.1 i a.1, a.2.2) else .inl 6
def sShuf (mst op : Nat) (s : TS) : Nat ⊕ TS :=
  if op = 87 then sB (sOne s) fun a => .inr a.2
  else if op = 88 then sB (sPop s) fun a => if a.1 = 2 then .inr a.2 else sB (sOne a.2) fun b => .inr b.2
  else if op = 89 then sB (sOne s) fun a => sB (sPush mst a.1 a.2) fun s => sPush mst a.1 s
  else if op = 92 then sB (sPop s) fun a => if a.1 = 2 then sB (sPush mst a.1 a.2) fun s => sPush mst a.1 s else sB (sOne a.2) fun b => sB (sPush mst b.1 b.2) fun s => sB (sPush mst a.1 s) fun s => sB (sPush mst b.1 s) fun s => sPush mst a.1 s
  else sB (sOne s) fun a => sB (sOne a.2) fun b => sB (sPush mst a.1 b.2) fun s => sB (sPush mst b.1 s) fun s => if op = 90 then sPush mst a.1 s else .inr s
def sComp (H : HT) (mst t : Nat) (s : TS) : Nat ⊕ TS := sB (sWant H t s) fun s => sB (sWant H t s) fun s => sPush mst t s
def sArrs (H : HT) (mst op : Nat) (s : TS) : Nat ⊕ TS :=
  sB (if op < 79 then .inr s else if op = 83 then sB (sRef s) fun a => .inr a.2 else sWant H (if op = 79 then 1 else 2) s) fun s =>
  sB (sWant H 1 s) fun s => sB (sArr (if op = 46 ∨ op = 79 then 3 else if op = 47 ∨ op = 80 then 4 else 32) s) fun a =>
  if 79 ≤ op then .inr a.2 else sPush mst (if op = 46 then 1 else if op = 47 then 2 else if a.1 = 5 then 5 else a.1 - 64 + 32) a.2
def sNum (H : HT) (mst op i : Nat) (s : TS) : Nat ⊕ TS :=
  if op = 132 then (if s.1 i = 1 then .inr s else .inl 6)
  else if op = 148 then sB (sWant H 2 s) fun s => sB (sWant H 2 s) fun s => sPush mst 1 s
  else if op = 133 then sB (sWant H 1 s) fun s => sPush mst 2 s
  else sB (sWant H 2 s) fun s => sPush mst 1 s
def sBran (H : HT) (op : Nat) (s : TS) : Nat ⊕ TS :=
  if op = 167 then .inr s
  else if 198 ≤ op then sB (sRef s) fun a => .inr a.2
  else if 165 ≤ op then sB (sRef s) fun a => sB (sRef a.2) fun b => .inr b.2
  else if 159 ≤ op then sB (sWant H 1 s) fun s => sWant H 1 s
  else sWant H 1 s
def sRet (H : HT) (r op : Nat) (s : TS) : Nat ⊕ TS :=
  if op = 177 then (if r = 0 then .inr s else .inl 6)
  else if op = 176 then sB (sRef s) fun a => if thg r = true ∧ fit H a.1 r = true then .inr a.2 else .inl 6
  else sB (sWant H (if op = 172 then 1 else 2) s) fun s => if r = (if op = 172 then 1 else 2) then .inr s else .inl 6
def sField (H : HT) (F : FT) (mst op i : Nat) (s : TS) : Nat ⊕ TS :=
  sB (if op = 179 ∨ op = 181 then sWant H (fT F i) s else .inr s) fun s =>
  sB (if 180 ≤ op then sWant H (32 + fC F i) s else .inr s) fun s =>
  if op = 178 ∨ op = 180 then sPush mst (fT F i) s else .inr s
/-- arguments from the last one -/
def sArgs (H : HT) : List Nat → TS → Nat ⊕ TS
  | [], s => .inr s
  | t :: l, s => sB (sWant H t s) fun s => sArgs H l s
def sCall (H : HT) (mst : Nat) (m : MR) (s : TS) : Nat ⊕ TS :=
  sB (sArgs H (rA m).reverse s) fun s => if rR m = 0 then .inr s else sPush mst (rR m) s
def trn (t u a : Nat) : Nat := if a = t then u else a
def sObj (H : HT) (mst p op i : Nat) (co : Nat → Nat) (s : TS) : Nat ⊕ TS :=
  if op = 183 then sB (sPop s) fun a => if 1000 ≤ a.1 ∧ co (a.1 - 1000 + 1) = i then .inr (fun k => trn a.1 (32 + i) (a.2.1 k), a.2.2.map (trn a.1 (32 + i))) else .inl 6
  else if op = 187 then (if (1000 + p) ∈ s.2 then .inl 6 else sPush mst (1000 + p) (fun k => trn (1000 + p) 0 (s.1 k), s.2))
  else if op = 188 ∨ op = 189 then sB (sWant H 1 s) fun s => sPush mst (if op = 189 then 64 + i else if i = 10 then 3 else 4) s
  else if op = 190 then sB (sPop s) fun a => if a.1 = 5 ∨ a.1 = 3 ∨ a.1 = 4 ∨ (64 ≤ a.1 ∧ a.1 < 1000) then sPush mst 1 a.2 else .inl 6
  else if op = 191 then sWant H 33 s
  else sB (sRef s) fun a => sPush mst (if op = 192 then 32 + i else 1) a.2
/-- an instruction op at p with its second byte i -/
def sStep (x : VC) (p op i : Nat) (s : TS) : Nat ⊕ TS :=
  if op = 0 then .inr s
  else if op = 1 then sPush (rS (xm_ x)) 5 s
  else if op = 9 ∨ op = 10 then sPush (rS (xm_ x)) 2 s
  else if op < 18 then sPush (rS (xm_ x)) 1 s
  else if op ≤ 25 then sLoad (rS (xm_ x)) op i s
  else if op ≤ 50 ∨ (79 ≤ op ∧ op ≤ 83) then sArrs (xH_ x) (rS (xm_ x)) op s
  else if op ≤ 58 then sStore op i s
  else if op ≤ 95 then sShuf (rS (xm_ x)) op s
  else if op ≤ 109 then sComp (xH_ x) (rS (xm_ x)) (if op % 4 = 0 then 1 else 2) s
  else if op ≤ 148 then sNum (xH_ x) (rS (xm_ x)) op i s
  else if op ≤ 167 ∨ 198 ≤ op then sBran (xH_ x) op s
  else if op ≤ 177 then sRet (xH_ x) (rR (xm_ x)) op s
  else if op ≤ 181 then sField (xH_ x) (xF_ x) (rS (xm_ x)) op i s
  else if op = 184 then (match (xM_ x)[i]? with
    | none => .inl 6
    | some m => sCall (xH_ x) (rS (xm_ x)) m s)
  else sObj (xH_ x) (rS (xm_ x)) p op i (rC (xm_ x)) s
