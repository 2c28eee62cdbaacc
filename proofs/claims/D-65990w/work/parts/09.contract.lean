/-! L1: contracts of the abstract machine's methods; what must be known of each instruction -/
abbrev MT : Type := Nat → MethodName × ByteArray × Option FieldType × Option (List (Nat × Nat × Nat × Nat))
def mY (M : MT) (j : Nat) : MethodName := (M j).1
def mC (M : MT) (j : Nat) : ByteArray := (M j).2.1
def mR (M : MT) (j : Nat) : Option FieldType := (M j).2.2.1
def mH (M : MT) (j : Nat) : Option (List (Nat × Nat × Nat × Nat)) := (M j).2.2.2
def mW (M : MT) (P : PT) (Ts : List Cond) (j : Nat) : List Cond := match mH M j with
  | none => Cond.code (mY M j) (mC M j) (pNl P j) (mR M j) :: Ts
  | some hh => Cond.codeWith (mY M j) (mC M j) (pNl P j) (mR M j) hh :: Ts
def mTab (M : MT) (j : Nat) : List ExceptionTableEntry := match mH M j with
  | none => []
  | some hh => tableOf hh
section CT
variable (D : va_G) (cl : List vw_C) (dA : Nat → ClassId) (NT : Nat) (rt : Nat → FieldType) (KX : State → Heap → Prop) (P : PT) (B : Nat) (M : MT) (Ts : List Cond)
/-- what is known of the tables -/
def KA (U : State) (H : Heap) : Prop := va_K D cl (tysOf rt dA NT) U ∧ KR rt dA NT U ∧ KX U H
def cPc (av : List AV) (h : AH) : Array Value → State → Prop := va_Pc (av.map vp) (fun U => RH D cl dA NT (pFt P) h U.heap ∧ KA D cl dA NT rt KX U U.heap)
def cQc (r : Rs) : Array Value → State → Outcome → State → Prop := fun _ st oc t =>
  (r.1.1 = 0 ∧ oc = .returned (if r.1.2.1 = 9 then none else some (vp r.1.2)) ∧ (r.1.2.1 = 9 ∨ cn r.1.2.1 r.1.2.2) ∧ RH D cl dA NT (pFt P) r.2 t.heap) ∧ va_F (fun q => B ≤ q) st t
def cXC (r : Rs) : Addr → String → State → State → Prop := fun q E st t =>
  (r.1.1 ≠ 0 ∧ r.1.2 = (2, (q : Int) + 1) ∧ (∃ (ci : Nat) (z : vw_C), hk r.2 q = (1, ci) ∧ cl[ci]? = some z ∧ z.1 = E) ∧ RH D cl dA NT (pFt P) r.2 t.heap) ∧ va_F (fun q => B ≤ q) st t
/-- the contract of method j, at one start and one end, at most d frames -/
def Ct (l : Launch) (d j : Nat) (av : List AV) (h : AH) (r : Rs) : Prop :=
  vx_Met l (mY M j) (mW M P Ts j) { frames := d + 10, cells := hnx r.2 - hnx h, slots := hus r.2 - hus h, locals := 100 * d + 1000 } (cPc D cl dA NT rt KX P av h) (cQc D cl dA NT P B r) (cXC D cl dA NT P B r) (hnx r.2 - hnx h) (hus r.2 - hus h) (fun q => B ≤ q)
/-- a method's frame as the walk meets it -/
def Fx (p : Program) (s : State) (m : MethodId) (args : Array Value) (meth : Method) (c : Code) (j : Nat) : Prop :=
  p.tables.exec = Jvm.exec ∧ c.code = mC M j ∧ c.maxLocals = pNl P j ∧ s.vm.findClass (mY M j).cls = some m.cls ∧ (∀ w ∈ Ts, w.before args s = true) ∧ KA D cl dA NT rt KX s s.heap ∧ meth.sig.returnType = mR M j ∧ meth.locks = false ∧ meth.name = (mY M j).name ∧ c.exceptionTable.toList = mTab M j
/-- a static call's rule -/
def CallS (j j' pc : Nat) : Prop := ∀ (p : Program) (l : Launch) (e : Env) (R : Room) (s : State) (m : MethodId) (args : Array Value) (below : List Frame) (meth : Method) (c : Code) (H : Heap) (locs : List Loc) (cells slots : Nat) (ls : Array Slot) (As rest : List Value) (rm : Room) (Pc : Array Value → State → Prop) (Qc : Array Value → State → Outcome → State → Prop) (XC : Addr → String → State → State → Prop) (mc ms : Nat) (free : Addr → Prop),
  Fx D cl dA NT rt KX P M Ts p s m args meth c j → vx_Met l (mY M j') (mW M P Ts j') rm Pc Qc XC mc ms free → rm.cells = mc → rm.slots = ms → rm.frames + 1 ≤ R.frames → 8 + (pNl P j' + 11) + rm.locals ≤ R.locals → FrameBlind Pc → (∀ U : State, U.heap = H → s.WarmedH U.vm → Pc As.toArray U) → ls.size = pNl P j → As.length = pNa P j' → (rest.map fun v => v.category).sum ≤ 8 → cells + mc ≤ R.cells ∧ slots + ms ≤ R.slots →
    vx_Run p l e R s m args below meth c H locs cells slots mc ms (F0 m pc ls (As.reverse ++ rest)) rest (Qc As.toArray) XC free
/-- a call through an object of class C -/
def CallV (j j' pc : Nat) (C : String) : Prop := ∀ (p : Program) (l : Launch) (e : Env) (R : Room) (s : State) (m : MethodId) (args : Array Value) (below : List Frame) (meth : Method) (c : Code) (H : Heap) (locs : List Loc) (cells slots : Nat) (ls : Array Slot) (As rest : List Value) (b : Nat) (rm : Room) (Pc : Array Value → State → Prop) (Qc : Array Value → State → Outcome → State → Prop) (XC : Addr → String → State → State → Prop) (mc ms : Nat) (free : Addr → Prop),
  Fx D cl dA NT rt KX P M Ts p s m args meth c j → vx_Met l (mY M j') (mW M P Ts j') rm Pc Qc XC mc ms free → rm.cells = mc → rm.slots = ms → rm.frames + 1 ≤ R.frames → 8 + (pNl P j' + 11) + rm.locals ≤ R.locals → FrameBlind Pc → (∃ cellB : Cell, H[b]? = some cellB ∧ cellB.vm.isStatics = false ∧ s.vm.findClass C = some cellB.cls) → (∀ U : State, U.heap = H → s.WarmedH U.vm → Pc (Value.ref b :: As).toArray U) → ls.size = pNl P j → As.length + 1 = pNa P j' → (rest.map fun v => v.category).sum ≤ 8 → cells + mc ≤ R.cells ∧ slots + ms ≤ R.slots →
    vx_Run p l e R s m args below meth c H locs cells slots mc ms (F0 m pc ls (As.reverse ++ .ref b :: rest)) rest (Qc (Value.ref b :: As).toArray) XC free
/-- a call through an interface, of an object of class C -/
def CallF (j j' pc : Nat) (C : String) : Prop := ∀ (p : Program) (l : Launch) (e : Env) (R : Room) (s : State) (m : MethodId) (args : Array Value) (below : List Frame) (meth : Method) (c : Code) (H : Heap) (locs : List Loc) (cells slots : Nat) (ls : Array Slot) (As rest : List Value) (b : Nat) (rm : Room) (Pc : Array Value → State → Prop) (Qc : Array Value → State → Outcome → State → Prop) (XC : Addr → String → State → State → Prop) (mc ms : Nat) (free : Addr → Prop),
  Fx D cl dA NT rt KX P M Ts p s m args meth c j → vx_Met l (mY M j') (mW M P Ts j') rm Pc Qc XC mc ms free → rm.cells = mc → rm.slots = ms → rm.frames + 1 ≤ R.frames → 8 + (pNl P j' + 11) + rm.locals ≤ R.locals → FrameBlind Pc → (∃ cellB : Cell, H[b]? = some cellB ∧ cellB.vm.isStatics = false ∧ s.vm.findClass C = some cellB.cls) → (∀ U : State, U.heap = H → s.WarmedH U.vm → Pc (Value.ref b :: As).toArray U) → ls.size = pNl P j → As.length + 1 = pNa P j' → (rest.map fun v => v.category).sum ≤ 8 → cells + mc ≤ R.cells ∧ slots + ms ≤ R.slots →
    vx_Run5 p l e R s m args below meth c H locs cells slots mc ms (F0 m pc ls (As.reverse ++ .ref b :: rest)) rest (Qc (Value.ref b :: As).toArray) XC free
/-- a call of a constructor -/
def CallI (j j' pc : Nat) : Prop := ∀ (p : Program) (l : Launch) (e : Env) (R : Room) (s : State) (m : MethodId) (args : Array Value) (below : List Frame) (meth : Method) (c : Code) (H : Heap) (locs : List Loc) (cells slots : Nat) (ls : Array Slot) (As rest : List Value) (b : Nat) (rm : Room) (Pc : Array Value → State → Prop) (Qc : Array Value → State → Outcome → State → Prop) (XC : Addr → String → State → State → Prop) (mc ms : Nat) (free : Addr → Prop),
  Fx D cl dA NT rt KX P M Ts p s m args meth c j → vx_Met l (mY M j') (mW M P Ts j') rm Pc Qc XC mc ms free → rm.cells = mc → rm.slots = ms → rm.frames + 1 ≤ R.frames → 8 + (pNl P j' + 11) + rm.locals ≤ R.locals → FrameBlind Pc → (∀ U : State, U.heap = H → s.WarmedH U.vm → Pc (Value.ref b :: As).toArray U) → ls.size = pNl P j → As.length + 1 = pNa P j' → (rest.map fun v => v.category).sum ≤ 8 → cells + mc ≤ R.cells ∧ slots + ms ≤ R.slots →
    vx_Run p l e R s m args below meth c H locs cells slots mc ms (F0 m pc ls (As.reverse ++ .ref b :: rest)) rest (Qc (Value.ref b :: As).toArray) XC free
/-- where an exception of class number ci goes from a place -/
def HndR (j pc ci : Nat) : Prop := ∀ (p : Program) (l : Launch) (e : Env) (R : Room) (s : State) (m : MethodId) (args : Array Value) (below : List Frame) (meth : Method) (c : Code) (H : Heap) (locs : List Loc) (cells slots : Nat) (ls : Array Slot) (rest : List Value) (q : Nat) (ce : Cell) (z : vw_C),
  Fx D cl dA NT rt KX P M Ts p s m args meth c j → cl[ci]? = some z → H[q]? = some ce → (ci ≠ 29 → ce.vm = .none) → s.vm.findClass z.1 = some ce.cls →
    match pHn P j pc ci with
    | some (some t) => ∀ Q : State → Prop, W p l e R s m args below meth c H locs cells slots Q (F0 m t ls [.ref q]) → vx_W p l e R s m args below meth c H locs cells slots Q (F0 m pc ls rest) q
    | none => True
    | some none => ∀ (Qc : Array Value → State → Outcome → State → Prop) (XC : Addr → String → State → State → Prop) (mc ms : Nat) (free : Addr → Prop), (∀ t : State, t.heap = H → s.vm.Alike t.vm → XC q z.1 s t) → (∀ z ∈ locs, free z.base) → cells ≤ mc → slots ≤ ms → vx_W p l e R s m args below meth c H locs cells slots (vx_MQ below Qc XC args s mc ms free) (F0 m pc ls rest) q
/-- a static's or a text's value, pushed -/
def PushR (j pc nx : Nat) (v : AV) : Prop := ∀ (p : Program) (l : Launch) (e : Env) (R : Room) (s : State) (m : MethodId) (args : Array Value) (below : List Frame) (meth : Method) (c : Code) (H : Heap) (locs : List Loc) (cells slots : Nat) (ls : Array Slot) (rest : List Value) (Q : State → Prop),
  Fx D cl dA NT rt KX P M Ts p s m args meth c j → va_S (fun q => B ≤ q) s.heap H locs → W p l e R s m args below meth c H locs cells slots Q (F0 m nx ls (vp v :: rest)) → W p l e R s m args below meth c H locs cells slots Q (F0 m pc ls rest)
/-- Object's constructor -/
def ObjR (j pc nx : Nat) : Prop := ∀ (p : Program) (l : Launch) (e : Env) (R : Room) (s : State) (m : MethodId) (args : Array Value) (below : List Frame) (meth : Method) (c : Code) (H : Heap) (locs : List Loc) (cells slots : Nat) (ls : Array Slot) (rest : List Value) (Q : State → Prop) (q : Nat),
  Fx D cl dA NT rt KX P M Ts p s m args meth c j → ls.size = pNl P j → 1 ≤ R.frames → 20 ≤ R.locals → (rest.map fun v => v.category).sum ≤ 8 → W p l e R s m args below meth c H locs cells slots Q (F0 m nx ls rest) → W p l e R s m args below meth c H locs cells slots Q (F0 m pc ls (.ref q :: rest))
/-- an exception is made -/
def MakeR (j pc nx ci : Nat) : Prop := ∀ (p : Program) (l : Launch) (e : Env) (R : Room) (s : State) (m : MethodId) (args : Array Value) (below : List Frame) (meth : Method) (c : Code) (H : Heap) (locs : List Loc) (cells slots : Nat) (ls : Array Slot) (rest : List Value) (Q : State → Prop) (h : AH),
  l.stackTraces = false → Fx D cl dA NT rt KX P M Ts p s m args meth c j → va_S (fun q => B ≤ q) s.heap H locs → RH D cl dA NT (pFt P) h H → ls.size = pNl P j → 9 < R.frames → 200 ≤ R.locals → (rest.map fun v => v.category).sum ≤ 8 → cells + 1 ≤ R.cells → slots + 6 ≤ R.slots →
    (∀ H1 : Heap, RH D cl dA NT (pFt P) (hnew h (1, ci) 6) H1 → va_S (fun q => B ≤ q) s.heap H1 locs → W p l e R s m args below meth c H1 locs (cells + 1) (slots + 6) Q (F0 m nx ls (.ref H.size :: rest))) → W p l e R s m args below meth c H locs cells slots Q (F0 m pc ls rest)
/-- arrays copied -/
def CpyR (j pc nx a : Nat) : Prop := ∀ (p : Program) (l : Launch) (e : Env) (R : Room) (s : State) (m : MethodId) (args : Array Value) (below : List Frame) (meth : Method) (c : Code) (H : Heap) (locs : List Loc) (cells slots : Nat) (ls : Array Slot) (rest : List Value) (Q : State → Prop) (h : AH) (x y : Nat) (sp dp n : Int),
  Fx D cl dA NT rt KX P M Ts p s m args meth c j → va_S (fun q => B ≤ q) s.heap H locs → RH D cl dA NT (pFt P) h H → ls.size = pNl P j → 1 ≤ R.frames → 200 ≤ R.locals → (rest.map fun v => v.category).sum ≤ 8 → (hk h x).1 = a + 2 → (hk h y).1 = a + 2 → 0 ≤ n → 0 ≤ dp → 0 ≤ sp → sp + n ≤ (hk h y).2 → dp + n ≤ (hk h x).2 → B ≤ x → cn 0 sp → cn 0 dp → cn 0 n →
    (∀ (H1 : Heap) (locs1 : List Loc), RH D cl dA NT (pFt P) (hcpy h y x sp.toNat dp.toNat n.toNat) H1 → va_S (fun q => B ≤ q) s.heap H1 locs1 → W p l e R s m args below meth c H1 locs1 cells slots Q (F0 m nx ls rest)) → W p l e R s m args below meth c H locs cells slots Q (F0 m pc ls (.int (Int32.ofInt n) :: .int (Int32.ofInt dp) :: .ref x :: .int (Int32.ofInt sp) :: .ref y :: rest))
/-- an exception's constructor above its own -/
def ExcR (j pc nx : Nat) : Prop := ∀ (p : Program) (l : Launch) (e : Env) (R : Room) (s : State) (m : MethodId) (args : Array Value) (below : List Frame) (meth : Method) (c : Code) (H : Heap) (locs : List Loc) (cells slots : Nat) (ls : Array Slot) (rest : List Value) (Q : State → Prop) (h : AH) (x : Nat),
  l.stackTraces = false → Fx D cl dA NT rt KX P M Ts p s m args meth c j → va_S (fun q => B ≤ q) s.heap H locs → RH D cl dA NT (pFt P) h H → ls.size = pNl P j → 9 < R.frames → 200 ≤ R.locals → (rest.map fun v => v.category).sum ≤ 8 → hk h x = (1, 19) → hv h x 1 = 0 → B ≤ x →
    (∀ (H1 : Heap) (locs1 : List Loc), RH D cl dA NT (pFt P) h H1 → va_S (fun q => B ≤ q) s.heap H1 locs1 → W p l e R s m args below meth c H1 locs1 cells slots Q (F0 m nx ls rest)) → W p l e R s m args below meth c H locs cells slots Q (F0 m pc ls (.ref x :: rest))
/-- a class by its number, as the tables have it -/
def ClsN (CT : Nat → String × u_T × Nat × (Nat → FieldType)) (ci : Nat) : Prop := ClsOK cl (pFt P) ci (CT ci).1 (CT ci).2.1 (CT ci).2.2.1 (CT ci).2.2.2 Ts
end CT
theorem csum_map (st : List AV) : ((st.map vp).map fun v => v.category).sum = csum st := by
  induction st with
  | nil => rfl
  | cons q r ih =>
    show (vp q).category + ((r.map vp).map fun v => v.category).sum = (if q.1 = 1 then 2 else 1) + csum r
    rw [ih]
    congr 1
    exact vv_cat q.1 q.2
