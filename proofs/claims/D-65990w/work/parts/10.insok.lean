/-! L1: what is asked of each instruction, by its kind -/
def pOK (ty : FieldType) : Bool := match ty with
  | .int => true
  | .long => true
  | .boolean => true
  | .object _ => true
  | .array _ => true
  | _ => false
def pOK2 (ty : FieldType) (a : Nat) : Bool := pOK ty && !(Nat.beq a 29)
theorem pOK2_ok {ty : FieldType} {a : Nat} (h : pOK2 ty a = true) : pOK ty = true := by
  unfold pOK2 at h
  rw [Bool.and_eq_true] at h
  exact h.1
theorem pOK2_ne {ty : FieldType} {a : Nat} (h : pOK2 ty a = true) : a ≠ 29 := by
  unfold pOK2 at h
  rw [Bool.and_eq_true] at h
  intro e
  subst e
  cases h.2
section IOK
variable (D : va_G) (cl : List vw_C) (dA : Nat → ClassId) (NT : Nat) (rt : Nat → FieldType) (KX : State → Heap → Prop) (P : PT) (gs : Nat → AV) (B : Nat) (M : MT) (Ts : List Cond) (CT : Nat → String × u_T × Nat × (Nat → FieldType))
/-- a field's link as the walk meets it -/
def FldR (j idx ci k : Nat) : Prop := ∀ (p : Program) (s : State) (m : MethodId) (args : Array Value) (meth : Method) (c : Code), Fx D cl dA NT rt KX P M Ts p s m args meth c j → FLk s args (mY M j).cls idx (CT ci).2.1 k
def FinR (j idx ci k : Nat) : Prop := ∀ (p : Program) (s : State) (m : MethodId) (args : Array Value) (meth : Method) (c : Code), Fx D cl dA NT rt KX P M Ts p s m args meth c j →
  ((CT ci).2.1 k).2.2.2 = false ∨ (((CT ci).2.1 k).2.2.2 = true ∧ meth.name = "<init>" ∧ ((CT ci).2.1 k).1 = (mY M j).cls ∧ ∃ ref : String, (∀ x, s.fieldFound? ((CT ci).2.1 k).1 ((CT ci).2.1 k).2.1 ((CT ci).2.1 k).2.2.1 = some x → s.fieldFound? ref ((CT ci).2.1 k).2.1 ((CT ci).2.1 k).2.2.1 = some x) ∧ (Cond.fieldLink (mY M j).cls idx ref ((CT ci).2.1 k).2.1 ((CT ci).2.1 k).2.2.1).before args s = true)
def InsOK (j pc op a : Nat) (b : Int) (nx : Nat) : Prop := match op with
  | 0 => cn 0 b ∧ PushR D cl dA NT rt KX P B M Ts j pc nx (0, b)
  | 1 => cn 1 b ∧ PushR D cl dA NT rt KX P B M Ts j pc nx (1, b)
  | 2 => PushR D cl dA NT rt KX P B M Ts j pc nx (2, 0)
  | 3 => (b = 0 ∧ ((∃ k : Fin 4, (k : Nat) = a ∧ decode (mC M j) pc = .ok (.iload_n k, 1)) ∧ nx = pc + 1 ∨ decode (mC M j) pc = .ok (.iload a, 2) ∧ nx = pc + 2)) ∨
      (b = 1 ∧ ((∃ k : Fin 4, (k : Nat) = a ∧ decode (mC M j) pc = .ok (.lload_n k, 1)) ∧ nx = pc + 1 ∨ decode (mC M j) pc = .ok (.lload a, 2) ∧ nx = pc + 2)) ∨
      (b = 2 ∧ ((∃ k : Fin 4, (k : Nat) = a ∧ decode (mC M j) pc = .ok (.aload_n k, 1)) ∧ nx = pc + 1 ∨ decode (mC M j) pc = .ok (.aload a, 2) ∧ nx = pc + 2))
  | 4 => a < pNl P j ∧ ((b = 0 ∧ ((∃ k : Fin 4, (k : Nat) = a ∧ decode (mC M j) pc = .ok (.istore_n k, 1)) ∧ nx = pc + 1 ∨ decode (mC M j) pc = .ok (.istore a, 2) ∧ nx = pc + 2)) ∨
      (b = 2 ∧ ((∃ k : Fin 4, (k : Nat) = a ∧ decode (mC M j) pc = .ok (.astore_n k, 1)) ∧ nx = pc + 1 ∨ decode (mC M j) pc = .ok (.astore a, 2) ∧ nx = pc + 2)))
  | 5 => a + 1 < pNl P j ∧ ((∃ k : Fin 4, (k : Nat) = a ∧ decode (mC M j) pc = .ok (.lstore_n k, 1)) ∧ nx = pc + 1 ∨ decode (mC M j) pc = .ok (.lstore a, 2) ∧ nx = pc + 2)
  | 6 => a < pNl P j ∧ decode (mC M j) pc = .ok (.iinc a b, 3) ∧ nx = pc + 3
  | 7 => decode (mC M j) pc = .ok (ibop a, 1) ∧ nx = pc + 1
  | 8 => decode (mC M j) pc = .ok (lbop a, 1) ∧ nx = pc + 1
  | 9 => decode (mC M j) pc = .ok (lsop a, 1) ∧ nx = pc + 1
  | 10 => decode (mC M j) pc = .ok (uins a, 1) ∧ nx = pc + 1
  | 11 => decode (mC M j) pc = .ok (.lcmp, 1) ∧ nx = pc + 1
  | 12 => decode (mC M j) pc = .ok (.dup, 1) ∧ nx = pc + 1
  | 13 => decode (mC M j) pc = .ok (.dup_x1, 1) ∧ nx = pc + 1
  | 14 => decode (mC M j) pc = .ok (.dup2, 1) ∧ nx = pc + 1
  | 15 => decode (mC M j) pc = .ok (.pop, 1) ∧ nx = pc + 1
  | 16 => (∃ off, decode (mC M j) pc = .ok (.ifCond (cndC a) off, 3) ∧ (pc : Int) + off = (b.toNat : Int)) ∧ nx = pc + 3
  | 17 => (∃ off, decode (mC M j) pc = .ok (.if_icmp (cndC a) off, 3) ∧ (pc : Int) + off = (b.toNat : Int)) ∧ nx = pc + 3
  | 18 => (∃ off, decode (mC M j) pc = .ok (.ifnull off, 3) ∧ (pc : Int) + off = (b.toNat : Int)) ∧ nx = pc + 3
  | 19 => (∃ off, decode (mC M j) pc = .ok (.ifnonnull off, 3) ∧ (pc : Int) + off = (b.toNat : Int)) ∧ nx = pc + 3
  | 20 => ∃ off, decode (mC M j) pc = .ok (.goto off, 3) ∧ (pc : Int) + off = (b.toNat : Int)
  | 21 => (∃ (dflt lo hi : Int) (offs : Array Int) (len : Nat), decode (mC M j) pc = .ok (.tableswitch dflt lo hi offs, len) ∧ ∀ x : Int, (x < lo ∨ hi < x) ∧ (pc : Int) + dflt = (pSw P j pc x : Int) ∨ ¬ x < lo ∧ ¬ hi < x ∧ ∃ off, offs[(x - lo).toNat]? = some off ∧ (pc : Int) + off = (pSw P j pc x : Int)) ∨
      (∃ (dflt : Int) (ps : Array (Int × Int)) (len : Nat), decode (mC M j) pc = .ok (.lookupswitch dflt ps, len) ∧ (ps.toList.zip (ps.toList.drop 1)).all (fun (a, next) => a.1 < next.1) = true ∧ ∀ x : Int, (pc : Int) + Op.lookupswitch.offset ps.toList dflt x = (pSw P j pc x : Int))
  | 22 => (∃ idx, decode (mC M j) pc = .ok (.getfield idx, 3) ∧ FldR D cl dA NT rt KX P M Ts CT j idx a b.toNat) ∧ b.toNat < (CT a).2.2.1 ∧ ClsN cl P Ts CT a ∧ nx = pc + 3
  | 23 => (∃ idx, decode (mC M j) pc = .ok (.putfield idx, 3) ∧ FldR D cl dA NT rt KX P M Ts CT j idx a b.toNat ∧ FinR D cl dA NT rt KX P M Ts CT j idx a b.toNat) ∧ b.toNat < (CT a).2.2.1 ∧ ClsN cl P Ts CT a ∧ pOK2 ((CT a).2.2.2 b.toNat) a = true ∧ nx = pc + 3
  | 24 => decode (mC M j) pc = .ok (aldI a, 1) ∧ nx = pc + 1
  | 25 => decode (mC M j) pc = .ok (astI a, 1) ∧ a < 4 ∧ nx = pc + 1
  | 26 => decode (mC M j) pc = .ok (.aastore, 1) ∧ (∀ kd, pRo P a kd = true → (∃ ci r, kd = (1, ci) ∧ cl[ci]? = some r ∧ rt a = .object r.1) ∨ ∃ t' n, kd = (t' + 2, n) ∧ rt a = .array (aT rt t') ∧ t' ≠ 0) ∧ nx = pc + 1
  | 27 => decode (mC M j) pc = .ok (.arraylength, 1) ∧ nx = pc + 1
  | 28 => a < 4 ∧ 4 ≤ NT ∧ Cond.arrayClass (newarray.typeOf (naT a)) ∈ Ts ∧ decode (mC M j) pc = .ok (.newarray (naT a), 2) ∧ nx = pc + 2
  | 29 => (∃ idx, decode (mC M j) pc = .ok (.new idx, 3) ∧ Cond.classLink (mY M j).cls idx (CT a).1 ∈ Ts) ∧ ClsN cl P Ts CT a ∧ Cond.instantiable (CT a).1 (pNf P a) ∈ Ts ∧ (Cond.initialized (CT a).1 ∈ Ts ∧ (a = 19 → pNf P a = 7)) ∧ nx = pc + 3
  | 30 => (∃ idx, decode (mC M j) pc = .ok (.anewarray idx, 3) ∧ Cond.classLink (mY M j).cls idx (cnm (rt a)) ∈ Ts) ∧ a + 4 < NT ∧ ((∃ C, rt a = .object C) ∨ ∃ t', rt a = .array t') ∧ (∀ (p : Program) (s : State) (m : MethodId) (args : Array Value) (meth : Method) (c : Code), Fx D cl dA NT rt KX P M Ts p s m args meth c j → (Cond.arrayOver (rt a)).before args s = true) ∧ nx = pc + 3
  | 31 => cn (gs a).1 (gs a).2 ∧ PushR D cl dA NT rt KX P B M Ts j pc nx (gs a)
  | 32 => CallS D cl dA NT rt KX P M Ts j a pc ∧ pNl P a ≤ 81 ∧ nx = pc + 3 ∧ ∀ ci, HndR D cl dA NT rt KX P M Ts j pc ci
  | 33 => (∀ z, cl[pMc P a]? = some z → CallV D cl dA NT rt KX P M Ts j a pc z.1) ∧ pNl P a ≤ 81 ∧ nx = pc + 3 ∧ ∀ ci, HndR D cl dA NT rt KX P M Ts j pc ci
  | 34 => CallI D cl dA NT rt KX P M Ts j a pc ∧ pNl P a ≤ 81 ∧ nx = pc + 3 ∧ ∀ ci, HndR D cl dA NT rt KX P M Ts j pc ci
  | 35 => (∀ ci z, cl[ci]? = some z → pVt P a ci ≠ 0 → CallV D cl dA NT rt KX P M Ts j (pVt P a ci) pc z.1 ∧ pNl P (pVt P a ci) ≤ 81 ∧ pNa P (pVt P a ci) = pNa P a) ∧ nx = pc + 3 ∧ ∀ ci, HndR D cl dA NT rt KX P M Ts j pc ci
  | 36 => ObjR D cl dA NT rt KX P M Ts j pc nx
  | 37 => MakeR D cl dA NT rt KX P B M Ts j pc nx a
  | 38 => decode (mC M j) pc = .ok (.athrow, 1) ∧ ∀ ci, HndR D cl dA NT rt KX P M Ts j pc ci
  | 39 => (a = 0 ∧ mR M j = some .int ∧ decode (mC M j) pc = .ok (.ireturn, 1)) ∨ (a = 1 ∧ mR M j = some .long ∧ decode (mC M j) pc = .ok (.lreturn, 1)) ∨ (a = 2 ∧ (∃ ty, mR M j = some ty ∧ ((∃ n, ty = .object n) ∨ ∃ t, ty = .array t)) ∧ decode (mC M j) pc = .ok (.areturn, 1))
  | 40 => mR M j = some .boolean ∧ decode (mC M j) pc = .ok (.ireturn, 1)
  | 41 => mR M j = none ∧ decode (mC M j) pc = .ok (.return_, 1)
  | 42 => CpyR D cl dA NT rt KX P B M Ts j pc nx a
  | 43 => ExcR D cl dA NT rt KX P B M Ts j pc nx
  | 44 => (∀ ci z, cl[ci]? = some z → pVt P a ci ≠ 0 → CallF D cl dA NT rt KX P M Ts j (pVt P a ci) pc z.1 ∧ pNl P (pVt P a ci) ≤ 81 ∧ pNa P (pVt P a ci) = pNa P a) ∧ nx = pc + 5 ∧ ∀ ci, HndR D cl dA NT rt KX P M Ts j pc ci
  | 45 => ((a = 4 ∧ mR M j = some .byte) ∨ (a = 5 ∧ mR M j = some .char)) ∧ decode (mC M j) pc = .ok (.ireturn, 1)
  | _ => True
end IOK
theorem okPut_of {ty : FieldType} {t : Nat} {x : Int} (h1 : pOK ty = true) (h2 : t = vt (tgT ty)) (h3 : okp (tgT ty) x = true) : okPut ty t x := by
  subst h2
  cases ty with
  | int => rfl
  | long => rfl
  | boolean =>
    refine ⟨rfl, ?_⟩
    have h3 : (x == 0 || x == 1) = true := h3
    simp at h3
    exact h3
  | object _ => rfl
  | array _ => rfl
  | _ => cases h1
theorem brc_cnd {α : Type} {o : Nat} {x y : Int} {t f : α} : (cnd o x y → brc o x y t f = t) ∧ (¬ cnd o x y → brc o x y t f = f) := by
  match o with
  | 0 => exact ⟨fun h => if_pos h, fun h => if_neg h⟩
  | 1 => exact ⟨fun h => if_neg h, fun h => if_pos (Decidable.not_not.mp h)⟩
  | 2 => exact ⟨fun h => if_pos h, fun h => if_neg h⟩
  | 3 => exact ⟨fun h => if_neg (fun q => by have h : y ≤ x := h; omega), fun h => if_pos (Int.not_le.mp h)⟩
  | 4 => exact ⟨fun h => if_pos h, fun h => if_neg h⟩
  | n + 5 => exact ⟨fun h => if_neg (fun q => by have h : x ≤ y := h; omega), fun h => if_pos (Int.not_le.mp h)⟩
theorem ad_eq {x : Int} (h : 0 < x) : x = (ad x : Int) + 1 := by unfold ad; omega
