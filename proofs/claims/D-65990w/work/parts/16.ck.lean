/-! L2: what the tables of the pools must say; the check of the bytes is right -/
theorem dkd {code : ByteArray} {pc : Nat} {l bs : List UInt8} (h : DkAt code pc l) (k : Nat) (e : (l.drop k).take bs.length = bs) : DkAt code (pc + k) bs := by
  intro i b hb
  rw [Nat.add_assoc]
  refine h (k + i) b ?_
  have h2 : i < bs.length := (List.getElem?_eq_some_iff.mp hb).1
  rw [← e, List.getElem?_take, if_pos h2, List.getElem?_drop] at hb
  exact hb
section CK
variable {D : va_G} {cl : List vw_C} {dA : Nat → ClassId} {NT : Nat} {rt : Nat → FieldType} {KX : State → Heap → Prop} {P : PT} {gs : Nat → AV} {B : Nat} {M : MT} {Ts : List Cond} {CT : Nat → String × u_T × Nat × (Nat → FieldType)}
def rkOK (rk : Nat) (ty : Option FieldType) : Prop := match rk with
  | 0 => ty = none
  | 1 => ty = some .int
  | 2 => ty = some .long
  | 3 => ∃ t, ty = some t ∧ ((∃ n, t = .object n) ∨ ∃ q, t = .array q)
  | 4 => ty = some .boolean
  | 5 => ty = some .byte
  | 6 => ty = some .char
  | _ => False
def TOK (D : va_G) (cl : List vw_C) (dA : Nat → ClassId) (NT : Nat) (rt : Nat → FieldType) (KX : State → Heap → Prop) (P : PT) (gs : Nat → AV) (B : Nat) (M : MT) (Ts : List Cond) (CT : Nat → String × u_T × Nat × (Nat → FieldType)) (T : DT) (j ow rk : Nat) (ini : Bool) : Prop :=
  (∀ i v, tI T ow i = some v → cn 0 v ∧ Cond.constant (mY M j).cls i (Int32.ofInt v) ∈ Ts) ∧
  (∀ i v, tL T ow i = some v → cn 1 v ∧ Cond.constantLong (mY M j).cls i (Int64.ofInt v) ∈ Ts) ∧
  (∀ i g, tG T ow i = some g → cn (gs g).1 (gs g).2 ∧ ∀ pc, (decode (mC M j) pc = .ok (.ldc i, 2) → PushR D cl dA NT rt KX P B M Ts j pc (pc + 2) (gs g)) ∧ (decode (mC M j) pc = .ok (.ldc_w i, 3) → PushR D cl dA NT rt KX P B M Ts j pc (pc + 3) (gs g))) ∧
  (∀ i g, tS T ow i = some g → cn (gs g).1 (gs g).2 ∧ ∀ pc, decode (mC M j) pc = .ok (.getstatic i, 3) → PushR D cl dA NT rt KX P B M Ts j pc (pc + 3) (gs g)) ∧
  (∀ i a k, tF T ow i = some (a, k) → FldR D cl dA NT rt KX P M Ts CT j i a k ∧ k < (CT a).2.2.1 ∧ ClsN cl P Ts CT a) ∧
  (∀ i a k, tF T ow i = some (a, k) → tU T ow a k ini = true → FinR D cl dA NT rt KX P M Ts CT j i a k ∧ pOK2 ((CT a).2.2.2 k) a = true) ∧
  (∀ i op a, tV T ow i = some (op, a) → ∀ pc b, decode (mC M j) pc = .ok (.invokevirtual i, 3) → InsOK D cl dA NT rt KX P gs B M Ts CT j pc op a b (pc + 3)) ∧
  (∀ i op a, tP T ow i = some (op, a) → ∀ pc b, decode (mC M j) pc = .ok (.invokespecial i, 3) → InsOK D cl dA NT rt KX P gs B M Ts CT j pc op a b (pc + 3)) ∧
  (∀ i op a, tC T ow i = some (op, a) → ∀ pc b, decode (mC M j) pc = .ok (.invokestatic i, 3) → InsOK D cl dA NT rt KX P gs B M Ts CT j pc op a b (pc + 3)) ∧
  (∀ i a, tN T ow i = some a → Cond.classLink (mY M j).cls i (CT a).1 ∈ Ts ∧ ClsN cl P Ts CT a ∧ Cond.instantiable (CT a).1 (pNf P a) ∈ Ts ∧ (Cond.initialized (CT a).1 ∈ Ts ∧ (a = 19 → pNf P a = 7))) ∧
  (∀ i i2 a, tX T ow i i2 = some a → ∀ pc, decode (mC M j) pc = .ok (.new i, 3) → decode (mC M j) (pc + 3) = .ok (.dup, 1) → decode (mC M j) (pc + 4) = .ok (.invokespecial i2, 3) → MakeR D cl dA NT rt KX P B M Ts j pc (pc + 7) a) ∧
  (∀ i a, tA T ow i = some a → Cond.classLink (mY M j).cls i (cnm (rt a)) ∈ Ts ∧ a + 4 < NT ∧ ((∃ C, rt a = .object C) ∨ ∃ t', rt a = .array t') ∧ (∀ (p : Program) (s : State) (m : MethodId) (args : Array Value) (meth : Method) (c : Code), Fx D cl dA NT rt KX P M Ts p s m args meth c j → (Cond.arrayOver (rt a)).before args s = true)) ∧
  (∀ a, tR T a = true → ∀ kd, pRo P a kd = true → (∃ ci r, kd = (1, ci) ∧ cl[ci]? = some r ∧ rt a = .object r.1) ∨ ∃ t' n, kd = (t' + 2, n) ∧ rt a = .array (aT rt t') ∧ t' ≠ 0) ∧
  rkOK rk (mR M j) ∧ (∀ pc ci, HndR D cl dA NT rt KX P M Ts j pc ci) ∧
  (4 ≤ NT ∧ Cond.arrayClass .int ∈ Ts ∧ Cond.arrayClass .long ∈ Ts ∧ Cond.arrayClass .byte ∈ Ts ∧ Cond.arrayClass .boolean ∈ Ts)

theorem ck_1 {T : DT} {j ow rk : Nat} {ini : Bool} {r : List UInt8} {pc op a : Nat} {b : Int} {nx : Nat} (hT : TOK D cl dA NT rt KX P gs B M Ts CT T j ow rk ini) (h : chk0 T ow rk (pNl P j) ini 1 r pc op a b nx = true) (hD : DkAt (mC M j) pc (1 :: r)) : InsOK D cl dA NT rt KX P gs B M Ts CT j pc op a b nx := by
  obtain ⟨hI, hL, hG, hS, hF, hU, hV, hP, hC, hN, hX, hA, hR, hrk, hH, hNT⟩ := hT
  have h : (op == 2 && nx == pc + 1) = true := h
  have h1 : DkAt (mC M j) pc [1] := dkd hD 0 (by rfl)
  simp only [Bool.and_eq_true, and_assoc, beq_iff_eq, decide_eq_true_eq] at h
  obtain ⟨e0, en0⟩ := h
  subst e0 en0
  exact fun p l e R s m args below meth c H locs cells slots ls rest Q hF hS k => lv_null hF.1 hF.2.1 (dk_1 h1) k

theorem ck_2 {T : DT} {j ow rk : Nat} {ini : Bool} {r : List UInt8} {pc op a : Nat} {b : Int} {nx : Nat} (hT : TOK D cl dA NT rt KX P gs B M Ts CT T j ow rk ini) (h : chk0 T ow rk (pNl P j) ini 2 r pc op a b nx = true) (hD : DkAt (mC M j) pc (2 :: r)) : InsOK D cl dA NT rt KX P gs B M Ts CT j pc op a b nx := by
  obtain ⟨hI, hL, hG, hS, hF, hU, hV, hP, hC, hN, hX, hA, hR, hrk, hH, hNT⟩ := hT
  have h : (op == 0 && b == (-1) && nx == pc + 1) = true := h
  have h1 : DkAt (mC M j) pc [2] := dkd hD 0 (by rfl)
  simp only [Bool.and_eq_true, and_assoc, beq_iff_eq, decide_eq_true_eq] at h
  obtain ⟨e0, eb0, en0⟩ := h
  subst e0 eb0 en0
  exact ⟨⟨by decide, by decide⟩, fun p l e R s m args below meth c H locs cells slots ls rest Q hF hS k => lv_iconst hF.1 hF.2.1 (dk_2 h1) rfl k⟩

theorem ck_3 {T : DT} {j ow rk : Nat} {ini : Bool} {r : List UInt8} {pc op a : Nat} {b : Int} {nx : Nat} (hT : TOK D cl dA NT rt KX P gs B M Ts CT T j ow rk ini) (h : chk0 T ow rk (pNl P j) ini 3 r pc op a b nx = true) (hD : DkAt (mC M j) pc (3 :: r)) : InsOK D cl dA NT rt KX P gs B M Ts CT j pc op a b nx := by
  obtain ⟨hI, hL, hG, hS, hF, hU, hV, hP, hC, hN, hX, hA, hR, hrk, hH, hNT⟩ := hT
  have h : (op == 0 && b == (0) && nx == pc + 1) = true := h
  have h1 : DkAt (mC M j) pc [3] := dkd hD 0 (by rfl)
  simp only [Bool.and_eq_true, and_assoc, beq_iff_eq, decide_eq_true_eq] at h
  obtain ⟨e0, eb0, en0⟩ := h
  subst e0 eb0 en0
  exact ⟨⟨by decide, by decide⟩, fun p l e R s m args below meth c H locs cells slots ls rest Q hF hS k => lv_iconst hF.1 hF.2.1 (dk_3 h1) rfl k⟩

theorem ck_4 {T : DT} {j ow rk : Nat} {ini : Bool} {r : List UInt8} {pc op a : Nat} {b : Int} {nx : Nat} (hT : TOK D cl dA NT rt KX P gs B M Ts CT T j ow rk ini) (h : chk0 T ow rk (pNl P j) ini 4 r pc op a b nx = true) (hD : DkAt (mC M j) pc (4 :: r)) : InsOK D cl dA NT rt KX P gs B M Ts CT j pc op a b nx := by
  obtain ⟨hI, hL, hG, hS, hF, hU, hV, hP, hC, hN, hX, hA, hR, hrk, hH, hNT⟩ := hT
  have h : (op == 0 && b == (1) && nx == pc + 1) = true := h
  have h1 : DkAt (mC M j) pc [4] := dkd hD 0 (by rfl)
  simp only [Bool.and_eq_true, and_assoc, beq_iff_eq, decide_eq_true_eq] at h
  obtain ⟨e0, eb0, en0⟩ := h
  subst e0 eb0 en0
  exact ⟨⟨by decide, by decide⟩, fun p l e R s m args below meth c H locs cells slots ls rest Q hF hS k => lv_iconst hF.1 hF.2.1 (dk_4 h1) rfl k⟩

theorem ck_5 {T : DT} {j ow rk : Nat} {ini : Bool} {r : List UInt8} {pc op a : Nat} {b : Int} {nx : Nat} (hT : TOK D cl dA NT rt KX P gs B M Ts CT T j ow rk ini) (h : chk0 T ow rk (pNl P j) ini 5 r pc op a b nx = true) (hD : DkAt (mC M j) pc (5 :: r)) : InsOK D cl dA NT rt KX P gs B M Ts CT j pc op a b nx := by
  obtain ⟨hI, hL, hG, hS, hF, hU, hV, hP, hC, hN, hX, hA, hR, hrk, hH, hNT⟩ := hT
  have h : (op == 0 && b == (2) && nx == pc + 1) = true := h
  have h1 : DkAt (mC M j) pc [5] := dkd hD 0 (by rfl)
  simp only [Bool.and_eq_true, and_assoc, beq_iff_eq, decide_eq_true_eq] at h
  obtain ⟨e0, eb0, en0⟩ := h
  subst e0 eb0 en0
  exact ⟨⟨by decide, by decide⟩, fun p l e R s m args below meth c H locs cells slots ls rest Q hF hS k => lv_iconst hF.1 hF.2.1 (dk_5 h1) rfl k⟩

theorem ck_6 {T : DT} {j ow rk : Nat} {ini : Bool} {r : List UInt8} {pc op a : Nat} {b : Int} {nx : Nat} (hT : TOK D cl dA NT rt KX P gs B M Ts CT T j ow rk ini) (h : chk0 T ow rk (pNl P j) ini 6 r pc op a b nx = true) (hD : DkAt (mC M j) pc (6 :: r)) : InsOK D cl dA NT rt KX P gs B M Ts CT j pc op a b nx := by
  obtain ⟨hI, hL, hG, hS, hF, hU, hV, hP, hC, hN, hX, hA, hR, hrk, hH, hNT⟩ := hT
  have h : (op == 0 && b == (3) && nx == pc + 1) = true := h
  have h1 : DkAt (mC M j) pc [6] := dkd hD 0 (by rfl)
  simp only [Bool.and_eq_true, and_assoc, beq_iff_eq, decide_eq_true_eq] at h
  obtain ⟨e0, eb0, en0⟩ := h
  subst e0 eb0 en0
  exact ⟨⟨by decide, by decide⟩, fun p l e R s m args below meth c H locs cells slots ls rest Q hF hS k => lv_iconst hF.1 hF.2.1 (dk_6 h1) rfl k⟩

theorem ck_7 {T : DT} {j ow rk : Nat} {ini : Bool} {r : List UInt8} {pc op a : Nat} {b : Int} {nx : Nat} (hT : TOK D cl dA NT rt KX P gs B M Ts CT T j ow rk ini) (h : chk0 T ow rk (pNl P j) ini 7 r pc op a b nx = true) (hD : DkAt (mC M j) pc (7 :: r)) : InsOK D cl dA NT rt KX P gs B M Ts CT j pc op a b nx := by
  obtain ⟨hI, hL, hG, hS, hF, hU, hV, hP, hC, hN, hX, hA, hR, hrk, hH, hNT⟩ := hT
  have h : (op == 0 && b == (4) && nx == pc + 1) = true := h
  have h1 : DkAt (mC M j) pc [7] := dkd hD 0 (by rfl)
  simp only [Bool.and_eq_true, and_assoc, beq_iff_eq, decide_eq_true_eq] at h
  obtain ⟨e0, eb0, en0⟩ := h
  subst e0 eb0 en0
  exact ⟨⟨by decide, by decide⟩, fun p l e R s m args below meth c H locs cells slots ls rest Q hF hS k => lv_iconst hF.1 hF.2.1 (dk_7 h1) rfl k⟩

theorem ck_8 {T : DT} {j ow rk : Nat} {ini : Bool} {r : List UInt8} {pc op a : Nat} {b : Int} {nx : Nat} (hT : TOK D cl dA NT rt KX P gs B M Ts CT T j ow rk ini) (h : chk0 T ow rk (pNl P j) ini 8 r pc op a b nx = true) (hD : DkAt (mC M j) pc (8 :: r)) : InsOK D cl dA NT rt KX P gs B M Ts CT j pc op a b nx := by
  obtain ⟨hI, hL, hG, hS, hF, hU, hV, hP, hC, hN, hX, hA, hR, hrk, hH, hNT⟩ := hT
  have h : (op == 0 && b == (5) && nx == pc + 1) = true := h
  have h1 : DkAt (mC M j) pc [8] := dkd hD 0 (by rfl)
  simp only [Bool.and_eq_true, and_assoc, beq_iff_eq, decide_eq_true_eq] at h
  obtain ⟨e0, eb0, en0⟩ := h
  subst e0 eb0 en0
  exact ⟨⟨by decide, by decide⟩, fun p l e R s m args below meth c H locs cells slots ls rest Q hF hS k => lv_iconst hF.1 hF.2.1 (dk_8 h1) rfl k⟩

theorem ck_9 {T : DT} {j ow rk : Nat} {ini : Bool} {r : List UInt8} {pc op a : Nat} {b : Int} {nx : Nat} (hT : TOK D cl dA NT rt KX P gs B M Ts CT T j ow rk ini) (h : chk0 T ow rk (pNl P j) ini 9 r pc op a b nx = true) (hD : DkAt (mC M j) pc (9 :: r)) : InsOK D cl dA NT rt KX P gs B M Ts CT j pc op a b nx := by
  obtain ⟨hI, hL, hG, hS, hF, hU, hV, hP, hC, hN, hX, hA, hR, hrk, hH, hNT⟩ := hT
  have h : (op == 1 && b == (0) && nx == pc + 1) = true := h
  have h1 : DkAt (mC M j) pc [9] := dkd hD 0 (by rfl)
  simp only [Bool.and_eq_true, and_assoc, beq_iff_eq, decide_eq_true_eq] at h
  obtain ⟨e0, eb0, en0⟩ := h
  subst e0 eb0 en0
  exact ⟨⟨by decide, by decide⟩, fun p l e R s m args below meth c H locs cells slots ls rest Q hF hS k => lv_lconst hF.1 hF.2.1 (dk_9 h1) rfl k⟩

theorem ck_10 {T : DT} {j ow rk : Nat} {ini : Bool} {r : List UInt8} {pc op a : Nat} {b : Int} {nx : Nat} (hT : TOK D cl dA NT rt KX P gs B M Ts CT T j ow rk ini) (h : chk0 T ow rk (pNl P j) ini 10 r pc op a b nx = true) (hD : DkAt (mC M j) pc (10 :: r)) : InsOK D cl dA NT rt KX P gs B M Ts CT j pc op a b nx := by
  obtain ⟨hI, hL, hG, hS, hF, hU, hV, hP, hC, hN, hX, hA, hR, hrk, hH, hNT⟩ := hT
  have h : (op == 1 && b == (1) && nx == pc + 1) = true := h
  have h1 : DkAt (mC M j) pc [10] := dkd hD 0 (by rfl)
  simp only [Bool.and_eq_true, and_assoc, beq_iff_eq, decide_eq_true_eq] at h
  obtain ⟨e0, eb0, en0⟩ := h
  subst e0 eb0 en0
  exact ⟨⟨by decide, by decide⟩, fun p l e R s m args below meth c H locs cells slots ls rest Q hF hS k => lv_lconst hF.1 hF.2.1 (dk_10 h1) rfl k⟩

theorem ck_16 {T : DT} {j ow rk : Nat} {ini : Bool} {r : List UInt8} {pc op a : Nat} {b : Int} {nx : Nat} (hT : TOK D cl dA NT rt KX P gs B M Ts CT T j ow rk ini) (h : chk0 T ow rk (pNl P j) ini 16 r pc op a b nx = true) (hD : DkAt (mC M j) pc (16 :: r)) : InsOK D cl dA NT rt KX P gs B M Ts CT j pc op a b nx := by
  obtain ⟨hI, hL, hG, hS, hF, hU, hV, hP, hC, hN, hX, hA, hR, hrk, hH, hNT⟩ := hT
  cases r with
  | nil => cases h
  | cons x r =>
  have h : (op == 0 && b == Reader.signed 8 x.toNat && nx == pc + 2) = true := h
  have h1 : DkAt (mC M j) pc [16] := dkd hD 0 (by rfl)
  have h2 : DkAt (mC M j) pc [16, x] := dkd hD 0 (by rfl)
  simp only [Bool.and_eq_true, and_assoc, beq_iff_eq, decide_eq_true_eq] at h
  obtain ⟨e0, eb0, en0⟩ := h
  subst e0 eb0 en0
  exact ⟨push8 x, fun p l e R s m args below meth c H locs cells slots ls rest Q hF hS k => lv_bipush hF.1 hF.2.1 (dk_16 x h2) (push8v x) k⟩

theorem ck_17 {T : DT} {j ow rk : Nat} {ini : Bool} {r : List UInt8} {pc op a : Nat} {b : Int} {nx : Nat} (hT : TOK D cl dA NT rt KX P gs B M Ts CT T j ow rk ini) (h : chk0 T ow rk (pNl P j) ini 17 r pc op a b nx = true) (hD : DkAt (mC M j) pc (17 :: r)) : InsOK D cl dA NT rt KX P gs B M Ts CT j pc op a b nx := by
  obtain ⟨hI, hL, hG, hS, hF, hU, hV, hP, hC, hN, hX, hA, hR, hrk, hH, hNT⟩ := hT
  cases r with
  | nil => cases h
  | cons x r =>
  cases r with
  | nil => cases h
  | cons y r =>
  have h : (op == 0 && b == Reader.signed 16 (x.toNat * 256 + y.toNat) && nx == pc + 3) = true := h
  have h1 : DkAt (mC M j) pc [17] := dkd hD 0 (by rfl)
  have h2 : DkAt (mC M j) pc [17, x] := dkd hD 0 (by rfl)
  have h3 : DkAt (mC M j) pc [17, x, y] := dkd hD 0 (by rfl)
  simp only [Bool.and_eq_true, and_assoc, beq_iff_eq, decide_eq_true_eq] at h
  obtain ⟨e0, eb0, en0⟩ := h
  subst e0 eb0 en0
  exact ⟨push16 x y, fun p l e R s m args below meth c H locs cells slots ls rest Q hF hS k => lv_sipush hF.1 hF.2.1 (dk_17 x y h3) (push16v x y) k⟩

theorem ck_18 {T : DT} {j ow rk : Nat} {ini : Bool} {r : List UInt8} {pc op a : Nat} {b : Int} {nx : Nat} (hT : TOK D cl dA NT rt KX P gs B M Ts CT T j ow rk ini) (h : chk0 T ow rk (pNl P j) ini 18 r pc op a b nx = true) (hD : DkAt (mC M j) pc (18 :: r)) : InsOK D cl dA NT rt KX P gs B M Ts CT j pc op a b nx := by
  obtain ⟨hI, hL, hG, hS, hF, hU, hV, hP, hC, hN, hX, hA, hR, hrk, hH, hNT⟩ := hT
  cases r with
  | nil => cases h
  | cons x r =>
  have h : (((op == 0 && tI T ow x.toNat == some b) || (op == 31 && tG T ow x.toNat == some a)) && nx == pc + 2) = true := h
  have h1 : DkAt (mC M j) pc [18] := dkd hD 0 (by rfl)
  have h2 : DkAt (mC M j) pc [18, x] := dkd hD 0 (by rfl)
  simp only [Bool.and_eq_true, Bool.or_eq_true, and_assoc, beq_iff_eq] at h
  obtain ⟨h | h, h9⟩ := h
  · obtain ⟨e, hi⟩ := h
    subst e h9
    exact ⟨(hI _ _ hi).1, fun p l e R s m args below meth c H locs cells slots ls rest Q hF hS k => lv_ldc hF.1 hF.2.1 hF.2.2.2.1 (hF.2.2.2.2.1 _ (hI _ _ hi).2) (dk_18 x h2) k⟩
  · obtain ⟨e, hi⟩ := h
    subst e h9
    exact ⟨(hG _ _ hi).1, ((hG _ _ hi).2 _).1 (dk_18 x h2)⟩

theorem ck_19 {T : DT} {j ow rk : Nat} {ini : Bool} {r : List UInt8} {pc op a : Nat} {b : Int} {nx : Nat} (hT : TOK D cl dA NT rt KX P gs B M Ts CT T j ow rk ini) (h : chk0 T ow rk (pNl P j) ini 19 r pc op a b nx = true) (hD : DkAt (mC M j) pc (19 :: r)) : InsOK D cl dA NT rt KX P gs B M Ts CT j pc op a b nx := by
  obtain ⟨hI, hL, hG, hS, hF, hU, hV, hP, hC, hN, hX, hA, hR, hrk, hH, hNT⟩ := hT
  cases r with
  | nil => cases h
  | cons x r =>
  cases r with
  | nil => cases h
  | cons y r =>
  have h : (((op == 0 && tI T ow (x.toNat * 256 + y.toNat) == some b) || (op == 31 && tG T ow (x.toNat * 256 + y.toNat) == some a)) && nx == pc + 3) = true := h
  have h1 : DkAt (mC M j) pc [19] := dkd hD 0 (by rfl)
  have h2 : DkAt (mC M j) pc [19, x] := dkd hD 0 (by rfl)
  have h3 : DkAt (mC M j) pc [19, x, y] := dkd hD 0 (by rfl)
  simp only [Bool.and_eq_true, Bool.or_eq_true, and_assoc, beq_iff_eq] at h
  obtain ⟨h | h, h9⟩ := h
  · obtain ⟨e, hi⟩ := h
    subst e h9
    exact ⟨(hI _ _ hi).1, fun p l e R s m args below meth c H locs cells slots ls rest Q hF hS k => lv_ldcw hF.1 hF.2.1 hF.2.2.2.1 (hF.2.2.2.2.1 _ (hI _ _ hi).2) (dk_19 x y h3) k⟩
  · obtain ⟨e, hi⟩ := h
    subst e h9
    exact ⟨(hG _ _ hi).1, ((hG _ _ hi).2 _).2 (dk_19 x y h3)⟩

theorem ck_20 {T : DT} {j ow rk : Nat} {ini : Bool} {r : List UInt8} {pc op a : Nat} {b : Int} {nx : Nat} (hT : TOK D cl dA NT rt KX P gs B M Ts CT T j ow rk ini) (h : chk0 T ow rk (pNl P j) ini 20 r pc op a b nx = true) (hD : DkAt (mC M j) pc (20 :: r)) : InsOK D cl dA NT rt KX P gs B M Ts CT j pc op a b nx := by
  obtain ⟨hI, hL, hG, hS, hF, hU, hV, hP, hC, hN, hX, hA, hR, hrk, hH, hNT⟩ := hT
  cases r with
  | nil => cases h
  | cons x r =>
  cases r with
  | nil => cases h
  | cons y r =>
  have h : (op == 1 && tL T ow (x.toNat * 256 + y.toNat) == some b && nx == pc + 3) = true := h
  have h1 : DkAt (mC M j) pc [20] := dkd hD 0 (by rfl)
  have h2 : DkAt (mC M j) pc [20, x] := dkd hD 0 (by rfl)
  have h3 : DkAt (mC M j) pc [20, x, y] := dkd hD 0 (by rfl)
  simp only [Bool.and_eq_true, and_assoc, beq_iff_eq] at h
  obtain ⟨e, hi, h9⟩ := h
  subst e h9
  exact ⟨(hL _ _ hi).1, fun p l e R s m args below meth c H locs cells slots ls rest Q hF hS k => lv_ldc2 hF.1 hF.2.1 hF.2.2.2.1 (hF.2.2.2.2.1 _ (hL _ _ hi).2) (dk_20 x y h3) k⟩

theorem ck_21 {T : DT} {j ow rk : Nat} {ini : Bool} {r : List UInt8} {pc op a : Nat} {b : Int} {nx : Nat} (hT : TOK D cl dA NT rt KX P gs B M Ts CT T j ow rk ini) (h : chk0 T ow rk (pNl P j) ini 21 r pc op a b nx = true) (hD : DkAt (mC M j) pc (21 :: r)) : InsOK D cl dA NT rt KX P gs B M Ts CT j pc op a b nx := by
  obtain ⟨hI, hL, hG, hS, hF, hU, hV, hP, hC, hN, hX, hA, hR, hrk, hH, hNT⟩ := hT
  cases r with
  | nil => cases h
  | cons x r =>
  have h : (op == 3 && a == x.toNat && b == 0 && nx == pc + 2) = true := h
  have h1 : DkAt (mC M j) pc [21] := dkd hD 0 (by rfl)
  have h2 : DkAt (mC M j) pc [21, x] := dkd hD 0 (by rfl)
  simp only [Bool.and_eq_true, and_assoc, beq_iff_eq, decide_eq_true_eq] at h
  obtain ⟨e0, ea0, eb0, en0⟩ := h
  subst e0 ea0 eb0 en0
  exact Or.inl ⟨rfl, Or.inr ⟨dk_21 x h2, rfl⟩⟩

theorem ck_22 {T : DT} {j ow rk : Nat} {ini : Bool} {r : List UInt8} {pc op a : Nat} {b : Int} {nx : Nat} (hT : TOK D cl dA NT rt KX P gs B M Ts CT T j ow rk ini) (h : chk0 T ow rk (pNl P j) ini 22 r pc op a b nx = true) (hD : DkAt (mC M j) pc (22 :: r)) : InsOK D cl dA NT rt KX P gs B M Ts CT j pc op a b nx := by
  obtain ⟨hI, hL, hG, hS, hF, hU, hV, hP, hC, hN, hX, hA, hR, hrk, hH, hNT⟩ := hT
  cases r with
  | nil => cases h
  | cons x r =>
  have h : (op == 3 && a == x.toNat && b == 1 && nx == pc + 2) = true := h
  have h1 : DkAt (mC M j) pc [22] := dkd hD 0 (by rfl)
  have h2 : DkAt (mC M j) pc [22, x] := dkd hD 0 (by rfl)
  simp only [Bool.and_eq_true, and_assoc, beq_iff_eq, decide_eq_true_eq] at h
  obtain ⟨e0, ea0, eb0, en0⟩ := h
  subst e0 ea0 eb0 en0
  exact Or.inr (Or.inl ⟨rfl, Or.inr ⟨dk_22 x h2, rfl⟩⟩)

theorem ck_25 {T : DT} {j ow rk : Nat} {ini : Bool} {r : List UInt8} {pc op a : Nat} {b : Int} {nx : Nat} (hT : TOK D cl dA NT rt KX P gs B M Ts CT T j ow rk ini) (h : chk0 T ow rk (pNl P j) ini 25 r pc op a b nx = true) (hD : DkAt (mC M j) pc (25 :: r)) : InsOK D cl dA NT rt KX P gs B M Ts CT j pc op a b nx := by
  obtain ⟨hI, hL, hG, hS, hF, hU, hV, hP, hC, hN, hX, hA, hR, hrk, hH, hNT⟩ := hT
  cases r with
  | nil => cases h
  | cons x r =>
  have h : (op == 3 && a == x.toNat && b == 2 && nx == pc + 2) = true := h
  have h1 : DkAt (mC M j) pc [25] := dkd hD 0 (by rfl)
  have h2 : DkAt (mC M j) pc [25, x] := dkd hD 0 (by rfl)
  simp only [Bool.and_eq_true, and_assoc, beq_iff_eq, decide_eq_true_eq] at h
  obtain ⟨e0, ea0, eb0, en0⟩ := h
  subst e0 ea0 eb0 en0
  exact Or.inr (Or.inr ⟨rfl, Or.inr ⟨dk_25 x h2, rfl⟩⟩)

theorem ck_26 {T : DT} {j ow rk : Nat} {ini : Bool} {r : List UInt8} {pc op a : Nat} {b : Int} {nx : Nat} (hT : TOK D cl dA NT rt KX P gs B M Ts CT T j ow rk ini) (h : chk0 T ow rk (pNl P j) ini 26 r pc op a b nx = true) (hD : DkAt (mC M j) pc (26 :: r)) : InsOK D cl dA NT rt KX P gs B M Ts CT j pc op a b nx := by
  obtain ⟨hI, hL, hG, hS, hF, hU, hV, hP, hC, hN, hX, hA, hR, hrk, hH, hNT⟩ := hT
  have h : (op == 3 && a == 0 && b == 0 && nx == pc + 1) = true := h
  have h1 : DkAt (mC M j) pc [26] := dkd hD 0 (by rfl)
  simp only [Bool.and_eq_true, and_assoc, beq_iff_eq, decide_eq_true_eq] at h
  obtain ⟨e0, ea0, eb0, en0⟩ := h
  subst e0 ea0 eb0 en0
  exact Or.inl ⟨rfl, Or.inl ⟨⟨0, rfl, dk_26 h1⟩, rfl⟩⟩

theorem ck_27 {T : DT} {j ow rk : Nat} {ini : Bool} {r : List UInt8} {pc op a : Nat} {b : Int} {nx : Nat} (hT : TOK D cl dA NT rt KX P gs B M Ts CT T j ow rk ini) (h : chk0 T ow rk (pNl P j) ini 27 r pc op a b nx = true) (hD : DkAt (mC M j) pc (27 :: r)) : InsOK D cl dA NT rt KX P gs B M Ts CT j pc op a b nx := by
  obtain ⟨hI, hL, hG, hS, hF, hU, hV, hP, hC, hN, hX, hA, hR, hrk, hH, hNT⟩ := hT
  have h : (op == 3 && a == 1 && b == 0 && nx == pc + 1) = true := h
  have h1 : DkAt (mC M j) pc [27] := dkd hD 0 (by rfl)
  simp only [Bool.and_eq_true, and_assoc, beq_iff_eq, decide_eq_true_eq] at h
  obtain ⟨e0, ea0, eb0, en0⟩ := h
  subst e0 ea0 eb0 en0
  exact Or.inl ⟨rfl, Or.inl ⟨⟨1, rfl, dk_27 h1⟩, rfl⟩⟩

theorem ck_28 {T : DT} {j ow rk : Nat} {ini : Bool} {r : List UInt8} {pc op a : Nat} {b : Int} {nx : Nat} (hT : TOK D cl dA NT rt KX P gs B M Ts CT T j ow rk ini) (h : chk0 T ow rk (pNl P j) ini 28 r pc op a b nx = true) (hD : DkAt (mC M j) pc (28 :: r)) : InsOK D cl dA NT rt KX P gs B M Ts CT j pc op a b nx := by
  obtain ⟨hI, hL, hG, hS, hF, hU, hV, hP, hC, hN, hX, hA, hR, hrk, hH, hNT⟩ := hT
  have h : (op == 3 && a == 2 && b == 0 && nx == pc + 1) = true := h
  have h1 : DkAt (mC M j) pc [28] := dkd hD 0 (by rfl)
  simp only [Bool.and_eq_true, and_assoc, beq_iff_eq, decide_eq_true_eq] at h
  obtain ⟨e0, ea0, eb0, en0⟩ := h
  subst e0 ea0 eb0 en0
  exact Or.inl ⟨rfl, Or.inl ⟨⟨2, rfl, dk_28 h1⟩, rfl⟩⟩

theorem ck_29 {T : DT} {j ow rk : Nat} {ini : Bool} {r : List UInt8} {pc op a : Nat} {b : Int} {nx : Nat} (hT : TOK D cl dA NT rt KX P gs B M Ts CT T j ow rk ini) (h : chk0 T ow rk (pNl P j) ini 29 r pc op a b nx = true) (hD : DkAt (mC M j) pc (29 :: r)) : InsOK D cl dA NT rt KX P gs B M Ts CT j pc op a b nx := by
  obtain ⟨hI, hL, hG, hS, hF, hU, hV, hP, hC, hN, hX, hA, hR, hrk, hH, hNT⟩ := hT
  have h : (op == 3 && a == 3 && b == 0 && nx == pc + 1) = true := h
  have h1 : DkAt (mC M j) pc [29] := dkd hD 0 (by rfl)
  simp only [Bool.and_eq_true, and_assoc, beq_iff_eq, decide_eq_true_eq] at h
  obtain ⟨e0, ea0, eb0, en0⟩ := h
  subst e0 ea0 eb0 en0
  exact Or.inl ⟨rfl, Or.inl ⟨⟨3, rfl, dk_29 h1⟩, rfl⟩⟩

theorem ck_30 {T : DT} {j ow rk : Nat} {ini : Bool} {r : List UInt8} {pc op a : Nat} {b : Int} {nx : Nat} (hT : TOK D cl dA NT rt KX P gs B M Ts CT T j ow rk ini) (h : chk0 T ow rk (pNl P j) ini 30 r pc op a b nx = true) (hD : DkAt (mC M j) pc (30 :: r)) : InsOK D cl dA NT rt KX P gs B M Ts CT j pc op a b nx := by
  obtain ⟨hI, hL, hG, hS, hF, hU, hV, hP, hC, hN, hX, hA, hR, hrk, hH, hNT⟩ := hT
  have h : (op == 3 && a == 0 && b == 1 && nx == pc + 1) = true := h
  have h1 : DkAt (mC M j) pc [30] := dkd hD 0 (by rfl)
  simp only [Bool.and_eq_true, and_assoc, beq_iff_eq, decide_eq_true_eq] at h
  obtain ⟨e0, ea0, eb0, en0⟩ := h
  subst e0 ea0 eb0 en0
  exact Or.inr (Or.inl ⟨rfl, Or.inl ⟨⟨0, rfl, dk_30 h1⟩, rfl⟩⟩)

theorem ck_31 {T : DT} {j ow rk : Nat} {ini : Bool} {r : List UInt8} {pc op a : Nat} {b : Int} {nx : Nat} (hT : TOK D cl dA NT rt KX P gs B M Ts CT T j ow rk ini) (h : chk0 T ow rk (pNl P j) ini 31 r pc op a b nx = true) (hD : DkAt (mC M j) pc (31 :: r)) : InsOK D cl dA NT rt KX P gs B M Ts CT j pc op a b nx := by
  obtain ⟨hI, hL, hG, hS, hF, hU, hV, hP, hC, hN, hX, hA, hR, hrk, hH, hNT⟩ := hT
  have h : (op == 3 && a == 1 && b == 1 && nx == pc + 1) = true := h
  have h1 : DkAt (mC M j) pc [31] := dkd hD 0 (by rfl)
  simp only [Bool.and_eq_true, and_assoc, beq_iff_eq, decide_eq_true_eq] at h
  obtain ⟨e0, ea0, eb0, en0⟩ := h
  subst e0 ea0 eb0 en0
  exact Or.inr (Or.inl ⟨rfl, Or.inl ⟨⟨1, rfl, dk_31 h1⟩, rfl⟩⟩)

theorem ck_32 {T : DT} {j ow rk : Nat} {ini : Bool} {r : List UInt8} {pc op a : Nat} {b : Int} {nx : Nat} (hT : TOK D cl dA NT rt KX P gs B M Ts CT T j ow rk ini) (h : chk0 T ow rk (pNl P j) ini 32 r pc op a b nx = true) (hD : DkAt (mC M j) pc (32 :: r)) : InsOK D cl dA NT rt KX P gs B M Ts CT j pc op a b nx := by
  obtain ⟨hI, hL, hG, hS, hF, hU, hV, hP, hC, hN, hX, hA, hR, hrk, hH, hNT⟩ := hT
  have h : (op == 3 && a == 2 && b == 1 && nx == pc + 1) = true := h
  have h1 : DkAt (mC M j) pc [32] := dkd hD 0 (by rfl)
  simp only [Bool.and_eq_true, and_assoc, beq_iff_eq, decide_eq_true_eq] at h
  obtain ⟨e0, ea0, eb0, en0⟩ := h
  subst e0 ea0 eb0 en0
  exact Or.inr (Or.inl ⟨rfl, Or.inl ⟨⟨2, rfl, dk_32 h1⟩, rfl⟩⟩)

theorem ck_33 {T : DT} {j ow rk : Nat} {ini : Bool} {r : List UInt8} {pc op a : Nat} {b : Int} {nx : Nat} (hT : TOK D cl dA NT rt KX P gs B M Ts CT T j ow rk ini) (h : chk0 T ow rk (pNl P j) ini 33 r pc op a b nx = true) (hD : DkAt (mC M j) pc (33 :: r)) : InsOK D cl dA NT rt KX P gs B M Ts CT j pc op a b nx := by
  obtain ⟨hI, hL, hG, hS, hF, hU, hV, hP, hC, hN, hX, hA, hR, hrk, hH, hNT⟩ := hT
  have h : (op == 3 && a == 3 && b == 1 && nx == pc + 1) = true := h
  have h1 : DkAt (mC M j) pc [33] := dkd hD 0 (by rfl)
  simp only [Bool.and_eq_true, and_assoc, beq_iff_eq, decide_eq_true_eq] at h
  obtain ⟨e0, ea0, eb0, en0⟩ := h
  subst e0 ea0 eb0 en0
  exact Or.inr (Or.inl ⟨rfl, Or.inl ⟨⟨3, rfl, dk_33 h1⟩, rfl⟩⟩)

theorem ck_42 {T : DT} {j ow rk : Nat} {ini : Bool} {r : List UInt8} {pc op a : Nat} {b : Int} {nx : Nat} (hT : TOK D cl dA NT rt KX P gs B M Ts CT T j ow rk ini) (h : chk0 T ow rk (pNl P j) ini 42 r pc op a b nx = true) (hD : DkAt (mC M j) pc (42 :: r)) : InsOK D cl dA NT rt KX P gs B M Ts CT j pc op a b nx := by
  obtain ⟨hI, hL, hG, hS, hF, hU, hV, hP, hC, hN, hX, hA, hR, hrk, hH, hNT⟩ := hT
  have h : (op == 3 && a == 0 && b == 2 && nx == pc + 1) = true := h
  have h1 : DkAt (mC M j) pc [42] := dkd hD 0 (by rfl)
  simp only [Bool.and_eq_true, and_assoc, beq_iff_eq, decide_eq_true_eq] at h
  obtain ⟨e0, ea0, eb0, en0⟩ := h
  subst e0 ea0 eb0 en0
  exact Or.inr (Or.inr ⟨rfl, Or.inl ⟨⟨0, rfl, dk_42 h1⟩, rfl⟩⟩)

theorem ck_43 {T : DT} {j ow rk : Nat} {ini : Bool} {r : List UInt8} {pc op a : Nat} {b : Int} {nx : Nat} (hT : TOK D cl dA NT rt KX P gs B M Ts CT T j ow rk ini) (h : chk0 T ow rk (pNl P j) ini 43 r pc op a b nx = true) (hD : DkAt (mC M j) pc (43 :: r)) : InsOK D cl dA NT rt KX P gs B M Ts CT j pc op a b nx := by
  obtain ⟨hI, hL, hG, hS, hF, hU, hV, hP, hC, hN, hX, hA, hR, hrk, hH, hNT⟩ := hT
  have h : (op == 3 && a == 1 && b == 2 && nx == pc + 1) = true := h
  have h1 : DkAt (mC M j) pc [43] := dkd hD 0 (by rfl)
  simp only [Bool.and_eq_true, and_assoc, beq_iff_eq, decide_eq_true_eq] at h
  obtain ⟨e0, ea0, eb0, en0⟩ := h
  subst e0 ea0 eb0 en0
  exact Or.inr (Or.inr ⟨rfl, Or.inl ⟨⟨1, rfl, dk_43 h1⟩, rfl⟩⟩)

theorem ck_44 {T : DT} {j ow rk : Nat} {ini : Bool} {r : List UInt8} {pc op a : Nat} {b : Int} {nx : Nat} (hT : TOK D cl dA NT rt KX P gs B M Ts CT T j ow rk ini) (h : chk0 T ow rk (pNl P j) ini 44 r pc op a b nx = true) (hD : DkAt (mC M j) pc (44 :: r)) : InsOK D cl dA NT rt KX P gs B M Ts CT j pc op a b nx := by
  obtain ⟨hI, hL, hG, hS, hF, hU, hV, hP, hC, hN, hX, hA, hR, hrk, hH, hNT⟩ := hT
  have h : (op == 3 && a == 2 && b == 2 && nx == pc + 1) = true := h
  have h1 : DkAt (mC M j) pc [44] := dkd hD 0 (by rfl)
  simp only [Bool.and_eq_true, and_assoc, beq_iff_eq, decide_eq_true_eq] at h
  obtain ⟨e0, ea0, eb0, en0⟩ := h
  subst e0 ea0 eb0 en0
  exact Or.inr (Or.inr ⟨rfl, Or.inl ⟨⟨2, rfl, dk_44 h1⟩, rfl⟩⟩)

theorem ck_45 {T : DT} {j ow rk : Nat} {ini : Bool} {r : List UInt8} {pc op a : Nat} {b : Int} {nx : Nat} (hT : TOK D cl dA NT rt KX P gs B M Ts CT T j ow rk ini) (h : chk0 T ow rk (pNl P j) ini 45 r pc op a b nx = true) (hD : DkAt (mC M j) pc (45 :: r)) : InsOK D cl dA NT rt KX P gs B M Ts CT j pc op a b nx := by
  obtain ⟨hI, hL, hG, hS, hF, hU, hV, hP, hC, hN, hX, hA, hR, hrk, hH, hNT⟩ := hT
  have h : (op == 3 && a == 3 && b == 2 && nx == pc + 1) = true := h
  have h1 : DkAt (mC M j) pc [45] := dkd hD 0 (by rfl)
  simp only [Bool.and_eq_true, and_assoc, beq_iff_eq, decide_eq_true_eq] at h
  obtain ⟨e0, ea0, eb0, en0⟩ := h
  subst e0 ea0 eb0 en0
  exact Or.inr (Or.inr ⟨rfl, Or.inl ⟨⟨3, rfl, dk_45 h1⟩, rfl⟩⟩)

theorem ck_46 {T : DT} {j ow rk : Nat} {ini : Bool} {r : List UInt8} {pc op a : Nat} {b : Int} {nx : Nat} (hT : TOK D cl dA NT rt KX P gs B M Ts CT T j ow rk ini) (h : chk0 T ow rk (pNl P j) ini 46 r pc op a b nx = true) (hD : DkAt (mC M j) pc (46 :: r)) : InsOK D cl dA NT rt KX P gs B M Ts CT j pc op a b nx := by
  obtain ⟨hI, hL, hG, hS, hF, hU, hV, hP, hC, hN, hX, hA, hR, hrk, hH, hNT⟩ := hT
  have h : (op == 24 && a == 0 && nx == pc + 1) = true := h
  have h1 : DkAt (mC M j) pc [46] := dkd hD 0 (by rfl)
  simp only [Bool.and_eq_true, and_assoc, beq_iff_eq, decide_eq_true_eq] at h
  obtain ⟨e0, ea0, en0⟩ := h
  subst e0 ea0 en0
  exact ⟨dk_46 h1, rfl⟩

theorem ck_47 {T : DT} {j ow rk : Nat} {ini : Bool} {r : List UInt8} {pc op a : Nat} {b : Int} {nx : Nat} (hT : TOK D cl dA NT rt KX P gs B M Ts CT T j ow rk ini) (h : chk0 T ow rk (pNl P j) ini 47 r pc op a b nx = true) (hD : DkAt (mC M j) pc (47 :: r)) : InsOK D cl dA NT rt KX P gs B M Ts CT j pc op a b nx := by
  obtain ⟨hI, hL, hG, hS, hF, hU, hV, hP, hC, hN, hX, hA, hR, hrk, hH, hNT⟩ := hT
  have h : (op == 24 && a == 1 && nx == pc + 1) = true := h
  have h1 : DkAt (mC M j) pc [47] := dkd hD 0 (by rfl)
  simp only [Bool.and_eq_true, and_assoc, beq_iff_eq, decide_eq_true_eq] at h
  obtain ⟨e0, ea0, en0⟩ := h
  subst e0 ea0 en0
  exact ⟨dk_47 h1, rfl⟩

theorem ck_50 {T : DT} {j ow rk : Nat} {ini : Bool} {r : List UInt8} {pc op a : Nat} {b : Int} {nx : Nat} (hT : TOK D cl dA NT rt KX P gs B M Ts CT T j ow rk ini) (h : chk0 T ow rk (pNl P j) ini 50 r pc op a b nx = true) (hD : DkAt (mC M j) pc (50 :: r)) : InsOK D cl dA NT rt KX P gs B M Ts CT j pc op a b nx := by
  obtain ⟨hI, hL, hG, hS, hF, hU, hV, hP, hC, hN, hX, hA, hR, hrk, hH, hNT⟩ := hT
  have h : (op == 24 && Nat.ble 4 a && nx == pc + 1) = true := h
  have h1 : DkAt (mC M j) pc [50] := dkd hD 0 (by rfl)
  simp only [Bool.and_eq_true, and_assoc, beq_iff_eq] at h
  obtain ⟨e, hi, h9⟩ := h
  subst e h9
  have hi := Nat.le_of_ble_eq_true hi
  obtain ⟨q, rfl⟩ : ∃ q, a = q + 4 := ⟨a - 4, by omega⟩
  exact ⟨dk_50 h1, rfl⟩

theorem ck_51 {T : DT} {j ow rk : Nat} {ini : Bool} {r : List UInt8} {pc op a : Nat} {b : Int} {nx : Nat} (hT : TOK D cl dA NT rt KX P gs B M Ts CT T j ow rk ini) (h : chk0 T ow rk (pNl P j) ini 51 r pc op a b nx = true) (hD : DkAt (mC M j) pc (51 :: r)) : InsOK D cl dA NT rt KX P gs B M Ts CT j pc op a b nx := by
  obtain ⟨hI, hL, hG, hS, hF, hU, hV, hP, hC, hN, hX, hA, hR, hrk, hH, hNT⟩ := hT
  have h : (op == 24 && (a == 2 || a == 3) && nx == pc + 1) = true := h
  have h1 : DkAt (mC M j) pc [51] := dkd hD 0 (by rfl)
  simp only [Bool.and_eq_true, Bool.or_eq_true, and_assoc, beq_iff_eq] at h
  obtain ⟨e, hi, h9⟩ := h
  subst e h9
  rcases hi with e | e
  · subst e; exact ⟨dk_51 h1, rfl⟩
  · subst e; exact ⟨dk_51 h1, rfl⟩

theorem ck_54 {T : DT} {j ow rk : Nat} {ini : Bool} {r : List UInt8} {pc op a : Nat} {b : Int} {nx : Nat} (hT : TOK D cl dA NT rt KX P gs B M Ts CT T j ow rk ini) (h : chk0 T ow rk (pNl P j) ini 54 r pc op a b nx = true) (hD : DkAt (mC M j) pc (54 :: r)) : InsOK D cl dA NT rt KX P gs B M Ts CT j pc op a b nx := by
  obtain ⟨hI, hL, hG, hS, hF, hU, hV, hP, hC, hN, hX, hA, hR, hrk, hH, hNT⟩ := hT
  cases r with
  | nil => cases h
  | cons x r =>
  have h : (op == 4 && a == x.toNat && b == 0 && nx == pc + 2 && Nat.blt a (pNl P j)) = true := h
  have h1 : DkAt (mC M j) pc [54] := dkd hD 0 (by rfl)
  have h2 : DkAt (mC M j) pc [54, x] := dkd hD 0 (by rfl)
  simp only [Bool.and_eq_true, and_assoc, beq_iff_eq, decide_eq_true_eq] at h
  obtain ⟨e0, ea0, eb0, en0, hlt⟩ := h
  subst e0 ea0 eb0 en0
  have hlt := Nat.le_of_ble_eq_true hlt
  exact ⟨hlt, Or.inl ⟨rfl, Or.inr ⟨dk_54 x h2, rfl⟩⟩⟩

theorem ck_55 {T : DT} {j ow rk : Nat} {ini : Bool} {r : List UInt8} {pc op a : Nat} {b : Int} {nx : Nat} (hT : TOK D cl dA NT rt KX P gs B M Ts CT T j ow rk ini) (h : chk0 T ow rk (pNl P j) ini 55 r pc op a b nx = true) (hD : DkAt (mC M j) pc (55 :: r)) : InsOK D cl dA NT rt KX P gs B M Ts CT j pc op a b nx := by
  obtain ⟨hI, hL, hG, hS, hF, hU, hV, hP, hC, hN, hX, hA, hR, hrk, hH, hNT⟩ := hT
  cases r with
  | nil => cases h
  | cons x r =>
  have h : (op == 5 && a == x.toNat && nx == pc + 2 && Nat.blt (a + 1) (pNl P j)) = true := h
  have h1 : DkAt (mC M j) pc [55] := dkd hD 0 (by rfl)
  have h2 : DkAt (mC M j) pc [55, x] := dkd hD 0 (by rfl)
  simp only [Bool.and_eq_true, and_assoc, beq_iff_eq, decide_eq_true_eq] at h
  obtain ⟨e0, ea0, en0, hlt⟩ := h
  subst e0 ea0 en0
  have hlt := Nat.le_of_ble_eq_true hlt
  exact ⟨hlt, Or.inr ⟨dk_55 x h2, rfl⟩⟩

theorem ck_58 {T : DT} {j ow rk : Nat} {ini : Bool} {r : List UInt8} {pc op a : Nat} {b : Int} {nx : Nat} (hT : TOK D cl dA NT rt KX P gs B M Ts CT T j ow rk ini) (h : chk0 T ow rk (pNl P j) ini 58 r pc op a b nx = true) (hD : DkAt (mC M j) pc (58 :: r)) : InsOK D cl dA NT rt KX P gs B M Ts CT j pc op a b nx := by
  obtain ⟨hI, hL, hG, hS, hF, hU, hV, hP, hC, hN, hX, hA, hR, hrk, hH, hNT⟩ := hT
  cases r with
  | nil => cases h
  | cons x r =>
  have h : (op == 4 && a == x.toNat && b == 2 && nx == pc + 2 && Nat.blt a (pNl P j)) = true := h
  have h1 : DkAt (mC M j) pc [58] := dkd hD 0 (by rfl)
  have h2 : DkAt (mC M j) pc [58, x] := dkd hD 0 (by rfl)
  simp only [Bool.and_eq_true, and_assoc, beq_iff_eq, decide_eq_true_eq] at h
  obtain ⟨e0, ea0, eb0, en0, hlt⟩ := h
  subst e0 ea0 eb0 en0
  have hlt := Nat.le_of_ble_eq_true hlt
  exact ⟨hlt, Or.inr ⟨rfl, Or.inr ⟨dk_58 x h2, rfl⟩⟩⟩

theorem ck_59 {T : DT} {j ow rk : Nat} {ini : Bool} {r : List UInt8} {pc op a : Nat} {b : Int} {nx : Nat} (hT : TOK D cl dA NT rt KX P gs B M Ts CT T j ow rk ini) (h : chk0 T ow rk (pNl P j) ini 59 r pc op a b nx = true) (hD : DkAt (mC M j) pc (59 :: r)) : InsOK D cl dA NT rt KX P gs B M Ts CT j pc op a b nx := by
  obtain ⟨hI, hL, hG, hS, hF, hU, hV, hP, hC, hN, hX, hA, hR, hrk, hH, hNT⟩ := hT
  have h : (op == 4 && a == 0 && b == 0 && nx == pc + 1 && Nat.blt a (pNl P j)) = true := h
  have h1 : DkAt (mC M j) pc [59] := dkd hD 0 (by rfl)
  simp only [Bool.and_eq_true, and_assoc, beq_iff_eq, decide_eq_true_eq] at h
  obtain ⟨e0, ea0, eb0, en0, hlt⟩ := h
  subst e0 ea0 eb0 en0
  have hlt := Nat.le_of_ble_eq_true hlt
  exact ⟨hlt, Or.inl ⟨rfl, Or.inl ⟨⟨0, rfl, dk_59 h1⟩, rfl⟩⟩⟩

theorem ck_60 {T : DT} {j ow rk : Nat} {ini : Bool} {r : List UInt8} {pc op a : Nat} {b : Int} {nx : Nat} (hT : TOK D cl dA NT rt KX P gs B M Ts CT T j ow rk ini) (h : chk0 T ow rk (pNl P j) ini 60 r pc op a b nx = true) (hD : DkAt (mC M j) pc (60 :: r)) : InsOK D cl dA NT rt KX P gs B M Ts CT j pc op a b nx := by
  obtain ⟨hI, hL, hG, hS, hF, hU, hV, hP, hC, hN, hX, hA, hR, hrk, hH, hNT⟩ := hT
  have h : (op == 4 && a == 1 && b == 0 && nx == pc + 1 && Nat.blt a (pNl P j)) = true := h
  have h1 : DkAt (mC M j) pc [60] := dkd hD 0 (by rfl)
  simp only [Bool.and_eq_true, and_assoc, beq_iff_eq, decide_eq_true_eq] at h
  obtain ⟨e0, ea0, eb0, en0, hlt⟩ := h
  subst e0 ea0 eb0 en0
  have hlt := Nat.le_of_ble_eq_true hlt
  exact ⟨hlt, Or.inl ⟨rfl, Or.inl ⟨⟨1, rfl, dk_60 h1⟩, rfl⟩⟩⟩

theorem ck_61 {T : DT} {j ow rk : Nat} {ini : Bool} {r : List UInt8} {pc op a : Nat} {b : Int} {nx : Nat} (hT : TOK D cl dA NT rt KX P gs B M Ts CT T j ow rk ini) (h : chk0 T ow rk (pNl P j) ini 61 r pc op a b nx = true) (hD : DkAt (mC M j) pc (61 :: r)) : InsOK D cl dA NT rt KX P gs B M Ts CT j pc op a b nx := by
  obtain ⟨hI, hL, hG, hS, hF, hU, hV, hP, hC, hN, hX, hA, hR, hrk, hH, hNT⟩ := hT
  have h : (op == 4 && a == 2 && b == 0 && nx == pc + 1 && Nat.blt a (pNl P j)) = true := h
  have h1 : DkAt (mC M j) pc [61] := dkd hD 0 (by rfl)
  simp only [Bool.and_eq_true, and_assoc, beq_iff_eq, decide_eq_true_eq] at h
  obtain ⟨e0, ea0, eb0, en0, hlt⟩ := h
  subst e0 ea0 eb0 en0
  have hlt := Nat.le_of_ble_eq_true hlt
  exact ⟨hlt, Or.inl ⟨rfl, Or.inl ⟨⟨2, rfl, dk_61 h1⟩, rfl⟩⟩⟩

theorem ck_62 {T : DT} {j ow rk : Nat} {ini : Bool} {r : List UInt8} {pc op a : Nat} {b : Int} {nx : Nat} (hT : TOK D cl dA NT rt KX P gs B M Ts CT T j ow rk ini) (h : chk0 T ow rk (pNl P j) ini 62 r pc op a b nx = true) (hD : DkAt (mC M j) pc (62 :: r)) : InsOK D cl dA NT rt KX P gs B M Ts CT j pc op a b nx := by
  obtain ⟨hI, hL, hG, hS, hF, hU, hV, hP, hC, hN, hX, hA, hR, hrk, hH, hNT⟩ := hT
  have h : (op == 4 && a == 3 && b == 0 && nx == pc + 1 && Nat.blt a (pNl P j)) = true := h
  have h1 : DkAt (mC M j) pc [62] := dkd hD 0 (by rfl)
  simp only [Bool.and_eq_true, and_assoc, beq_iff_eq, decide_eq_true_eq] at h
  obtain ⟨e0, ea0, eb0, en0, hlt⟩ := h
  subst e0 ea0 eb0 en0
  have hlt := Nat.le_of_ble_eq_true hlt
  exact ⟨hlt, Or.inl ⟨rfl, Or.inl ⟨⟨3, rfl, dk_62 h1⟩, rfl⟩⟩⟩

theorem ck_63 {T : DT} {j ow rk : Nat} {ini : Bool} {r : List UInt8} {pc op a : Nat} {b : Int} {nx : Nat} (hT : TOK D cl dA NT rt KX P gs B M Ts CT T j ow rk ini) (h : chk0 T ow rk (pNl P j) ini 63 r pc op a b nx = true) (hD : DkAt (mC M j) pc (63 :: r)) : InsOK D cl dA NT rt KX P gs B M Ts CT j pc op a b nx := by
  obtain ⟨hI, hL, hG, hS, hF, hU, hV, hP, hC, hN, hX, hA, hR, hrk, hH, hNT⟩ := hT
  have h : (op == 5 && a == 0 && nx == pc + 1 && Nat.blt (a + 1) (pNl P j)) = true := h
  have h1 : DkAt (mC M j) pc [63] := dkd hD 0 (by rfl)
  simp only [Bool.and_eq_true, and_assoc, beq_iff_eq, decide_eq_true_eq] at h
  obtain ⟨e0, ea0, en0, hlt⟩ := h
  subst e0 ea0 en0
  have hlt := Nat.le_of_ble_eq_true hlt
  exact ⟨hlt, Or.inl ⟨⟨0, rfl, dk_63 h1⟩, rfl⟩⟩

theorem ck_64 {T : DT} {j ow rk : Nat} {ini : Bool} {r : List UInt8} {pc op a : Nat} {b : Int} {nx : Nat} (hT : TOK D cl dA NT rt KX P gs B M Ts CT T j ow rk ini) (h : chk0 T ow rk (pNl P j) ini 64 r pc op a b nx = true) (hD : DkAt (mC M j) pc (64 :: r)) : InsOK D cl dA NT rt KX P gs B M Ts CT j pc op a b nx := by
  obtain ⟨hI, hL, hG, hS, hF, hU, hV, hP, hC, hN, hX, hA, hR, hrk, hH, hNT⟩ := hT
  have h : (op == 5 && a == 1 && nx == pc + 1 && Nat.blt (a + 1) (pNl P j)) = true := h
  have h1 : DkAt (mC M j) pc [64] := dkd hD 0 (by rfl)
  simp only [Bool.and_eq_true, and_assoc, beq_iff_eq, decide_eq_true_eq] at h
  obtain ⟨e0, ea0, en0, hlt⟩ := h
  subst e0 ea0 en0
  have hlt := Nat.le_of_ble_eq_true hlt
  exact ⟨hlt, Or.inl ⟨⟨1, rfl, dk_64 h1⟩, rfl⟩⟩

theorem ck_65 {T : DT} {j ow rk : Nat} {ini : Bool} {r : List UInt8} {pc op a : Nat} {b : Int} {nx : Nat} (hT : TOK D cl dA NT rt KX P gs B M Ts CT T j ow rk ini) (h : chk0 T ow rk (pNl P j) ini 65 r pc op a b nx = true) (hD : DkAt (mC M j) pc (65 :: r)) : InsOK D cl dA NT rt KX P gs B M Ts CT j pc op a b nx := by
  obtain ⟨hI, hL, hG, hS, hF, hU, hV, hP, hC, hN, hX, hA, hR, hrk, hH, hNT⟩ := hT
  have h : (op == 5 && a == 2 && nx == pc + 1 && Nat.blt (a + 1) (pNl P j)) = true := h
  have h1 : DkAt (mC M j) pc [65] := dkd hD 0 (by rfl)
  simp only [Bool.and_eq_true, and_assoc, beq_iff_eq, decide_eq_true_eq] at h
  obtain ⟨e0, ea0, en0, hlt⟩ := h
  subst e0 ea0 en0
  have hlt := Nat.le_of_ble_eq_true hlt
  exact ⟨hlt, Or.inl ⟨⟨2, rfl, dk_65 h1⟩, rfl⟩⟩

theorem ck_66 {T : DT} {j ow rk : Nat} {ini : Bool} {r : List UInt8} {pc op a : Nat} {b : Int} {nx : Nat} (hT : TOK D cl dA NT rt KX P gs B M Ts CT T j ow rk ini) (h : chk0 T ow rk (pNl P j) ini 66 r pc op a b nx = true) (hD : DkAt (mC M j) pc (66 :: r)) : InsOK D cl dA NT rt KX P gs B M Ts CT j pc op a b nx := by
  obtain ⟨hI, hL, hG, hS, hF, hU, hV, hP, hC, hN, hX, hA, hR, hrk, hH, hNT⟩ := hT
  have h : (op == 5 && a == 3 && nx == pc + 1 && Nat.blt (a + 1) (pNl P j)) = true := h
  have h1 : DkAt (mC M j) pc [66] := dkd hD 0 (by rfl)
  simp only [Bool.and_eq_true, and_assoc, beq_iff_eq, decide_eq_true_eq] at h
  obtain ⟨e0, ea0, en0, hlt⟩ := h
  subst e0 ea0 en0
  have hlt := Nat.le_of_ble_eq_true hlt
  exact ⟨hlt, Or.inl ⟨⟨3, rfl, dk_66 h1⟩, rfl⟩⟩

theorem ck_76 {T : DT} {j ow rk : Nat} {ini : Bool} {r : List UInt8} {pc op a : Nat} {b : Int} {nx : Nat} (hT : TOK D cl dA NT rt KX P gs B M Ts CT T j ow rk ini) (h : chk0 T ow rk (pNl P j) ini 76 r pc op a b nx = true) (hD : DkAt (mC M j) pc (76 :: r)) : InsOK D cl dA NT rt KX P gs B M Ts CT j pc op a b nx := by
  obtain ⟨hI, hL, hG, hS, hF, hU, hV, hP, hC, hN, hX, hA, hR, hrk, hH, hNT⟩ := hT
  have h : (op == 4 && a == 1 && b == 2 && nx == pc + 1 && Nat.blt a (pNl P j)) = true := h
  have h1 : DkAt (mC M j) pc [76] := dkd hD 0 (by rfl)
  simp only [Bool.and_eq_true, and_assoc, beq_iff_eq, decide_eq_true_eq] at h
  obtain ⟨e0, ea0, eb0, en0, hlt⟩ := h
  subst e0 ea0 eb0 en0
  have hlt := Nat.le_of_ble_eq_true hlt
  exact ⟨hlt, Or.inr ⟨rfl, Or.inl ⟨⟨1, rfl, dk_76 h1⟩, rfl⟩⟩⟩

theorem ck_77 {T : DT} {j ow rk : Nat} {ini : Bool} {r : List UInt8} {pc op a : Nat} {b : Int} {nx : Nat} (hT : TOK D cl dA NT rt KX P gs B M Ts CT T j ow rk ini) (h : chk0 T ow rk (pNl P j) ini 77 r pc op a b nx = true) (hD : DkAt (mC M j) pc (77 :: r)) : InsOK D cl dA NT rt KX P gs B M Ts CT j pc op a b nx := by
  obtain ⟨hI, hL, hG, hS, hF, hU, hV, hP, hC, hN, hX, hA, hR, hrk, hH, hNT⟩ := hT
  have h : (op == 4 && a == 2 && b == 2 && nx == pc + 1 && Nat.blt a (pNl P j)) = true := h
  have h1 : DkAt (mC M j) pc [77] := dkd hD 0 (by rfl)
  simp only [Bool.and_eq_true, and_assoc, beq_iff_eq, decide_eq_true_eq] at h
  obtain ⟨e0, ea0, eb0, en0, hlt⟩ := h
  subst e0 ea0 eb0 en0
  have hlt := Nat.le_of_ble_eq_true hlt
  exact ⟨hlt, Or.inr ⟨rfl, Or.inl ⟨⟨2, rfl, dk_77 h1⟩, rfl⟩⟩⟩

theorem ck_78 {T : DT} {j ow rk : Nat} {ini : Bool} {r : List UInt8} {pc op a : Nat} {b : Int} {nx : Nat} (hT : TOK D cl dA NT rt KX P gs B M Ts CT T j ow rk ini) (h : chk0 T ow rk (pNl P j) ini 78 r pc op a b nx = true) (hD : DkAt (mC M j) pc (78 :: r)) : InsOK D cl dA NT rt KX P gs B M Ts CT j pc op a b nx := by
  obtain ⟨hI, hL, hG, hS, hF, hU, hV, hP, hC, hN, hX, hA, hR, hrk, hH, hNT⟩ := hT
  have h : (op == 4 && a == 3 && b == 2 && nx == pc + 1 && Nat.blt a (pNl P j)) = true := h
  have h1 : DkAt (mC M j) pc [78] := dkd hD 0 (by rfl)
  simp only [Bool.and_eq_true, and_assoc, beq_iff_eq, decide_eq_true_eq] at h
  obtain ⟨e0, ea0, eb0, en0, hlt⟩ := h
  subst e0 ea0 eb0 en0
  have hlt := Nat.le_of_ble_eq_true hlt
  exact ⟨hlt, Or.inr ⟨rfl, Or.inl ⟨⟨3, rfl, dk_78 h1⟩, rfl⟩⟩⟩

theorem ck_79 {T : DT} {j ow rk : Nat} {ini : Bool} {r : List UInt8} {pc op a : Nat} {b : Int} {nx : Nat} (hT : TOK D cl dA NT rt KX P gs B M Ts CT T j ow rk ini) (h : chk0 T ow rk (pNl P j) ini 79 r pc op a b nx = true) (hD : DkAt (mC M j) pc (79 :: r)) : InsOK D cl dA NT rt KX P gs B M Ts CT j pc op a b nx := by
  obtain ⟨hI, hL, hG, hS, hF, hU, hV, hP, hC, hN, hX, hA, hR, hrk, hH, hNT⟩ := hT
  have h : (op == 25 && a == 0 && nx == pc + 1) = true := h
  have h1 : DkAt (mC M j) pc [79] := dkd hD 0 (by rfl)
  simp only [Bool.and_eq_true, and_assoc, beq_iff_eq, decide_eq_true_eq] at h
  obtain ⟨e0, ea0, en0⟩ := h
  subst e0 ea0 en0
  exact ⟨dk_79 h1, by decide, rfl⟩

theorem ck_80 {T : DT} {j ow rk : Nat} {ini : Bool} {r : List UInt8} {pc op a : Nat} {b : Int} {nx : Nat} (hT : TOK D cl dA NT rt KX P gs B M Ts CT T j ow rk ini) (h : chk0 T ow rk (pNl P j) ini 80 r pc op a b nx = true) (hD : DkAt (mC M j) pc (80 :: r)) : InsOK D cl dA NT rt KX P gs B M Ts CT j pc op a b nx := by
  obtain ⟨hI, hL, hG, hS, hF, hU, hV, hP, hC, hN, hX, hA, hR, hrk, hH, hNT⟩ := hT
  have h : (op == 25 && a == 1 && nx == pc + 1) = true := h
  have h1 : DkAt (mC M j) pc [80] := dkd hD 0 (by rfl)
  simp only [Bool.and_eq_true, and_assoc, beq_iff_eq, decide_eq_true_eq] at h
  obtain ⟨e0, ea0, en0⟩ := h
  subst e0 ea0 en0
  exact ⟨dk_80 h1, by decide, rfl⟩

theorem ck_83 {T : DT} {j ow rk : Nat} {ini : Bool} {r : List UInt8} {pc op a : Nat} {b : Int} {nx : Nat} (hT : TOK D cl dA NT rt KX P gs B M Ts CT T j ow rk ini) (h : chk0 T ow rk (pNl P j) ini 83 r pc op a b nx = true) (hD : DkAt (mC M j) pc (83 :: r)) : InsOK D cl dA NT rt KX P gs B M Ts CT j pc op a b nx := by
  obtain ⟨hI, hL, hG, hS, hF, hU, hV, hP, hC, hN, hX, hA, hR0, hrk, hH, hNT⟩ := hT
  have h : (op == 26 && tR T a && nx == pc + 1) = true := h
  have h1 : DkAt (mC M j) pc [83] := dkd hD 0 (by rfl)
  simp only [Bool.and_eq_true, and_assoc, beq_iff_eq, decide_eq_true_eq] at h
  obtain ⟨e0, hR, en0⟩ := h
  subst e0 en0
  exact ⟨dk_83 h1, hR0 _ hR, rfl⟩

theorem ck_84 {T : DT} {j ow rk : Nat} {ini : Bool} {r : List UInt8} {pc op a : Nat} {b : Int} {nx : Nat} (hT : TOK D cl dA NT rt KX P gs B M Ts CT T j ow rk ini) (h : chk0 T ow rk (pNl P j) ini 84 r pc op a b nx = true) (hD : DkAt (mC M j) pc (84 :: r)) : InsOK D cl dA NT rt KX P gs B M Ts CT j pc op a b nx := by
  obtain ⟨hI, hL, hG, hS, hF, hU, hV, hP, hC, hN, hX, hA, hR, hrk, hH, hNT⟩ := hT
  have h : (op == 25 && (a == 2 || a == 3) && nx == pc + 1) = true := h
  have h1 : DkAt (mC M j) pc [84] := dkd hD 0 (by rfl)
  simp only [Bool.and_eq_true, Bool.or_eq_true, and_assoc, beq_iff_eq] at h
  obtain ⟨e, hi, h9⟩ := h
  subst e h9
  rcases hi with e | e
  · subst e; exact ⟨dk_84 h1, by decide, rfl⟩
  · subst e; exact ⟨dk_84 h1, by decide, rfl⟩

theorem ck_87 {T : DT} {j ow rk : Nat} {ini : Bool} {r : List UInt8} {pc op a : Nat} {b : Int} {nx : Nat} (hT : TOK D cl dA NT rt KX P gs B M Ts CT T j ow rk ini) (h : chk0 T ow rk (pNl P j) ini 87 r pc op a b nx = true) (hD : DkAt (mC M j) pc (87 :: r)) : InsOK D cl dA NT rt KX P gs B M Ts CT j pc op a b nx := by
  obtain ⟨hI, hL, hG, hS, hF, hU, hV, hP, hC, hN, hX, hA, hR, hrk, hH, hNT⟩ := hT
  have h : (op == 15 && nx == pc + 1) = true := h
  have h1 : DkAt (mC M j) pc [87] := dkd hD 0 (by rfl)
  simp only [Bool.and_eq_true, and_assoc, beq_iff_eq, decide_eq_true_eq] at h
  obtain ⟨e0, en0⟩ := h
  subst e0 en0
  exact ⟨dk_87 h1, rfl⟩

theorem ck_89 {T : DT} {j ow rk : Nat} {ini : Bool} {r : List UInt8} {pc op a : Nat} {b : Int} {nx : Nat} (hT : TOK D cl dA NT rt KX P gs B M Ts CT T j ow rk ini) (h : chk0 T ow rk (pNl P j) ini 89 r pc op a b nx = true) (hD : DkAt (mC M j) pc (89 :: r)) : InsOK D cl dA NT rt KX P gs B M Ts CT j pc op a b nx := by
  obtain ⟨hI, hL, hG, hS, hF, hU, hV, hP, hC, hN, hX, hA, hR, hrk, hH, hNT⟩ := hT
  have h : (op == 12 && nx == pc + 1) = true := h
  have h1 : DkAt (mC M j) pc [89] := dkd hD 0 (by rfl)
  simp only [Bool.and_eq_true, and_assoc, beq_iff_eq, decide_eq_true_eq] at h
  obtain ⟨e0, en0⟩ := h
  subst e0 en0
  exact ⟨dk_89 h1, rfl⟩

theorem ck_92 {T : DT} {j ow rk : Nat} {ini : Bool} {r : List UInt8} {pc op a : Nat} {b : Int} {nx : Nat} (hT : TOK D cl dA NT rt KX P gs B M Ts CT T j ow rk ini) (h : chk0 T ow rk (pNl P j) ini 92 r pc op a b nx = true) (hD : DkAt (mC M j) pc (92 :: r)) : InsOK D cl dA NT rt KX P gs B M Ts CT j pc op a b nx := by
  obtain ⟨hI, hL, hG, hS, hF, hU, hV, hP, hC, hN, hX, hA, hR, hrk, hH, hNT⟩ := hT
  have h : (op == 14 && nx == pc + 1) = true := h
  have h1 : DkAt (mC M j) pc [92] := dkd hD 0 (by rfl)
  simp only [Bool.and_eq_true, and_assoc, beq_iff_eq, decide_eq_true_eq] at h
  obtain ⟨e0, en0⟩ := h
  subst e0 en0
  exact ⟨dk_92 h1, rfl⟩

theorem ck_96 {T : DT} {j ow rk : Nat} {ini : Bool} {r : List UInt8} {pc op a : Nat} {b : Int} {nx : Nat} (hT : TOK D cl dA NT rt KX P gs B M Ts CT T j ow rk ini) (h : chk0 T ow rk (pNl P j) ini 96 r pc op a b nx = true) (hD : DkAt (mC M j) pc (96 :: r)) : InsOK D cl dA NT rt KX P gs B M Ts CT j pc op a b nx := by
  obtain ⟨hI, hL, hG, hS, hF, hU, hV, hP, hC, hN, hX, hA, hR, hrk, hH, hNT⟩ := hT
  have h : (op == 7 && a == 96 && nx == pc + 1) = true := h
  have h1 : DkAt (mC M j) pc [96] := dkd hD 0 (by rfl)
  simp only [Bool.and_eq_true, and_assoc, beq_iff_eq, decide_eq_true_eq] at h
  obtain ⟨e0, ea0, en0⟩ := h
  subst e0 ea0 en0
  exact ⟨dk_96 h1, rfl⟩

theorem ck_97 {T : DT} {j ow rk : Nat} {ini : Bool} {r : List UInt8} {pc op a : Nat} {b : Int} {nx : Nat} (hT : TOK D cl dA NT rt KX P gs B M Ts CT T j ow rk ini) (h : chk0 T ow rk (pNl P j) ini 97 r pc op a b nx = true) (hD : DkAt (mC M j) pc (97 :: r)) : InsOK D cl dA NT rt KX P gs B M Ts CT j pc op a b nx := by
  obtain ⟨hI, hL, hG, hS, hF, hU, hV, hP, hC, hN, hX, hA, hR, hrk, hH, hNT⟩ := hT
  have h : (op == 8 && a == 97 && nx == pc + 1) = true := h
  have h1 : DkAt (mC M j) pc [97] := dkd hD 0 (by rfl)
  simp only [Bool.and_eq_true, and_assoc, beq_iff_eq, decide_eq_true_eq] at h
  obtain ⟨e0, ea0, en0⟩ := h
  subst e0 ea0 en0
  exact ⟨dk_97 h1, rfl⟩

theorem ck_100 {T : DT} {j ow rk : Nat} {ini : Bool} {r : List UInt8} {pc op a : Nat} {b : Int} {nx : Nat} (hT : TOK D cl dA NT rt KX P gs B M Ts CT T j ow rk ini) (h : chk0 T ow rk (pNl P j) ini 100 r pc op a b nx = true) (hD : DkAt (mC M j) pc (100 :: r)) : InsOK D cl dA NT rt KX P gs B M Ts CT j pc op a b nx := by
  obtain ⟨hI, hL, hG, hS, hF, hU, hV, hP, hC, hN, hX, hA, hR, hrk, hH, hNT⟩ := hT
  have h : (op == 7 && a == 100 && nx == pc + 1) = true := h
  have h1 : DkAt (mC M j) pc [100] := dkd hD 0 (by rfl)
  simp only [Bool.and_eq_true, and_assoc, beq_iff_eq, decide_eq_true_eq] at h
  obtain ⟨e0, ea0, en0⟩ := h
  subst e0 ea0 en0
  exact ⟨dk_100 h1, rfl⟩

theorem ck_101 {T : DT} {j ow rk : Nat} {ini : Bool} {r : List UInt8} {pc op a : Nat} {b : Int} {nx : Nat} (hT : TOK D cl dA NT rt KX P gs B M Ts CT T j ow rk ini) (h : chk0 T ow rk (pNl P j) ini 101 r pc op a b nx = true) (hD : DkAt (mC M j) pc (101 :: r)) : InsOK D cl dA NT rt KX P gs B M Ts CT j pc op a b nx := by
  obtain ⟨hI, hL, hG, hS, hF, hU, hV, hP, hC, hN, hX, hA, hR, hrk, hH, hNT⟩ := hT
  have h : (op == 8 && a == 101 && nx == pc + 1) = true := h
  have h1 : DkAt (mC M j) pc [101] := dkd hD 0 (by rfl)
  simp only [Bool.and_eq_true, and_assoc, beq_iff_eq, decide_eq_true_eq] at h
  obtain ⟨e0, ea0, en0⟩ := h
  subst e0 ea0 en0
  exact ⟨dk_101 h1, rfl⟩

theorem ck_104 {T : DT} {j ow rk : Nat} {ini : Bool} {r : List UInt8} {pc op a : Nat} {b : Int} {nx : Nat} (hT : TOK D cl dA NT rt KX P gs B M Ts CT T j ow rk ini) (h : chk0 T ow rk (pNl P j) ini 104 r pc op a b nx = true) (hD : DkAt (mC M j) pc (104 :: r)) : InsOK D cl dA NT rt KX P gs B M Ts CT j pc op a b nx := by
  obtain ⟨hI, hL, hG, hS, hF, hU, hV, hP, hC, hN, hX, hA, hR, hrk, hH, hNT⟩ := hT
  have h : (op == 7 && a == 104 && nx == pc + 1) = true := h
  have h1 : DkAt (mC M j) pc [104] := dkd hD 0 (by rfl)
  simp only [Bool.and_eq_true, and_assoc, beq_iff_eq, decide_eq_true_eq] at h
  obtain ⟨e0, ea0, en0⟩ := h
  subst e0 ea0 en0
  exact ⟨dk_104 h1, rfl⟩

theorem ck_105 {T : DT} {j ow rk : Nat} {ini : Bool} {r : List UInt8} {pc op a : Nat} {b : Int} {nx : Nat} (hT : TOK D cl dA NT rt KX P gs B M Ts CT T j ow rk ini) (h : chk0 T ow rk (pNl P j) ini 105 r pc op a b nx = true) (hD : DkAt (mC M j) pc (105 :: r)) : InsOK D cl dA NT rt KX P gs B M Ts CT j pc op a b nx := by
  obtain ⟨hI, hL, hG, hS, hF, hU, hV, hP, hC, hN, hX, hA, hR, hrk, hH, hNT⟩ := hT
  have h : (op == 8 && a == 105 && nx == pc + 1) = true := h
  have h1 : DkAt (mC M j) pc [105] := dkd hD 0 (by rfl)
  simp only [Bool.and_eq_true, and_assoc, beq_iff_eq, decide_eq_true_eq] at h
  obtain ⟨e0, ea0, en0⟩ := h
  subst e0 ea0 en0
  exact ⟨dk_105 h1, rfl⟩

theorem ck_108 {T : DT} {j ow rk : Nat} {ini : Bool} {r : List UInt8} {pc op a : Nat} {b : Int} {nx : Nat} (hT : TOK D cl dA NT rt KX P gs B M Ts CT T j ow rk ini) (h : chk0 T ow rk (pNl P j) ini 108 r pc op a b nx = true) (hD : DkAt (mC M j) pc (108 :: r)) : InsOK D cl dA NT rt KX P gs B M Ts CT j pc op a b nx := by
  obtain ⟨hI, hL, hG, hS, hF, hU, hV, hP, hC, hN, hX, hA, hR, hrk, hH, hNT⟩ := hT
  have h : (op == 7 && a == 108 && nx == pc + 1) = true := h
  have h1 : DkAt (mC M j) pc [108] := dkd hD 0 (by rfl)
  simp only [Bool.and_eq_true, and_assoc, beq_iff_eq, decide_eq_true_eq] at h
  obtain ⟨e0, ea0, en0⟩ := h
  subst e0 ea0 en0
  exact ⟨dk_108 h1, rfl⟩

theorem ck_109 {T : DT} {j ow rk : Nat} {ini : Bool} {r : List UInt8} {pc op a : Nat} {b : Int} {nx : Nat} (hT : TOK D cl dA NT rt KX P gs B M Ts CT T j ow rk ini) (h : chk0 T ow rk (pNl P j) ini 109 r pc op a b nx = true) (hD : DkAt (mC M j) pc (109 :: r)) : InsOK D cl dA NT rt KX P gs B M Ts CT j pc op a b nx := by
  obtain ⟨hI, hL, hG, hS, hF, hU, hV, hP, hC, hN, hX, hA, hR, hrk, hH, hNT⟩ := hT
  have h : (op == 8 && a == 109 && nx == pc + 1) = true := h
  have h1 : DkAt (mC M j) pc [109] := dkd hD 0 (by rfl)
  simp only [Bool.and_eq_true, and_assoc, beq_iff_eq, decide_eq_true_eq] at h
  obtain ⟨e0, ea0, en0⟩ := h
  subst e0 ea0 en0
  exact ⟨dk_109 h1, rfl⟩

theorem ck_112 {T : DT} {j ow rk : Nat} {ini : Bool} {r : List UInt8} {pc op a : Nat} {b : Int} {nx : Nat} (hT : TOK D cl dA NT rt KX P gs B M Ts CT T j ow rk ini) (h : chk0 T ow rk (pNl P j) ini 112 r pc op a b nx = true) (hD : DkAt (mC M j) pc (112 :: r)) : InsOK D cl dA NT rt KX P gs B M Ts CT j pc op a b nx := by
  obtain ⟨hI, hL, hG, hS, hF, hU, hV, hP, hC, hN, hX, hA, hR, hrk, hH, hNT⟩ := hT
  have h : (op == 7 && a == 112 && nx == pc + 1) = true := h
  have h1 : DkAt (mC M j) pc [112] := dkd hD 0 (by rfl)
  simp only [Bool.and_eq_true, and_assoc, beq_iff_eq, decide_eq_true_eq] at h
  obtain ⟨e0, ea0, en0⟩ := h
  subst e0 ea0 en0
  exact ⟨dk_112 h1, rfl⟩

theorem ck_113 {T : DT} {j ow rk : Nat} {ini : Bool} {r : List UInt8} {pc op a : Nat} {b : Int} {nx : Nat} (hT : TOK D cl dA NT rt KX P gs B M Ts CT T j ow rk ini) (h : chk0 T ow rk (pNl P j) ini 113 r pc op a b nx = true) (hD : DkAt (mC M j) pc (113 :: r)) : InsOK D cl dA NT rt KX P gs B M Ts CT j pc op a b nx := by
  obtain ⟨hI, hL, hG, hS, hF, hU, hV, hP, hC, hN, hX, hA, hR, hrk, hH, hNT⟩ := hT
  have h : (op == 8 && a == 113 && nx == pc + 1) = true := h
  have h1 : DkAt (mC M j) pc [113] := dkd hD 0 (by rfl)
  simp only [Bool.and_eq_true, and_assoc, beq_iff_eq, decide_eq_true_eq] at h
  obtain ⟨e0, ea0, en0⟩ := h
  subst e0 ea0 en0
  exact ⟨dk_113 h1, rfl⟩

theorem ck_116 {T : DT} {j ow rk : Nat} {ini : Bool} {r : List UInt8} {pc op a : Nat} {b : Int} {nx : Nat} (hT : TOK D cl dA NT rt KX P gs B M Ts CT T j ow rk ini) (h : chk0 T ow rk (pNl P j) ini 116 r pc op a b nx = true) (hD : DkAt (mC M j) pc (116 :: r)) : InsOK D cl dA NT rt KX P gs B M Ts CT j pc op a b nx := by
  obtain ⟨hI, hL, hG, hS, hF, hU, hV, hP, hC, hN, hX, hA, hR, hrk, hH, hNT⟩ := hT
  have h : (op == 10 && a == 0 && nx == pc + 1) = true := h
  have h1 : DkAt (mC M j) pc [116] := dkd hD 0 (by rfl)
  simp only [Bool.and_eq_true, and_assoc, beq_iff_eq, decide_eq_true_eq] at h
  obtain ⟨e0, ea0, en0⟩ := h
  subst e0 ea0 en0
  exact ⟨dk_116 h1, rfl⟩

theorem ck_117 {T : DT} {j ow rk : Nat} {ini : Bool} {r : List UInt8} {pc op a : Nat} {b : Int} {nx : Nat} (hT : TOK D cl dA NT rt KX P gs B M Ts CT T j ow rk ini) (h : chk0 T ow rk (pNl P j) ini 117 r pc op a b nx = true) (hD : DkAt (mC M j) pc (117 :: r)) : InsOK D cl dA NT rt KX P gs B M Ts CT j pc op a b nx := by
  obtain ⟨hI, hL, hG, hS, hF, hU, hV, hP, hC, hN, hX, hA, hR, hrk, hH, hNT⟩ := hT
  have h : (op == 10 && a == 1 && nx == pc + 1) = true := h
  have h1 : DkAt (mC M j) pc [117] := dkd hD 0 (by rfl)
  simp only [Bool.and_eq_true, and_assoc, beq_iff_eq, decide_eq_true_eq] at h
  obtain ⟨e0, ea0, en0⟩ := h
  subst e0 ea0 en0
  exact ⟨dk_117 h1, rfl⟩

theorem ck_120 {T : DT} {j ow rk : Nat} {ini : Bool} {r : List UInt8} {pc op a : Nat} {b : Int} {nx : Nat} (hT : TOK D cl dA NT rt KX P gs B M Ts CT T j ow rk ini) (h : chk0 T ow rk (pNl P j) ini 120 r pc op a b nx = true) (hD : DkAt (mC M j) pc (120 :: r)) : InsOK D cl dA NT rt KX P gs B M Ts CT j pc op a b nx := by
  obtain ⟨hI, hL, hG, hS, hF, hU, hV, hP, hC, hN, hX, hA, hR, hrk, hH, hNT⟩ := hT
  have h : (op == 7 && a == 120 && nx == pc + 1) = true := h
  have h1 : DkAt (mC M j) pc [120] := dkd hD 0 (by rfl)
  simp only [Bool.and_eq_true, and_assoc, beq_iff_eq, decide_eq_true_eq] at h
  obtain ⟨e0, ea0, en0⟩ := h
  subst e0 ea0 en0
  exact ⟨dk_120 h1, rfl⟩

theorem ck_121 {T : DT} {j ow rk : Nat} {ini : Bool} {r : List UInt8} {pc op a : Nat} {b : Int} {nx : Nat} (hT : TOK D cl dA NT rt KX P gs B M Ts CT T j ow rk ini) (h : chk0 T ow rk (pNl P j) ini 121 r pc op a b nx = true) (hD : DkAt (mC M j) pc (121 :: r)) : InsOK D cl dA NT rt KX P gs B M Ts CT j pc op a b nx := by
  obtain ⟨hI, hL, hG, hS, hF, hU, hV, hP, hC, hN, hX, hA, hR, hrk, hH, hNT⟩ := hT
  have h : (op == 9 && a == 121 && nx == pc + 1) = true := h
  have h1 : DkAt (mC M j) pc [121] := dkd hD 0 (by rfl)
  simp only [Bool.and_eq_true, and_assoc, beq_iff_eq, decide_eq_true_eq] at h
  obtain ⟨e0, ea0, en0⟩ := h
  subst e0 ea0 en0
  exact ⟨dk_121 h1, rfl⟩

theorem ck_122 {T : DT} {j ow rk : Nat} {ini : Bool} {r : List UInt8} {pc op a : Nat} {b : Int} {nx : Nat} (hT : TOK D cl dA NT rt KX P gs B M Ts CT T j ow rk ini) (h : chk0 T ow rk (pNl P j) ini 122 r pc op a b nx = true) (hD : DkAt (mC M j) pc (122 :: r)) : InsOK D cl dA NT rt KX P gs B M Ts CT j pc op a b nx := by
  obtain ⟨hI, hL, hG, hS, hF, hU, hV, hP, hC, hN, hX, hA, hR, hrk, hH, hNT⟩ := hT
  have h : (op == 7 && a == 122 && nx == pc + 1) = true := h
  have h1 : DkAt (mC M j) pc [122] := dkd hD 0 (by rfl)
  simp only [Bool.and_eq_true, and_assoc, beq_iff_eq, decide_eq_true_eq] at h
  obtain ⟨e0, ea0, en0⟩ := h
  subst e0 ea0 en0
  exact ⟨dk_122 h1, rfl⟩

theorem ck_123 {T : DT} {j ow rk : Nat} {ini : Bool} {r : List UInt8} {pc op a : Nat} {b : Int} {nx : Nat} (hT : TOK D cl dA NT rt KX P gs B M Ts CT T j ow rk ini) (h : chk0 T ow rk (pNl P j) ini 123 r pc op a b nx = true) (hD : DkAt (mC M j) pc (123 :: r)) : InsOK D cl dA NT rt KX P gs B M Ts CT j pc op a b nx := by
  obtain ⟨hI, hL, hG, hS, hF, hU, hV, hP, hC, hN, hX, hA, hR, hrk, hH, hNT⟩ := hT
  have h : (op == 9 && a == 123 && nx == pc + 1) = true := h
  have h1 : DkAt (mC M j) pc [123] := dkd hD 0 (by rfl)
  simp only [Bool.and_eq_true, and_assoc, beq_iff_eq, decide_eq_true_eq] at h
  obtain ⟨e0, ea0, en0⟩ := h
  subst e0 ea0 en0
  exact ⟨dk_123 h1, rfl⟩

theorem ck_124 {T : DT} {j ow rk : Nat} {ini : Bool} {r : List UInt8} {pc op a : Nat} {b : Int} {nx : Nat} (hT : TOK D cl dA NT rt KX P gs B M Ts CT T j ow rk ini) (h : chk0 T ow rk (pNl P j) ini 124 r pc op a b nx = true) (hD : DkAt (mC M j) pc (124 :: r)) : InsOK D cl dA NT rt KX P gs B M Ts CT j pc op a b nx := by
  obtain ⟨hI, hL, hG, hS, hF, hU, hV, hP, hC, hN, hX, hA, hR, hrk, hH, hNT⟩ := hT
  have h : (op == 7 && a == 124 && nx == pc + 1) = true := h
  have h1 : DkAt (mC M j) pc [124] := dkd hD 0 (by rfl)
  simp only [Bool.and_eq_true, and_assoc, beq_iff_eq, decide_eq_true_eq] at h
  obtain ⟨e0, ea0, en0⟩ := h
  subst e0 ea0 en0
  exact ⟨dk_124 h1, rfl⟩

theorem ck_125 {T : DT} {j ow rk : Nat} {ini : Bool} {r : List UInt8} {pc op a : Nat} {b : Int} {nx : Nat} (hT : TOK D cl dA NT rt KX P gs B M Ts CT T j ow rk ini) (h : chk0 T ow rk (pNl P j) ini 125 r pc op a b nx = true) (hD : DkAt (mC M j) pc (125 :: r)) : InsOK D cl dA NT rt KX P gs B M Ts CT j pc op a b nx := by
  obtain ⟨hI, hL, hG, hS, hF, hU, hV, hP, hC, hN, hX, hA, hR, hrk, hH, hNT⟩ := hT
  have h : (op == 9 && a == 125 && nx == pc + 1) = true := h
  have h1 : DkAt (mC M j) pc [125] := dkd hD 0 (by rfl)
  simp only [Bool.and_eq_true, and_assoc, beq_iff_eq, decide_eq_true_eq] at h
  obtain ⟨e0, ea0, en0⟩ := h
  subst e0 ea0 en0
  exact ⟨dk_125 h1, rfl⟩

theorem ck_126 {T : DT} {j ow rk : Nat} {ini : Bool} {r : List UInt8} {pc op a : Nat} {b : Int} {nx : Nat} (hT : TOK D cl dA NT rt KX P gs B M Ts CT T j ow rk ini) (h : chk0 T ow rk (pNl P j) ini 126 r pc op a b nx = true) (hD : DkAt (mC M j) pc (126 :: r)) : InsOK D cl dA NT rt KX P gs B M Ts CT j pc op a b nx := by
  obtain ⟨hI, hL, hG, hS, hF, hU, hV, hP, hC, hN, hX, hA, hR, hrk, hH, hNT⟩ := hT
  have h : (op == 7 && a == 126 && nx == pc + 1) = true := h
  have h1 : DkAt (mC M j) pc [126] := dkd hD 0 (by rfl)
  simp only [Bool.and_eq_true, and_assoc, beq_iff_eq, decide_eq_true_eq] at h
  obtain ⟨e0, ea0, en0⟩ := h
  subst e0 ea0 en0
  exact ⟨dk_126 h1, rfl⟩

theorem ck_127 {T : DT} {j ow rk : Nat} {ini : Bool} {r : List UInt8} {pc op a : Nat} {b : Int} {nx : Nat} (hT : TOK D cl dA NT rt KX P gs B M Ts CT T j ow rk ini) (h : chk0 T ow rk (pNl P j) ini 127 r pc op a b nx = true) (hD : DkAt (mC M j) pc (127 :: r)) : InsOK D cl dA NT rt KX P gs B M Ts CT j pc op a b nx := by
  obtain ⟨hI, hL, hG, hS, hF, hU, hV, hP, hC, hN, hX, hA, hR, hrk, hH, hNT⟩ := hT
  have h : (op == 8 && a == 127 && nx == pc + 1) = true := h
  have h1 : DkAt (mC M j) pc [127] := dkd hD 0 (by rfl)
  simp only [Bool.and_eq_true, and_assoc, beq_iff_eq, decide_eq_true_eq] at h
  obtain ⟨e0, ea0, en0⟩ := h
  subst e0 ea0 en0
  exact ⟨dk_127 h1, rfl⟩

theorem ck_128 {T : DT} {j ow rk : Nat} {ini : Bool} {r : List UInt8} {pc op a : Nat} {b : Int} {nx : Nat} (hT : TOK D cl dA NT rt KX P gs B M Ts CT T j ow rk ini) (h : chk0 T ow rk (pNl P j) ini 128 r pc op a b nx = true) (hD : DkAt (mC M j) pc (128 :: r)) : InsOK D cl dA NT rt KX P gs B M Ts CT j pc op a b nx := by
  obtain ⟨hI, hL, hG, hS, hF, hU, hV, hP, hC, hN, hX, hA, hR, hrk, hH, hNT⟩ := hT
  have h : (op == 7 && a == 128 && nx == pc + 1) = true := h
  have h1 : DkAt (mC M j) pc [128] := dkd hD 0 (by rfl)
  simp only [Bool.and_eq_true, and_assoc, beq_iff_eq, decide_eq_true_eq] at h
  obtain ⟨e0, ea0, en0⟩ := h
  subst e0 ea0 en0
  exact ⟨dk_128 h1, rfl⟩

theorem ck_129 {T : DT} {j ow rk : Nat} {ini : Bool} {r : List UInt8} {pc op a : Nat} {b : Int} {nx : Nat} (hT : TOK D cl dA NT rt KX P gs B M Ts CT T j ow rk ini) (h : chk0 T ow rk (pNl P j) ini 129 r pc op a b nx = true) (hD : DkAt (mC M j) pc (129 :: r)) : InsOK D cl dA NT rt KX P gs B M Ts CT j pc op a b nx := by
  obtain ⟨hI, hL, hG, hS, hF, hU, hV, hP, hC, hN, hX, hA, hR, hrk, hH, hNT⟩ := hT
  have h : (op == 8 && a == 129 && nx == pc + 1) = true := h
  have h1 : DkAt (mC M j) pc [129] := dkd hD 0 (by rfl)
  simp only [Bool.and_eq_true, and_assoc, beq_iff_eq, decide_eq_true_eq] at h
  obtain ⟨e0, ea0, en0⟩ := h
  subst e0 ea0 en0
  exact ⟨dk_129 h1, rfl⟩

theorem ck_130 {T : DT} {j ow rk : Nat} {ini : Bool} {r : List UInt8} {pc op a : Nat} {b : Int} {nx : Nat} (hT : TOK D cl dA NT rt KX P gs B M Ts CT T j ow rk ini) (h : chk0 T ow rk (pNl P j) ini 130 r pc op a b nx = true) (hD : DkAt (mC M j) pc (130 :: r)) : InsOK D cl dA NT rt KX P gs B M Ts CT j pc op a b nx := by
  obtain ⟨hI, hL, hG, hS, hF, hU, hV, hP, hC, hN, hX, hA, hR, hrk, hH, hNT⟩ := hT
  have h : (op == 7 && a == 130 && nx == pc + 1) = true := h
  have h1 : DkAt (mC M j) pc [130] := dkd hD 0 (by rfl)
  simp only [Bool.and_eq_true, and_assoc, beq_iff_eq, decide_eq_true_eq] at h
  obtain ⟨e0, ea0, en0⟩ := h
  subst e0 ea0 en0
  exact ⟨dk_130 h1, rfl⟩

theorem ck_131 {T : DT} {j ow rk : Nat} {ini : Bool} {r : List UInt8} {pc op a : Nat} {b : Int} {nx : Nat} (hT : TOK D cl dA NT rt KX P gs B M Ts CT T j ow rk ini) (h : chk0 T ow rk (pNl P j) ini 131 r pc op a b nx = true) (hD : DkAt (mC M j) pc (131 :: r)) : InsOK D cl dA NT rt KX P gs B M Ts CT j pc op a b nx := by
  obtain ⟨hI, hL, hG, hS, hF, hU, hV, hP, hC, hN, hX, hA, hR, hrk, hH, hNT⟩ := hT
  have h : (op == 8 && a == 131 && nx == pc + 1) = true := h
  have h1 : DkAt (mC M j) pc [131] := dkd hD 0 (by rfl)
  simp only [Bool.and_eq_true, and_assoc, beq_iff_eq, decide_eq_true_eq] at h
  obtain ⟨e0, ea0, en0⟩ := h
  subst e0 ea0 en0
  exact ⟨dk_131 h1, rfl⟩

theorem ck_132 {T : DT} {j ow rk : Nat} {ini : Bool} {r : List UInt8} {pc op a : Nat} {b : Int} {nx : Nat} (hT : TOK D cl dA NT rt KX P gs B M Ts CT T j ow rk ini) (h : chk0 T ow rk (pNl P j) ini 132 r pc op a b nx = true) (hD : DkAt (mC M j) pc (132 :: r)) : InsOK D cl dA NT rt KX P gs B M Ts CT j pc op a b nx := by
  obtain ⟨hI, hL, hG, hS, hF, hU, hV, hP, hC, hN, hX, hA, hR, hrk, hH, hNT⟩ := hT
  cases r with
  | nil => cases h
  | cons x r =>
  cases r with
  | nil => cases h
  | cons y r =>
  have h : (op == 6 && a == x.toNat && b == Reader.signed 8 y.toNat && nx == pc + 3 && Nat.blt a (pNl P j)) = true := h
  have h1 : DkAt (mC M j) pc [132] := dkd hD 0 (by rfl)
  have h2 : DkAt (mC M j) pc [132, x] := dkd hD 0 (by rfl)
  have h3 : DkAt (mC M j) pc [132, x, y] := dkd hD 0 (by rfl)
  simp only [Bool.and_eq_true, and_assoc, beq_iff_eq, decide_eq_true_eq] at h
  obtain ⟨e0, ea0, eb0, en0, hlt⟩ := h
  subst e0 ea0 eb0 en0
  have hlt := Nat.le_of_ble_eq_true hlt
  exact ⟨hlt, dk_132 x y h3, rfl⟩

theorem ck_133 {T : DT} {j ow rk : Nat} {ini : Bool} {r : List UInt8} {pc op a : Nat} {b : Int} {nx : Nat} (hT : TOK D cl dA NT rt KX P gs B M Ts CT T j ow rk ini) (h : chk0 T ow rk (pNl P j) ini 133 r pc op a b nx = true) (hD : DkAt (mC M j) pc (133 :: r)) : InsOK D cl dA NT rt KX P gs B M Ts CT j pc op a b nx := by
  obtain ⟨hI, hL, hG, hS, hF, hU, hV, hP, hC, hN, hX, hA, hR, hrk, hH, hNT⟩ := hT
  have h : (op == 10 && a == 2 && nx == pc + 1) = true := h
  have h1 : DkAt (mC M j) pc [133] := dkd hD 0 (by rfl)
  simp only [Bool.and_eq_true, and_assoc, beq_iff_eq, decide_eq_true_eq] at h
  obtain ⟨e0, ea0, en0⟩ := h
  subst e0 ea0 en0
  exact ⟨dk_133 h1, rfl⟩

theorem ck_136 {T : DT} {j ow rk : Nat} {ini : Bool} {r : List UInt8} {pc op a : Nat} {b : Int} {nx : Nat} (hT : TOK D cl dA NT rt KX P gs B M Ts CT T j ow rk ini) (h : chk0 T ow rk (pNl P j) ini 136 r pc op a b nx = true) (hD : DkAt (mC M j) pc (136 :: r)) : InsOK D cl dA NT rt KX P gs B M Ts CT j pc op a b nx := by
  obtain ⟨hI, hL, hG, hS, hF, hU, hV, hP, hC, hN, hX, hA, hR, hrk, hH, hNT⟩ := hT
  have h : (op == 10 && a == 3 && nx == pc + 1) = true := h
  have h1 : DkAt (mC M j) pc [136] := dkd hD 0 (by rfl)
  simp only [Bool.and_eq_true, and_assoc, beq_iff_eq, decide_eq_true_eq] at h
  obtain ⟨e0, ea0, en0⟩ := h
  subst e0 ea0 en0
  exact ⟨dk_136 h1, rfl⟩

theorem ck_145 {T : DT} {j ow rk : Nat} {ini : Bool} {r : List UInt8} {pc op a : Nat} {b : Int} {nx : Nat} (hT : TOK D cl dA NT rt KX P gs B M Ts CT T j ow rk ini) (h : chk0 T ow rk (pNl P j) ini 145 r pc op a b nx = true) (hD : DkAt (mC M j) pc (145 :: r)) : InsOK D cl dA NT rt KX P gs B M Ts CT j pc op a b nx := by
  obtain ⟨hI, hL, hG, hS, hF, hU, hV, hP, hC, hN, hX, hA, hR, hrk, hH, hNT⟩ := hT
  have h : (op == 10 && a == 4 && nx == pc + 1) = true := h
  have h1 : DkAt (mC M j) pc [145] := dkd hD 0 (by rfl)
  simp only [Bool.and_eq_true, and_assoc, beq_iff_eq, decide_eq_true_eq] at h
  obtain ⟨e0, ea0, en0⟩ := h
  subst e0 ea0 en0
  exact ⟨dk_145 h1, rfl⟩

theorem ck_146 {T : DT} {j ow rk : Nat} {ini : Bool} {r : List UInt8} {pc op a : Nat} {b : Int} {nx : Nat} (hT : TOK D cl dA NT rt KX P gs B M Ts CT T j ow rk ini) (h : chk0 T ow rk (pNl P j) ini 146 r pc op a b nx = true) (hD : DkAt (mC M j) pc (146 :: r)) : InsOK D cl dA NT rt KX P gs B M Ts CT j pc op a b nx := by
  obtain ⟨hI, hL, hG, hS, hF, hU, hV, hP, hC, hN, hX, hA, hR, hrk, hH, hNT⟩ := hT
  have h : (op == 10 && a == 5 && nx == pc + 1) = true := h
  have h1 : DkAt (mC M j) pc [146] := dkd hD 0 (by rfl)
  simp only [Bool.and_eq_true, and_assoc, beq_iff_eq, decide_eq_true_eq] at h
  obtain ⟨e0, ea0, en0⟩ := h
  subst e0 ea0 en0
  exact ⟨dk_146 h1, rfl⟩

theorem ck_148 {T : DT} {j ow rk : Nat} {ini : Bool} {r : List UInt8} {pc op a : Nat} {b : Int} {nx : Nat} (hT : TOK D cl dA NT rt KX P gs B M Ts CT T j ow rk ini) (h : chk0 T ow rk (pNl P j) ini 148 r pc op a b nx = true) (hD : DkAt (mC M j) pc (148 :: r)) : InsOK D cl dA NT rt KX P gs B M Ts CT j pc op a b nx := by
  obtain ⟨hI, hL, hG, hS, hF, hU, hV, hP, hC, hN, hX, hA, hR, hrk, hH, hNT⟩ := hT
  have h : (op == 11 && nx == pc + 1) = true := h
  have h1 : DkAt (mC M j) pc [148] := dkd hD 0 (by rfl)
  simp only [Bool.and_eq_true, and_assoc, beq_iff_eq, decide_eq_true_eq] at h
  obtain ⟨e0, en0⟩ := h
  subst e0 en0
  exact ⟨dk_148 h1, rfl⟩

theorem ck_153 {T : DT} {j ow rk : Nat} {ini : Bool} {r : List UInt8} {pc op a : Nat} {b : Int} {nx : Nat} (hT : TOK D cl dA NT rt KX P gs B M Ts CT T j ow rk ini) (h : chk0 T ow rk (pNl P j) ini 153 r pc op a b nx = true) (hD : DkAt (mC M j) pc (153 :: r)) : InsOK D cl dA NT rt KX P gs B M Ts CT j pc op a b nx := by
  obtain ⟨hI, hL, hG, hS, hF, hU, hV, hP, hC, hN, hX, hA, hR, hrk, hH, hNT⟩ := hT
  cases r with
  | nil => cases h
  | cons x r =>
  cases r with
  | nil => cases h
  | cons y r =>
  have h : (op == 16 && a == 0 && decide ((pc : Int) + Reader.signed 16 (x.toNat * 256 + y.toNat) = (b.toNat : Int)) && nx == pc + 3) = true := h
  have h1 : DkAt (mC M j) pc [153] := dkd hD 0 (by rfl)
  have h2 : DkAt (mC M j) pc [153, x] := dkd hD 0 (by rfl)
  have h3 : DkAt (mC M j) pc [153, x, y] := dkd hD 0 (by rfl)
  simp only [Bool.and_eq_true, and_assoc, beq_iff_eq, decide_eq_true_eq] at h
  obtain ⟨e0, ea0, hoff, en0⟩ := h
  subst e0 ea0 en0
  exact ⟨⟨_, dk_153 x y h3, hoff⟩, rfl⟩

theorem ck_154 {T : DT} {j ow rk : Nat} {ini : Bool} {r : List UInt8} {pc op a : Nat} {b : Int} {nx : Nat} (hT : TOK D cl dA NT rt KX P gs B M Ts CT T j ow rk ini) (h : chk0 T ow rk (pNl P j) ini 154 r pc op a b nx = true) (hD : DkAt (mC M j) pc (154 :: r)) : InsOK D cl dA NT rt KX P gs B M Ts CT j pc op a b nx := by
  obtain ⟨hI, hL, hG, hS, hF, hU, hV, hP, hC, hN, hX, hA, hR, hrk, hH, hNT⟩ := hT
  cases r with
  | nil => cases h
  | cons x r =>
  cases r with
  | nil => cases h
  | cons y r =>
  have h : (op == 16 && a == 1 && decide ((pc : Int) + Reader.signed 16 (x.toNat * 256 + y.toNat) = (b.toNat : Int)) && nx == pc + 3) = true := h
  have h1 : DkAt (mC M j) pc [154] := dkd hD 0 (by rfl)
  have h2 : DkAt (mC M j) pc [154, x] := dkd hD 0 (by rfl)
  have h3 : DkAt (mC M j) pc [154, x, y] := dkd hD 0 (by rfl)
  simp only [Bool.and_eq_true, and_assoc, beq_iff_eq, decide_eq_true_eq] at h
  obtain ⟨e0, ea0, hoff, en0⟩ := h
  subst e0 ea0 en0
  exact ⟨⟨_, dk_154 x y h3, hoff⟩, rfl⟩

theorem ck_155 {T : DT} {j ow rk : Nat} {ini : Bool} {r : List UInt8} {pc op a : Nat} {b : Int} {nx : Nat} (hT : TOK D cl dA NT rt KX P gs B M Ts CT T j ow rk ini) (h : chk0 T ow rk (pNl P j) ini 155 r pc op a b nx = true) (hD : DkAt (mC M j) pc (155 :: r)) : InsOK D cl dA NT rt KX P gs B M Ts CT j pc op a b nx := by
  obtain ⟨hI, hL, hG, hS, hF, hU, hV, hP, hC, hN, hX, hA, hR, hrk, hH, hNT⟩ := hT
  cases r with
  | nil => cases h
  | cons x r =>
  cases r with
  | nil => cases h
  | cons y r =>
  have h : (op == 16 && a == 2 && decide ((pc : Int) + Reader.signed 16 (x.toNat * 256 + y.toNat) = (b.toNat : Int)) && nx == pc + 3) = true := h
  have h1 : DkAt (mC M j) pc [155] := dkd hD 0 (by rfl)
  have h2 : DkAt (mC M j) pc [155, x] := dkd hD 0 (by rfl)
  have h3 : DkAt (mC M j) pc [155, x, y] := dkd hD 0 (by rfl)
  simp only [Bool.and_eq_true, and_assoc, beq_iff_eq, decide_eq_true_eq] at h
  obtain ⟨e0, ea0, hoff, en0⟩ := h
  subst e0 ea0 en0
  exact ⟨⟨_, dk_155 x y h3, hoff⟩, rfl⟩

theorem ck_156 {T : DT} {j ow rk : Nat} {ini : Bool} {r : List UInt8} {pc op a : Nat} {b : Int} {nx : Nat} (hT : TOK D cl dA NT rt KX P gs B M Ts CT T j ow rk ini) (h : chk0 T ow rk (pNl P j) ini 156 r pc op a b nx = true) (hD : DkAt (mC M j) pc (156 :: r)) : InsOK D cl dA NT rt KX P gs B M Ts CT j pc op a b nx := by
  obtain ⟨hI, hL, hG, hS, hF, hU, hV, hP, hC, hN, hX, hA, hR, hrk, hH, hNT⟩ := hT
  cases r with
  | nil => cases h
  | cons x r =>
  cases r with
  | nil => cases h
  | cons y r =>
  have h : (op == 16 && a == 3 && decide ((pc : Int) + Reader.signed 16 (x.toNat * 256 + y.toNat) = (b.toNat : Int)) && nx == pc + 3) = true := h
  have h1 : DkAt (mC M j) pc [156] := dkd hD 0 (by rfl)
  have h2 : DkAt (mC M j) pc [156, x] := dkd hD 0 (by rfl)
  have h3 : DkAt (mC M j) pc [156, x, y] := dkd hD 0 (by rfl)
  simp only [Bool.and_eq_true, and_assoc, beq_iff_eq, decide_eq_true_eq] at h
  obtain ⟨e0, ea0, hoff, en0⟩ := h
  subst e0 ea0 en0
  exact ⟨⟨_, dk_156 x y h3, hoff⟩, rfl⟩

theorem ck_157 {T : DT} {j ow rk : Nat} {ini : Bool} {r : List UInt8} {pc op a : Nat} {b : Int} {nx : Nat} (hT : TOK D cl dA NT rt KX P gs B M Ts CT T j ow rk ini) (h : chk0 T ow rk (pNl P j) ini 157 r pc op a b nx = true) (hD : DkAt (mC M j) pc (157 :: r)) : InsOK D cl dA NT rt KX P gs B M Ts CT j pc op a b nx := by
  obtain ⟨hI, hL, hG, hS, hF, hU, hV, hP, hC, hN, hX, hA, hR, hrk, hH, hNT⟩ := hT
  cases r with
  | nil => cases h
  | cons x r =>
  cases r with
  | nil => cases h
  | cons y r =>
  have h : (op == 16 && a == 4 && decide ((pc : Int) + Reader.signed 16 (x.toNat * 256 + y.toNat) = (b.toNat : Int)) && nx == pc + 3) = true := h
  have h1 : DkAt (mC M j) pc [157] := dkd hD 0 (by rfl)
  have h2 : DkAt (mC M j) pc [157, x] := dkd hD 0 (by rfl)
  have h3 : DkAt (mC M j) pc [157, x, y] := dkd hD 0 (by rfl)
  simp only [Bool.and_eq_true, and_assoc, beq_iff_eq, decide_eq_true_eq] at h
  obtain ⟨e0, ea0, hoff, en0⟩ := h
  subst e0 ea0 en0
  exact ⟨⟨_, dk_157 x y h3, hoff⟩, rfl⟩

theorem ck_158 {T : DT} {j ow rk : Nat} {ini : Bool} {r : List UInt8} {pc op a : Nat} {b : Int} {nx : Nat} (hT : TOK D cl dA NT rt KX P gs B M Ts CT T j ow rk ini) (h : chk0 T ow rk (pNl P j) ini 158 r pc op a b nx = true) (hD : DkAt (mC M j) pc (158 :: r)) : InsOK D cl dA NT rt KX P gs B M Ts CT j pc op a b nx := by
  obtain ⟨hI, hL, hG, hS, hF, hU, hV, hP, hC, hN, hX, hA, hR, hrk, hH, hNT⟩ := hT
  cases r with
  | nil => cases h
  | cons x r =>
  cases r with
  | nil => cases h
  | cons y r =>
  have h : (op == 16 && a == 5 && decide ((pc : Int) + Reader.signed 16 (x.toNat * 256 + y.toNat) = (b.toNat : Int)) && nx == pc + 3) = true := h
  have h1 : DkAt (mC M j) pc [158] := dkd hD 0 (by rfl)
  have h2 : DkAt (mC M j) pc [158, x] := dkd hD 0 (by rfl)
  have h3 : DkAt (mC M j) pc [158, x, y] := dkd hD 0 (by rfl)
  simp only [Bool.and_eq_true, and_assoc, beq_iff_eq, decide_eq_true_eq] at h
  obtain ⟨e0, ea0, hoff, en0⟩ := h
  subst e0 ea0 en0
  exact ⟨⟨_, dk_158 x y h3, hoff⟩, rfl⟩

theorem ck_159 {T : DT} {j ow rk : Nat} {ini : Bool} {r : List UInt8} {pc op a : Nat} {b : Int} {nx : Nat} (hT : TOK D cl dA NT rt KX P gs B M Ts CT T j ow rk ini) (h : chk0 T ow rk (pNl P j) ini 159 r pc op a b nx = true) (hD : DkAt (mC M j) pc (159 :: r)) : InsOK D cl dA NT rt KX P gs B M Ts CT j pc op a b nx := by
  obtain ⟨hI, hL, hG, hS, hF, hU, hV, hP, hC, hN, hX, hA, hR, hrk, hH, hNT⟩ := hT
  cases r with
  | nil => cases h
  | cons x r =>
  cases r with
  | nil => cases h
  | cons y r =>
  have h : (op == 17 && a == 0 && decide ((pc : Int) + Reader.signed 16 (x.toNat * 256 + y.toNat) = (b.toNat : Int)) && nx == pc + 3) = true := h
  have h1 : DkAt (mC M j) pc [159] := dkd hD 0 (by rfl)
  have h2 : DkAt (mC M j) pc [159, x] := dkd hD 0 (by rfl)
  have h3 : DkAt (mC M j) pc [159, x, y] := dkd hD 0 (by rfl)
  simp only [Bool.and_eq_true, and_assoc, beq_iff_eq, decide_eq_true_eq] at h
  obtain ⟨e0, ea0, hoff, en0⟩ := h
  subst e0 ea0 en0
  exact ⟨⟨_, dk_159 x y h3, hoff⟩, rfl⟩

theorem ck_160 {T : DT} {j ow rk : Nat} {ini : Bool} {r : List UInt8} {pc op a : Nat} {b : Int} {nx : Nat} (hT : TOK D cl dA NT rt KX P gs B M Ts CT T j ow rk ini) (h : chk0 T ow rk (pNl P j) ini 160 r pc op a b nx = true) (hD : DkAt (mC M j) pc (160 :: r)) : InsOK D cl dA NT rt KX P gs B M Ts CT j pc op a b nx := by
  obtain ⟨hI, hL, hG, hS, hF, hU, hV, hP, hC, hN, hX, hA, hR, hrk, hH, hNT⟩ := hT
  cases r with
  | nil => cases h
  | cons x r =>
  cases r with
  | nil => cases h
  | cons y r =>
  have h : (op == 17 && a == 1 && decide ((pc : Int) + Reader.signed 16 (x.toNat * 256 + y.toNat) = (b.toNat : Int)) && nx == pc + 3) = true := h
  have h1 : DkAt (mC M j) pc [160] := dkd hD 0 (by rfl)
  have h2 : DkAt (mC M j) pc [160, x] := dkd hD 0 (by rfl)
  have h3 : DkAt (mC M j) pc [160, x, y] := dkd hD 0 (by rfl)
  simp only [Bool.and_eq_true, and_assoc, beq_iff_eq, decide_eq_true_eq] at h
  obtain ⟨e0, ea0, hoff, en0⟩ := h
  subst e0 ea0 en0
  exact ⟨⟨_, dk_160 x y h3, hoff⟩, rfl⟩

theorem ck_161 {T : DT} {j ow rk : Nat} {ini : Bool} {r : List UInt8} {pc op a : Nat} {b : Int} {nx : Nat} (hT : TOK D cl dA NT rt KX P gs B M Ts CT T j ow rk ini) (h : chk0 T ow rk (pNl P j) ini 161 r pc op a b nx = true) (hD : DkAt (mC M j) pc (161 :: r)) : InsOK D cl dA NT rt KX P gs B M Ts CT j pc op a b nx := by
  obtain ⟨hI, hL, hG, hS, hF, hU, hV, hP, hC, hN, hX, hA, hR, hrk, hH, hNT⟩ := hT
  cases r with
  | nil => cases h
  | cons x r =>
  cases r with
  | nil => cases h
  | cons y r =>
  have h : (op == 17 && a == 2 && decide ((pc : Int) + Reader.signed 16 (x.toNat * 256 + y.toNat) = (b.toNat : Int)) && nx == pc + 3) = true := h
  have h1 : DkAt (mC M j) pc [161] := dkd hD 0 (by rfl)
  have h2 : DkAt (mC M j) pc [161, x] := dkd hD 0 (by rfl)
  have h3 : DkAt (mC M j) pc [161, x, y] := dkd hD 0 (by rfl)
  simp only [Bool.and_eq_true, and_assoc, beq_iff_eq, decide_eq_true_eq] at h
  obtain ⟨e0, ea0, hoff, en0⟩ := h
  subst e0 ea0 en0
  exact ⟨⟨_, dk_161 x y h3, hoff⟩, rfl⟩

theorem ck_162 {T : DT} {j ow rk : Nat} {ini : Bool} {r : List UInt8} {pc op a : Nat} {b : Int} {nx : Nat} (hT : TOK D cl dA NT rt KX P gs B M Ts CT T j ow rk ini) (h : chk0 T ow rk (pNl P j) ini 162 r pc op a b nx = true) (hD : DkAt (mC M j) pc (162 :: r)) : InsOK D cl dA NT rt KX P gs B M Ts CT j pc op a b nx := by
  obtain ⟨hI, hL, hG, hS, hF, hU, hV, hP, hC, hN, hX, hA, hR, hrk, hH, hNT⟩ := hT
  cases r with
  | nil => cases h
  | cons x r =>
  cases r with
  | nil => cases h
  | cons y r =>
  have h : (op == 17 && a == 3 && decide ((pc : Int) + Reader.signed 16 (x.toNat * 256 + y.toNat) = (b.toNat : Int)) && nx == pc + 3) = true := h
  have h1 : DkAt (mC M j) pc [162] := dkd hD 0 (by rfl)
  have h2 : DkAt (mC M j) pc [162, x] := dkd hD 0 (by rfl)
  have h3 : DkAt (mC M j) pc [162, x, y] := dkd hD 0 (by rfl)
  simp only [Bool.and_eq_true, and_assoc, beq_iff_eq, decide_eq_true_eq] at h
  obtain ⟨e0, ea0, hoff, en0⟩ := h
  subst e0 ea0 en0
  exact ⟨⟨_, dk_162 x y h3, hoff⟩, rfl⟩

theorem ck_163 {T : DT} {j ow rk : Nat} {ini : Bool} {r : List UInt8} {pc op a : Nat} {b : Int} {nx : Nat} (hT : TOK D cl dA NT rt KX P gs B M Ts CT T j ow rk ini) (h : chk0 T ow rk (pNl P j) ini 163 r pc op a b nx = true) (hD : DkAt (mC M j) pc (163 :: r)) : InsOK D cl dA NT rt KX P gs B M Ts CT j pc op a b nx := by
  obtain ⟨hI, hL, hG, hS, hF, hU, hV, hP, hC, hN, hX, hA, hR, hrk, hH, hNT⟩ := hT
  cases r with
  | nil => cases h
  | cons x r =>
  cases r with
  | nil => cases h
  | cons y r =>
  have h : (op == 17 && a == 4 && decide ((pc : Int) + Reader.signed 16 (x.toNat * 256 + y.toNat) = (b.toNat : Int)) && nx == pc + 3) = true := h
  have h1 : DkAt (mC M j) pc [163] := dkd hD 0 (by rfl)
  have h2 : DkAt (mC M j) pc [163, x] := dkd hD 0 (by rfl)
  have h3 : DkAt (mC M j) pc [163, x, y] := dkd hD 0 (by rfl)
  simp only [Bool.and_eq_true, and_assoc, beq_iff_eq, decide_eq_true_eq] at h
  obtain ⟨e0, ea0, hoff, en0⟩ := h
  subst e0 ea0 en0
  exact ⟨⟨_, dk_163 x y h3, hoff⟩, rfl⟩

theorem ck_164 {T : DT} {j ow rk : Nat} {ini : Bool} {r : List UInt8} {pc op a : Nat} {b : Int} {nx : Nat} (hT : TOK D cl dA NT rt KX P gs B M Ts CT T j ow rk ini) (h : chk0 T ow rk (pNl P j) ini 164 r pc op a b nx = true) (hD : DkAt (mC M j) pc (164 :: r)) : InsOK D cl dA NT rt KX P gs B M Ts CT j pc op a b nx := by
  obtain ⟨hI, hL, hG, hS, hF, hU, hV, hP, hC, hN, hX, hA, hR, hrk, hH, hNT⟩ := hT
  cases r with
  | nil => cases h
  | cons x r =>
  cases r with
  | nil => cases h
  | cons y r =>
  have h : (op == 17 && a == 5 && decide ((pc : Int) + Reader.signed 16 (x.toNat * 256 + y.toNat) = (b.toNat : Int)) && nx == pc + 3) = true := h
  have h1 : DkAt (mC M j) pc [164] := dkd hD 0 (by rfl)
  have h2 : DkAt (mC M j) pc [164, x] := dkd hD 0 (by rfl)
  have h3 : DkAt (mC M j) pc [164, x, y] := dkd hD 0 (by rfl)
  simp only [Bool.and_eq_true, and_assoc, beq_iff_eq, decide_eq_true_eq] at h
  obtain ⟨e0, ea0, hoff, en0⟩ := h
  subst e0 ea0 en0
  exact ⟨⟨_, dk_164 x y h3, hoff⟩, rfl⟩

theorem ck_167 {T : DT} {j ow rk : Nat} {ini : Bool} {r : List UInt8} {pc op a : Nat} {b : Int} {nx : Nat} (hT : TOK D cl dA NT rt KX P gs B M Ts CT T j ow rk ini) (h : chk0 T ow rk (pNl P j) ini 167 r pc op a b nx = true) (hD : DkAt (mC M j) pc (167 :: r)) : InsOK D cl dA NT rt KX P gs B M Ts CT j pc op a b nx := by
  obtain ⟨hI, hL, hG, hS, hF, hU, hV, hP, hC, hN, hX, hA, hR, hrk, hH, hNT⟩ := hT
  cases r with
  | nil => cases h
  | cons x r =>
  cases r with
  | nil => cases h
  | cons y r =>
  have h : (op == 20 && decide ((pc : Int) + Reader.signed 16 (x.toNat * 256 + y.toNat) = (b.toNat : Int))) = true := h
  have h1 : DkAt (mC M j) pc [167] := dkd hD 0 (by rfl)
  have h2 : DkAt (mC M j) pc [167, x] := dkd hD 0 (by rfl)
  have h3 : DkAt (mC M j) pc [167, x, y] := dkd hD 0 (by rfl)
  simp only [Bool.and_eq_true, and_assoc, beq_iff_eq, decide_eq_true_eq] at h
  obtain ⟨e0, hoff⟩ := h
  subst e0
  exact ⟨_, dk_167 x y h3, hoff⟩

theorem ck_172 {T : DT} {j ow rk : Nat} {ini : Bool} {r : List UInt8} {pc op a : Nat} {b : Int} {nx : Nat} (hT : TOK D cl dA NT rt KX P gs B M Ts CT T j ow rk ini) (h : chk0 T ow rk (pNl P j) ini 172 r pc op a b nx = true) (hD : DkAt (mC M j) pc (172 :: r)) : InsOK D cl dA NT rt KX P gs B M Ts CT j pc op a b nx := by
  obtain ⟨hI, hL, hG, hS, hF, hU, hV, hP, hC, hN, hX, hA, hR, hrk, hH, hNT⟩ := hT
  have h : ((op == 39 && a == 0 && rk == 1) || (op == 40 && rk == 4) || (op == 45 && ((a == 4 && rk == 5) || (a == 5 && rk == 6)))) = true := h
  have h1 : DkAt (mC M j) pc [172] := dkd hD 0 (by rfl)
  simp only [Bool.and_eq_true, Bool.or_eq_true, and_assoc, beq_iff_eq] at h
  rcases h with (⟨e, e2, e3⟩ | ⟨e, e2⟩) | ⟨e, ⟨e2, e3⟩ | ⟨e2, e3⟩⟩
  · subst e e2 e3
    exact Or.inl ⟨rfl, hrk, dk_172 h1⟩
  · subst e e2
    exact ⟨hrk, dk_172 h1⟩
  · subst e e2 e3
    exact ⟨Or.inl ⟨rfl, hrk⟩, dk_172 h1⟩
  · subst e e2 e3
    exact ⟨Or.inr ⟨rfl, hrk⟩, dk_172 h1⟩

theorem ck_173 {T : DT} {j ow rk : Nat} {ini : Bool} {r : List UInt8} {pc op a : Nat} {b : Int} {nx : Nat} (hT : TOK D cl dA NT rt KX P gs B M Ts CT T j ow rk ini) (h : chk0 T ow rk (pNl P j) ini 173 r pc op a b nx = true) (hD : DkAt (mC M j) pc (173 :: r)) : InsOK D cl dA NT rt KX P gs B M Ts CT j pc op a b nx := by
  obtain ⟨hI, hL, hG, hS, hF, hU, hV, hP, hC, hN, hX, hA, hR, hrk, hH, hNT⟩ := hT
  have h : (op == 39 && a == 1 && rk == 2) = true := h
  have h1 : DkAt (mC M j) pc [173] := dkd hD 0 (by rfl)
  simp only [Bool.and_eq_true, and_assoc, beq_iff_eq] at h
  obtain ⟨e, e2, e3⟩ := h
  subst e e2 e3
  exact Or.inr (Or.inl ⟨rfl, hrk, dk_173 h1⟩)

theorem ck_176 {T : DT} {j ow rk : Nat} {ini : Bool} {r : List UInt8} {pc op a : Nat} {b : Int} {nx : Nat} (hT : TOK D cl dA NT rt KX P gs B M Ts CT T j ow rk ini) (h : chk0 T ow rk (pNl P j) ini 176 r pc op a b nx = true) (hD : DkAt (mC M j) pc (176 :: r)) : InsOK D cl dA NT rt KX P gs B M Ts CT j pc op a b nx := by
  obtain ⟨hI, hL, hG, hS, hF, hU, hV, hP, hC, hN, hX, hA, hR, hrk, hH, hNT⟩ := hT
  have h : (op == 39 && a == 2 && rk == 3) = true := h
  have h1 : DkAt (mC M j) pc [176] := dkd hD 0 (by rfl)
  simp only [Bool.and_eq_true, and_assoc, beq_iff_eq] at h
  obtain ⟨e, e2, e3⟩ := h
  subst e e2 e3
  exact Or.inr (Or.inr ⟨rfl, hrk, dk_176 h1⟩)

theorem ck_177 {T : DT} {j ow rk : Nat} {ini : Bool} {r : List UInt8} {pc op a : Nat} {b : Int} {nx : Nat} (hT : TOK D cl dA NT rt KX P gs B M Ts CT T j ow rk ini) (h : chk0 T ow rk (pNl P j) ini 177 r pc op a b nx = true) (hD : DkAt (mC M j) pc (177 :: r)) : InsOK D cl dA NT rt KX P gs B M Ts CT j pc op a b nx := by
  obtain ⟨hI, hL, hG, hS, hF, hU, hV, hP, hC, hN, hX, hA, hR, hrk, hH, hNT⟩ := hT
  have h : (op == 41 && rk == 0) = true := h
  have h1 : DkAt (mC M j) pc [177] := dkd hD 0 (by rfl)
  simp only [Bool.and_eq_true, and_assoc, beq_iff_eq] at h
  obtain ⟨e, e2⟩ := h
  subst e e2
  exact ⟨hrk, dk_177 h1⟩

theorem ck_178 {T : DT} {j ow rk : Nat} {ini : Bool} {r : List UInt8} {pc op a : Nat} {b : Int} {nx : Nat} (hT : TOK D cl dA NT rt KX P gs B M Ts CT T j ow rk ini) (h : chk0 T ow rk (pNl P j) ini 178 r pc op a b nx = true) (hD : DkAt (mC M j) pc (178 :: r)) : InsOK D cl dA NT rt KX P gs B M Ts CT j pc op a b nx := by
  obtain ⟨hI, hL, hG, hS, hF, hU, hV, hP, hC, hN, hX, hA, hR, hrk, hH, hNT⟩ := hT
  cases r with
  | nil => cases h
  | cons x r =>
  cases r with
  | nil => cases h
  | cons y r =>
  have h : (op == 31 && tS T ow (x.toNat * 256 + y.toNat) == some a && nx == pc + 3) = true := h
  have h1 : DkAt (mC M j) pc [178] := dkd hD 0 (by rfl)
  have h2 : DkAt (mC M j) pc [178, x] := dkd hD 0 (by rfl)
  have h3 : DkAt (mC M j) pc [178, x, y] := dkd hD 0 (by rfl)
  simp only [Bool.and_eq_true, and_assoc, beq_iff_eq] at h
  obtain ⟨e, hi, h9⟩ := h
  subst e h9
  exact ⟨(hS _ _ hi).1, (hS _ _ hi).2 _ (dk_178 x y h3)⟩

theorem ck_180 {T : DT} {j ow rk : Nat} {ini : Bool} {r : List UInt8} {pc op a : Nat} {b : Int} {nx : Nat} (hT : TOK D cl dA NT rt KX P gs B M Ts CT T j ow rk ini) (h : chk0 T ow rk (pNl P j) ini 180 r pc op a b nx = true) (hD : DkAt (mC M j) pc (180 :: r)) : InsOK D cl dA NT rt KX P gs B M Ts CT j pc op a b nx := by
  obtain ⟨hI, hL, hG, hS, hF, hU, hV, hP, hC, hN, hX, hA, hR, hrk, hH, hNT⟩ := hT
  cases r with
  | nil => cases h
  | cons x r =>
  cases r with
  | nil => cases h
  | cons y r =>
  have h : (op == 22 && tF T ow (x.toNat * 256 + y.toNat) == some (a, b.toNat) && nx == pc + 3) = true := h
  have h1 : DkAt (mC M j) pc [180] := dkd hD 0 (by rfl)
  have h2 : DkAt (mC M j) pc [180, x] := dkd hD 0 (by rfl)
  have h3 : DkAt (mC M j) pc [180, x, y] := dkd hD 0 (by rfl)
  simp only [Bool.and_eq_true, and_assoc, beq_iff_eq] at h
  obtain ⟨e, hi, h9⟩ := h
  subst e h9
  exact ⟨⟨_, dk_180 x y h3, (hF _ _ _ hi).1⟩, (hF _ _ _ hi).2.1, (hF _ _ _ hi).2.2, rfl⟩

theorem ck_181 {T : DT} {j ow rk : Nat} {ini : Bool} {r : List UInt8} {pc op a : Nat} {b : Int} {nx : Nat} (hT : TOK D cl dA NT rt KX P gs B M Ts CT T j ow rk ini) (h : chk0 T ow rk (pNl P j) ini 181 r pc op a b nx = true) (hD : DkAt (mC M j) pc (181 :: r)) : InsOK D cl dA NT rt KX P gs B M Ts CT j pc op a b nx := by
  obtain ⟨hI, hL, hG, hS, hF, hU, hV, hP, hC, hN, hX, hA, hR, hrk, hH, hNT⟩ := hT
  cases r with
  | nil => cases h
  | cons x r =>
  cases r with
  | nil => cases h
  | cons y r =>
  have h : (op == 23 && tF T ow (x.toNat * 256 + y.toNat) == some (a, b.toNat) && tU T ow a b.toNat ini && nx == pc + 3) = true := h
  have h1 : DkAt (mC M j) pc [181] := dkd hD 0 (by rfl)
  have h2 : DkAt (mC M j) pc [181, x] := dkd hD 0 (by rfl)
  have h3 : DkAt (mC M j) pc [181, x, y] := dkd hD 0 (by rfl)
  simp only [Bool.and_eq_true, and_assoc, beq_iff_eq] at h
  obtain ⟨e, hi, hu, h9⟩ := h
  subst e h9
  exact ⟨⟨_, dk_181 x y h3, (hF _ _ _ hi).1, (hU _ _ _ hi hu).1⟩, (hF _ _ _ hi).2.1, (hF _ _ _ hi).2.2, (hU _ _ _ hi hu).2, rfl⟩

theorem ck_182 {T : DT} {j ow rk : Nat} {ini : Bool} {r : List UInt8} {pc op a : Nat} {b : Int} {nx : Nat} (hT : TOK D cl dA NT rt KX P gs B M Ts CT T j ow rk ini) (h : chk0 T ow rk (pNl P j) ini 182 r pc op a b nx = true) (hD : DkAt (mC M j) pc (182 :: r)) : InsOK D cl dA NT rt KX P gs B M Ts CT j pc op a b nx := by
  obtain ⟨hI, hL, hG, hS, hF, hU, hV, hP, hC, hN, hX, hA, hR, hrk, hH, hNT⟩ := hT
  cases r with
  | nil => cases h
  | cons x r =>
  cases r with
  | nil => cases h
  | cons y r =>
  have h : (tV T ow (x.toNat * 256 + y.toNat) == some (op, a) && nx == pc + 3) = true := h
  have h1 : DkAt (mC M j) pc [182] := dkd hD 0 (by rfl)
  have h2 : DkAt (mC M j) pc [182, x] := dkd hD 0 (by rfl)
  have h3 : DkAt (mC M j) pc [182, x, y] := dkd hD 0 (by rfl)
  simp only [Bool.and_eq_true, and_assoc, beq_iff_eq] at h
  obtain ⟨hi, h9⟩ := h
  subst h9
  exact hV _ _ _ hi _ _ (dk_182 x y h3)

theorem ck_183 {T : DT} {j ow rk : Nat} {ini : Bool} {r : List UInt8} {pc op a : Nat} {b : Int} {nx : Nat} (hT : TOK D cl dA NT rt KX P gs B M Ts CT T j ow rk ini) (h : chk0 T ow rk (pNl P j) ini 183 r pc op a b nx = true) (hD : DkAt (mC M j) pc (183 :: r)) : InsOK D cl dA NT rt KX P gs B M Ts CT j pc op a b nx := by
  obtain ⟨hI, hL, hG, hS, hF, hU, hV, hP, hC, hN, hX, hA, hR, hrk, hH, hNT⟩ := hT
  cases r with
  | nil => cases h
  | cons x r =>
  cases r with
  | nil => cases h
  | cons y r =>
  have h : (tP T ow (x.toNat * 256 + y.toNat) == some (op, a) && nx == pc + 3) = true := h
  have h1 : DkAt (mC M j) pc [183] := dkd hD 0 (by rfl)
  have h2 : DkAt (mC M j) pc [183, x] := dkd hD 0 (by rfl)
  have h3 : DkAt (mC M j) pc [183, x, y] := dkd hD 0 (by rfl)
  simp only [Bool.and_eq_true, and_assoc, beq_iff_eq] at h
  obtain ⟨hi, h9⟩ := h
  subst h9
  exact hP _ _ _ hi _ _ (dk_183 x y h3)

theorem ck_184 {T : DT} {j ow rk : Nat} {ini : Bool} {r : List UInt8} {pc op a : Nat} {b : Int} {nx : Nat} (hT : TOK D cl dA NT rt KX P gs B M Ts CT T j ow rk ini) (h : chk0 T ow rk (pNl P j) ini 184 r pc op a b nx = true) (hD : DkAt (mC M j) pc (184 :: r)) : InsOK D cl dA NT rt KX P gs B M Ts CT j pc op a b nx := by
  obtain ⟨hI, hL, hG, hS, hF, hU, hV, hP, hC, hN, hX, hA, hR, hrk, hH, hNT⟩ := hT
  cases r with
  | nil => cases h
  | cons x r =>
  cases r with
  | nil => cases h
  | cons y r =>
  have h : (tC T ow (x.toNat * 256 + y.toNat) == some (op, a) && nx == pc + 3) = true := h
  have h1 : DkAt (mC M j) pc [184] := dkd hD 0 (by rfl)
  have h2 : DkAt (mC M j) pc [184, x] := dkd hD 0 (by rfl)
  have h3 : DkAt (mC M j) pc [184, x, y] := dkd hD 0 (by rfl)
  simp only [Bool.and_eq_true, and_assoc, beq_iff_eq] at h
  obtain ⟨hi, h9⟩ := h
  subst h9
  exact hC _ _ _ hi _ _ (dk_184 x y h3)

theorem ck_187 {T : DT} {j ow rk : Nat} {ini : Bool} {r : List UInt8} {pc op a : Nat} {b : Int} {nx : Nat} (hT : TOK D cl dA NT rt KX P gs B M Ts CT T j ow rk ini) (h : chk0 T ow rk (pNl P j) ini 187 r pc op a b nx = true) (hD : DkAt (mC M j) pc (187 :: r)) : InsOK D cl dA NT rt KX P gs B M Ts CT j pc op a b nx := by
  obtain ⟨hI, hL, hG, hS, hF, hU, hV, hP, hC, hN, hX, hA, hR, hrk, hH, hNT⟩ := hT
  cases r with
  | nil => cases h
  | cons x r =>
  cases r with
  | nil => cases h
  | cons y r =>
  have h : ((op == 29 && tN T ow (x.toNat * 256 + y.toNat) == some a && nx == pc + 3) || chkX T ow (x.toNat * 256 + y.toNat) r pc op a nx) = true := h
  have h1 : DkAt (mC M j) pc [187] := dkd hD 0 (by rfl)
  have h2 : DkAt (mC M j) pc [187, x] := dkd hD 0 (by rfl)
  have h3 : DkAt (mC M j) pc [187, x, y] := dkd hD 0 (by rfl)
  simp only [Bool.or_eq_true] at h
  rcases h with h | h
  · simp only [Bool.and_eq_true, and_assoc, beq_iff_eq] at h
    obtain ⟨e, hi, h9⟩ := h
    subst e h9
    exact ⟨⟨_, dk_187 x y h3, (hN _ _ hi).1⟩, (hN _ _ hi).2.1, (hN _ _ hi).2.2.1, (hN _ _ hi).2.2.2, rfl⟩
  · rcases r with _ | ⟨d, _ | ⟨i, _ | ⟨z, _ | ⟨w, r⟩⟩⟩⟩
    · cases h
    · cases h
    · cases h
    · cases h
    · unfold chkX at h
      simp only [Bool.and_eq_true, and_assoc, beq_iff_eq] at h
      obtain ⟨e, e2, e3, hi, h9⟩ := h
      subst e e2 e3 h9
      exact hX _ _ _ hi _ (dk_187 x y h3) (dk_89 (dkd hD 3 (by rfl))) (dk_183 z w (dkd hD 4 (by rfl)))

theorem ck_188 {T : DT} {j ow rk : Nat} {ini : Bool} {r : List UInt8} {pc op a : Nat} {b : Int} {nx : Nat} (hT : TOK D cl dA NT rt KX P gs B M Ts CT T j ow rk ini) (h : chk0 T ow rk (pNl P j) ini 188 r pc op a b nx = true) (hD : DkAt (mC M j) pc (188 :: r)) : InsOK D cl dA NT rt KX P gs B M Ts CT j pc op a b nx := by
  obtain ⟨hI, hL, hG, hS, hF, hU, hV, hP, hC, hN, hX, hA, hR, hrk, hH, hNT⟩ := hT
  cases r with
  | nil => cases h
  | cons x r =>
  have h : (op == 28 && nx == pc + 2 && ((x == 10 && a == 0) || (x == 11 && a == 1) || (x == 8 && a == 2) || (x == 4 && a == 3))) = true := h
  have h1 : DkAt (mC M j) pc [188] := dkd hD 0 (by rfl)
  have h2 : DkAt (mC M j) pc [188, x] := dkd hD 0 (by rfl)
  simp only [Bool.and_eq_true, Bool.or_eq_true, and_assoc, beq_iff_eq] at h
  obtain ⟨e, h9, h8⟩ := h
  subst e h9
  rcases h8 with ((h | h) | h) | h
  · obtain ⟨e, e2⟩ := h
    subst e e2
    exact ⟨by decide, hNT.1, hNT.2.1, dk_188_10 h2, rfl⟩
  · obtain ⟨e, e2⟩ := h
    subst e e2
    exact ⟨by decide, hNT.1, hNT.2.2.1, dk_188_11 h2, rfl⟩
  · obtain ⟨e, e2⟩ := h
    subst e e2
    exact ⟨by decide, hNT.1, hNT.2.2.2.1, dk_188_8 h2, rfl⟩
  · obtain ⟨e, e2⟩ := h
    subst e e2
    exact ⟨by decide, hNT.1, hNT.2.2.2.2, dk_188_4 h2, rfl⟩

theorem ck_189 {T : DT} {j ow rk : Nat} {ini : Bool} {r : List UInt8} {pc op a : Nat} {b : Int} {nx : Nat} (hT : TOK D cl dA NT rt KX P gs B M Ts CT T j ow rk ini) (h : chk0 T ow rk (pNl P j) ini 189 r pc op a b nx = true) (hD : DkAt (mC M j) pc (189 :: r)) : InsOK D cl dA NT rt KX P gs B M Ts CT j pc op a b nx := by
  obtain ⟨hI, hL, hG, hS, hF, hU, hV, hP, hC, hN, hX, hA, hR, hrk, hH, hNT⟩ := hT
  cases r with
  | nil => cases h
  | cons x r =>
  cases r with
  | nil => cases h
  | cons y r =>
  have h : (op == 30 && tA T ow (x.toNat * 256 + y.toNat) == some a && nx == pc + 3) = true := h
  have h1 : DkAt (mC M j) pc [189] := dkd hD 0 (by rfl)
  have h2 : DkAt (mC M j) pc [189, x] := dkd hD 0 (by rfl)
  have h3 : DkAt (mC M j) pc [189, x, y] := dkd hD 0 (by rfl)
  simp only [Bool.and_eq_true, and_assoc, beq_iff_eq] at h
  obtain ⟨e, hi, h9⟩ := h
  subst e h9
  exact ⟨⟨_, dk_189 x y h3, (hA _ _ hi).1⟩, (hA _ _ hi).2.1, (hA _ _ hi).2.2.1, (hA _ _ hi).2.2.2, rfl⟩

theorem ck_190 {T : DT} {j ow rk : Nat} {ini : Bool} {r : List UInt8} {pc op a : Nat} {b : Int} {nx : Nat} (hT : TOK D cl dA NT rt KX P gs B M Ts CT T j ow rk ini) (h : chk0 T ow rk (pNl P j) ini 190 r pc op a b nx = true) (hD : DkAt (mC M j) pc (190 :: r)) : InsOK D cl dA NT rt KX P gs B M Ts CT j pc op a b nx := by
  obtain ⟨hI, hL, hG, hS, hF, hU, hV, hP, hC, hN, hX, hA, hR, hrk, hH, hNT⟩ := hT
  have h : (op == 27 && nx == pc + 1) = true := h
  have h1 : DkAt (mC M j) pc [190] := dkd hD 0 (by rfl)
  simp only [Bool.and_eq_true, and_assoc, beq_iff_eq, decide_eq_true_eq] at h
  obtain ⟨e0, en0⟩ := h
  subst e0 en0
  exact ⟨dk_190 h1, rfl⟩

theorem ck_191 {T : DT} {j ow rk : Nat} {ini : Bool} {r : List UInt8} {pc op a : Nat} {b : Int} {nx : Nat} (hT : TOK D cl dA NT rt KX P gs B M Ts CT T j ow rk ini) (h : chk0 T ow rk (pNl P j) ini 191 r pc op a b nx = true) (hD : DkAt (mC M j) pc (191 :: r)) : InsOK D cl dA NT rt KX P gs B M Ts CT j pc op a b nx := by
  obtain ⟨hI, hL, hG, hS, hF, hU, hV, hP, hC, hN, hX, hA, hR, hrk, hH, hNT⟩ := hT
  have h : (op == 38) = true := h
  have h1 : DkAt (mC M j) pc [191] := dkd hD 0 (by rfl)
  have h := beq_iff_eq.mp h
  subst h
  exact ⟨dk_191 h1, fun ci => hH _ ci⟩

theorem ck_198 {T : DT} {j ow rk : Nat} {ini : Bool} {r : List UInt8} {pc op a : Nat} {b : Int} {nx : Nat} (hT : TOK D cl dA NT rt KX P gs B M Ts CT T j ow rk ini) (h : chk0 T ow rk (pNl P j) ini 198 r pc op a b nx = true) (hD : DkAt (mC M j) pc (198 :: r)) : InsOK D cl dA NT rt KX P gs B M Ts CT j pc op a b nx := by
  obtain ⟨hI, hL, hG, hS, hF, hU, hV, hP, hC, hN, hX, hA, hR, hrk, hH, hNT⟩ := hT
  cases r with
  | nil => cases h
  | cons x r =>
  cases r with
  | nil => cases h
  | cons y r =>
  have h : (op == 18 && decide ((pc : Int) + Reader.signed 16 (x.toNat * 256 + y.toNat) = (b.toNat : Int)) && nx == pc + 3) = true := h
  have h1 : DkAt (mC M j) pc [198] := dkd hD 0 (by rfl)
  have h2 : DkAt (mC M j) pc [198, x] := dkd hD 0 (by rfl)
  have h3 : DkAt (mC M j) pc [198, x, y] := dkd hD 0 (by rfl)
  simp only [Bool.and_eq_true, and_assoc, beq_iff_eq, decide_eq_true_eq] at h
  obtain ⟨e0, hoff, en0⟩ := h
  subst e0 en0
  exact ⟨⟨_, dk_198 x y h3, hoff⟩, rfl⟩

theorem ck_199 {T : DT} {j ow rk : Nat} {ini : Bool} {r : List UInt8} {pc op a : Nat} {b : Int} {nx : Nat} (hT : TOK D cl dA NT rt KX P gs B M Ts CT T j ow rk ini) (h : chk0 T ow rk (pNl P j) ini 199 r pc op a b nx = true) (hD : DkAt (mC M j) pc (199 :: r)) : InsOK D cl dA NT rt KX P gs B M Ts CT j pc op a b nx := by
  obtain ⟨hI, hL, hG, hS, hF, hU, hV, hP, hC, hN, hX, hA, hR, hrk, hH, hNT⟩ := hT
  cases r with
  | nil => cases h
  | cons x r =>
  cases r with
  | nil => cases h
  | cons y r =>
  have h : (op == 19 && decide ((pc : Int) + Reader.signed 16 (x.toNat * 256 + y.toNat) = (b.toNat : Int)) && nx == pc + 3) = true := h
  have h1 : DkAt (mC M j) pc [199] := dkd hD 0 (by rfl)
  have h2 : DkAt (mC M j) pc [199, x] := dkd hD 0 (by rfl)
  have h3 : DkAt (mC M j) pc [199, x, y] := dkd hD 0 (by rfl)
  simp only [Bool.and_eq_true, and_assoc, beq_iff_eq, decide_eq_true_eq] at h
  obtain ⟨e0, hoff, en0⟩ := h
  subst e0 en0
  exact ⟨⟨_, dk_199 x y h3, hoff⟩, rfl⟩

theorem chk0_ok {T : DT} {j ow rk : Nat} {ini : Bool} {r : List UInt8} {pc op a : Nat} {b : Int} {nx : Nat} {x : UInt8} (hT : TOK D cl dA NT rt KX P gs B M Ts CT T j ow rk ini) (h : chk0 T ow rk (pNl P j) ini x.toNat r pc op a b nx = true) (hD : DkAt (mC M j) pc (x :: r)) : InsOK D cl dA NT rt KX P gs B M Ts CT j pc op a b nx := by
  generalize hx : x.toNat = o at h
  have hxo : x = UInt8.ofNat o := by rw [← hx]; simp
  have h0 := h
  unfold chk0 at h
  split at h
  · subst hxo; exact ck_1 hT h0 hD
  · subst hxo; exact ck_2 hT h0 hD
  · subst hxo; exact ck_3 hT h0 hD
  · subst hxo; exact ck_4 hT h0 hD
  · subst hxo; exact ck_5 hT h0 hD
  · subst hxo; exact ck_6 hT h0 hD
  · subst hxo; exact ck_7 hT h0 hD
  · subst hxo; exact ck_8 hT h0 hD
  · subst hxo; exact ck_9 hT h0 hD
  · subst hxo; exact ck_10 hT h0 hD
  · subst hxo; exact ck_16 hT h0 hD
  · subst hxo; exact ck_17 hT h0 hD
  · subst hxo; exact ck_18 hT h0 hD
  · subst hxo; exact ck_19 hT h0 hD
  · subst hxo; exact ck_20 hT h0 hD
  · subst hxo; exact ck_21 hT h0 hD
  · subst hxo; exact ck_22 hT h0 hD
  · subst hxo; exact ck_25 hT h0 hD
  · subst hxo; exact ck_26 hT h0 hD
  · subst hxo; exact ck_27 hT h0 hD
  · subst hxo; exact ck_28 hT h0 hD
  · subst hxo; exact ck_29 hT h0 hD
  · subst hxo; exact ck_30 hT h0 hD
  · subst hxo; exact ck_31 hT h0 hD
  · subst hxo; exact ck_32 hT h0 hD
  · subst hxo; exact ck_33 hT h0 hD
  · subst hxo; exact ck_42 hT h0 hD
  · subst hxo; exact ck_43 hT h0 hD
  · subst hxo; exact ck_44 hT h0 hD
  · subst hxo; exact ck_45 hT h0 hD
  · subst hxo; exact ck_46 hT h0 hD
  · subst hxo; exact ck_47 hT h0 hD
  · subst hxo; exact ck_50 hT h0 hD
  · subst hxo; exact ck_51 hT h0 hD
  · subst hxo; exact ck_54 hT h0 hD
  · subst hxo; exact ck_55 hT h0 hD
  · subst hxo; exact ck_58 hT h0 hD
  · subst hxo; exact ck_59 hT h0 hD
  · subst hxo; exact ck_60 hT h0 hD
  · subst hxo; exact ck_61 hT h0 hD
  · subst hxo; exact ck_62 hT h0 hD
  · subst hxo; exact ck_63 hT h0 hD
  · subst hxo; exact ck_64 hT h0 hD
  · subst hxo; exact ck_65 hT h0 hD
  · subst hxo; exact ck_66 hT h0 hD
  · subst hxo; exact ck_76 hT h0 hD
  · subst hxo; exact ck_77 hT h0 hD
  · subst hxo; exact ck_78 hT h0 hD
  · subst hxo; exact ck_79 hT h0 hD
  · subst hxo; exact ck_80 hT h0 hD
  · subst hxo; exact ck_83 hT h0 hD
  · subst hxo; exact ck_84 hT h0 hD
  · subst hxo; exact ck_87 hT h0 hD
  · subst hxo; exact ck_89 hT h0 hD
  · subst hxo; exact ck_92 hT h0 hD
  · subst hxo; exact ck_96 hT h0 hD
  · subst hxo; exact ck_97 hT h0 hD
  · subst hxo; exact ck_100 hT h0 hD
  · subst hxo; exact ck_101 hT h0 hD
  · subst hxo; exact ck_104 hT h0 hD
  · subst hxo; exact ck_105 hT h0 hD
  · subst hxo; exact ck_108 hT h0 hD
  · subst hxo; exact ck_109 hT h0 hD
  · subst hxo; exact ck_112 hT h0 hD
  · subst hxo; exact ck_113 hT h0 hD
  · subst hxo; exact ck_116 hT h0 hD
  · subst hxo; exact ck_117 hT h0 hD
  · subst hxo; exact ck_120 hT h0 hD
  · subst hxo; exact ck_121 hT h0 hD
  · subst hxo; exact ck_122 hT h0 hD
  · subst hxo; exact ck_123 hT h0 hD
  · subst hxo; exact ck_124 hT h0 hD
  · subst hxo; exact ck_125 hT h0 hD
  · subst hxo; exact ck_126 hT h0 hD
  · subst hxo; exact ck_127 hT h0 hD
  · subst hxo; exact ck_128 hT h0 hD
  · subst hxo; exact ck_129 hT h0 hD
  · subst hxo; exact ck_130 hT h0 hD
  · subst hxo; exact ck_131 hT h0 hD
  · subst hxo; exact ck_132 hT h0 hD
  · subst hxo; exact ck_133 hT h0 hD
  · subst hxo; exact ck_136 hT h0 hD
  · subst hxo; exact ck_145 hT h0 hD
  · subst hxo; exact ck_146 hT h0 hD
  · subst hxo; exact ck_148 hT h0 hD
  · subst hxo; exact ck_153 hT h0 hD
  · subst hxo; exact ck_154 hT h0 hD
  · subst hxo; exact ck_155 hT h0 hD
  · subst hxo; exact ck_156 hT h0 hD
  · subst hxo; exact ck_157 hT h0 hD
  · subst hxo; exact ck_158 hT h0 hD
  · subst hxo; exact ck_159 hT h0 hD
  · subst hxo; exact ck_160 hT h0 hD
  · subst hxo; exact ck_161 hT h0 hD
  · subst hxo; exact ck_162 hT h0 hD
  · subst hxo; exact ck_163 hT h0 hD
  · subst hxo; exact ck_164 hT h0 hD
  · subst hxo; exact ck_167 hT h0 hD
  · subst hxo; exact ck_172 hT h0 hD
  · subst hxo; exact ck_173 hT h0 hD
  · subst hxo; exact ck_176 hT h0 hD
  · subst hxo; exact ck_177 hT h0 hD
  · subst hxo; exact ck_178 hT h0 hD
  · subst hxo; exact ck_180 hT h0 hD
  · subst hxo; exact ck_181 hT h0 hD
  · subst hxo; exact ck_182 hT h0 hD
  · subst hxo; exact ck_183 hT h0 hD
  · subst hxo; exact ck_184 hT h0 hD
  · subst hxo; exact ck_187 hT h0 hD
  · subst hxo; exact ck_188 hT h0 hD
  · subst hxo; exact ck_189 hT h0 hD
  · subst hxo; exact ck_190 hT h0 hD
  · subst hxo; exact ck_191 hT h0 hD
  · subst hxo; exact ck_198 hT h0 hD
  · subst hxo; exact ck_199 hT h0 hD
  · cases h
end CK
