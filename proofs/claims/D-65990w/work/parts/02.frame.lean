/-! L1: the heap, the locals, a walk's standing -/
abbrev AH : Type := (Nat → Nat × Nat) × (Nat → Nat → Int) × Nat × Nat
def hk (h : AH) (a : Nat) : Nat × Nat := h.1 a
def hv (h : AH) (a k : Nat) : Int := h.2.1 a k
def hnx (h : AH) : Nat := h.2.2.1
def hus (h : AH) : Nat := h.2.2.2
def hset (h : AH) (a k : Nat) (x : Int) : AH := (h.1, fun b j => if b = a then (if j = k then x else h.2.1 b j) else h.2.1 b j, h.2.2)
def hnew (h : AH) (kd : Nat × Nat) (sz : Nat) : AH := (fun b => if b = h.2.2.1 then kd else h.1 b, fun b j => if b = h.2.2.1 then 0 else h.2.1 b j, h.2.2.1 + 1, h.2.2.2 + sz)
/-- the value's tag of an array's element; of a field -/
def et (t : Nat) : Nat := match t with
  | 0 => 0
  | 1 => 1
  | 2 => 0
  | 3 => 0
  | _ => 2
/-- what an element of an array may be -/
def ea (t : Nat) (x : Int) : Prop := match t with
  | 0 => cn 0 x
  | 1 => cn 1 x
  | 2 => -128 ≤ x ∧ x < 128
  | 3 => x = 0 ∨ x = 1
  | _ => cn 2 x
theorem ea_cn {t : Nat} {x : Int} (h : ea t x) : cn (et t) x := by
  match t, h with
  | 0, h => exact h
  | 1, h => exact h
  | 2, h =>
    have h : -128 ≤ x ∧ x < 128 := h
    show -2147483648 ≤ x ∧ x < 2147483648
    omega
  | 3, h =>
    have h : x = 0 ∨ x = 1 := h
    show -2147483648 ≤ x ∧ x < 2147483648
    omega
  | n + 4, h => exact h
theorem ea_0 (t : Nat) : ea t 0 := by
  match t with
  | 0 => exact ⟨by decide, by decide⟩
  | 1 => exact ⟨by decide, by decide⟩
  | 2 => exact ⟨by decide, by decide⟩
  | 3 => exact Or.inl rfl
  | n + 4 => exact (show (0 : Int) ≤ 0 by decide)
def vt (t : Nat) : Nat := match t with
  | 0 => 0
  | 1 => 1
  | 3 => 0
  | _ => 2
def aT (rt : Nat → FieldType) (t : Nat) : FieldType := match t with
  | 0 => .int
  | 1 => .long
  | 2 => .byte
  | 3 => .boolean
  | n + 4 => rt n
def tysOf (rt : Nat → FieldType) (dA : Nat → ClassId) (NT : Nat) : List (ClassId × FieldType) := (List.range NT).map fun t => (dA t, aT rt t)
theorem tysOf_at {rt : Nat → FieldType} {dA : Nat → ClassId} {NT t : Nat} (h : t < NT) : (tysOf rt dA NT)[t]? = some (dA t, aT rt t) := by
  unfold tysOf
  simp [h]
/-- an array's cell of which all but the components is given -/
def arrX (cX : Cell) (n : Nat) (f : Nat → Value) : Cell := { cX with slots := (arrV cX.cls n f).slots }
theorem arrX_size (cX : Cell) (n : Nat) (f : Nat → Value) : (arrX cX n f).slots.size = n := arrV_size cX.cls n f
theorem arrX_read (cX : Cell) {n j : Nat} (f : Nat → Value) (hj : j < n) : (arrX cX n f).slots[j]? = some (f j) := arrV_read cX.cls f hj
theorem arrX_store (cX : Cell) (n k : Nat) (f : Nat → Value) (x : Value) : (arrX cX n f).setSlot k x = arrX cX n (updV f k x) :=
  congrArg (fun z => ({ cX with slots := z } : Cell)) (congrArg Cell.slots (arrV_store cX.cls n k f x))
/-- the cells that an array may have: of the class known, or the script's -/
def okA (dA : Nat → ClassId) (t : Nat) (cX : Cell) : Prop := (cX.cls = dA t ∨ (t = 0 ∧ cX.cls = dA 100)) ∧ cX.vm ≠ .unknown ∧ ∀ q, cX.vm ≠ .statics q
theorem okA_arr (dA : Nat → ClassId) (t n : Nat) (f : Nat → Value) : okA dA t (arrV (dA t) n f) := ⟨Or.inl rfl, (fun q => by cases q), (fun q h => by cases h)⟩
/-- an object's cell -/
def CO (D : va_G) (cl : List vw_C) (ft : Nat → Nat → Nat) (h : AH) (H : Heap) (a ci : Nat) : Prop :=
  ∃ (r : vw_C) (cell : Cell), cl[ci]? = some r ∧ H[a]? = some cell ∧ cell.cls = D.1 ci ∧ (cell.vm ≠ .unknown ∧ cell.vm.isStatics = false ∧ (ci ≠ 29 → cell.vm = .none)) ∧ (ci = 19 → cell.monitor.owner = none ∧ cell.monitor.count = 0 ∧ cell.slots.size = 7) ∧ ∀ k, k < r.2.2 → cell.slots[D.2 ci k]? = some (vv (vt (ft ci k)) (hv h a k)) ∧ cn (vt (ft ci k)) (hv h a k)
/-- an array's cell -/
def CA (dA : Nat → ClassId) (h : AH) (H : Heap) (a t n : Nat) : Prop :=
  ∃ cX : Cell, okA dA t cX ∧ H[a]? = some (arrX cX n (fun j => vv (et t) (hv h a j))) ∧ n < 2147483648 ∧ ∀ j, j < n → ea t (hv h a j)
def RH (D : va_G) (cl : List vw_C) (dA : Nat → ClassId) (NT : Nat) (ft : Nat → Nat → Nat) (h : AH) (H : Heap) : Prop :=
  hnx h = H.size ∧ (∀ a ci, hk h a = (1, ci) → CO D cl ft h H a ci) ∧ ∀ a t n, hk h a = (t + 2, n) → t < NT ∧ CA dA h H a t n
/-- the locals -/
def LR (ls : Array Slot) (nL : Nat) (l : List AV) : Prop := ls.size = nL ∧ lv_wf ls ∧ ∀ (k t : Nat) (x : Int), l[k]? = some (t, x) → t ≤ 2 → ls[k]? = some (.val (vv t x)) ∧ cn t x
def lst1 (l : List AV) (k : Nat) (v : AV) : List AV := match k with
  | 0 => l.set 0 v
  | j + 1 => ((if (l.getD j (9, 0)).1 = 1 then l.set j (9, 0) else l)).set (j + 1) v
def lst2 (l : List AV) (k : Nat) (v : AV) : List AV := (lst1 l k v).set (k + 1) (9, 0)
def toL (l : List AV) : List (Nat × Value) := (List.range l.length).filterMap fun k => (l[k]?).bind fun q => if q.1 ≤ 2 then some (k, vp q) else none
theorem mem_toL {l : List AV} {k : Nat} {v : Value} : (k, v) ∈ toL l ↔ ∃ (t : Nat) (x : Int), l[k]? = some (t, x) ∧ t ≤ 2 ∧ v = vv t x := by
  unfold toL
  constructor
  · intro h
    obtain ⟨j, -, hj⟩ := List.mem_filterMap.mp h
    obtain ⟨q, hq, hq2⟩ := Option.bind_eq_some_iff.mp hj
    split at hq2
    · next ht =>
      cases hq2
      exact ⟨q.1, q.2, hq, ht, rfl⟩
    · cases hq2
  · rintro ⟨t, x, h1, h2, rfl⟩
    refine List.mem_filterMap.mpr ⟨k, List.mem_range.mpr (List.getElem?_eq_some_iff.mp h1).1, ?_⟩
    rw [h1]
    simp [h2, vp]
theorem LR.has {ls : Array Slot} {nL : Nat} {l : List AV} (h : LR ls nL l) : lv_has ls nL (toL l) :=
  ⟨h.1, h.2.1, fun q hq => by
    obtain ⟨t, x, h1, h2, h3⟩ := mem_toL.mp (show (q.1, q.2) ∈ toL l from hq)
    rw [h3]
    exact (h.2.2 _ _ _ h1 h2).1⟩
theorem vv_cat (t : Nat) (x : Int) : (vv t x).category = if t = 1 then 2 else 1 := by
  unfold vv
  split
  · simp [Value.category]
  · simp [Value.category]
  · next h0 h1 =>
    rw [if_neg (fun q => h1 q)]
    split <;> simp [Value.category]
/-- locals behind a store -/
theorem LR.st1 {ls ls' : Array Slot} {nL : Nat} {l : List AV} {k t : Nat} {x : Int} (h : LR ls nL l) (hc : cn t x) (ht : t ≠ 1)
    (h' : lv_has ls' nL ((k, vv t x) :: (toL l).filter (fun q => !(q.1 == k) && !(q.1 + 1 == k && q.2.category == 2)))) : LR ls' nL (lst1 l k (t, x)) := by
  refine ⟨h'.1, h'.2.1, ?_⟩
  have key : ∀ (l1 : List AV), (∀ j, j ≠ k → ∀ q, l1[j]? = some q → q.1 ≤ 2 → l[j]? = some q ∧ ¬ (j + 1 = k ∧ q.1 = 1)) → ∀ (j t' : Nat) (x' : Int), (l1.set k (t, x))[j]? = some (t', x') → t' ≤ 2 → ls'[j]? = some (.val (vv t' x')) ∧ cn t' x' := by
    intro l1 hl1 j t' x' hj ht'
    by_cases e : j = k
    · subst e
      have : (t', x') = (t, x) := by
        rw [List.getElem?_set_self'] at hj
        cases h9 : l1[j]? with
        | none => rw [h9] at hj; cases hj
        | some q => rw [h9] at hj; exact (Option.some.inj hj).symm
      cases this
      exact ⟨h'.2.2 (j, vv t x) List.mem_cons_self, hc⟩
    · rw [List.getElem?_set_ne (Ne.symm e)] at hj
      obtain ⟨g1, g2⟩ := hl1 j e _ hj ht'
      obtain ⟨g3, g4⟩ := h.2.2 j t' x' g1 ht'
      refine ⟨h'.2.2 (j, vv t' x') (List.mem_cons_of_mem _ (List.mem_filter.mpr ⟨mem_toL.mpr ⟨t', x', g1, ht', rfl⟩, ?_⟩)), g4⟩
      simp only [vv_cat]
      by_cases e2 : j + 1 = k
      · have : t' ≠ 1 := fun q => g2 ⟨e2, q⟩
        simp [e, this]
      · simp [e, e2]
  unfold lst1
  match k, key with
  | 0, key => exact key l (fun j e q hq _ => ⟨hq, fun w => by omega⟩)
  | i + 1, key =>
    refine key _ (fun j e q hq hq2 => ?_)
    split at hq
    · next e1 =>
      by_cases e2 : j = i
      · subst e2
        rw [List.getElem?_set_self'] at hq
        cases h9 : l[j]? with
        | none => rw [h9] at hq; cases hq
        | some q' => rw [h9] at hq; have := (Option.some.inj hq).symm; subst this; exact absurd hq2 (show ¬ (9 : Nat) ≤ 2 by decide)
      · rw [List.getElem?_set_ne (Ne.symm e2)] at hq
        exact ⟨hq, fun w => e2 (by omega)⟩
    · next e1 =>
      refine ⟨hq, fun w => e1 ?_⟩
      have : j = i := by omega
      subst this
      rw [List.getD_eq_getElem?_getD, hq]
      exact w.2
theorem LR.st2 {ls ls' : Array Slot} {nL : Nat} {l : List AV} {k : Nat} {x : Int} (h : LR ls nL l) (hc : cn 1 x)
    (h' : lv_has ls' nL ((k, vv 1 x) :: (toL l).filter (fun q => !(q.1 == k) && (!(q.1 == k + 1) && !(q.1 + 1 == k && q.2.category == 2))))) : LR ls' nL (lst2 l k (1, x)) := by
  refine ⟨h'.1, h'.2.1, ?_⟩
  have key : ∀ (l1 : List AV), (∀ j, j ≠ k → ∀ q, l1[j]? = some q → q.1 ≤ 2 → l[j]? = some q ∧ ¬ (j + 1 = k ∧ q.1 = 1)) → ∀ (j t' : Nat) (x' : Int), ((l1.set k (1, x)).set (k + 1) (9, 0))[j]? = some (t', x') → t' ≤ 2 → ls'[j]? = some (.val (vv t' x')) ∧ cn t' x' := by
    intro l1 hl1 j t' x' hj ht'
    by_cases e9 : j = k + 1
    · subst e9
      rw [List.getElem?_set_self'] at hj
      cases h9 : (l1.set k (1, x))[k + 1]? with
      | none => rw [h9] at hj; cases hj
      | some q => rw [h9] at hj; have := (Option.some.inj hj).symm; cases this; exact absurd ht' (by decide)
    · rw [List.getElem?_set_ne (Ne.symm e9)] at hj
      by_cases e : j = k
      · subst e
        have : (t', x') = (1, x) := by
          rw [List.getElem?_set_self'] at hj
          cases h9 : l1[j]? with
          | none => rw [h9] at hj; cases hj
          | some q => rw [h9] at hj; exact (Option.some.inj hj).symm
        cases this
        exact ⟨h'.2.2 (j, vv 1 x) List.mem_cons_self, hc⟩
      · rw [List.getElem?_set_ne (Ne.symm e)] at hj
        obtain ⟨g1, g2⟩ := hl1 j e _ hj ht'
        obtain ⟨g3, g4⟩ := h.2.2 j t' x' g1 ht'
        refine ⟨h'.2.2 (j, vv t' x') (List.mem_cons_of_mem _ (List.mem_filter.mpr ⟨mem_toL.mpr ⟨t', x', g1, ht', rfl⟩, ?_⟩)), g4⟩
        simp only [vv_cat]
        by_cases e2 : j + 1 = k
        · have : t' ≠ 1 := fun q => g2 ⟨e2, q⟩
          simp [e, e9, this]
        · simp [e, e9, e2]
  unfold lst2 lst1
  match k, key with
  | 0, key => exact key l (fun j e q hq _ => ⟨hq, fun w => by omega⟩)
  | i + 1, key =>
    refine key _ (fun j e q hq hq2 => ?_)
    split at hq
    · next e1 =>
      by_cases e2 : j = i
      · subst e2
        rw [List.getElem?_set_self'] at hq
        cases h9 : l[j]? with
        | none => rw [h9] at hq; cases hq
        | some q' => rw [h9] at hq; have := (Option.some.inj hq).symm; subst this; exact absurd hq2 (show ¬ (9 : Nat) ≤ 2 by decide)
      · rw [List.getElem?_set_ne (Ne.symm e2)] at hq
        exact ⟨hq, fun w => e2 (by omega)⟩
    · next e1 =>
      refine ⟨hq, fun w => e1 ?_⟩
      have : j = i := by omega
      subst this
      rw [List.getD_eq_getElem?_getD, hq]
      exact w.2
