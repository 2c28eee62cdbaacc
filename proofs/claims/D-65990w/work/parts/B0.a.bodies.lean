/-! L3: bodies: exceptions by Bool; the desk's solids -/
theorem cT {b : Bool} {p : Prop} (h : p) : cond b True p := by cases b <;> first | exact h | trivial
theorem cF {b : Bool} {p : Prop} (h : p) : cond b p True := by cases b <;> first | exact h | trivial
theorem b01 {b : Bool} : (if b = true then (1 : Int) else 0) ≠ 0 ↔ b = true := by cases b <;> simp
theorem b01z {b : Bool} : (if b = true then (1 : Int) else 0) = 0 ↔ b = false := by cases b <;> simp
theorem cnot {b : Bool} : cond (tst 0 (if b = true then (1 : Int) else 0) 0) (0 : Int) 1 = if b = true then 1 else 0 := by cases b <;> rfl
theorem cnot1 {b : Bool} : cond (tst 1 (if b = true then (1 : Int) else 0) 0) (0 : Int) 1 = if b = true then 0 else 1 := by cases b <;> rfl
/-- a call of the desk: returns, or throws from a heap an exception of a class -/
def Opx (t : Nat) (o : Option Rs) (R : Int → AH → Prop) (E : Nat → AH → Prop) : Prop := Vtx t o R (fun x h' => ∃ c q, E c q ∧ x = rf (hnx q) ∧ h' = hnew q (1, c) 6)
section INQ
variable {gs : Nat → AV} {B n d j t : Nat} {av : List AV} {h : AH}
theorem Vt.inq {R : Int → AH → Prop} {L' : List AV} {D : Nat} (hd : D + 1 ≤ d) (hl : (entL av).length ≤ pNl PP j) (hL : ent (pNl PP j) av = L') (k : ∀ d, D ≤ d → ∀ Q : Rs → Prop, (∀ x h', R x h' → Q ((0, (t, x)), h')) → Ends (ev PP gs B d j 0 L' [] h) Q) : Vt t (cll PP (ev PP gs B) d j av h) R :=
  Vt.into hd hl hL (fun d hd => k d hd _ (fun x h' r => ⟨x, h', rfl, r⟩))
theorem Vd.inq {R : AH → Prop} {L' : List AV} {D : Nat} (hd : D + 1 ≤ d) (hl : (entL av).length ≤ pNl PP j) (hL : ent (pNl PP j) av = L') (k : ∀ d, D ≤ d → ∀ Q : Rs → Prop, (∀ h', R h' → Q ((0, (9, 0)), h')) → Ends (ev PP gs B d j 0 L' [] h) Q) : Vd (cll PP (ev PP gs B) d j av h) R :=
  Vd.into hd hl hL (fun d hd => k d hd _ (fun h' r => ⟨h', rfl, r⟩))
theorem Opx.inq {R : Int → AH → Prop} {E : Nat → AH → Prop} {L' : List AV} {D : Nat} (hd : D + 1 ≤ d) (hl : (entL av).length ≤ pNl PP j) (hL : ent (pNl PP j) av = L') (k : ∀ d, D ≤ d → ∀ Q : Rs → Prop, (∀ x h', R x h' → Q ((0, (t, x)), h')) → (∀ c q, E c q → Q ((1, (2, rf (hnx q))), hnew q (1, c) 6)) → Ends (ev PP gs B d j 0 L' [] h) Q) : Opx t (cll PP (ev PP gs B) d j av h) R E :=
  Vtx.into hd hl hL (fun d hd => k d hd _ (fun x h' r => Or.inl ⟨x, h', rfl, r⟩) (fun c q e => Or.inr ⟨_, _, rfl, c, q, e, rfl, rfl⟩))
end INQ
section EXB
variable {gv : Nat → Int} {B n d j pc nx : Nat} {L rest : List AV} {h : AH} {Q : Rs → Prop} {v : Int} {p : Bool}
theorem Ends.thn {c : Nat} {k : Nat → List AV → List AV → AH → Option Rs} (hp : pHn PP j pc c = some none) (q : Q ((1, (2, rf (hnx h))), hnew h (1, c) 6)) : Ends (thr PP j pc L (rf (hnx h)) (hnew h (1, c) 6) k) Q :=
  Ends.th (c := c) (by rw [ad_rf, hk_new, if_pos rfl]) hp q
theorem Ends.need (l : LX B n h) (hd : 10 ≤ d) (e : v = if p = true then 1 else 0) (k : p = true → Ends (ev PP (gsF gv) B d j nx L rest h) Q) (ke : p = false → Ends (thr PP j pc L (rf (hnx h)) (hnew h (1, 27) 6) (ev PP (gsF gv) B d j)) Q) :
    Ends (aft PP j pc nx L rest (ev PP (gsF gv) B d j) (cll PP (ev PP (gsF gv) B) d 64 [(0, v)] h)) Q := by
  refine Ends.cvx l (by decide +kernel) (c_need64 l hd) (fun h1 l1 _ _ ⟨z, e1⟩ => ?_) (fun x h1 l1 _ _ ⟨z, w⟩ => ?_)
  · subst e1
    rw [e] at z
    exact k (b01.mp z)
  · obtain ⟨rfl, rfl⟩ := w
    rw [e] at z
    exact ke (b01z.mp z)
theorem Ends.there (l : LX B n h) (hd : 10 ≤ d) (e : v = if p = true then 1 else 0) (k : p = true → Ends (ev PP (gsF gv) B d j nx L rest h) Q) (ke : p = false → Ends (thr PP j pc L (rf (hnx h)) (hnew h (1, 31) 6) (ev PP (gsF gv) B d j)) Q) :
    Ends (aft PP j pc nx L rest (ev PP (gsF gv) B d j) (cll PP (ev PP (gsF gv) B) d 98 [(0, v)] h)) Q := by
  refine Ends.cvx l (by decide +kernel) (c_there98 l hd) (fun h1 l1 _ _ ⟨z, e1⟩ => ?_) (fun x h1 l1 _ _ ⟨z, w⟩ => ?_)
  · subst e1
    rw [e] at z
    exact k (b01.mp z)
  · obtain ⟨rfl, rfl⟩ := w
    rw [e] at z
    exact ke (b01z.mp z)
theorem Ends.state (l : LX B n h) (hd : 10 ≤ d) (e : v = if p = true then 1 else 0) (k : p = true → Ends (ev PP (gsF gv) B d j nx L rest h) Q) (ke : p = false → Ends (thr PP j pc L (rf (hnx h)) (hnew h (1, 28) 6) (ev PP (gsF gv) B d j)) Q) :
    Ends (aft PP j pc nx L rest (ev PP (gsF gv) B d j) (cll PP (ev PP (gsF gv) B) d 93 [(0, v)] h)) Q := by
  refine Ends.cvx l (by decide +kernel) (c_state93 l hd) (fun h1 l1 _ _ ⟨z, e1⟩ => ?_) (fun x h1 l1 _ _ ⟨z, w⟩ => ?_)
  · subst e1
    rw [e] at z
    exact k (b01.mp z)
  · obtain ⟨rfl, rfl⟩ := w
    rw [e] at z
    exact ke (b01z.mp z)
/-- the model's fails: what it leaves -/
theorem Ends.fails (l : LX B n h) (hd : 10 ≤ d) {c : Nat} (e : v = (c : Int)) (k : Ends (ev PP (gsF gv) B d j nx L ((0, if c = 0 then 0 else 1) :: rest) (hset h (B + 149) 0 (c : Int))) Q) :
    Ends (aft PP j pc nx L rest (ev PP (gsF gv) B d j) (cll PP (ev PP (gsF gv) B) d 622 [(2, rf (B + 149)), (0, v)] h)) Q := by
  refine Ends.ct l (by decide +kernel) (by decide) (c_fails l hd (x := v)) (fun y h1 l1 _ _ _ ⟨ey, e1⟩ => ?_)
  rw [e1, ey, e]
  by_cases hc : c = 0
  · rw [if_pos hc] at k
    rw [if_neg (by omega)]
    exact k
  · rw [if_neg hc] at k
    rw [if_pos (by omega)]
    exact k
theorem Ends.mok (l : LX B n h) (hd : 10 ≤ d) (e : v = 0) (k : Ends (ev PP (gsF gv) B d j nx L ((0, 0) :: rest) (hset h (B + 149) 0 0)) Q) :
    Ends (aft PP j pc nx L rest (ev PP (gsF gv) B d j) (cll PP (ev PP (gsF gv) B) d 622 [(2, rf (B + 149)), (0, v)] h)) Q := Ends.fails l hd (c := 0) e (by rw [if_pos rfl]; exact k)
theorem Ends.mbad (l : LX B n h) (hd : 10 ≤ d) {c : Nat} (hc : c ≠ 0) (e : v = (c : Int)) (k : Ends (ev PP (gsF gv) B d j nx L ((0, 1) :: rest) (hset h (B + 149) 0 (c : Int))) Q) :
    Ends (aft PP j pc nx L rest (ev PP (gsF gv) B d j) (cll PP (ev PP (gsF gv) B) d 622 [(2, rf (B + 149)), (0, v)] h)) Q := Ends.fails l hd e (by rw [if_neg hc]; exact k)
/-- another call's throw goes on -/
theorem Ends.cox {t j' : Nat} {av : List AV} {R : Int → AH → Prop} {E : Nat → AH → Prop} (l : LX B n h) (hm : mkT j' &&& fxM = 0) (ht : ¬ t = 9) (v : Opx t (cll PP (ev PP (gsF gv) B) d j' av h) R E) (k : ∀ x h', LX B n h' → R x h' → Ends (ev PP (gsF gv) B d j nx L ((t, x) :: rest) h') Q) (ke : ∀ c q, E c q → Ends (thr PP j pc L (rf (hnx q)) (hnew q (1, c) 6) (ev PP (gsF gv) B d j)) Q) :
    Ends (aft PP j pc nx L rest (ev PP (gsF gv) B d j) (cll PP (ev PP (gsF gv) B) d j' av h)) Q :=
  Ends.ctx l hm ht v (fun x h1 l1 _ _ r => k x h1 l1 r) (fun x h1 l1 _ _ ⟨c, q, e, e1, e2⟩ => by subst e1; subst e2; exact ke c q e)
end EXB
theorem Fr.agr {A : Nat → Prop} {h t : AH} (f : Fr A h t) : Agr (fun c _ => A c) h t := by
  obtain ⟨f1, f2, f3, f4⟩ := f
  refine ⟨funext fun c => f2 c, ?_, fun c k hn => f1 c hn k⟩
  have e : t.2.2 = (hnx t, hus t) := rfl
  have e' : h.2.2 = (hnx h, hus h) := rfl
  rw [e, e', f3, f4]
/-- is the solid o there; its row in the model; its cell -/
def thS (is : Nat → Bool) (o : Int) : Bool := decide (o = -1) || (decide (0 ≤ o ∧ o < 10) && is o.toNat)
def rwS (o : Int) : Nat := if o = -1 then 10 else o.toNat
def clS (B : Nat) (cl : Nat → Nat) (o : Int) : Nat := if o = -1 then B + 117 else cl o.toNat
/-- the desk's bodies and THE PART; the model's -/
def BdC (B n : Nat) (h : AH) (is : Nat → Bool) (cl : Nat → Nat) (S : Nat → Nat → Bool) : Prop := (∀ i, i < 10 → hv h (B + 28) i = (if is i = true then 1 else 0) ∧ (is i = true → hv h (B + 27) i = rf (cl i) ∧ B + 246 ≤ cl i ∧ cl i < hnx h ∧ SG n h (cl i) (S i))) ∧ SG n h (B + 117) (S 10)
def BdM (B n : Nat) (h : AH) (is : Nat → Bool) (S : Nat → Nat → Bool) : Prop := (∀ i, i < 10 → hv h (B + 193) i = (if is i = true then 1 else 0) ∧ (is i = true → MB B n h i (S i))) ∧ MB B n h 10 (S 10)
section BODIES
variable {gv : Nat → Int} {B n d : Nat} {h : AH} {is : Nat → Bool} {cl : Nat → Nat} {S : Nat → Nat → Bool} {o : Int}
theorem thS_c (hs : thS is o = true) : o = -1 ∨ ∃ i : Nat, i < 10 ∧ o = (i : Int) ∧ is i = true := by
  unfold thS at hs
  rw [Bool.or_eq_true, Bool.and_eq_true, decide_eq_true_eq, decide_eq_true_eq] at hs
  rcases hs with e | ⟨e, e2⟩
  · exact Or.inl e
  · exact Or.inr ⟨o.toNat, by omega, by omega, e2⟩
theorem BdC.sol (l : LX B n h) (b : BdC B n h is cl S) (hs : thS is o = true) : SG n h (clS B cl o) (S (rwS o)) ∧ (clS B cl o = B + 117 ∨ B + 246 ≤ clS B cl o) ∧ clS B cl o < hnx h := by
  have := l.2.2
  rcases thS_c hs with rfl | ⟨i, hi, rfl, e⟩
  · exact ⟨b.2, Or.inl rfl, by show B + 117 < hnx h; omega⟩
  · obtain ⟨_, b2, b3, b4⟩ := (b.1 i hi).2 e
    have e1 : clS B cl (i : Int) = cl i := by unfold clS; rw [if_neg (by omega)]; rfl
    have e2 : rwS (i : Int) = i := by unfold rwS; rw [if_neg (by omega)]; rfl
    rw [e1, e2]
    exact ⟨b4, Or.inr b2, b3⟩
theorem BdM.sol (b : BdM B n h is S) (hs : thS is o = true) : MB B n h (rwS o) (S (rwS o)) ∧ rwS o < 11 := by
  rcases thS_c hs with rfl | ⟨i, hi, rfl, e⟩
  · exact ⟨b.2, by decide⟩
  · have e2 : rwS (i : Int) = i := by unfold rwS; rw [if_neg (by omega)]; rfl
    rw [e2]
    exact ⟨(b.1 i hi).2 e, by omega⟩
theorem v806_is (hs : thS is o = true) : v806 o = (rwS o : Int) := by
  rcases thS_c hs with rfl | ⟨i, hi, rfl, e⟩
  · rfl
  · have e2 : rwS (i : Int) = i := by unfold rwS; rw [if_neg (by omega)]; rfl
    unfold v806
    rw [e2, tst3, decide_eq_false (by omega)]
    rfl
theorem q44_ok : q44 B h o := by
  unfold q44
  rw [v42_in, tst0]
  by_cases e : 0 ≤ o ∧ o ≤ 9
  · rw [if_pos e]
    exact cT ⟨e.1, by omega⟩
  · rw [if_neg e]
    exact trivial
theorem v44_is (b : ∀ i, i < 10 → hv h (B + 28) i = (if is i = true then 1 else 0)) : v44 B h o = if (decide (0 ≤ o ∧ o < 10) && is o.toNat) = true then 1 else 0 := by
  unfold v44
  rw [v42_in]
  by_cases e : 0 ≤ o ∧ o ≤ 9
  · have e' : 0 ≤ o ∧ o < 10 := by omega
    rw [if_pos e, b o.toNat (by omega), decide_eq_true e', Bool.true_and]
    exact cnot
  · have e' : ¬ (0 ≤ o ∧ o < 10) := by omega
    rw [if_neg e, decide_eq_false e', Bool.false_and]
    rfl
theorem v44_s (b : ∀ i, i < 10 → hv h (B + 28) i = (if is i = true then 1 else 0)) : cond (tst 0 o (-1)) (1 : Int) (cond (tst 0 (v44 B h o) 0) 0 1) = if thS is o = true then 1 else 0 := by
  rw [v44_is b, cnot, tst0]
  unfold thS
  by_cases e : o = -1
  · rw [decide_eq_true e, Bool.true_or]; rfl
  · rw [decide_eq_false e, Bool.false_or]; rfl
/-- solid: what a number stands for -/
theorem c_solid89 (l : LX B n h) (hd : 12 ≤ d) (b : BdC B n h is cl S) : Opx 2 (cll PP (ev PP (gsF gv) B) d 89 [(2, rf (B + 0)), (0, o)] h) (fun x h' => thS is o = true ∧ x = rf (clS B cl o) ∧ h' = h) (fun c q => c = 31 ∧ thS is o = false ∧ q = h) := by
  refine Vtx.into (D := 11) hd (Nat.le_of_ble_eq_true rfl) rfl (fun d hd => ?_)
  refine Ends.eq (b89_0 (n := n) (by (repeat' first | assumption | refine LX.setF _ _ ?_ (by decide +kernel) | refine LX.setS ?_ rfl | refine LX.setA ?_ (by first | assumption | omega))) (by first | assumption | omega)) ?_
  refine Ends.g (cT q44_ok) ?_
  refine Ends.there l (by omega) (v44_s (fun i hi => (b.1 i hi).1)) (fun hs => ?_) (fun hs => Ends.thn rfl (Or.inr ⟨_, _, rfl, _, _, ⟨rfl, hs, rfl⟩, rfl, rfl⟩))
  refine Ends.eq (b89_21 (n := n) (by (repeat' first | assumption | refine LX.setF _ _ ?_ (by decide +kernel) | refine LX.setS ?_ rfl | refine LX.setA ?_ (by first | assumption | omega))) (by first | assumption | omega)) ?_
  rcases thS_c hs with rfl | ⟨i, hi, rfl, e⟩
  · exact Ends.g trivial (Ends.sm (Or.inl ⟨_, _, rfl, hs, rfl, rfl⟩))
  · refine Ends.g (cF ⟨by omega, by omega⟩) ?_
    rw [tst1, decide_eq_false (show ¬ (i : Int) = -1 by omega)]
    refine Ends.sm (Or.inl ⟨_, _, rfl, hs, ?_, rfl⟩)
    show hv h (B + 27) i = _
    rw [((b.1 i hi).2 e).1]
    unfold clS
    rw [if_neg (by omega)]
    rfl
theorem Ends.sol {j pc nx : Nat} {L rest : List AV} {Q : Rs → Prop} (l : LX B n h) (hd : 12 ≤ d) (b : BdC B n h is cl S) (k : thS is o = true → Ends (ev PP (gsF gv) B d j nx L ((2, rf (clS B cl o)) :: rest) h) Q) (ke : thS is o = false → Ends (thr PP j pc L (rf (hnx h)) (hnew h (1, 31) 6) (ev PP (gsF gv) B d j)) Q) :
    Ends (aft PP j pc nx L rest (ev PP (gsF gv) B d j) (cll PP (ev PP (gsF gv) B) d 89 [(2, rf (B + 0)), (0, o)] h)) Q := by
  refine Ends.cox l (by decide +kernel) (by decide) (c_solid89 l hd b) (fun x h1 l1 ⟨hs, e, e1⟩ => ?_) (fun c q ⟨e, hs, e1⟩ => ?_)
  · rw [e, e1]; exact k hs
  · rw [e, e1]; exact ke hs
/-- the model's noBody, noSolid -/
theorem v758_is (b : ∀ i, i < 10 → hv h (B + 193) i = (if is i = true then 1 else 0)) : q758 B h o ∧ v758 B h o = if (decide (0 ≤ o ∧ o < 10) && is o.toNat) = true then 0 else 1 := by
  unfold q758 v758
  by_cases e1 : o < 0
  · rw [tst2, decide_eq_true e1, decide_eq_false (show ¬ (0 ≤ o ∧ o < 10) by omega), Bool.false_and]
    exact ⟨trivial, rfl⟩
  · by_cases e2 : o < 10
    · rw [tst2, decide_eq_false e1, tst3, decide_eq_true e2, decide_eq_true (show 0 ≤ o ∧ o < 10 by omega), Bool.true_and, b o.toNat (by omega)]
      exact ⟨⟨by omega, e2⟩, cnot1⟩
    · rw [tst2, decide_eq_false e1, tst3, decide_eq_false e2, decide_eq_false (show ¬ (0 ≤ o ∧ o < 10) by omega), Bool.false_and]
      exact ⟨trivial, rfl⟩
theorem v765_is (b : ∀ i, i < 10 → hv h (B + 193) i = (if is i = true then 1 else 0)) : q765 B h o ∧ v765 B h o = if thS is o = true then 0 else 1 := by
  obtain ⟨b1, b2⟩ := v758_is (o := o) b
  refine ⟨cT b1, ?_⟩
  unfold v765 thS
  rw [b2, tst0]
  by_cases e : o = -1
  · rw [decide_eq_true e, Bool.true_or]; rfl
  · rw [decide_eq_false e, Bool.false_or]
    cases (decide (0 ≤ o ∧ o < 10) && is o.toNat) <;> rfl
/-- the least free number; 10: none -/
def frB (is : Nat → Bool) : Nat → Nat
  | 0 => 10
  | i + 1 => if is (9 - i) = true then frB is i else 9 - i
theorem frB_s {i : Nat} : frB is (i + 1) = if is (9 - i) = true then frB is i else 9 - i := rfl
theorem frB_le : ∀ {i : Nat}, frB is i ≤ 10
  | 0 => Nat.le_refl _
  | i + 1 => by unfold frB; split; exact frB_le; omega
theorem c_free36 (l : LX B n h) (hd : 10 ≤ d) (b : ∀ i, i < 10 → hv h (B + 28) i = (if is i = true then 1 else 0)) : Vt 0 (cll PP (ev PP (gsF gv) B) d 36 [(2, rf (B + 0))] h) (fun x h' => h' = h ∧ x = if frB is 10 < 10 then (frB is 10 : Int) else -1) := by
  refine Vt.into (D := 9) hd (Nat.le_of_ble_eq_true rfl) rfl (fun d hd => ?_)
  refine Ends.eq (b36_0 (n := n) (by (repeat' first | assumption | refine LX.setF _ _ ?_ (by decide +kernel) | refine LX.setS ?_ rfl | refine LX.setA ?_ (by first | assumption | omega))) (by first | assumption | omega)) ?_
  have key : ∀ (r i : Nat), i + r = 10 → frB is r = frB is 10 → Ends (ev PP (gsF gv) B d 36 2 [(2, rf (B + 0)), (0, (i : Int))] [] h) (fun r => ∃ x h', r = ((0, (0, x)), h') ∧ h' = h ∧ x = if frB is 10 < 10 then (frB is 10 : Int) else -1) := by
    intro r
    induction r with
    | zero =>
      intro i hi e
      refine Ends.eq (b36_2 (n := n) (by (repeat' first | assumption | refine LX.setF _ _ ?_ (by decide +kernel) | refine LX.setS ?_ rfl | refine LX.setA ?_ (by first | assumption | omega))) (by first | assumption | omega)) ?_
      refine Ends.b3 (fun _ => Ends.sm ⟨_, _, rfl, rfl, ?_⟩) (fun z => by omega)
      rw [← e]
      rfl
    | succ r ih =>
      intro i hi e
      obtain rfl : i = 9 - r := by omega
      rw [frB_s] at e
      refine Ends.eq (b36_2 (n := n) (by (repeat' first | assumption | refine LX.setF _ _ ?_ (by decide +kernel) | refine LX.setS ?_ rfl | refine LX.setA ?_ (by first | assumption | omega))) (by first | assumption | omega)) ?_
      rw [tn, b _ (by omega)]
      refine Ends.b3 (fun z => by omega) (fun _ => ?_)
      refine Ends.g ⟨by omega, by omega⟩ ?_
      by_cases hs : is (9 - r) = true
      · rw [if_pos hs] at e ⊢
        refine Ends.b1 (fun _ => ?_) (fun z => absurd z (by decide))
        rw [w_succ (by omega)]
        exact ih (9 - r + 1) (by omega) e
      · rw [if_neg hs] at e ⊢
        refine Ends.b1 (fun z => absurd rfl z) (fun _ => Ends.sm ⟨_, _, rfl, rfl, ?_⟩)
        rw [← e, if_pos (by omega)]
  exact key 10 0 rfl rfl
theorem c_free650 (l : LX B n h) (hd : 10 ≤ d) (b : ∀ i, i < 10 → hv h (B + 193) i = (if is i = true then 1 else 0)) : Vt 0 (cll PP (ev PP (gsF gv) B) d 650 [(2, rf (B + 149))] h) (fun x h' => h' = h ∧ x = if frB is 10 < 10 then (frB is 10 : Int) else -1) := by
  refine Vt.into (D := 9) hd (Nat.le_of_ble_eq_true rfl) rfl (fun d hd => ?_)
  refine Ends.eq (b650_0 (n := n) (by (repeat' first | assumption | refine LX.setF _ _ ?_ (by decide +kernel) | refine LX.setS ?_ rfl | refine LX.setA ?_ (by first | assumption | omega))) (by first | assumption | omega)) ?_
  have key : ∀ (r i : Nat), i + r = 10 → frB is r = frB is 10 → Ends (ev PP (gsF gv) B d 650 2 [(2, rf (B + 149)), (0, (i : Int))] [] h) (fun r => ∃ x h', r = ((0, (0, x)), h') ∧ h' = h ∧ x = if frB is 10 < 10 then (frB is 10 : Int) else -1) := by
    intro r
    induction r with
    | zero =>
      intro i hi e
      refine Ends.eq (b650_2 (n := n) (by (repeat' first | assumption | refine LX.setF _ _ ?_ (by decide +kernel) | refine LX.setS ?_ rfl | refine LX.setA ?_ (by first | assumption | omega))) (by first | assumption | omega)) ?_
      refine Ends.b3 (fun _ => Ends.sm ⟨_, _, rfl, rfl, ?_⟩) (fun z => by omega)
      rw [← e]
      rfl
    | succ r ih =>
      intro i hi e
      obtain rfl : i = 9 - r := by omega
      rw [frB_s] at e
      refine Ends.eq (b650_2 (n := n) (by (repeat' first | assumption | refine LX.setF _ _ ?_ (by decide +kernel) | refine LX.setS ?_ rfl | refine LX.setA ?_ (by first | assumption | omega))) (by first | assumption | omega)) ?_
      rw [tn, b _ (by omega)]
      refine Ends.b3 (fun z => by omega) (fun _ => ?_)
      refine Ends.g ⟨by omega, by omega⟩ ?_
      by_cases hs : is (9 - r) = true
      · rw [if_pos hs] at e ⊢
        refine Ends.b1 (fun _ => ?_) (fun z => absurd z (by decide))
        rw [w_succ (by omega)]
        exact ih (9 - r + 1) (by omega) e
      · rw [if_neg hs] at e ⊢
        refine Ends.b1 (fun z => absurd rfl z) (fun _ => Ends.sm ⟨_, _, rfl, rfl, ?_⟩)
        rw [← e, if_pos (by omega)]
  exact key 10 0 rfl rfl
end BODIES
