/-! L3: equations (model): what a constraint says, kind by kind (printed by l3gen/gen_eqs.py) -/
section EQS
/-- the terms of equation i of a constraint: its kind, its points or the ends of its lines -/
def eqL (kd i a b c fa ta fb tb : Nat) : List (Nat × Int) :=
  if i = 0 then (match kd with
    | 0 => [(2 * a, 1)]
    | 1 => [(2 * a + 1, 1)]
    | 2 => [(2 * b, 1), (2 * a, -1)]
    | 3 => [(2 * b + 1, 1), (2 * a + 1, -1)]
    | 4 => [(2 * b + 1, 1), (2 * b, -1), (2 * a + 1, -1), (2 * a, 1)]
    | 5 => [(2 * b, 1), (2 * b + 1, 1), (2 * a, -1), (2 * a + 1, -1)]
    | 6 => [(2 * a + 1, 1), (2 * b + 1, -1)]
    | 7 => [(2 * a, 1), (2 * b, -1)]
    | 8 => [(2 * b + 1, 1), (2 * a + 1, -1), (2 * b, -1), (2 * a, 1)]
    | 9 => [(2 * b + 1, 1), (2 * a + 1, -1), (2 * a, -1), (2 * b, 1)]
    | 10 => [(2 * a, 1), (2 * b, -1)]
    | 11 => [(2 * a, 1), (2 * b, 1), (2 * c, -2)]
    | 12 => [(2 * a, 1), (2 * b, 1), (2 * c, -2)]
    | 13 => [(2 * a, 1), (2 * b, -1)]
    | 14 => [(2 * b, 1), (2 * c, -1), (2 * a + 1, -1), (2 * c + 1, 1)]
    | 15 => [(2 * b, 1), (2 * c, -1), (2 * c + 1, -1), (2 * a + 1, 1)]
    | 16 => [(2 * b, 1), (2 * c, -1), (2 * c + 1, -1), (2 * a + 1, 1)]
    | 17 => [(2 * ta, 1), (2 * fa, -1), (2 * tb, -1), (2 * fb, 1)]
    | 18 => [(2 * ta + 1, 1), (2 * fa + 1, -1), (2 * tb + 1, -1), (2 * fb + 1, 1)]
    | 19 => [(2 * ta, 1), (2 * fa, -1), (2 * tb + 1, -1), (2 * fb + 1, 1)]
    | 20 => [(2 * ta, 1), (2 * fa, -1), (2 * tb + 1, 1), (2 * fb + 1, -1)]
    | 21 => [(2 * ta, 1), (2 * fa, -1), (2 * tb, 1), (2 * fb, -1)]
    | 22 => [(2 * ta + 1, 1), (2 * fa + 1, -1), (2 * tb + 1, 1), (2 * fb + 1, -1)]
    | 23 => [(2 * ta, 1), (2 * fa, -1), (2 * tb, -1), (2 * fb, 1)]
    | _ => [])
  else (match kd with
    | 10 => [(2 * a + 1, 1), (2 * b + 1, -1)]
    | 11 => [(2 * a + 1, 1), (2 * b + 1, 1), (2 * c + 1, -2)]
    | 12 => [(2 * a + 1, 1), (2 * b + 1, -1)]
    | 13 => [(2 * a + 1, 1), (2 * b + 1, 1), (2 * c + 1, -2)]
    | 14 => [(2 * b + 1, 1), (2 * c + 1, -1), (2 * a, -1), (2 * c, 1)]
    | 15 => [(2 * b + 1, 1), (2 * c + 1, -1), (2 * c, -1), (2 * a, 1)]
    | 16 => [(2 * b + 1, 1), (2 * c + 1, -1), (2 * a, -1), (2 * c, 1)]
    | 23 => [(2 * ta + 1, 1), (2 * fa + 1, -1), (2 * tb + 1, -1), (2 * fb + 1, 1)]
    | _ => [])
/-- whether a kind has two equations -/
def eq2 (kd : Nat) : Bool := decide (10 ≤ kd ∧ kd ≤ 16) || decide (kd = 23)
variable {gv : Nat → Int} {B n d w1 k a b c fa ta fb tb : Nat} {xa xb xc : Int} {h : AH} {Q : Rs → Prop}
theorem c_second813 {L1 L2 : List (Nat × Int)} {f : Int} (l : LX B n h) (hd : 10 ≤ d) (T : TmL B h L1 L2 f) : Vd (cll PP (ev PP (gsF gv) B) d 813 [(2, rf (B + 149))] h) (fun h' => Agr (teW B) h h' ∧ TmL B h' L1 L2 1) := by
  obtain ⟨⟨t1, t2, t3⟩, t4, t5⟩ := T
  refine Vd.inq (D := 9) hd (Nat.le_of_ble_eq_true rfl) rfl (fun d hd Q K => ?_)
  refine Ends.eq (b813_0 l (by omega)) (Ends.sm (K _ ⟨Agr.rf.set (Or.inl ⟨rfl, by decide⟩), ⟨⟨hv_set_at _ _ _ _, by rw [hv_set_ne (by omega)]; exact t2, by rw [hv_set_ne (by omega)]; exact t3⟩, fun i x hx => ?_, fun i x hx => ?_⟩⟩))
  · rw [hv_set_ne (by omega), hv_set_ne (by omega)]; exact t4 i x hx
  · rw [hv_set_ne (by omega), hv_set_ne (by omega)]; exact t5 i x hx
/-- what the kinds say of points and lines -/
def PtK (B : Nat) (h : AH) (w1 kd a b c fa ta fb tb : Nat) (xa xb xc : Int) : Prop := (kd < 17 → (xa = (a : Int) ∧ a < 12) ∧ (2 ≤ kd → xb = (b : Int) ∧ b < 12) ∧ (11 ≤ kd → xc = (c : Int) ∧ c < 12)) ∧ (17 ≤ kd → xa = (a : Int) ∧ xb = (b : Int) ∧ a < 24 ∧ b < 24 ∧ fa < 12 ∧ ta < 12 ∧ fb < 12 ∧ tb < 12 ∧ hv h (w1 + 3) a = (fa : Int) ∧ hv h (w1 + 4) a = (ta : Int) ∧ hv h (w1 + 3) b = (fb : Int) ∧ hv h (w1 + 4) b = (tb : Int))
set_option maxHeartbeats 1000000 in
theorem eqs_0 (l : LX B n h) (hd : 16 ≤ d) (S : YS B w1 h) (T : TmL B h [] [] 0) (P : PtK B h w1 0 a b c fa ta fb tb xa xb xc) (K : ∀ q, LX B n q → Agr (teW B) h q → TmL B q (eqL 0 0 a b c fa ta fb tb) (eqL 0 1 a b c fa ta fb tb) (if eq2 0 = true then 1 else 0) → Ends (ev PP (gsF gv) B d 615 843 [(2, rf (B + 149)), (2, rf w1), (0, (k : Int)), (0, xa), (0, xb), (0, xc)] [] q) Q) : Ends (ev PP (gsF gv) B d 615 156 [(2, rf (B + 149)), (2, rf w1), (0, (k : Int)), (0, xa), (0, xb), (0, xc)] [] h) Q := by
  obtain ⟨⟨ea, p1⟩, p2, p3⟩ := P.1 (by decide)
  subst ea
  have lo := S.lo
  refine Ends.eq (b615_156 (n := n) (by (repeat' first | assumption | refine LX.setF _ _ ?_ (by decide +kernel) | refine LX.setS ?_ rfl | refine LX.setA ?_ (by first | assumption | omega))) (by first | assumption | omega)) ?_
  refine Ends.cv l (by decide +kernel) (c_u858 (p := a) l (by omega) T (Nat.le_of_ble_eq_true rfl) (Nat.le_of_ble_eq_true rfl) (by omega)) (fun q1 l1 _ _ _ ⟨g1, T1⟩ => ?_)
  have G1 := g1
  have S1 : YS B w1 q1 := S.agr G1 (fun k hk1 z => by unfold teW at z; omega)
  refine Ends.eq (b615_162 (n := n) (by (repeat' first | assumption | refine LX.setF _ _ ?_ (by decide +kernel) | refine LX.setS ?_ rfl | refine LX.setA ?_ (by first | assumption | omega))) (by first | assumption | omega)) ?_
  exact K _ l1 G1 T1
set_option maxHeartbeats 1000000 in
theorem eqs_1 (l : LX B n h) (hd : 16 ≤ d) (S : YS B w1 h) (T : TmL B h [] [] 0) (P : PtK B h w1 1 a b c fa ta fb tb xa xb xc) (K : ∀ q, LX B n q → Agr (teW B) h q → TmL B q (eqL 1 0 a b c fa ta fb tb) (eqL 1 1 a b c fa ta fb tb) (if eq2 1 = true then 1 else 0) → Ends (ev PP (gsF gv) B d 615 843 [(2, rf (B + 149)), (2, rf w1), (0, (k : Int)), (0, xa), (0, xb), (0, xc)] [] q) Q) : Ends (ev PP (gsF gv) B d 615 165 [(2, rf (B + 149)), (2, rf w1), (0, (k : Int)), (0, xa), (0, xb), (0, xc)] [] h) Q := by
  obtain ⟨⟨ea, p1⟩, p2, p3⟩ := P.1 (by decide)
  subst ea
  have lo := S.lo
  refine Ends.eq (b615_165 (n := n) (by (repeat' first | assumption | refine LX.setF _ _ ?_ (by decide +kernel) | refine LX.setS ?_ rfl | refine LX.setA ?_ (by first | assumption | omega))) (by first | assumption | omega)) ?_
  refine Ends.cv l (by decide +kernel) (c_v860 (p := a) l (by omega) T (Nat.le_of_ble_eq_true rfl) (Nat.le_of_ble_eq_true rfl) (by omega)) (fun q1 l1 _ _ _ ⟨g1, T1⟩ => ?_)
  have G1 := g1
  have S1 : YS B w1 q1 := S.agr G1 (fun k hk1 z => by unfold teW at z; omega)
  refine Ends.eq (b615_171 (n := n) (by (repeat' first | assumption | refine LX.setF _ _ ?_ (by decide +kernel) | refine LX.setS ?_ rfl | refine LX.setA ?_ (by first | assumption | omega))) (by first | assumption | omega)) ?_
  exact K _ l1 G1 T1
set_option maxHeartbeats 1000000 in
theorem eqs_2 (l : LX B n h) (hd : 16 ≤ d) (S : YS B w1 h) (T : TmL B h [] [] 0) (P : PtK B h w1 2 a b c fa ta fb tb xa xb xc) (K : ∀ q, LX B n q → Agr (teW B) h q → TmL B q (eqL 2 0 a b c fa ta fb tb) (eqL 2 1 a b c fa ta fb tb) (if eq2 2 = true then 1 else 0) → Ends (ev PP (gsF gv) B d 615 843 [(2, rf (B + 149)), (2, rf w1), (0, (k : Int)), (0, xa), (0, xb), (0, xc)] [] q) Q) : Ends (ev PP (gsF gv) B d 615 174 [(2, rf (B + 149)), (2, rf w1), (0, (k : Int)), (0, xa), (0, xb), (0, xc)] [] h) Q := by
  obtain ⟨⟨ea, p1⟩, p2, p3⟩ := P.1 (by decide)
  subst ea
  obtain ⟨eb, p2⟩ := p2 (by decide)
  subst eb
  have lo := S.lo
  refine Ends.eq (b615_174 (n := n) (by (repeat' first | assumption | refine LX.setF _ _ ?_ (by decide +kernel) | refine LX.setS ?_ rfl | refine LX.setA ?_ (by first | assumption | omega))) (by first | assumption | omega)) ?_
  refine Ends.cv l (by decide +kernel) (c_u858 (p := b) l (by omega) T (Nat.le_of_ble_eq_true rfl) (Nat.le_of_ble_eq_true rfl) (by omega)) (fun q1 l1 _ _ _ ⟨g1, T1⟩ => ?_)
  have G1 := g1
  have S1 : YS B w1 q1 := S.agr G1 (fun k hk1 z => by unfold teW at z; omega)
  refine Ends.eq (b615_181 (n := n) (by (repeat' first | assumption | refine LX.setF _ _ ?_ (by decide +kernel) | refine LX.setS ?_ rfl | refine LX.setA ?_ (by first | assumption | omega))) (by first | assumption | omega)) ?_
  refine Ends.cv l1 (by decide +kernel) (c_u858 (p := a) l1 (by omega) T1 (Nat.le_of_ble_eq_true rfl) (Nat.le_of_ble_eq_true rfl) (by omega)) (fun q2 l2 _ _ _ ⟨g2, T2⟩ => ?_)
  have G2 := G1.tr g2 (fun _ _ z => z)
  have S2 : YS B w1 q2 := S.agr G2 (fun k hk1 z => by unfold teW at z; omega)
  refine Ends.eq (b615_187 (n := n) (by (repeat' first | assumption | refine LX.setF _ _ ?_ (by decide +kernel) | refine LX.setS ?_ rfl | refine LX.setA ?_ (by first | assumption | omega))) (by first | assumption | omega)) ?_
  exact K _ l2 G2 T2
set_option maxHeartbeats 1000000 in
theorem eqs_3 (l : LX B n h) (hd : 16 ≤ d) (S : YS B w1 h) (T : TmL B h [] [] 0) (P : PtK B h w1 3 a b c fa ta fb tb xa xb xc) (K : ∀ q, LX B n q → Agr (teW B) h q → TmL B q (eqL 3 0 a b c fa ta fb tb) (eqL 3 1 a b c fa ta fb tb) (if eq2 3 = true then 1 else 0) → Ends (ev PP (gsF gv) B d 615 843 [(2, rf (B + 149)), (2, rf w1), (0, (k : Int)), (0, xa), (0, xb), (0, xc)] [] q) Q) : Ends (ev PP (gsF gv) B d 615 190 [(2, rf (B + 149)), (2, rf w1), (0, (k : Int)), (0, xa), (0, xb), (0, xc)] [] h) Q := by
  obtain ⟨⟨ea, p1⟩, p2, p3⟩ := P.1 (by decide)
  subst ea
  obtain ⟨eb, p2⟩ := p2 (by decide)
  subst eb
  have lo := S.lo
  refine Ends.eq (b615_190 (n := n) (by (repeat' first | assumption | refine LX.setF _ _ ?_ (by decide +kernel) | refine LX.setS ?_ rfl | refine LX.setA ?_ (by first | assumption | omega))) (by first | assumption | omega)) ?_
  refine Ends.cv l (by decide +kernel) (c_v860 (p := b) l (by omega) T (Nat.le_of_ble_eq_true rfl) (Nat.le_of_ble_eq_true rfl) (by omega)) (fun q1 l1 _ _ _ ⟨g1, T1⟩ => ?_)
  have G1 := g1
  have S1 : YS B w1 q1 := S.agr G1 (fun k hk1 z => by unfold teW at z; omega)
  refine Ends.eq (b615_197 (n := n) (by (repeat' first | assumption | refine LX.setF _ _ ?_ (by decide +kernel) | refine LX.setS ?_ rfl | refine LX.setA ?_ (by first | assumption | omega))) (by first | assumption | omega)) ?_
  refine Ends.cv l1 (by decide +kernel) (c_v860 (p := a) l1 (by omega) T1 (Nat.le_of_ble_eq_true rfl) (Nat.le_of_ble_eq_true rfl) (by omega)) (fun q2 l2 _ _ _ ⟨g2, T2⟩ => ?_)
  have G2 := G1.tr g2 (fun _ _ z => z)
  have S2 : YS B w1 q2 := S.agr G2 (fun k hk1 z => by unfold teW at z; omega)
  refine Ends.eq (b615_203 (n := n) (by (repeat' first | assumption | refine LX.setF _ _ ?_ (by decide +kernel) | refine LX.setS ?_ rfl | refine LX.setA ?_ (by first | assumption | omega))) (by first | assumption | omega)) ?_
  exact K _ l2 G2 T2
set_option maxHeartbeats 1000000 in
theorem eqs_4 (l : LX B n h) (hd : 16 ≤ d) (S : YS B w1 h) (T : TmL B h [] [] 0) (P : PtK B h w1 4 a b c fa ta fb tb xa xb xc) (K : ∀ q, LX B n q → Agr (teW B) h q → TmL B q (eqL 4 0 a b c fa ta fb tb) (eqL 4 1 a b c fa ta fb tb) (if eq2 4 = true then 1 else 0) → Ends (ev PP (gsF gv) B d 615 843 [(2, rf (B + 149)), (2, rf w1), (0, (k : Int)), (0, xa), (0, xb), (0, xc)] [] q) Q) : Ends (ev PP (gsF gv) B d 615 206 [(2, rf (B + 149)), (2, rf w1), (0, (k : Int)), (0, xa), (0, xb), (0, xc)] [] h) Q := by
  obtain ⟨⟨ea, p1⟩, p2, p3⟩ := P.1 (by decide)
  subst ea
  obtain ⟨eb, p2⟩ := p2 (by decide)
  subst eb
  have lo := S.lo
  refine Ends.eq (b615_206 (n := n) (by (repeat' first | assumption | refine LX.setF _ _ ?_ (by decide +kernel) | refine LX.setS ?_ rfl | refine LX.setA ?_ (by first | assumption | omega))) (by first | assumption | omega)) ?_
  refine Ends.cv l (by decide +kernel) (c_v860 (p := b) l (by omega) T (Nat.le_of_ble_eq_true rfl) (Nat.le_of_ble_eq_true rfl) (by omega)) (fun q1 l1 _ _ _ ⟨g1, T1⟩ => ?_)
  have G1 := g1
  have S1 : YS B w1 q1 := S.agr G1 (fun k hk1 z => by unfold teW at z; omega)
  refine Ends.eq (b615_213 (n := n) (by (repeat' first | assumption | refine LX.setF _ _ ?_ (by decide +kernel) | refine LX.setS ?_ rfl | refine LX.setA ?_ (by first | assumption | omega))) (by first | assumption | omega)) ?_
  refine Ends.cv l1 (by decide +kernel) (c_u858 (p := b) l1 (by omega) T1 (Nat.le_of_ble_eq_true rfl) (Nat.le_of_ble_eq_true rfl) (by omega)) (fun q2 l2 _ _ _ ⟨g2, T2⟩ => ?_)
  have G2 := G1.tr g2 (fun _ _ z => z)
  have S2 : YS B w1 q2 := S.agr G2 (fun k hk1 z => by unfold teW at z; omega)
  refine Ends.eq (b615_220 (n := n) (by (repeat' first | assumption | refine LX.setF _ _ ?_ (by decide +kernel) | refine LX.setS ?_ rfl | refine LX.setA ?_ (by first | assumption | omega))) (by first | assumption | omega)) ?_
  refine Ends.cv l2 (by decide +kernel) (c_v860 (p := a) l2 (by omega) T2 (Nat.le_of_ble_eq_true rfl) (Nat.le_of_ble_eq_true rfl) (by omega)) (fun q3 l3 _ _ _ ⟨g3, T3⟩ => ?_)
  have G3 := G2.tr g3 (fun _ _ z => z)
  have S3 : YS B w1 q3 := S.agr G3 (fun k hk1 z => by unfold teW at z; omega)
  refine Ends.eq (b615_226 (n := n) (by (repeat' first | assumption | refine LX.setF _ _ ?_ (by decide +kernel) | refine LX.setS ?_ rfl | refine LX.setA ?_ (by first | assumption | omega))) (by first | assumption | omega)) ?_
  refine Ends.cv l3 (by decide +kernel) (c_u858 (p := a) l3 (by omega) T3 (Nat.le_of_ble_eq_true rfl) (Nat.le_of_ble_eq_true rfl) (by omega)) (fun q4 l4 _ _ _ ⟨g4, T4⟩ => ?_)
  have G4 := G3.tr g4 (fun _ _ z => z)
  have S4 : YS B w1 q4 := S.agr G4 (fun k hk1 z => by unfold teW at z; omega)
  refine Ends.eq (b615_232 (n := n) (by (repeat' first | assumption | refine LX.setF _ _ ?_ (by decide +kernel) | refine LX.setS ?_ rfl | refine LX.setA ?_ (by first | assumption | omega))) (by first | assumption | omega)) ?_
  exact K _ l4 G4 T4
set_option maxHeartbeats 1000000 in
theorem eqs_5 (l : LX B n h) (hd : 16 ≤ d) (S : YS B w1 h) (T : TmL B h [] [] 0) (P : PtK B h w1 5 a b c fa ta fb tb xa xb xc) (K : ∀ q, LX B n q → Agr (teW B) h q → TmL B q (eqL 5 0 a b c fa ta fb tb) (eqL 5 1 a b c fa ta fb tb) (if eq2 5 = true then 1 else 0) → Ends (ev PP (gsF gv) B d 615 843 [(2, rf (B + 149)), (2, rf w1), (0, (k : Int)), (0, xa), (0, xb), (0, xc)] [] q) Q) : Ends (ev PP (gsF gv) B d 615 235 [(2, rf (B + 149)), (2, rf w1), (0, (k : Int)), (0, xa), (0, xb), (0, xc)] [] h) Q := by
  obtain ⟨⟨ea, p1⟩, p2, p3⟩ := P.1 (by decide)
  subst ea
  obtain ⟨eb, p2⟩ := p2 (by decide)
  subst eb
  have lo := S.lo
  refine Ends.eq (b615_235 (n := n) (by (repeat' first | assumption | refine LX.setF _ _ ?_ (by decide +kernel) | refine LX.setS ?_ rfl | refine LX.setA ?_ (by first | assumption | omega))) (by first | assumption | omega)) ?_
  refine Ends.cv l (by decide +kernel) (c_u858 (p := b) l (by omega) T (Nat.le_of_ble_eq_true rfl) (Nat.le_of_ble_eq_true rfl) (by omega)) (fun q1 l1 _ _ _ ⟨g1, T1⟩ => ?_)
  have G1 := g1
  have S1 : YS B w1 q1 := S.agr G1 (fun k hk1 z => by unfold teW at z; omega)
  refine Ends.eq (b615_242 (n := n) (by (repeat' first | assumption | refine LX.setF _ _ ?_ (by decide +kernel) | refine LX.setS ?_ rfl | refine LX.setA ?_ (by first | assumption | omega))) (by first | assumption | omega)) ?_
  refine Ends.cv l1 (by decide +kernel) (c_v860 (p := b) l1 (by omega) T1 (Nat.le_of_ble_eq_true rfl) (Nat.le_of_ble_eq_true rfl) (by omega)) (fun q2 l2 _ _ _ ⟨g2, T2⟩ => ?_)
  have G2 := G1.tr g2 (fun _ _ z => z)
  have S2 : YS B w1 q2 := S.agr G2 (fun k hk1 z => by unfold teW at z; omega)
  refine Ends.eq (b615_249 (n := n) (by (repeat' first | assumption | refine LX.setF _ _ ?_ (by decide +kernel) | refine LX.setS ?_ rfl | refine LX.setA ?_ (by first | assumption | omega))) (by first | assumption | omega)) ?_
  refine Ends.cv l2 (by decide +kernel) (c_u858 (p := a) l2 (by omega) T2 (Nat.le_of_ble_eq_true rfl) (Nat.le_of_ble_eq_true rfl) (by omega)) (fun q3 l3 _ _ _ ⟨g3, T3⟩ => ?_)
  have G3 := G2.tr g3 (fun _ _ z => z)
  have S3 : YS B w1 q3 := S.agr G3 (fun k hk1 z => by unfold teW at z; omega)
  refine Ends.eq (b615_255 (n := n) (by (repeat' first | assumption | refine LX.setF _ _ ?_ (by decide +kernel) | refine LX.setS ?_ rfl | refine LX.setA ?_ (by first | assumption | omega))) (by first | assumption | omega)) ?_
  refine Ends.cv l3 (by decide +kernel) (c_v860 (p := a) l3 (by omega) T3 (Nat.le_of_ble_eq_true rfl) (Nat.le_of_ble_eq_true rfl) (by omega)) (fun q4 l4 _ _ _ ⟨g4, T4⟩ => ?_)
  have G4 := G3.tr g4 (fun _ _ z => z)
  have S4 : YS B w1 q4 := S.agr G4 (fun k hk1 z => by unfold teW at z; omega)
  refine Ends.eq (b615_261 (n := n) (by (repeat' first | assumption | refine LX.setF _ _ ?_ (by decide +kernel) | refine LX.setS ?_ rfl | refine LX.setA ?_ (by first | assumption | omega))) (by first | assumption | omega)) ?_
  exact K _ l4 G4 T4
set_option maxHeartbeats 1000000 in
theorem eqs_6 (l : LX B n h) (hd : 16 ≤ d) (S : YS B w1 h) (T : TmL B h [] [] 0) (P : PtK B h w1 6 a b c fa ta fb tb xa xb xc) (K : ∀ q, LX B n q → Agr (teW B) h q → TmL B q (eqL 6 0 a b c fa ta fb tb) (eqL 6 1 a b c fa ta fb tb) (if eq2 6 = true then 1 else 0) → Ends (ev PP (gsF gv) B d 615 843 [(2, rf (B + 149)), (2, rf w1), (0, (k : Int)), (0, xa), (0, xb), (0, xc)] [] q) Q) : Ends (ev PP (gsF gv) B d 615 264 [(2, rf (B + 149)), (2, rf w1), (0, (k : Int)), (0, xa), (0, xb), (0, xc)] [] h) Q := by
  obtain ⟨⟨ea, p1⟩, p2, p3⟩ := P.1 (by decide)
  subst ea
  obtain ⟨eb, p2⟩ := p2 (by decide)
  subst eb
  have lo := S.lo
  refine Ends.eq (b615_264 (n := n) (by (repeat' first | assumption | refine LX.setF _ _ ?_ (by decide +kernel) | refine LX.setS ?_ rfl | refine LX.setA ?_ (by first | assumption | omega))) (by first | assumption | omega)) ?_
  refine Ends.cv l (by decide +kernel) (c_v860 (p := a) l (by omega) T (Nat.le_of_ble_eq_true rfl) (Nat.le_of_ble_eq_true rfl) (by omega)) (fun q1 l1 _ _ _ ⟨g1, T1⟩ => ?_)
  have G1 := g1
  have S1 : YS B w1 q1 := S.agr G1 (fun k hk1 z => by unfold teW at z; omega)
  refine Ends.eq (b615_270 (n := n) (by (repeat' first | assumption | refine LX.setF _ _ ?_ (by decide +kernel) | refine LX.setS ?_ rfl | refine LX.setA ?_ (by first | assumption | omega))) (by first | assumption | omega)) ?_
  refine Ends.cv l1 (by decide +kernel) (c_v860 (p := b) l1 (by omega) T1 (Nat.le_of_ble_eq_true rfl) (Nat.le_of_ble_eq_true rfl) (by omega)) (fun q2 l2 _ _ _ ⟨g2, T2⟩ => ?_)
  have G2 := G1.tr g2 (fun _ _ z => z)
  have S2 : YS B w1 q2 := S.agr G2 (fun k hk1 z => by unfold teW at z; omega)
  refine Ends.eq (b615_277 (n := n) (by (repeat' first | assumption | refine LX.setF _ _ ?_ (by decide +kernel) | refine LX.setS ?_ rfl | refine LX.setA ?_ (by first | assumption | omega))) (by first | assumption | omega)) ?_
  exact K _ l2 G2 T2
set_option maxHeartbeats 1000000 in
theorem eqs_7 (l : LX B n h) (hd : 16 ≤ d) (S : YS B w1 h) (T : TmL B h [] [] 0) (P : PtK B h w1 7 a b c fa ta fb tb xa xb xc) (K : ∀ q, LX B n q → Agr (teW B) h q → TmL B q (eqL 7 0 a b c fa ta fb tb) (eqL 7 1 a b c fa ta fb tb) (if eq2 7 = true then 1 else 0) → Ends (ev PP (gsF gv) B d 615 843 [(2, rf (B + 149)), (2, rf w1), (0, (k : Int)), (0, xa), (0, xb), (0, xc)] [] q) Q) : Ends (ev PP (gsF gv) B d 615 280 [(2, rf (B + 149)), (2, rf w1), (0, (k : Int)), (0, xa), (0, xb), (0, xc)] [] h) Q := by
  obtain ⟨⟨ea, p1⟩, p2, p3⟩ := P.1 (by decide)
  subst ea
  obtain ⟨eb, p2⟩ := p2 (by decide)
  subst eb
  have lo := S.lo
  refine Ends.eq (b615_280 (n := n) (by (repeat' first | assumption | refine LX.setF _ _ ?_ (by decide +kernel) | refine LX.setS ?_ rfl | refine LX.setA ?_ (by first | assumption | omega))) (by first | assumption | omega)) ?_
  refine Ends.cv l (by decide +kernel) (c_u858 (p := a) l (by omega) T (Nat.le_of_ble_eq_true rfl) (Nat.le_of_ble_eq_true rfl) (by omega)) (fun q1 l1 _ _ _ ⟨g1, T1⟩ => ?_)
  have G1 := g1
  have S1 : YS B w1 q1 := S.agr G1 (fun k hk1 z => by unfold teW at z; omega)
  refine Ends.eq (b615_286 (n := n) (by (repeat' first | assumption | refine LX.setF _ _ ?_ (by decide +kernel) | refine LX.setS ?_ rfl | refine LX.setA ?_ (by first | assumption | omega))) (by first | assumption | omega)) ?_
  refine Ends.cv l1 (by decide +kernel) (c_u858 (p := b) l1 (by omega) T1 (Nat.le_of_ble_eq_true rfl) (Nat.le_of_ble_eq_true rfl) (by omega)) (fun q2 l2 _ _ _ ⟨g2, T2⟩ => ?_)
  have G2 := G1.tr g2 (fun _ _ z => z)
  have S2 : YS B w1 q2 := S.agr G2 (fun k hk1 z => by unfold teW at z; omega)
  refine Ends.eq (b615_293 (n := n) (by (repeat' first | assumption | refine LX.setF _ _ ?_ (by decide +kernel) | refine LX.setS ?_ rfl | refine LX.setA ?_ (by first | assumption | omega))) (by first | assumption | omega)) ?_
  exact K _ l2 G2 T2
set_option maxHeartbeats 1000000 in
theorem eqs_8 (l : LX B n h) (hd : 16 ≤ d) (S : YS B w1 h) (T : TmL B h [] [] 0) (P : PtK B h w1 8 a b c fa ta fb tb xa xb xc) (K : ∀ q, LX B n q → Agr (teW B) h q → TmL B q (eqL 8 0 a b c fa ta fb tb) (eqL 8 1 a b c fa ta fb tb) (if eq2 8 = true then 1 else 0) → Ends (ev PP (gsF gv) B d 615 843 [(2, rf (B + 149)), (2, rf w1), (0, (k : Int)), (0, xa), (0, xb), (0, xc)] [] q) Q) : Ends (ev PP (gsF gv) B d 615 296 [(2, rf (B + 149)), (2, rf w1), (0, (k : Int)), (0, xa), (0, xb), (0, xc)] [] h) Q := by
  obtain ⟨⟨ea, p1⟩, p2, p3⟩ := P.1 (by decide)
  subst ea
  obtain ⟨eb, p2⟩ := p2 (by decide)
  subst eb
  have lo := S.lo
  refine Ends.eq (b615_296 (n := n) (by (repeat' first | assumption | refine LX.setF _ _ ?_ (by decide +kernel) | refine LX.setS ?_ rfl | refine LX.setA ?_ (by first | assumption | omega))) (by first | assumption | omega)) ?_
  refine Ends.cv l (by decide +kernel) (c_v860 (p := b) l (by omega) T (Nat.le_of_ble_eq_true rfl) (Nat.le_of_ble_eq_true rfl) (by omega)) (fun q1 l1 _ _ _ ⟨g1, T1⟩ => ?_)
  have G1 := g1
  have S1 : YS B w1 q1 := S.agr G1 (fun k hk1 z => by unfold teW at z; omega)
  refine Ends.eq (b615_303 (n := n) (by (repeat' first | assumption | refine LX.setF _ _ ?_ (by decide +kernel) | refine LX.setS ?_ rfl | refine LX.setA ?_ (by first | assumption | omega))) (by first | assumption | omega)) ?_
  refine Ends.cv l1 (by decide +kernel) (c_v860 (p := a) l1 (by omega) T1 (Nat.le_of_ble_eq_true rfl) (Nat.le_of_ble_eq_true rfl) (by omega)) (fun q2 l2 _ _ _ ⟨g2, T2⟩ => ?_)
  have G2 := G1.tr g2 (fun _ _ z => z)
  have S2 : YS B w1 q2 := S.agr G2 (fun k hk1 z => by unfold teW at z; omega)
  refine Ends.eq (b615_309 (n := n) (by (repeat' first | assumption | refine LX.setF _ _ ?_ (by decide +kernel) | refine LX.setS ?_ rfl | refine LX.setA ?_ (by first | assumption | omega))) (by first | assumption | omega)) ?_
  refine Ends.cv l2 (by decide +kernel) (c_u858 (p := b) l2 (by omega) T2 (Nat.le_of_ble_eq_true rfl) (Nat.le_of_ble_eq_true rfl) (by omega)) (fun q3 l3 _ _ _ ⟨g3, T3⟩ => ?_)
  have G3 := G2.tr g3 (fun _ _ z => z)
  have S3 : YS B w1 q3 := S.agr G3 (fun k hk1 z => by unfold teW at z; omega)
  refine Ends.eq (b615_316 (n := n) (by (repeat' first | assumption | refine LX.setF _ _ ?_ (by decide +kernel) | refine LX.setS ?_ rfl | refine LX.setA ?_ (by first | assumption | omega))) (by first | assumption | omega)) ?_
  refine Ends.cv l3 (by decide +kernel) (c_u858 (p := a) l3 (by omega) T3 (Nat.le_of_ble_eq_true rfl) (Nat.le_of_ble_eq_true rfl) (by omega)) (fun q4 l4 _ _ _ ⟨g4, T4⟩ => ?_)
  have G4 := G3.tr g4 (fun _ _ z => z)
  have S4 : YS B w1 q4 := S.agr G4 (fun k hk1 z => by unfold teW at z; omega)
  refine Ends.eq (b615_322 (n := n) (by (repeat' first | assumption | refine LX.setF _ _ ?_ (by decide +kernel) | refine LX.setS ?_ rfl | refine LX.setA ?_ (by first | assumption | omega))) (by first | assumption | omega)) ?_
  exact K _ l4 G4 T4
set_option maxHeartbeats 1000000 in
theorem eqs_9 (l : LX B n h) (hd : 16 ≤ d) (S : YS B w1 h) (T : TmL B h [] [] 0) (P : PtK B h w1 9 a b c fa ta fb tb xa xb xc) (K : ∀ q, LX B n q → Agr (teW B) h q → TmL B q (eqL 9 0 a b c fa ta fb tb) (eqL 9 1 a b c fa ta fb tb) (if eq2 9 = true then 1 else 0) → Ends (ev PP (gsF gv) B d 615 843 [(2, rf (B + 149)), (2, rf w1), (0, (k : Int)), (0, xa), (0, xb), (0, xc)] [] q) Q) : Ends (ev PP (gsF gv) B d 615 325 [(2, rf (B + 149)), (2, rf w1), (0, (k : Int)), (0, xa), (0, xb), (0, xc)] [] h) Q := by
  obtain ⟨⟨ea, p1⟩, p2, p3⟩ := P.1 (by decide)
  subst ea
  obtain ⟨eb, p2⟩ := p2 (by decide)
  subst eb
  have lo := S.lo
  refine Ends.eq (b615_325 (n := n) (by (repeat' first | assumption | refine LX.setF _ _ ?_ (by decide +kernel) | refine LX.setS ?_ rfl | refine LX.setA ?_ (by first | assumption | omega))) (by first | assumption | omega)) ?_
  refine Ends.cv l (by decide +kernel) (c_v860 (p := b) l (by omega) T (Nat.le_of_ble_eq_true rfl) (Nat.le_of_ble_eq_true rfl) (by omega)) (fun q1 l1 _ _ _ ⟨g1, T1⟩ => ?_)
  have G1 := g1
  have S1 : YS B w1 q1 := S.agr G1 (fun k hk1 z => by unfold teW at z; omega)
  refine Ends.eq (b615_332 (n := n) (by (repeat' first | assumption | refine LX.setF _ _ ?_ (by decide +kernel) | refine LX.setS ?_ rfl | refine LX.setA ?_ (by first | assumption | omega))) (by first | assumption | omega)) ?_
  refine Ends.cv l1 (by decide +kernel) (c_v860 (p := a) l1 (by omega) T1 (Nat.le_of_ble_eq_true rfl) (Nat.le_of_ble_eq_true rfl) (by omega)) (fun q2 l2 _ _ _ ⟨g2, T2⟩ => ?_)
  have G2 := G1.tr g2 (fun _ _ z => z)
  have S2 : YS B w1 q2 := S.agr G2 (fun k hk1 z => by unfold teW at z; omega)
  refine Ends.eq (b615_338 (n := n) (by (repeat' first | assumption | refine LX.setF _ _ ?_ (by decide +kernel) | refine LX.setS ?_ rfl | refine LX.setA ?_ (by first | assumption | omega))) (by first | assumption | omega)) ?_
  refine Ends.cv l2 (by decide +kernel) (c_u858 (p := a) l2 (by omega) T2 (Nat.le_of_ble_eq_true rfl) (Nat.le_of_ble_eq_true rfl) (by omega)) (fun q3 l3 _ _ _ ⟨g3, T3⟩ => ?_)
  have G3 := G2.tr g3 (fun _ _ z => z)
  have S3 : YS B w1 q3 := S.agr G3 (fun k hk1 z => by unfold teW at z; omega)
  refine Ends.eq (b615_344 (n := n) (by (repeat' first | assumption | refine LX.setF _ _ ?_ (by decide +kernel) | refine LX.setS ?_ rfl | refine LX.setA ?_ (by first | assumption | omega))) (by first | assumption | omega)) ?_
  refine Ends.cv l3 (by decide +kernel) (c_u858 (p := b) l3 (by omega) T3 (Nat.le_of_ble_eq_true rfl) (Nat.le_of_ble_eq_true rfl) (by omega)) (fun q4 l4 _ _ _ ⟨g4, T4⟩ => ?_)
  have G4 := G3.tr g4 (fun _ _ z => z)
  have S4 : YS B w1 q4 := S.agr G4 (fun k hk1 z => by unfold teW at z; omega)
  refine Ends.eq (b615_351 (n := n) (by (repeat' first | assumption | refine LX.setF _ _ ?_ (by decide +kernel) | refine LX.setS ?_ rfl | refine LX.setA ?_ (by first | assumption | omega))) (by first | assumption | omega)) ?_
  exact K _ l4 G4 T4
set_option maxHeartbeats 1000000 in
theorem eqs_10 (l : LX B n h) (hd : 16 ≤ d) (S : YS B w1 h) (T : TmL B h [] [] 0) (P : PtK B h w1 10 a b c fa ta fb tb xa xb xc) (K : ∀ q, LX B n q → Agr (teW B) h q → TmL B q (eqL 10 0 a b c fa ta fb tb) (eqL 10 1 a b c fa ta fb tb) (if eq2 10 = true then 1 else 0) → Ends (ev PP (gsF gv) B d 615 843 [(2, rf (B + 149)), (2, rf w1), (0, (k : Int)), (0, xa), (0, xb), (0, xc)] [] q) Q) : Ends (ev PP (gsF gv) B d 615 354 [(2, rf (B + 149)), (2, rf w1), (0, (k : Int)), (0, xa), (0, xb), (0, xc)] [] h) Q := by
  obtain ⟨⟨ea, p1⟩, p2, p3⟩ := P.1 (by decide)
  subst ea
  obtain ⟨eb, p2⟩ := p2 (by decide)
  subst eb
  have lo := S.lo
  refine Ends.eq (b615_354 (n := n) (by (repeat' first | assumption | refine LX.setF _ _ ?_ (by decide +kernel) | refine LX.setS ?_ rfl | refine LX.setA ?_ (by first | assumption | omega))) (by first | assumption | omega)) ?_
  refine Ends.cv l (by decide +kernel) (c_u858 (p := a) l (by omega) T (Nat.le_of_ble_eq_true rfl) (Nat.le_of_ble_eq_true rfl) (by omega)) (fun q1 l1 _ _ _ ⟨g1, T1⟩ => ?_)
  have G1 := g1
  have S1 : YS B w1 q1 := S.agr G1 (fun k hk1 z => by unfold teW at z; omega)
  refine Ends.eq (b615_360 (n := n) (by (repeat' first | assumption | refine LX.setF _ _ ?_ (by decide +kernel) | refine LX.setS ?_ rfl | refine LX.setA ?_ (by first | assumption | omega))) (by first | assumption | omega)) ?_
  refine Ends.cv l1 (by decide +kernel) (c_u858 (p := b) l1 (by omega) T1 (Nat.le_of_ble_eq_true rfl) (Nat.le_of_ble_eq_true rfl) (by omega)) (fun q2 l2 _ _ _ ⟨g2, T2⟩ => ?_)
  have G2 := G1.tr g2 (fun _ _ z => z)
  have S2 : YS B w1 q2 := S.agr G2 (fun k hk1 z => by unfold teW at z; omega)
  refine Ends.eq (b615_367 (n := n) (by (repeat' first | assumption | refine LX.setF _ _ ?_ (by decide +kernel) | refine LX.setS ?_ rfl | refine LX.setA ?_ (by first | assumption | omega))) (by first | assumption | omega)) ?_
  refine Ends.cv l2 (by decide +kernel) (c_second813 l2 (by omega) T2) (fun q3 l3 _ _ _ ⟨g3, T3⟩ => ?_)
  have G3 := G2.tr g3 (fun _ _ z => z)
  have S3 : YS B w1 q3 := S.agr G3 (fun k hk1 z => by unfold teW at z; omega)
  refine Ends.eq (b615_371 (n := n) (by (repeat' first | assumption | refine LX.setF _ _ ?_ (by decide +kernel) | refine LX.setS ?_ rfl | refine LX.setA ?_ (by first | assumption | omega))) (by first | assumption | omega)) ?_
  refine Ends.cv l3 (by decide +kernel) (c_v860 (p := a) l3 (by omega) T3 (Nat.le_of_ble_eq_true rfl) (Nat.le_of_ble_eq_true rfl) (by omega)) (fun q4 l4 _ _ _ ⟨g4, T4⟩ => ?_)
  have G4 := G3.tr g4 (fun _ _ z => z)
  have S4 : YS B w1 q4 := S.agr G4 (fun k hk1 z => by unfold teW at z; omega)
  refine Ends.eq (b615_377 (n := n) (by (repeat' first | assumption | refine LX.setF _ _ ?_ (by decide +kernel) | refine LX.setS ?_ rfl | refine LX.setA ?_ (by first | assumption | omega))) (by first | assumption | omega)) ?_
  refine Ends.cv l4 (by decide +kernel) (c_v860 (p := b) l4 (by omega) T4 (Nat.le_of_ble_eq_true rfl) (Nat.le_of_ble_eq_true rfl) (by omega)) (fun q5 l5 _ _ _ ⟨g5, T5⟩ => ?_)
  have G5 := G4.tr g5 (fun _ _ z => z)
  have S5 : YS B w1 q5 := S.agr G5 (fun k hk1 z => by unfold teW at z; omega)
  refine Ends.eq (b615_384 (n := n) (by (repeat' first | assumption | refine LX.setF _ _ ?_ (by decide +kernel) | refine LX.setS ?_ rfl | refine LX.setA ?_ (by first | assumption | omega))) (by first | assumption | omega)) ?_
  exact K _ l5 G5 T5
set_option maxHeartbeats 1000000 in
theorem eqs_11 (l : LX B n h) (hd : 16 ≤ d) (S : YS B w1 h) (T : TmL B h [] [] 0) (P : PtK B h w1 11 a b c fa ta fb tb xa xb xc) (K : ∀ q, LX B n q → Agr (teW B) h q → TmL B q (eqL 11 0 a b c fa ta fb tb) (eqL 11 1 a b c fa ta fb tb) (if eq2 11 = true then 1 else 0) → Ends (ev PP (gsF gv) B d 615 843 [(2, rf (B + 149)), (2, rf w1), (0, (k : Int)), (0, xa), (0, xb), (0, xc)] [] q) Q) : Ends (ev PP (gsF gv) B d 615 387 [(2, rf (B + 149)), (2, rf w1), (0, (k : Int)), (0, xa), (0, xb), (0, xc)] [] h) Q := by
  obtain ⟨⟨ea, p1⟩, p2, p3⟩ := P.1 (by decide)
  subst ea
  obtain ⟨eb, p2⟩ := p2 (by decide)
  subst eb
  obtain ⟨ec, p3⟩ := p3 (by decide)
  subst ec
  have lo := S.lo
  refine Ends.eq (b615_387 (n := n) (by (repeat' first | assumption | refine LX.setF _ _ ?_ (by decide +kernel) | refine LX.setS ?_ rfl | refine LX.setA ?_ (by first | assumption | omega))) (by first | assumption | omega)) ?_
  refine Ends.cv l (by decide +kernel) (c_u858 (p := a) l (by omega) T (Nat.le_of_ble_eq_true rfl) (Nat.le_of_ble_eq_true rfl) (by omega)) (fun q1 l1 _ _ _ ⟨g1, T1⟩ => ?_)
  have G1 := g1
  have S1 : YS B w1 q1 := S.agr G1 (fun k hk1 z => by unfold teW at z; omega)
  refine Ends.eq (b615_393 (n := n) (by (repeat' first | assumption | refine LX.setF _ _ ?_ (by decide +kernel) | refine LX.setS ?_ rfl | refine LX.setA ?_ (by first | assumption | omega))) (by first | assumption | omega)) ?_
  refine Ends.cv l1 (by decide +kernel) (c_u858 (p := b) l1 (by omega) T1 (Nat.le_of_ble_eq_true rfl) (Nat.le_of_ble_eq_true rfl) (by omega)) (fun q2 l2 _ _ _ ⟨g2, T2⟩ => ?_)
  have G2 := G1.tr g2 (fun _ _ z => z)
  have S2 : YS B w1 q2 := S.agr G2 (fun k hk1 z => by unfold teW at z; omega)
  refine Ends.eq (b615_400 (n := n) (by (repeat' first | assumption | refine LX.setF _ _ ?_ (by decide +kernel) | refine LX.setS ?_ rfl | refine LX.setA ?_ (by first | assumption | omega))) (by first | assumption | omega)) ?_
  refine Ends.cv l2 (by decide +kernel) (c_u858 (p := c) l2 (by omega) T2 (Nat.le_of_ble_eq_true rfl) (Nat.le_of_ble_eq_true rfl) (by omega)) (fun q3 l3 _ _ _ ⟨g3, T3⟩ => ?_)
  have G3 := G2.tr g3 (fun _ _ z => z)
  have S3 : YS B w1 q3 := S.agr G3 (fun k hk1 z => by unfold teW at z; omega)
  refine Ends.eq (b615_408 (n := n) (by (repeat' first | assumption | refine LX.setF _ _ ?_ (by decide +kernel) | refine LX.setS ?_ rfl | refine LX.setA ?_ (by first | assumption | omega))) (by first | assumption | omega)) ?_
  refine Ends.cv l3 (by decide +kernel) (c_second813 l3 (by omega) T3) (fun q4 l4 _ _ _ ⟨g4, T4⟩ => ?_)
  have G4 := G3.tr g4 (fun _ _ z => z)
  have S4 : YS B w1 q4 := S.agr G4 (fun k hk1 z => by unfold teW at z; omega)
  refine Ends.eq (b615_412 (n := n) (by (repeat' first | assumption | refine LX.setF _ _ ?_ (by decide +kernel) | refine LX.setS ?_ rfl | refine LX.setA ?_ (by first | assumption | omega))) (by first | assumption | omega)) ?_
  refine Ends.cv l4 (by decide +kernel) (c_v860 (p := a) l4 (by omega) T4 (Nat.le_of_ble_eq_true rfl) (Nat.le_of_ble_eq_true rfl) (by omega)) (fun q5 l5 _ _ _ ⟨g5, T5⟩ => ?_)
  have G5 := G4.tr g5 (fun _ _ z => z)
  have S5 : YS B w1 q5 := S.agr G5 (fun k hk1 z => by unfold teW at z; omega)
  refine Ends.eq (b615_418 (n := n) (by (repeat' first | assumption | refine LX.setF _ _ ?_ (by decide +kernel) | refine LX.setS ?_ rfl | refine LX.setA ?_ (by first | assumption | omega))) (by first | assumption | omega)) ?_
  refine Ends.cv l5 (by decide +kernel) (c_v860 (p := b) l5 (by omega) T5 (Nat.le_of_ble_eq_true rfl) (Nat.le_of_ble_eq_true rfl) (by omega)) (fun q6 l6 _ _ _ ⟨g6, T6⟩ => ?_)
  have G6 := G5.tr g6 (fun _ _ z => z)
  have S6 : YS B w1 q6 := S.agr G6 (fun k hk1 z => by unfold teW at z; omega)
  refine Ends.eq (b615_425 (n := n) (by (repeat' first | assumption | refine LX.setF _ _ ?_ (by decide +kernel) | refine LX.setS ?_ rfl | refine LX.setA ?_ (by first | assumption | omega))) (by first | assumption | omega)) ?_
  refine Ends.cv l6 (by decide +kernel) (c_v860 (p := c) l6 (by omega) T6 (Nat.le_of_ble_eq_true rfl) (Nat.le_of_ble_eq_true rfl) (by omega)) (fun q7 l7 _ _ _ ⟨g7, T7⟩ => ?_)
  have G7 := G6.tr g7 (fun _ _ z => z)
  have S7 : YS B w1 q7 := S.agr G7 (fun k hk1 z => by unfold teW at z; omega)
  refine Ends.eq (b615_433 (n := n) (by (repeat' first | assumption | refine LX.setF _ _ ?_ (by decide +kernel) | refine LX.setS ?_ rfl | refine LX.setA ?_ (by first | assumption | omega))) (by first | assumption | omega)) ?_
  exact K _ l7 G7 T7
set_option maxHeartbeats 1000000 in
theorem eqs_12 (l : LX B n h) (hd : 16 ≤ d) (S : YS B w1 h) (T : TmL B h [] [] 0) (P : PtK B h w1 12 a b c fa ta fb tb xa xb xc) (K : ∀ q, LX B n q → Agr (teW B) h q → TmL B q (eqL 12 0 a b c fa ta fb tb) (eqL 12 1 a b c fa ta fb tb) (if eq2 12 = true then 1 else 0) → Ends (ev PP (gsF gv) B d 615 843 [(2, rf (B + 149)), (2, rf w1), (0, (k : Int)), (0, xa), (0, xb), (0, xc)] [] q) Q) : Ends (ev PP (gsF gv) B d 615 436 [(2, rf (B + 149)), (2, rf w1), (0, (k : Int)), (0, xa), (0, xb), (0, xc)] [] h) Q := by
  obtain ⟨⟨ea, p1⟩, p2, p3⟩ := P.1 (by decide)
  subst ea
  obtain ⟨eb, p2⟩ := p2 (by decide)
  subst eb
  obtain ⟨ec, p3⟩ := p3 (by decide)
  subst ec
  have lo := S.lo
  refine Ends.eq (b615_436 (n := n) (by (repeat' first | assumption | refine LX.setF _ _ ?_ (by decide +kernel) | refine LX.setS ?_ rfl | refine LX.setA ?_ (by first | assumption | omega))) (by first | assumption | omega)) ?_
  refine Ends.cv l (by decide +kernel) (c_u858 (p := a) l (by omega) T (Nat.le_of_ble_eq_true rfl) (Nat.le_of_ble_eq_true rfl) (by omega)) (fun q1 l1 _ _ _ ⟨g1, T1⟩ => ?_)
  have G1 := g1
  have S1 : YS B w1 q1 := S.agr G1 (fun k hk1 z => by unfold teW at z; omega)
  refine Ends.eq (b615_442 (n := n) (by (repeat' first | assumption | refine LX.setF _ _ ?_ (by decide +kernel) | refine LX.setS ?_ rfl | refine LX.setA ?_ (by first | assumption | omega))) (by first | assumption | omega)) ?_
  refine Ends.cv l1 (by decide +kernel) (c_u858 (p := b) l1 (by omega) T1 (Nat.le_of_ble_eq_true rfl) (Nat.le_of_ble_eq_true rfl) (by omega)) (fun q2 l2 _ _ _ ⟨g2, T2⟩ => ?_)
  have G2 := G1.tr g2 (fun _ _ z => z)
  have S2 : YS B w1 q2 := S.agr G2 (fun k hk1 z => by unfold teW at z; omega)
  refine Ends.eq (b615_449 (n := n) (by (repeat' first | assumption | refine LX.setF _ _ ?_ (by decide +kernel) | refine LX.setS ?_ rfl | refine LX.setA ?_ (by first | assumption | omega))) (by first | assumption | omega)) ?_
  refine Ends.cv l2 (by decide +kernel) (c_u858 (p := c) l2 (by omega) T2 (Nat.le_of_ble_eq_true rfl) (Nat.le_of_ble_eq_true rfl) (by omega)) (fun q3 l3 _ _ _ ⟨g3, T3⟩ => ?_)
  have G3 := G2.tr g3 (fun _ _ z => z)
  have S3 : YS B w1 q3 := S.agr G3 (fun k hk1 z => by unfold teW at z; omega)
  refine Ends.eq (b615_457 (n := n) (by (repeat' first | assumption | refine LX.setF _ _ ?_ (by decide +kernel) | refine LX.setS ?_ rfl | refine LX.setA ?_ (by first | assumption | omega))) (by first | assumption | omega)) ?_
  refine Ends.cv l3 (by decide +kernel) (c_second813 l3 (by omega) T3) (fun q4 l4 _ _ _ ⟨g4, T4⟩ => ?_)
  have G4 := G3.tr g4 (fun _ _ z => z)
  have S4 : YS B w1 q4 := S.agr G4 (fun k hk1 z => by unfold teW at z; omega)
  refine Ends.eq (b615_461 (n := n) (by (repeat' first | assumption | refine LX.setF _ _ ?_ (by decide +kernel) | refine LX.setS ?_ rfl | refine LX.setA ?_ (by first | assumption | omega))) (by first | assumption | omega)) ?_
  refine Ends.cv l4 (by decide +kernel) (c_v860 (p := a) l4 (by omega) T4 (Nat.le_of_ble_eq_true rfl) (Nat.le_of_ble_eq_true rfl) (by omega)) (fun q5 l5 _ _ _ ⟨g5, T5⟩ => ?_)
  have G5 := G4.tr g5 (fun _ _ z => z)
  have S5 : YS B w1 q5 := S.agr G5 (fun k hk1 z => by unfold teW at z; omega)
  refine Ends.eq (b615_467 (n := n) (by (repeat' first | assumption | refine LX.setF _ _ ?_ (by decide +kernel) | refine LX.setS ?_ rfl | refine LX.setA ?_ (by first | assumption | omega))) (by first | assumption | omega)) ?_
  refine Ends.cv l5 (by decide +kernel) (c_v860 (p := b) l5 (by omega) T5 (Nat.le_of_ble_eq_true rfl) (Nat.le_of_ble_eq_true rfl) (by omega)) (fun q6 l6 _ _ _ ⟨g6, T6⟩ => ?_)
  have G6 := G5.tr g6 (fun _ _ z => z)
  have S6 : YS B w1 q6 := S.agr G6 (fun k hk1 z => by unfold teW at z; omega)
  refine Ends.eq (b615_474 (n := n) (by (repeat' first | assumption | refine LX.setF _ _ ?_ (by decide +kernel) | refine LX.setS ?_ rfl | refine LX.setA ?_ (by first | assumption | omega))) (by first | assumption | omega)) ?_
  exact K _ l6 G6 T6
set_option maxHeartbeats 1000000 in
theorem eqs_13 (l : LX B n h) (hd : 16 ≤ d) (S : YS B w1 h) (T : TmL B h [] [] 0) (P : PtK B h w1 13 a b c fa ta fb tb xa xb xc) (K : ∀ q, LX B n q → Agr (teW B) h q → TmL B q (eqL 13 0 a b c fa ta fb tb) (eqL 13 1 a b c fa ta fb tb) (if eq2 13 = true then 1 else 0) → Ends (ev PP (gsF gv) B d 615 843 [(2, rf (B + 149)), (2, rf w1), (0, (k : Int)), (0, xa), (0, xb), (0, xc)] [] q) Q) : Ends (ev PP (gsF gv) B d 615 477 [(2, rf (B + 149)), (2, rf w1), (0, (k : Int)), (0, xa), (0, xb), (0, xc)] [] h) Q := by
  obtain ⟨⟨ea, p1⟩, p2, p3⟩ := P.1 (by decide)
  subst ea
  obtain ⟨eb, p2⟩ := p2 (by decide)
  subst eb
  obtain ⟨ec, p3⟩ := p3 (by decide)
  subst ec
  have lo := S.lo
  refine Ends.eq (b615_477 (n := n) (by (repeat' first | assumption | refine LX.setF _ _ ?_ (by decide +kernel) | refine LX.setS ?_ rfl | refine LX.setA ?_ (by first | assumption | omega))) (by first | assumption | omega)) ?_
  refine Ends.cv l (by decide +kernel) (c_u858 (p := a) l (by omega) T (Nat.le_of_ble_eq_true rfl) (Nat.le_of_ble_eq_true rfl) (by omega)) (fun q1 l1 _ _ _ ⟨g1, T1⟩ => ?_)
  have G1 := g1
  have S1 : YS B w1 q1 := S.agr G1 (fun k hk1 z => by unfold teW at z; omega)
  refine Ends.eq (b615_483 (n := n) (by (repeat' first | assumption | refine LX.setF _ _ ?_ (by decide +kernel) | refine LX.setS ?_ rfl | refine LX.setA ?_ (by first | assumption | omega))) (by first | assumption | omega)) ?_
  refine Ends.cv l1 (by decide +kernel) (c_u858 (p := b) l1 (by omega) T1 (Nat.le_of_ble_eq_true rfl) (Nat.le_of_ble_eq_true rfl) (by omega)) (fun q2 l2 _ _ _ ⟨g2, T2⟩ => ?_)
  have G2 := G1.tr g2 (fun _ _ z => z)
  have S2 : YS B w1 q2 := S.agr G2 (fun k hk1 z => by unfold teW at z; omega)
  refine Ends.eq (b615_490 (n := n) (by (repeat' first | assumption | refine LX.setF _ _ ?_ (by decide +kernel) | refine LX.setS ?_ rfl | refine LX.setA ?_ (by first | assumption | omega))) (by first | assumption | omega)) ?_
  refine Ends.cv l2 (by decide +kernel) (c_second813 l2 (by omega) T2) (fun q3 l3 _ _ _ ⟨g3, T3⟩ => ?_)
  have G3 := G2.tr g3 (fun _ _ z => z)
  have S3 : YS B w1 q3 := S.agr G3 (fun k hk1 z => by unfold teW at z; omega)
  refine Ends.eq (b615_494 (n := n) (by (repeat' first | assumption | refine LX.setF _ _ ?_ (by decide +kernel) | refine LX.setS ?_ rfl | refine LX.setA ?_ (by first | assumption | omega))) (by first | assumption | omega)) ?_
  refine Ends.cv l3 (by decide +kernel) (c_v860 (p := a) l3 (by omega) T3 (Nat.le_of_ble_eq_true rfl) (Nat.le_of_ble_eq_true rfl) (by omega)) (fun q4 l4 _ _ _ ⟨g4, T4⟩ => ?_)
  have G4 := G3.tr g4 (fun _ _ z => z)
  have S4 : YS B w1 q4 := S.agr G4 (fun k hk1 z => by unfold teW at z; omega)
  refine Ends.eq (b615_500 (n := n) (by (repeat' first | assumption | refine LX.setF _ _ ?_ (by decide +kernel) | refine LX.setS ?_ rfl | refine LX.setA ?_ (by first | assumption | omega))) (by first | assumption | omega)) ?_
  refine Ends.cv l4 (by decide +kernel) (c_v860 (p := b) l4 (by omega) T4 (Nat.le_of_ble_eq_true rfl) (Nat.le_of_ble_eq_true rfl) (by omega)) (fun q5 l5 _ _ _ ⟨g5, T5⟩ => ?_)
  have G5 := G4.tr g5 (fun _ _ z => z)
  have S5 : YS B w1 q5 := S.agr G5 (fun k hk1 z => by unfold teW at z; omega)
  refine Ends.eq (b615_507 (n := n) (by (repeat' first | assumption | refine LX.setF _ _ ?_ (by decide +kernel) | refine LX.setS ?_ rfl | refine LX.setA ?_ (by first | assumption | omega))) (by first | assumption | omega)) ?_
  refine Ends.cv l5 (by decide +kernel) (c_v860 (p := c) l5 (by omega) T5 (Nat.le_of_ble_eq_true rfl) (Nat.le_of_ble_eq_true rfl) (by omega)) (fun q6 l6 _ _ _ ⟨g6, T6⟩ => ?_)
  have G6 := G5.tr g6 (fun _ _ z => z)
  have S6 : YS B w1 q6 := S.agr G6 (fun k hk1 z => by unfold teW at z; omega)
  refine Ends.eq (b615_515 (n := n) (by (repeat' first | assumption | refine LX.setF _ _ ?_ (by decide +kernel) | refine LX.setS ?_ rfl | refine LX.setA ?_ (by first | assumption | omega))) (by first | assumption | omega)) ?_
  exact K _ l6 G6 T6
set_option maxHeartbeats 1000000 in
theorem eqs_14 (l : LX B n h) (hd : 16 ≤ d) (S : YS B w1 h) (T : TmL B h [] [] 0) (P : PtK B h w1 14 a b c fa ta fb tb xa xb xc) (K : ∀ q, LX B n q → Agr (teW B) h q → TmL B q (eqL 14 0 a b c fa ta fb tb) (eqL 14 1 a b c fa ta fb tb) (if eq2 14 = true then 1 else 0) → Ends (ev PP (gsF gv) B d 615 843 [(2, rf (B + 149)), (2, rf w1), (0, (k : Int)), (0, xa), (0, xb), (0, xc)] [] q) Q) : Ends (ev PP (gsF gv) B d 615 518 [(2, rf (B + 149)), (2, rf w1), (0, (k : Int)), (0, xa), (0, xb), (0, xc)] [] h) Q := by
  obtain ⟨⟨ea, p1⟩, p2, p3⟩ := P.1 (by decide)
  subst ea
  obtain ⟨eb, p2⟩ := p2 (by decide)
  subst eb
  obtain ⟨ec, p3⟩ := p3 (by decide)
  subst ec
  have lo := S.lo
  refine Ends.eq (b615_518 (n := n) (by (repeat' first | assumption | refine LX.setF _ _ ?_ (by decide +kernel) | refine LX.setS ?_ rfl | refine LX.setA ?_ (by first | assumption | omega))) (by first | assumption | omega)) ?_
  refine Ends.cv l (by decide +kernel) (c_u858 (p := b) l (by omega) T (Nat.le_of_ble_eq_true rfl) (Nat.le_of_ble_eq_true rfl) (by omega)) (fun q1 l1 _ _ _ ⟨g1, T1⟩ => ?_)
  have G1 := g1
  have S1 : YS B w1 q1 := S.agr G1 (fun k hk1 z => by unfold teW at z; omega)
  refine Ends.eq (b615_525 (n := n) (by (repeat' first | assumption | refine LX.setF _ _ ?_ (by decide +kernel) | refine LX.setS ?_ rfl | refine LX.setA ?_ (by first | assumption | omega))) (by first | assumption | omega)) ?_
  refine Ends.cv l1 (by decide +kernel) (c_u858 (p := c) l1 (by omega) T1 (Nat.le_of_ble_eq_true rfl) (Nat.le_of_ble_eq_true rfl) (by omega)) (fun q2 l2 _ _ _ ⟨g2, T2⟩ => ?_)
  have G2 := G1.tr g2 (fun _ _ z => z)
  have S2 : YS B w1 q2 := S.agr G2 (fun k hk1 z => by unfold teW at z; omega)
  refine Ends.eq (b615_532 (n := n) (by (repeat' first | assumption | refine LX.setF _ _ ?_ (by decide +kernel) | refine LX.setS ?_ rfl | refine LX.setA ?_ (by first | assumption | omega))) (by first | assumption | omega)) ?_
  refine Ends.cv l2 (by decide +kernel) (c_v860 (p := a) l2 (by omega) T2 (Nat.le_of_ble_eq_true rfl) (Nat.le_of_ble_eq_true rfl) (by omega)) (fun q3 l3 _ _ _ ⟨g3, T3⟩ => ?_)
  have G3 := G2.tr g3 (fun _ _ z => z)
  have S3 : YS B w1 q3 := S.agr G3 (fun k hk1 z => by unfold teW at z; omega)
  refine Ends.eq (b615_538 (n := n) (by (repeat' first | assumption | refine LX.setF _ _ ?_ (by decide +kernel) | refine LX.setS ?_ rfl | refine LX.setA ?_ (by first | assumption | omega))) (by first | assumption | omega)) ?_
  refine Ends.cv l3 (by decide +kernel) (c_v860 (p := c) l3 (by omega) T3 (Nat.le_of_ble_eq_true rfl) (Nat.le_of_ble_eq_true rfl) (by omega)) (fun q4 l4 _ _ _ ⟨g4, T4⟩ => ?_)
  have G4 := G3.tr g4 (fun _ _ z => z)
  have S4 : YS B w1 q4 := S.agr G4 (fun k hk1 z => by unfold teW at z; omega)
  refine Ends.eq (b615_545 (n := n) (by (repeat' first | assumption | refine LX.setF _ _ ?_ (by decide +kernel) | refine LX.setS ?_ rfl | refine LX.setA ?_ (by first | assumption | omega))) (by first | assumption | omega)) ?_
  refine Ends.cv l4 (by decide +kernel) (c_second813 l4 (by omega) T4) (fun q5 l5 _ _ _ ⟨g5, T5⟩ => ?_)
  have G5 := G4.tr g5 (fun _ _ z => z)
  have S5 : YS B w1 q5 := S.agr G5 (fun k hk1 z => by unfold teW at z; omega)
  refine Ends.eq (b615_549 (n := n) (by (repeat' first | assumption | refine LX.setF _ _ ?_ (by decide +kernel) | refine LX.setS ?_ rfl | refine LX.setA ?_ (by first | assumption | omega))) (by first | assumption | omega)) ?_
  refine Ends.cv l5 (by decide +kernel) (c_v860 (p := b) l5 (by omega) T5 (Nat.le_of_ble_eq_true rfl) (Nat.le_of_ble_eq_true rfl) (by omega)) (fun q6 l6 _ _ _ ⟨g6, T6⟩ => ?_)
  have G6 := G5.tr g6 (fun _ _ z => z)
  have S6 : YS B w1 q6 := S.agr G6 (fun k hk1 z => by unfold teW at z; omega)
  refine Ends.eq (b615_556 (n := n) (by (repeat' first | assumption | refine LX.setF _ _ ?_ (by decide +kernel) | refine LX.setS ?_ rfl | refine LX.setA ?_ (by first | assumption | omega))) (by first | assumption | omega)) ?_
  refine Ends.cv l6 (by decide +kernel) (c_v860 (p := c) l6 (by omega) T6 (Nat.le_of_ble_eq_true rfl) (Nat.le_of_ble_eq_true rfl) (by omega)) (fun q7 l7 _ _ _ ⟨g7, T7⟩ => ?_)
  have G7 := G6.tr g7 (fun _ _ z => z)
  have S7 : YS B w1 q7 := S.agr G7 (fun k hk1 z => by unfold teW at z; omega)
  refine Ends.eq (b615_563 (n := n) (by (repeat' first | assumption | refine LX.setF _ _ ?_ (by decide +kernel) | refine LX.setS ?_ rfl | refine LX.setA ?_ (by first | assumption | omega))) (by first | assumption | omega)) ?_
  refine Ends.cv l7 (by decide +kernel) (c_u858 (p := a) l7 (by omega) T7 (Nat.le_of_ble_eq_true rfl) (Nat.le_of_ble_eq_true rfl) (by omega)) (fun q8 l8 _ _ _ ⟨g8, T8⟩ => ?_)
  have G8 := G7.tr g8 (fun _ _ z => z)
  have S8 : YS B w1 q8 := S.agr G8 (fun k hk1 z => by unfold teW at z; omega)
  refine Ends.eq (b615_569 (n := n) (by (repeat' first | assumption | refine LX.setF _ _ ?_ (by decide +kernel) | refine LX.setS ?_ rfl | refine LX.setA ?_ (by first | assumption | omega))) (by first | assumption | omega)) ?_
  refine Ends.cv l8 (by decide +kernel) (c_u858 (p := c) l8 (by omega) T8 (Nat.le_of_ble_eq_true rfl) (Nat.le_of_ble_eq_true rfl) (by omega)) (fun q9 l9 _ _ _ ⟨g9, T9⟩ => ?_)
  have G9 := G8.tr g9 (fun _ _ z => z)
  have S9 : YS B w1 q9 := S.agr G9 (fun k hk1 z => by unfold teW at z; omega)
  refine Ends.eq (b615_576 (n := n) (by (repeat' first | assumption | refine LX.setF _ _ ?_ (by decide +kernel) | refine LX.setS ?_ rfl | refine LX.setA ?_ (by first | assumption | omega))) (by first | assumption | omega)) ?_
  exact K _ l9 G9 T9
set_option maxHeartbeats 1000000 in
theorem eqs_15 (l : LX B n h) (hd : 16 ≤ d) (S : YS B w1 h) (T : TmL B h [] [] 0) (P : PtK B h w1 15 a b c fa ta fb tb xa xb xc) (K : ∀ q, LX B n q → Agr (teW B) h q → TmL B q (eqL 15 0 a b c fa ta fb tb) (eqL 15 1 a b c fa ta fb tb) (if eq2 15 = true then 1 else 0) → Ends (ev PP (gsF gv) B d 615 843 [(2, rf (B + 149)), (2, rf w1), (0, (k : Int)), (0, xa), (0, xb), (0, xc)] [] q) Q) : Ends (ev PP (gsF gv) B d 615 579 [(2, rf (B + 149)), (2, rf w1), (0, (k : Int)), (0, xa), (0, xb), (0, xc)] [] h) Q := by
  obtain ⟨⟨ea, p1⟩, p2, p3⟩ := P.1 (by decide)
  subst ea
  obtain ⟨eb, p2⟩ := p2 (by decide)
  subst eb
  obtain ⟨ec, p3⟩ := p3 (by decide)
  subst ec
  have lo := S.lo
  refine Ends.eq (b615_579 (n := n) (by (repeat' first | assumption | refine LX.setF _ _ ?_ (by decide +kernel) | refine LX.setS ?_ rfl | refine LX.setA ?_ (by first | assumption | omega))) (by first | assumption | omega)) ?_
  refine Ends.cv l (by decide +kernel) (c_u858 (p := b) l (by omega) T (Nat.le_of_ble_eq_true rfl) (Nat.le_of_ble_eq_true rfl) (by omega)) (fun q1 l1 _ _ _ ⟨g1, T1⟩ => ?_)
  have G1 := g1
  have S1 : YS B w1 q1 := S.agr G1 (fun k hk1 z => by unfold teW at z; omega)
  refine Ends.eq (b615_586 (n := n) (by (repeat' first | assumption | refine LX.setF _ _ ?_ (by decide +kernel) | refine LX.setS ?_ rfl | refine LX.setA ?_ (by first | assumption | omega))) (by first | assumption | omega)) ?_
  refine Ends.cv l1 (by decide +kernel) (c_u858 (p := c) l1 (by omega) T1 (Nat.le_of_ble_eq_true rfl) (Nat.le_of_ble_eq_true rfl) (by omega)) (fun q2 l2 _ _ _ ⟨g2, T2⟩ => ?_)
  have G2 := G1.tr g2 (fun _ _ z => z)
  have S2 : YS B w1 q2 := S.agr G2 (fun k hk1 z => by unfold teW at z; omega)
  refine Ends.eq (b615_593 (n := n) (by (repeat' first | assumption | refine LX.setF _ _ ?_ (by decide +kernel) | refine LX.setS ?_ rfl | refine LX.setA ?_ (by first | assumption | omega))) (by first | assumption | omega)) ?_
  refine Ends.cv l2 (by decide +kernel) (c_v860 (p := c) l2 (by omega) T2 (Nat.le_of_ble_eq_true rfl) (Nat.le_of_ble_eq_true rfl) (by omega)) (fun q3 l3 _ _ _ ⟨g3, T3⟩ => ?_)
  have G3 := G2.tr g3 (fun _ _ z => z)
  have S3 : YS B w1 q3 := S.agr G3 (fun k hk1 z => by unfold teW at z; omega)
  refine Ends.eq (b615_600 (n := n) (by (repeat' first | assumption | refine LX.setF _ _ ?_ (by decide +kernel) | refine LX.setS ?_ rfl | refine LX.setA ?_ (by first | assumption | omega))) (by first | assumption | omega)) ?_
  refine Ends.cv l3 (by decide +kernel) (c_v860 (p := a) l3 (by omega) T3 (Nat.le_of_ble_eq_true rfl) (Nat.le_of_ble_eq_true rfl) (by omega)) (fun q4 l4 _ _ _ ⟨g4, T4⟩ => ?_)
  have G4 := G3.tr g4 (fun _ _ z => z)
  have S4 : YS B w1 q4 := S.agr G4 (fun k hk1 z => by unfold teW at z; omega)
  refine Ends.eq (b615_606 (n := n) (by (repeat' first | assumption | refine LX.setF _ _ ?_ (by decide +kernel) | refine LX.setS ?_ rfl | refine LX.setA ?_ (by first | assumption | omega))) (by first | assumption | omega)) ?_
  refine Ends.cv l4 (by decide +kernel) (c_second813 l4 (by omega) T4) (fun q5 l5 _ _ _ ⟨g5, T5⟩ => ?_)
  have G5 := G4.tr g5 (fun _ _ z => z)
  have S5 : YS B w1 q5 := S.agr G5 (fun k hk1 z => by unfold teW at z; omega)
  refine Ends.eq (b615_610 (n := n) (by (repeat' first | assumption | refine LX.setF _ _ ?_ (by decide +kernel) | refine LX.setS ?_ rfl | refine LX.setA ?_ (by first | assumption | omega))) (by first | assumption | omega)) ?_
  refine Ends.cv l5 (by decide +kernel) (c_v860 (p := b) l5 (by omega) T5 (Nat.le_of_ble_eq_true rfl) (Nat.le_of_ble_eq_true rfl) (by omega)) (fun q6 l6 _ _ _ ⟨g6, T6⟩ => ?_)
  have G6 := G5.tr g6 (fun _ _ z => z)
  have S6 : YS B w1 q6 := S.agr G6 (fun k hk1 z => by unfold teW at z; omega)
  refine Ends.eq (b615_617 (n := n) (by (repeat' first | assumption | refine LX.setF _ _ ?_ (by decide +kernel) | refine LX.setS ?_ rfl | refine LX.setA ?_ (by first | assumption | omega))) (by first | assumption | omega)) ?_
  refine Ends.cv l6 (by decide +kernel) (c_v860 (p := c) l6 (by omega) T6 (Nat.le_of_ble_eq_true rfl) (Nat.le_of_ble_eq_true rfl) (by omega)) (fun q7 l7 _ _ _ ⟨g7, T7⟩ => ?_)
  have G7 := G6.tr g7 (fun _ _ z => z)
  have S7 : YS B w1 q7 := S.agr G7 (fun k hk1 z => by unfold teW at z; omega)
  refine Ends.eq (b615_624 (n := n) (by (repeat' first | assumption | refine LX.setF _ _ ?_ (by decide +kernel) | refine LX.setS ?_ rfl | refine LX.setA ?_ (by first | assumption | omega))) (by first | assumption | omega)) ?_
  refine Ends.cv l7 (by decide +kernel) (c_u858 (p := c) l7 (by omega) T7 (Nat.le_of_ble_eq_true rfl) (Nat.le_of_ble_eq_true rfl) (by omega)) (fun q8 l8 _ _ _ ⟨g8, T8⟩ => ?_)
  have G8 := G7.tr g8 (fun _ _ z => z)
  have S8 : YS B w1 q8 := S.agr G8 (fun k hk1 z => by unfold teW at z; omega)
  refine Ends.eq (b615_631 (n := n) (by (repeat' first | assumption | refine LX.setF _ _ ?_ (by decide +kernel) | refine LX.setS ?_ rfl | refine LX.setA ?_ (by first | assumption | omega))) (by first | assumption | omega)) ?_
  refine Ends.cv l8 (by decide +kernel) (c_u858 (p := a) l8 (by omega) T8 (Nat.le_of_ble_eq_true rfl) (Nat.le_of_ble_eq_true rfl) (by omega)) (fun q9 l9 _ _ _ ⟨g9, T9⟩ => ?_)
  have G9 := G8.tr g9 (fun _ _ z => z)
  have S9 : YS B w1 q9 := S.agr G9 (fun k hk1 z => by unfold teW at z; omega)
  refine Ends.eq (b615_637 (n := n) (by (repeat' first | assumption | refine LX.setF _ _ ?_ (by decide +kernel) | refine LX.setS ?_ rfl | refine LX.setA ?_ (by first | assumption | omega))) (by first | assumption | omega)) ?_
  exact K _ l9 G9 T9
set_option maxHeartbeats 1000000 in
theorem eqs_16 (l : LX B n h) (hd : 16 ≤ d) (S : YS B w1 h) (T : TmL B h [] [] 0) (P : PtK B h w1 16 a b c fa ta fb tb xa xb xc) (K : ∀ q, LX B n q → Agr (teW B) h q → TmL B q (eqL 16 0 a b c fa ta fb tb) (eqL 16 1 a b c fa ta fb tb) (if eq2 16 = true then 1 else 0) → Ends (ev PP (gsF gv) B d 615 843 [(2, rf (B + 149)), (2, rf w1), (0, (k : Int)), (0, xa), (0, xb), (0, xc)] [] q) Q) : Ends (ev PP (gsF gv) B d 615 640 [(2, rf (B + 149)), (2, rf w1), (0, (k : Int)), (0, xa), (0, xb), (0, xc)] [] h) Q := by
  obtain ⟨⟨ea, p1⟩, p2, p3⟩ := P.1 (by decide)
  subst ea
  obtain ⟨eb, p2⟩ := p2 (by decide)
  subst eb
  obtain ⟨ec, p3⟩ := p3 (by decide)
  subst ec
  have lo := S.lo
  refine Ends.eq (b615_640 (n := n) (by (repeat' first | assumption | refine LX.setF _ _ ?_ (by decide +kernel) | refine LX.setS ?_ rfl | refine LX.setA ?_ (by first | assumption | omega))) (by first | assumption | omega)) ?_
  refine Ends.cv l (by decide +kernel) (c_u858 (p := b) l (by omega) T (Nat.le_of_ble_eq_true rfl) (Nat.le_of_ble_eq_true rfl) (by omega)) (fun q1 l1 _ _ _ ⟨g1, T1⟩ => ?_)
  have G1 := g1
  have S1 : YS B w1 q1 := S.agr G1 (fun k hk1 z => by unfold teW at z; omega)
  refine Ends.eq (b615_647 (n := n) (by (repeat' first | assumption | refine LX.setF _ _ ?_ (by decide +kernel) | refine LX.setS ?_ rfl | refine LX.setA ?_ (by first | assumption | omega))) (by first | assumption | omega)) ?_
  refine Ends.cv l1 (by decide +kernel) (c_u858 (p := c) l1 (by omega) T1 (Nat.le_of_ble_eq_true rfl) (Nat.le_of_ble_eq_true rfl) (by omega)) (fun q2 l2 _ _ _ ⟨g2, T2⟩ => ?_)
  have G2 := G1.tr g2 (fun _ _ z => z)
  have S2 : YS B w1 q2 := S.agr G2 (fun k hk1 z => by unfold teW at z; omega)
  refine Ends.eq (b615_654 (n := n) (by (repeat' first | assumption | refine LX.setF _ _ ?_ (by decide +kernel) | refine LX.setS ?_ rfl | refine LX.setA ?_ (by first | assumption | omega))) (by first | assumption | omega)) ?_
  refine Ends.cv l2 (by decide +kernel) (c_v860 (p := c) l2 (by omega) T2 (Nat.le_of_ble_eq_true rfl) (Nat.le_of_ble_eq_true rfl) (by omega)) (fun q3 l3 _ _ _ ⟨g3, T3⟩ => ?_)
  have G3 := G2.tr g3 (fun _ _ z => z)
  have S3 : YS B w1 q3 := S.agr G3 (fun k hk1 z => by unfold teW at z; omega)
  refine Ends.eq (b615_661 (n := n) (by (repeat' first | assumption | refine LX.setF _ _ ?_ (by decide +kernel) | refine LX.setS ?_ rfl | refine LX.setA ?_ (by first | assumption | omega))) (by first | assumption | omega)) ?_
  refine Ends.cv l3 (by decide +kernel) (c_v860 (p := a) l3 (by omega) T3 (Nat.le_of_ble_eq_true rfl) (Nat.le_of_ble_eq_true rfl) (by omega)) (fun q4 l4 _ _ _ ⟨g4, T4⟩ => ?_)
  have G4 := G3.tr g4 (fun _ _ z => z)
  have S4 : YS B w1 q4 := S.agr G4 (fun k hk1 z => by unfold teW at z; omega)
  refine Ends.eq (b615_667 (n := n) (by (repeat' first | assumption | refine LX.setF _ _ ?_ (by decide +kernel) | refine LX.setS ?_ rfl | refine LX.setA ?_ (by first | assumption | omega))) (by first | assumption | omega)) ?_
  refine Ends.cv l4 (by decide +kernel) (c_second813 l4 (by omega) T4) (fun q5 l5 _ _ _ ⟨g5, T5⟩ => ?_)
  have G5 := G4.tr g5 (fun _ _ z => z)
  have S5 : YS B w1 q5 := S.agr G5 (fun k hk1 z => by unfold teW at z; omega)
  refine Ends.eq (b615_671 (n := n) (by (repeat' first | assumption | refine LX.setF _ _ ?_ (by decide +kernel) | refine LX.setS ?_ rfl | refine LX.setA ?_ (by first | assumption | omega))) (by first | assumption | omega)) ?_
  refine Ends.cv l5 (by decide +kernel) (c_v860 (p := b) l5 (by omega) T5 (Nat.le_of_ble_eq_true rfl) (Nat.le_of_ble_eq_true rfl) (by omega)) (fun q6 l6 _ _ _ ⟨g6, T6⟩ => ?_)
  have G6 := G5.tr g6 (fun _ _ z => z)
  have S6 : YS B w1 q6 := S.agr G6 (fun k hk1 z => by unfold teW at z; omega)
  refine Ends.eq (b615_678 (n := n) (by (repeat' first | assumption | refine LX.setF _ _ ?_ (by decide +kernel) | refine LX.setS ?_ rfl | refine LX.setA ?_ (by first | assumption | omega))) (by first | assumption | omega)) ?_
  refine Ends.cv l6 (by decide +kernel) (c_v860 (p := c) l6 (by omega) T6 (Nat.le_of_ble_eq_true rfl) (Nat.le_of_ble_eq_true rfl) (by omega)) (fun q7 l7 _ _ _ ⟨g7, T7⟩ => ?_)
  have G7 := G6.tr g7 (fun _ _ z => z)
  have S7 : YS B w1 q7 := S.agr G7 (fun k hk1 z => by unfold teW at z; omega)
  refine Ends.eq (b615_685 (n := n) (by (repeat' first | assumption | refine LX.setF _ _ ?_ (by decide +kernel) | refine LX.setS ?_ rfl | refine LX.setA ?_ (by first | assumption | omega))) (by first | assumption | omega)) ?_
  refine Ends.cv l7 (by decide +kernel) (c_u858 (p := a) l7 (by omega) T7 (Nat.le_of_ble_eq_true rfl) (Nat.le_of_ble_eq_true rfl) (by omega)) (fun q8 l8 _ _ _ ⟨g8, T8⟩ => ?_)
  have G8 := G7.tr g8 (fun _ _ z => z)
  have S8 : YS B w1 q8 := S.agr G8 (fun k hk1 z => by unfold teW at z; omega)
  refine Ends.eq (b615_691 (n := n) (by (repeat' first | assumption | refine LX.setF _ _ ?_ (by decide +kernel) | refine LX.setS ?_ rfl | refine LX.setA ?_ (by first | assumption | omega))) (by first | assumption | omega)) ?_
  refine Ends.cv l8 (by decide +kernel) (c_u858 (p := c) l8 (by omega) T8 (Nat.le_of_ble_eq_true rfl) (Nat.le_of_ble_eq_true rfl) (by omega)) (fun q9 l9 _ _ _ ⟨g9, T9⟩ => ?_)
  have G9 := G8.tr g9 (fun _ _ z => z)
  have S9 : YS B w1 q9 := S.agr G9 (fun k hk1 z => by unfold teW at z; omega)
  refine Ends.eq (b615_698 (n := n) (by (repeat' first | assumption | refine LX.setF _ _ ?_ (by decide +kernel) | refine LX.setS ?_ rfl | refine LX.setA ?_ (by first | assumption | omega))) (by first | assumption | omega)) ?_
  exact K _ l9 G9 T9
set_option maxHeartbeats 1000000 in
theorem eqs_17 (l : LX B n h) (hd : 16 ≤ d) (S : YS B w1 h) (T : TmL B h [] [] 0) (P : PtK B h w1 17 a b c fa ta fb tb xa xb xc) (K : ∀ q, LX B n q → Agr (teW B) h q → TmL B q (eqL 17 0 a b c fa ta fb tb) (eqL 17 1 a b c fa ta fb tb) (if eq2 17 = true then 1 else 0) → Ends (ev PP (gsF gv) B d 615 843 [(2, rf (B + 149)), (2, rf w1), (0, (k : Int)), (0, xa), (0, xb), (0, xc)] [] q) Q) : Ends (ev PP (gsF gv) B d 615 701 [(2, rf (B + 149)), (2, rf w1), (0, (k : Int)), (0, xa), (0, xb), (0, xc)] [] h) Q := by
  obtain ⟨ea, eb, p1, p2, p3, p4, p5, p6, p7, p8, p9, p10⟩ := P.2 (by decide)
  subst ea eb
  have lo := S.lo
  refine Ends.eq (b615_701 (n := n) (by (repeat' first | assumption | refine LX.setF _ _ ?_ (by decide +kernel) | refine LX.setS ?_ rfl | refine LX.setA ?_ (by first | assumption | omega))) (by first | assumption | omega)) ?_
  refine Ends.cv l (by decide +kernel) (c_du601 (k := a) (fr := fa) (to_ := ta) l (by omega) S T (Nat.le_of_ble_eq_true rfl) (Nat.le_of_ble_eq_true rfl) (by omega) p7 p8 (by omega) (by omega) (by decide)) (fun q1 l1 _ _ _ ⟨g1, T1⟩ => ?_)
  have G1 := g1
  have S1 : YS B w1 q1 := S.agr G1 (fun k hk1 z => by unfold teW at z; omega)
  refine Ends.eq (b615_708 (n := n) (by (repeat' first | assumption | refine LX.setF _ _ ?_ (by decide +kernel) | refine LX.setS ?_ rfl | refine LX.setA ?_ (by first | assumption | omega))) (by first | assumption | omega)) ?_
  refine Ends.cv l1 (by decide +kernel) (c_du601 (k := b) (fr := fb) (to_ := tb) l1 (by omega) S1 T1 (Nat.le_of_ble_eq_true rfl) (Nat.le_of_ble_eq_true rfl) (by omega) (by rw [G1.at _ _ (fun z => by unfold teW at z; omega)]; exact p9) (by rw [G1.at _ _ (fun z => by unfold teW at z; omega)]; exact p10) (by omega) (by omega) (by decide)) (fun q2 l2 _ _ _ ⟨g2, T2⟩ => ?_)
  have G2 := G1.tr g2 (fun _ _ z => z)
  have S2 : YS B w1 q2 := S.agr G2 (fun k hk1 z => by unfold teW at z; omega)
  refine Ends.eq (b615_716 (n := n) (by (repeat' first | assumption | refine LX.setF _ _ ?_ (by decide +kernel) | refine LX.setS ?_ rfl | refine LX.setA ?_ (by first | assumption | omega))) (by first | assumption | omega)) ?_
  exact K _ l2 G2 T2
set_option maxHeartbeats 1000000 in
theorem eqs_18 (l : LX B n h) (hd : 16 ≤ d) (S : YS B w1 h) (T : TmL B h [] [] 0) (P : PtK B h w1 18 a b c fa ta fb tb xa xb xc) (K : ∀ q, LX B n q → Agr (teW B) h q → TmL B q (eqL 18 0 a b c fa ta fb tb) (eqL 18 1 a b c fa ta fb tb) (if eq2 18 = true then 1 else 0) → Ends (ev PP (gsF gv) B d 615 843 [(2, rf (B + 149)), (2, rf w1), (0, (k : Int)), (0, xa), (0, xb), (0, xc)] [] q) Q) : Ends (ev PP (gsF gv) B d 615 719 [(2, rf (B + 149)), (2, rf w1), (0, (k : Int)), (0, xa), (0, xb), (0, xc)] [] h) Q := by
  obtain ⟨ea, eb, p1, p2, p3, p4, p5, p6, p7, p8, p9, p10⟩ := P.2 (by decide)
  subst ea eb
  have lo := S.lo
  refine Ends.eq (b615_719 (n := n) (by (repeat' first | assumption | refine LX.setF _ _ ?_ (by decide +kernel) | refine LX.setS ?_ rfl | refine LX.setA ?_ (by first | assumption | omega))) (by first | assumption | omega)) ?_
  refine Ends.cv l (by decide +kernel) (c_dv602 (k := a) (fr := fa) (to_ := ta) l (by omega) S T (Nat.le_of_ble_eq_true rfl) (Nat.le_of_ble_eq_true rfl) (by omega) p7 p8 (by omega) (by omega) (by decide)) (fun q1 l1 _ _ _ ⟨g1, T1⟩ => ?_)
  have G1 := g1
  have S1 : YS B w1 q1 := S.agr G1 (fun k hk1 z => by unfold teW at z; omega)
  refine Ends.eq (b615_726 (n := n) (by (repeat' first | assumption | refine LX.setF _ _ ?_ (by decide +kernel) | refine LX.setS ?_ rfl | refine LX.setA ?_ (by first | assumption | omega))) (by first | assumption | omega)) ?_
  refine Ends.cv l1 (by decide +kernel) (c_dv602 (k := b) (fr := fb) (to_ := tb) l1 (by omega) S1 T1 (Nat.le_of_ble_eq_true rfl) (Nat.le_of_ble_eq_true rfl) (by omega) (by rw [G1.at _ _ (fun z => by unfold teW at z; omega)]; exact p9) (by rw [G1.at _ _ (fun z => by unfold teW at z; omega)]; exact p10) (by omega) (by omega) (by decide)) (fun q2 l2 _ _ _ ⟨g2, T2⟩ => ?_)
  have G2 := G1.tr g2 (fun _ _ z => z)
  have S2 : YS B w1 q2 := S.agr G2 (fun k hk1 z => by unfold teW at z; omega)
  refine Ends.eq (b615_734 (n := n) (by (repeat' first | assumption | refine LX.setF _ _ ?_ (by decide +kernel) | refine LX.setS ?_ rfl | refine LX.setA ?_ (by first | assumption | omega))) (by first | assumption | omega)) ?_
  exact K _ l2 G2 T2
set_option maxHeartbeats 1000000 in
theorem eqs_19 (l : LX B n h) (hd : 16 ≤ d) (S : YS B w1 h) (T : TmL B h [] [] 0) (P : PtK B h w1 19 a b c fa ta fb tb xa xb xc) (K : ∀ q, LX B n q → Agr (teW B) h q → TmL B q (eqL 19 0 a b c fa ta fb tb) (eqL 19 1 a b c fa ta fb tb) (if eq2 19 = true then 1 else 0) → Ends (ev PP (gsF gv) B d 615 843 [(2, rf (B + 149)), (2, rf w1), (0, (k : Int)), (0, xa), (0, xb), (0, xc)] [] q) Q) : Ends (ev PP (gsF gv) B d 615 737 [(2, rf (B + 149)), (2, rf w1), (0, (k : Int)), (0, xa), (0, xb), (0, xc)] [] h) Q := by
  obtain ⟨ea, eb, p1, p2, p3, p4, p5, p6, p7, p8, p9, p10⟩ := P.2 (by decide)
  subst ea eb
  have lo := S.lo
  refine Ends.eq (b615_737 (n := n) (by (repeat' first | assumption | refine LX.setF _ _ ?_ (by decide +kernel) | refine LX.setS ?_ rfl | refine LX.setA ?_ (by first | assumption | omega))) (by first | assumption | omega)) ?_
  refine Ends.cv l (by decide +kernel) (c_du601 (k := a) (fr := fa) (to_ := ta) l (by omega) S T (Nat.le_of_ble_eq_true rfl) (Nat.le_of_ble_eq_true rfl) (by omega) p7 p8 (by omega) (by omega) (by decide)) (fun q1 l1 _ _ _ ⟨g1, T1⟩ => ?_)
  have G1 := g1
  have S1 : YS B w1 q1 := S.agr G1 (fun k hk1 z => by unfold teW at z; omega)
  refine Ends.eq (b615_744 (n := n) (by (repeat' first | assumption | refine LX.setF _ _ ?_ (by decide +kernel) | refine LX.setS ?_ rfl | refine LX.setA ?_ (by first | assumption | omega))) (by first | assumption | omega)) ?_
  refine Ends.cv l1 (by decide +kernel) (c_dv602 (k := b) (fr := fb) (to_ := tb) l1 (by omega) S1 T1 (Nat.le_of_ble_eq_true rfl) (Nat.le_of_ble_eq_true rfl) (by omega) (by rw [G1.at _ _ (fun z => by unfold teW at z; omega)]; exact p9) (by rw [G1.at _ _ (fun z => by unfold teW at z; omega)]; exact p10) (by omega) (by omega) (by decide)) (fun q2 l2 _ _ _ ⟨g2, T2⟩ => ?_)
  have G2 := G1.tr g2 (fun _ _ z => z)
  have S2 : YS B w1 q2 := S.agr G2 (fun k hk1 z => by unfold teW at z; omega)
  refine Ends.eq (b615_752 (n := n) (by (repeat' first | assumption | refine LX.setF _ _ ?_ (by decide +kernel) | refine LX.setS ?_ rfl | refine LX.setA ?_ (by first | assumption | omega))) (by first | assumption | omega)) ?_
  exact K _ l2 G2 T2
set_option maxHeartbeats 1000000 in
theorem eqs_20 (l : LX B n h) (hd : 16 ≤ d) (S : YS B w1 h) (T : TmL B h [] [] 0) (P : PtK B h w1 20 a b c fa ta fb tb xa xb xc) (K : ∀ q, LX B n q → Agr (teW B) h q → TmL B q (eqL 20 0 a b c fa ta fb tb) (eqL 20 1 a b c fa ta fb tb) (if eq2 20 = true then 1 else 0) → Ends (ev PP (gsF gv) B d 615 843 [(2, rf (B + 149)), (2, rf w1), (0, (k : Int)), (0, xa), (0, xb), (0, xc)] [] q) Q) : Ends (ev PP (gsF gv) B d 615 755 [(2, rf (B + 149)), (2, rf w1), (0, (k : Int)), (0, xa), (0, xb), (0, xc)] [] h) Q := by
  obtain ⟨ea, eb, p1, p2, p3, p4, p5, p6, p7, p8, p9, p10⟩ := P.2 (by decide)
  subst ea eb
  have lo := S.lo
  refine Ends.eq (b615_755 (n := n) (by (repeat' first | assumption | refine LX.setF _ _ ?_ (by decide +kernel) | refine LX.setS ?_ rfl | refine LX.setA ?_ (by first | assumption | omega))) (by first | assumption | omega)) ?_
  refine Ends.cv l (by decide +kernel) (c_du601 (k := a) (fr := fa) (to_ := ta) l (by omega) S T (Nat.le_of_ble_eq_true rfl) (Nat.le_of_ble_eq_true rfl) (by omega) p7 p8 (by omega) (by omega) (by decide)) (fun q1 l1 _ _ _ ⟨g1, T1⟩ => ?_)
  have G1 := g1
  have S1 : YS B w1 q1 := S.agr G1 (fun k hk1 z => by unfold teW at z; omega)
  refine Ends.eq (b615_762 (n := n) (by (repeat' first | assumption | refine LX.setF _ _ ?_ (by decide +kernel) | refine LX.setS ?_ rfl | refine LX.setA ?_ (by first | assumption | omega))) (by first | assumption | omega)) ?_
  refine Ends.cv l1 (by decide +kernel) (c_dv602 (k := b) (fr := fb) (to_ := tb) l1 (by omega) S1 T1 (Nat.le_of_ble_eq_true rfl) (Nat.le_of_ble_eq_true rfl) (by omega) (by rw [G1.at _ _ (fun z => by unfold teW at z; omega)]; exact p9) (by rw [G1.at _ _ (fun z => by unfold teW at z; omega)]; exact p10) (by omega) (by omega) (by decide)) (fun q2 l2 _ _ _ ⟨g2, T2⟩ => ?_)
  have G2 := G1.tr g2 (fun _ _ z => z)
  have S2 : YS B w1 q2 := S.agr G2 (fun k hk1 z => by unfold teW at z; omega)
  refine Ends.eq (b615_770 (n := n) (by (repeat' first | assumption | refine LX.setF _ _ ?_ (by decide +kernel) | refine LX.setS ?_ rfl | refine LX.setA ?_ (by first | assumption | omega))) (by first | assumption | omega)) ?_
  exact K _ l2 G2 T2
set_option maxHeartbeats 1000000 in
theorem eqs_21 (l : LX B n h) (hd : 16 ≤ d) (S : YS B w1 h) (T : TmL B h [] [] 0) (P : PtK B h w1 21 a b c fa ta fb tb xa xb xc) (K : ∀ q, LX B n q → Agr (teW B) h q → TmL B q (eqL 21 0 a b c fa ta fb tb) (eqL 21 1 a b c fa ta fb tb) (if eq2 21 = true then 1 else 0) → Ends (ev PP (gsF gv) B d 615 843 [(2, rf (B + 149)), (2, rf w1), (0, (k : Int)), (0, xa), (0, xb), (0, xc)] [] q) Q) : Ends (ev PP (gsF gv) B d 615 773 [(2, rf (B + 149)), (2, rf w1), (0, (k : Int)), (0, xa), (0, xb), (0, xc)] [] h) Q := by
  obtain ⟨ea, eb, p1, p2, p3, p4, p5, p6, p7, p8, p9, p10⟩ := P.2 (by decide)
  subst ea eb
  have lo := S.lo
  refine Ends.eq (b615_773 (n := n) (by (repeat' first | assumption | refine LX.setF _ _ ?_ (by decide +kernel) | refine LX.setS ?_ rfl | refine LX.setA ?_ (by first | assumption | omega))) (by first | assumption | omega)) ?_
  refine Ends.cv l (by decide +kernel) (c_du601 (k := a) (fr := fa) (to_ := ta) l (by omega) S T (Nat.le_of_ble_eq_true rfl) (Nat.le_of_ble_eq_true rfl) (by omega) p7 p8 (by omega) (by omega) (by decide)) (fun q1 l1 _ _ _ ⟨g1, T1⟩ => ?_)
  have G1 := g1
  have S1 : YS B w1 q1 := S.agr G1 (fun k hk1 z => by unfold teW at z; omega)
  refine Ends.eq (b615_780 (n := n) (by (repeat' first | assumption | refine LX.setF _ _ ?_ (by decide +kernel) | refine LX.setS ?_ rfl | refine LX.setA ?_ (by first | assumption | omega))) (by first | assumption | omega)) ?_
  refine Ends.cv l1 (by decide +kernel) (c_du601 (k := b) (fr := fb) (to_ := tb) l1 (by omega) S1 T1 (Nat.le_of_ble_eq_true rfl) (Nat.le_of_ble_eq_true rfl) (by omega) (by rw [G1.at _ _ (fun z => by unfold teW at z; omega)]; exact p9) (by rw [G1.at _ _ (fun z => by unfold teW at z; omega)]; exact p10) (by omega) (by omega) (by decide)) (fun q2 l2 _ _ _ ⟨g2, T2⟩ => ?_)
  have G2 := G1.tr g2 (fun _ _ z => z)
  have S2 : YS B w1 q2 := S.agr G2 (fun k hk1 z => by unfold teW at z; omega)
  refine Ends.eq (b615_788 (n := n) (by (repeat' first | assumption | refine LX.setF _ _ ?_ (by decide +kernel) | refine LX.setS ?_ rfl | refine LX.setA ?_ (by first | assumption | omega))) (by first | assumption | omega)) ?_
  exact K _ l2 G2 T2
set_option maxHeartbeats 1000000 in
theorem eqs_22 (l : LX B n h) (hd : 16 ≤ d) (S : YS B w1 h) (T : TmL B h [] [] 0) (P : PtK B h w1 22 a b c fa ta fb tb xa xb xc) (K : ∀ q, LX B n q → Agr (teW B) h q → TmL B q (eqL 22 0 a b c fa ta fb tb) (eqL 22 1 a b c fa ta fb tb) (if eq2 22 = true then 1 else 0) → Ends (ev PP (gsF gv) B d 615 843 [(2, rf (B + 149)), (2, rf w1), (0, (k : Int)), (0, xa), (0, xb), (0, xc)] [] q) Q) : Ends (ev PP (gsF gv) B d 615 791 [(2, rf (B + 149)), (2, rf w1), (0, (k : Int)), (0, xa), (0, xb), (0, xc)] [] h) Q := by
  obtain ⟨ea, eb, p1, p2, p3, p4, p5, p6, p7, p8, p9, p10⟩ := P.2 (by decide)
  subst ea eb
  have lo := S.lo
  refine Ends.eq (b615_791 (n := n) (by (repeat' first | assumption | refine LX.setF _ _ ?_ (by decide +kernel) | refine LX.setS ?_ rfl | refine LX.setA ?_ (by first | assumption | omega))) (by first | assumption | omega)) ?_
  refine Ends.cv l (by decide +kernel) (c_dv602 (k := a) (fr := fa) (to_ := ta) l (by omega) S T (Nat.le_of_ble_eq_true rfl) (Nat.le_of_ble_eq_true rfl) (by omega) p7 p8 (by omega) (by omega) (by decide)) (fun q1 l1 _ _ _ ⟨g1, T1⟩ => ?_)
  have G1 := g1
  have S1 : YS B w1 q1 := S.agr G1 (fun k hk1 z => by unfold teW at z; omega)
  refine Ends.eq (b615_798 (n := n) (by (repeat' first | assumption | refine LX.setF _ _ ?_ (by decide +kernel) | refine LX.setS ?_ rfl | refine LX.setA ?_ (by first | assumption | omega))) (by first | assumption | omega)) ?_
  refine Ends.cv l1 (by decide +kernel) (c_dv602 (k := b) (fr := fb) (to_ := tb) l1 (by omega) S1 T1 (Nat.le_of_ble_eq_true rfl) (Nat.le_of_ble_eq_true rfl) (by omega) (by rw [G1.at _ _ (fun z => by unfold teW at z; omega)]; exact p9) (by rw [G1.at _ _ (fun z => by unfold teW at z; omega)]; exact p10) (by omega) (by omega) (by decide)) (fun q2 l2 _ _ _ ⟨g2, T2⟩ => ?_)
  have G2 := G1.tr g2 (fun _ _ z => z)
  have S2 : YS B w1 q2 := S.agr G2 (fun k hk1 z => by unfold teW at z; omega)
  refine Ends.eq (b615_806 (n := n) (by (repeat' first | assumption | refine LX.setF _ _ ?_ (by decide +kernel) | refine LX.setS ?_ rfl | refine LX.setA ?_ (by first | assumption | omega))) (by first | assumption | omega)) ?_
  exact K _ l2 G2 T2
set_option maxHeartbeats 1000000 in
theorem eqs_23 (l : LX B n h) (hd : 16 ≤ d) (S : YS B w1 h) (T : TmL B h [] [] 0) (P : PtK B h w1 23 a b c fa ta fb tb xa xb xc) (K : ∀ q, LX B n q → Agr (teW B) h q → TmL B q (eqL 23 0 a b c fa ta fb tb) (eqL 23 1 a b c fa ta fb tb) (if eq2 23 = true then 1 else 0) → Ends (ev PP (gsF gv) B d 615 843 [(2, rf (B + 149)), (2, rf w1), (0, (k : Int)), (0, xa), (0, xb), (0, xc)] [] q) Q) : Ends (ev PP (gsF gv) B d 615 809 [(2, rf (B + 149)), (2, rf w1), (0, (k : Int)), (0, xa), (0, xb), (0, xc)] [] h) Q := by
  obtain ⟨ea, eb, p1, p2, p3, p4, p5, p6, p7, p8, p9, p10⟩ := P.2 (by decide)
  subst ea eb
  have lo := S.lo
  refine Ends.eq (b615_809 (n := n) (by (repeat' first | assumption | refine LX.setF _ _ ?_ (by decide +kernel) | refine LX.setS ?_ rfl | refine LX.setA ?_ (by first | assumption | omega))) (by first | assumption | omega)) ?_
  refine Ends.cv l (by decide +kernel) (c_du601 (k := a) (fr := fa) (to_ := ta) l (by omega) S T (Nat.le_of_ble_eq_true rfl) (Nat.le_of_ble_eq_true rfl) (by omega) p7 p8 (by omega) (by omega) (by decide)) (fun q1 l1 _ _ _ ⟨g1, T1⟩ => ?_)
  have G1 := g1
  have S1 : YS B w1 q1 := S.agr G1 (fun k hk1 z => by unfold teW at z; omega)
  refine Ends.eq (b615_816 (n := n) (by (repeat' first | assumption | refine LX.setF _ _ ?_ (by decide +kernel) | refine LX.setS ?_ rfl | refine LX.setA ?_ (by first | assumption | omega))) (by first | assumption | omega)) ?_
  refine Ends.cv l1 (by decide +kernel) (c_du601 (k := b) (fr := fb) (to_ := tb) l1 (by omega) S1 T1 (Nat.le_of_ble_eq_true rfl) (Nat.le_of_ble_eq_true rfl) (by omega) (by rw [G1.at _ _ (fun z => by unfold teW at z; omega)]; exact p9) (by rw [G1.at _ _ (fun z => by unfold teW at z; omega)]; exact p10) (by omega) (by omega) (by decide)) (fun q2 l2 _ _ _ ⟨g2, T2⟩ => ?_)
  have G2 := G1.tr g2 (fun _ _ z => z)
  have S2 : YS B w1 q2 := S.agr G2 (fun k hk1 z => by unfold teW at z; omega)
  refine Ends.eq (b615_824 (n := n) (by (repeat' first | assumption | refine LX.setF _ _ ?_ (by decide +kernel) | refine LX.setS ?_ rfl | refine LX.setA ?_ (by first | assumption | omega))) (by first | assumption | omega)) ?_
  refine Ends.cv l2 (by decide +kernel) (c_second813 l2 (by omega) T2) (fun q3 l3 _ _ _ ⟨g3, T3⟩ => ?_)
  have G3 := G2.tr g3 (fun _ _ z => z)
  have S3 : YS B w1 q3 := S.agr G3 (fun k hk1 z => by unfold teW at z; omega)
  refine Ends.eq (b615_828 (n := n) (by (repeat' first | assumption | refine LX.setF _ _ ?_ (by decide +kernel) | refine LX.setS ?_ rfl | refine LX.setA ?_ (by first | assumption | omega))) (by first | assumption | omega)) ?_
  refine Ends.cv l3 (by decide +kernel) (c_dv602 (k := a) (fr := fa) (to_ := ta) l3 (by omega) S3 T3 (Nat.le_of_ble_eq_true rfl) (Nat.le_of_ble_eq_true rfl) (by omega) (by rw [G3.at _ _ (fun z => by unfold teW at z; omega)]; exact p7) (by rw [G3.at _ _ (fun z => by unfold teW at z; omega)]; exact p8) (by omega) (by omega) (by decide)) (fun q4 l4 _ _ _ ⟨g4, T4⟩ => ?_)
  have G4 := G3.tr g4 (fun _ _ z => z)
  have S4 : YS B w1 q4 := S.agr G4 (fun k hk1 z => by unfold teW at z; omega)
  refine Ends.eq (b615_835 (n := n) (by (repeat' first | assumption | refine LX.setF _ _ ?_ (by decide +kernel) | refine LX.setS ?_ rfl | refine LX.setA ?_ (by first | assumption | omega))) (by first | assumption | omega)) ?_
  refine Ends.cv l4 (by decide +kernel) (c_dv602 (k := b) (fr := fb) (to_ := tb) l4 (by omega) S4 T4 (Nat.le_of_ble_eq_true rfl) (Nat.le_of_ble_eq_true rfl) (by omega) (by rw [G4.at _ _ (fun z => by unfold teW at z; omega)]; exact p9) (by rw [G4.at _ _ (fun z => by unfold teW at z; omega)]; exact p10) (by omega) (by omega) (by decide)) (fun q5 l5 _ _ _ ⟨g5, T5⟩ => ?_)
  have G5 := G4.tr g5 (fun _ _ z => z)
  have S5 : YS B w1 q5 := S.agr G5 (fun k hk1 z => by unfold teW at z; omega)
  exact K _ l5 G5 T5
theorem eqs_all {kd : Nat} (hkd : kd < 24) (l : LX B n h) (hd : 16 ≤ d) (S : YS B w1 h) (T : TmL B h [] [] 0) (P : PtK B h w1 kd a b c fa ta fb tb xa xb xc) (K : ∀ q, LX B n q → Agr (teW B) h q → TmL B q (eqL kd 0 a b c fa ta fb tb) (eqL kd 1 a b c fa ta fb tb) (if eq2 kd = true then 1 else 0) → Ends (ev PP (gsF gv) B d 615 843 [(2, rf (B + 149)), (2, rf w1), (0, (k : Int)), (0, xa), (0, xb), (0, xc)] [] q) Q) : Ends (ev PP (gsF gv) B d 615 (sw615_49 (kd : Int)) [(2, rf (B + 149)), (2, rf w1), (0, (k : Int)), (0, xa), (0, xb), (0, xc)] [] h) Q := by
  match kd, hkd, P, K with
  | 0, _, P, K => exact eqs_0 l hd S T P K
  | 1, _, P, K => exact eqs_1 l hd S T P K
  | 2, _, P, K => exact eqs_2 l hd S T P K
  | 3, _, P, K => exact eqs_3 l hd S T P K
  | 4, _, P, K => exact eqs_4 l hd S T P K
  | 5, _, P, K => exact eqs_5 l hd S T P K
  | 6, _, P, K => exact eqs_6 l hd S T P K
  | 7, _, P, K => exact eqs_7 l hd S T P K
  | 8, _, P, K => exact eqs_8 l hd S T P K
  | 9, _, P, K => exact eqs_9 l hd S T P K
  | 10, _, P, K => exact eqs_10 l hd S T P K
  | 11, _, P, K => exact eqs_11 l hd S T P K
  | 12, _, P, K => exact eqs_12 l hd S T P K
  | 13, _, P, K => exact eqs_13 l hd S T P K
  | 14, _, P, K => exact eqs_14 l hd S T P K
  | 15, _, P, K => exact eqs_15 l hd S T P K
  | 16, _, P, K => exact eqs_16 l hd S T P K
  | 17, _, P, K => exact eqs_17 l hd S T P K
  | 18, _, P, K => exact eqs_18 l hd S T P K
  | 19, _, P, K => exact eqs_19 l hd S T P K
  | 20, _, P, K => exact eqs_20 l hd S T P K
  | 21, _, P, K => exact eqs_21 l hd S T P K
  | 22, _, P, K => exact eqs_22 l hd S T P K
  | 23, _, P, K => exact eqs_23 l hd S T P K
  | kd + 24, hkd, _, _ => omega
end EQS
