/-! L3: facets beside one another (desk): the tables are made -/
section BSC
variable {gv : Nat → Int} {B n d : Nat} {h : AH}
theorem fk_0 {f : Nat} (hf : f < 4) : cond (tst 1 (f : Int) 3) (0 : Int) 1 = ((fcK f 0 : Nat) : Int) := by
  rcases (by omega : f = 0 ∨ f = 1 ∨ f = 2 ∨ f = 3) with rfl | rfl | rfl | rfl <;> rfl
theorem fk_1 {f : Nat} (hf : f < 4) : cond (tst 3 (f : Int) 2) (2 : Int) 1 = ((fcK f 1 : Nat) : Int) := by
  rcases (by omega : f = 0 ∨ f = 1 ∨ f = 2 ∨ f = 3) with rfl | rfl | rfl | rfl <;> rfl
theorem fk_2 {f : Nat} (hf : f < 4) : cond (tst 1 (f : Int) 0) (3 : Int) 2 = ((fcK f 2 : Nat) : Int) := by
  rcases (by omega : f = 0 ∨ f = 1 ∨ f = 2 ∨ f = 3) with rfl | rfl | rfl | rfl <;> rfl
theorem fcK_lt : ∀ f : Fin 4, ∀ p : Fin 3, fcK f p < 4 := by decide +kernel
theorem co_is (m : TbC B h) {t k a : Nat} (ht : t < 24) : q226 B h (t : Int) (k : Int) (a : Int) ∧ v226 B h (t : Int) (k : Int) (a : Int) = ((coT t k a : Nat) : Int) := by
  obtain ⟨-, -, m1, m2, m3, m4, -, -⟩ := m.1 t ht
  refine ⟨?_, ?_⟩
  · unfold q226
    rw [ct1]
    split
    · trivial
    · exact ⟨by omega, by omega⟩
  · unfold v226 coT
    rw [ct1, ct1, ct1, ct1, ct1, ct0, ct0, tn, m1, m2, m3, m4]
    by_cases e1 : k = 3
    · rw [if_pos (by omega), if_pos e1]; rfl
    rw [if_neg (by omega), if_neg e1]
    by_cases e2 : a = aC t
    · rw [if_pos (by omega), if_pos e2]; cases hiC t <;> rfl
    rw [if_neg (by omega), if_neg e2]
    by_cases e3 : k = 2
    · rw [if_pos (by omega), if_pos e3]; rfl
    rw [if_neg (by omega), if_neg e3]
    by_cases e4 : a = aB t
    · rw [if_pos (by omega), if_pos e4]; cases hiB t <;> rfl
    rw [if_neg (by omega), if_neg e4]
    by_cases e5 : k = 0
    · rw [if_pos (by omega), if_pos e5]; rfl
    rw [if_neg (by omega), if_neg e5]; rfl
theorem c_corners227 {a t f : Nat} (l : LX B n h) (hd : 10 ≤ d) (m : TbC B h) (ka : hk h a = (2, 12)) (haB : B + 48 < a) (ht : t < 24) (hf : f < 4) :
    Vd (cll PP (ev PP (gsF gv) B) d 227 [(2, rf (B + 36)), (0, (t : Int)), (0, (f : Int)), (2, (rf a))] h) (fun h' => Agr (fun c k => c = a ∧ k < 9) h h' ∧ ∀ i, i < 9 → hv h' a i = ((fcC (4 * t + f) i : Nat) : Int)) := by
  refine Vd.inq (D := 9) hd (Nat.le_of_ble_eq_true rfl) rfl (fun d hd Q K => ?_)
  have tb : ∀ {q : AH}, Agr (fun c k => c = a ∧ k < 9) h q → TbC B q := fun g => m.ext l.2.2 g.ext (fun c k h1 h2 w => by omega)
  have key : ∀ (r j : Nat) (q : AH), j + r = 3 → LX B n q → Agr (fun c k => c = a ∧ k < 9) h q → (∀ p i, p < 3 → i < j → hv q a (3 * p + i) = ((fcC (4 * t + f) (3 * p + i) : Nat) : Int)) → Ends (ev PP (gsF gv) B d 227 38 [(2, rf (B + 36)), (0, (t : Int)), (0, (f : Int)), (2, rf a), (0, ((fcK f 0 : Nat) : Int)), (0, ((fcK f 1 : Nat) : Int)), (0, ((fcK f 2 : Nat) : Int)), (0, (j : Int))] [] q) Q := by
    intro r
    induction r with
    | zero =>
      intro j q e lq g I
      obtain rfl : j = 3 := by omega
      refine Ends.eq (b227_38 lq (by omega)) (Ends.b3 (fun _ => Ends.sm (K _ ⟨g, fun i hi => ?_⟩)) (fun z => absurd z (by decide)))
      have := I (i / 3) (i % 3) (by omega) (by omega)
      rw [show 3 * (i / 3) + i % 3 = i by omega] at this
      exact this
    | succ r ih =>
      intro j q e lq g I
      have kq : hk q a = (2, 12) := by rw [g.hk]; exact ka
      have co : ∀ {q' : AH} (p : Nat), p < 3 → Agr (fun c k => c = a ∧ k < 9) h q' → q226 B q' (t : Int) ((fcK f p : Nat) : Int) (j : Int) ∧ v226 B q' (t : Int) ((fcK f p : Nat) : Int) (j : Int) = ((fcC (4 * t + f) (3 * p + j) : Nat) : Int) := fun p hp g' => by
        rw [fc_is ht hf hp (show j < 3 by omega)]
        exact co_is (tb g') ht
      have ok : ∀ i : Nat, i < 9 → 0 < rf a ∧ (hk q a).1 = 0 + 2 ∧ 0 ≤ (i : Int) ∧ (i : Int) < ((hk q a).2 : Int) ∧ B ≤ a := fun i hi => ⟨rf_pos _, by rw [kq], by omega, by rw [kq]; show (i : Int) < ((12 : Nat) : Int); omega, by omega⟩
      have g1 := fun v => g.set (v := v) (show a = a ∧ j < 9 from ⟨rfl, by omega⟩)
      have g2 := fun v w => (g1 v).set (v := w) (show a = a ∧ 3 + j < 9 from ⟨rfl, by omega⟩)
      have g3 := fun v w y => (g2 v w).set (v := y) (show a = a ∧ 6 + j < 9 from ⟨rfl, by omega⟩)
      refine Ends.eq (b227_38 lq (by omega)) (Ends.b3 (fun z => absurd z (by omega)) (fun _ => ?_))
      rw [show bop32 96 (3 : Int) (j : Int) = ((3 + j : Nat) : Int) from addNN (x := 3) (by omega), show bop32 96 (6 : Int) (j : Int) = ((6 + j : Nat) : Int) from addNN (x := 6) (by omega)]
      simp only [ad_rf, tn, an0]
      rw [(co 0 (by decide) g).2, (co 1 (by decide) (g1 _)).2, (co 2 (by decide) (g2 _ _)).2, w_succ (by omega)]
      refine Ends.g (co 0 (by decide) g).1 (Ends.g (ok _ (by omega)) (Ends.g (co 1 (by decide) (g1 _)).1 (Ends.g (ok _ (by omega)) (Ends.g (co 2 (by decide) (g2 _ _)).1 (Ends.g (ok _ (by omega)) ?_)))))
      have l1 : ∀ {q' : AH} {k : Nat} {v : Int}, hk q' a = (2, 12) → LX B n q' → LX B n (hset q' a k v) := fun k1 l' => LX.setA (t := 0) l' (by rw [k1])
      refine ih (j + 1) _ (by omega) (l1 kq (l1 kq (l1 kq lq))) (g3 _ _ _) (fun p i hp hi => ?_)
      by_cases e2 : p = 2 ∧ i = j
      · rw [e2.1, e2.2, show 3 * 2 + j = 6 + j by omega, hv_set_at]
      rw [hv_set_ne (by omega)]
      by_cases e1 : p = 1 ∧ i = j
      · rw [e1.1, e1.2, show 3 * 1 + j = 3 + j by omega, hv_set_at]
      rw [hv_set_ne (by omega)]
      by_cases e0 : p = 0 ∧ i = j
      · rw [e0.1, e0.2, show 3 * 0 + j = j by omega, hv_set_at]
      rw [hv_set_ne (by omega)]
      exact I p i hp (by omega)
  refine Ends.eq (b227_0 l (by omega)) ?_
  rw [fk_0 hf, fk_1 hf, fk_2 hf]
  exact key 3 0 h rfl l Agr.rf (fun p i _ hi => absurd hi (Nat.not_lt_zero i))
/-- a corner of a moved facet is a place of another one -/
def hsF (A C : Nat → Nat) (p cx cy cz q : Nat) : Bool := (A (3 * q) + 2 * cx == C p + 2) && ((A (3 * q + 1) + 2 * cy == C (p + 1) + 2) && (A (3 * q + 2) + 2 * cz == C (p + 2) + 2))
def hsB (A C : Nat → Nat) (p cx cy cz : Nat) : Bool := hsF A C p cx cy cz 0 || (hsF A C p cx cy cz 1 || hsF A C p cx cy cz 2)
theorem c_has230 {A C : Nat → Nat} {p cx cy cz : Nat} (l : LX B n h) (hd : 10 ≤ d) (hA : ∀ i, i < 9 → hv h (B + 50) i = (A i : Int) ∧ A i ≤ 2) (hC : ∀ i, i < 9 → hv h (B + 49) i = (C i : Int) ∧ C i ≤ 2) (hp : p ≤ 6) (hx : cx < 3) (hy : cy < 3) (hz : cz < 3) :
    Vt 0 (cll PP (ev PP (gsF gv) B) d 230 [(2, rf (B + 36)), (2, rf (B + 50)), (0, (p : Int)), (0, ((cx : Int) - 1)), (0, ((cy : Int) - 1)), (0, ((cz : Int) - 1)), (2, rf (B + 49))] h) (fun v h' => h' = h ∧ v = if hsB A C p cx cy cz = true then 1 else 0) := by
  refine Vt.inq (D := 9) hd (Nat.le_of_ble_eq_true rfl) rfl (fun d hd Q K => ?_)
  have ok : ∀ i : Nat, i < 9 → 0 < rf (B + 50) ∧ (hk h (B + 50)).1 = 0 + 2 ∧ 0 ≤ (i : Int) ∧ (i : Int) < ((hk h (B + 50)).2 : Int) := fun i hi => ⟨rf_pos _, by rw [lk_50 l], by omega, by rw [lk_50 l]; show (i : Int) < ((12 : Nat) : Int); omega⟩
  have ok2 : ∀ i : Nat, i < 9 → 0 < rf (B + 49) ∧ (hk h (B + 49)).1 = 0 + 2 ∧ 0 ≤ (i : Int) ∧ (i : Int) < ((hk h (B + 49)).2 : Int) := fun i hi => ⟨rf_pos _, by rw [lk_49 l], by omega, by rw [lk_49 l]; show (i : Int) < ((12 : Nat) : Int); omega⟩
  have va : ∀ i c : Nat, i < 9 → c < 3 → bop32 96 (hv h (B + 50) i) (bop32 104 2 ((c : Int) - 1)) = (A i : Int) + 2 * ((c : Int) - 1) := fun i c hi hc => by
    obtain ⟨e, b⟩ := hA i hi
    rw [e, mul32 (by omega) (by omega), add32 (by omega) (by omega)]
  have key : ∀ (r q : Nat), q + r = 3 → (∀ j, j < q → hsF A C p cx cy cz j = false) → Ends (ev PP (gsF gv) B d 230 3 [(2, rf (B + 36)), (2, rf (B + 50)), (0, (p : Int)), (0, (cx : Int) - 1), (0, (cy : Int) - 1), (0, (cz : Int) - 1), (2, rf (B + 49)), (0, ((3 * q : Nat) : Int))] [] h) Q := by
    intro r
    induction r with
    | zero =>
      intro q e I
      obtain rfl : q = 3 := by omega
      refine Ends.eq (b230_3 l (by omega)) (Ends.b3 (fun _ => Ends.sm (K _ _ ⟨rfl, ?_⟩)) (fun z => absurd z (by decide)))
      unfold hsB
      rw [I 0 (by decide), I 1 (by decide), I 2 (by decide)]; rfl
    | succ r ih =>
      intro q e I
      have next : hsF A C p cx cy cz q = false → Ends (ev PP (gsF gv) B d 230 67 [(2, rf (B + 36)), (2, rf (B + 50)), (0, (p : Int)), (0, (cx : Int) - 1), (0, (cy : Int) - 1), (0, (cz : Int) - 1), (2, rf (B + 49)), (0, ((3 * q : Nat) : Int))] [] h) Q := fun w => by
        refine Ends.eq (b230_67 l (by omega)) ?_
        rw [show w32 (((3 * q : Nat) : Int) + 3) = ((3 * (q + 1) : Nat) : Int) from by rw [w32_id ⟨by omega, by omega⟩]; omega]
        exact ih (q + 1) (by omega) (fun j hj => by
          rcases (by omega : j < q ∨ j = q) with z | z
          · exact I j z
          · rw [z]; exact w)
      obtain ⟨c0, -⟩ := hC p (by omega)
      obtain ⟨c1, -⟩ := hC (p + 1) (by omega)
      obtain ⟨c2, -⟩ := hC (p + 2) (by omega)
      refine Ends.eq (b230_3 l (by omega)) (Ends.b3 (fun z => absurd z (by omega)) (fun _ => ?_))
      rw [show bop32 96 ((3 * q : Nat) : Int) 1 = ((3 * q + 1 : Nat) : Int) from addNN (y := 1) (by omega), show bop32 96 ((3 * q : Nat) : Int) 2 = ((3 * q + 2 : Nat) : Int) from addNN (y := 2) (by omega), show bop32 96 (p : Int) 1 = ((p + 1 : Nat) : Int) from addNN (y := 1) (by omega), show bop32 96 (p : Int) 2 = ((p + 2 : Nat) : Int) from addNN (y := 2) (by omega)]
      simp only [ad_rf, tn]
      rw [va _ _ (by omega) hx, va _ _ (by omega) hy, va _ _ (by omega) hz, c0, c1, c2]
      refine Ends.g (ok _ (by omega)) (Ends.g (ok2 _ (by omega)) (Ends.b1 (fun z => next ?_) (fun z1 => ?_)))
      · unfold hsF
        rw [show (A (3 * q) + 2 * cx == C p + 2) = false from by rw [beq_eq_false_iff_ne]; omega]; rfl
      refine Ends.g (ok _ (by omega)) (Ends.g (ok2 _ (by omega)) (Ends.b1 (fun z => next ?_) (fun z2 => ?_)))
      · unfold hsF
        rw [show (A (3 * q + 1) + 2 * cy == C (p + 1) + 2) = false from by rw [beq_eq_false_iff_ne]; omega, Bool.false_and, Bool.and_false]
      refine Ends.g (ok _ (by omega)) (Ends.g (ok2 _ (by omega)) (Ends.b1 (fun z => next ?_) (fun z3 => Ends.sm (K _ _ ⟨rfl, ?_⟩))))
      · unfold hsF
        rw [show (A (3 * q + 2) + 2 * cz == C (p + 2) + 2) = false from by rw [beq_eq_false_iff_ne]; omega, Bool.and_false, Bool.and_false]
      · have w : hsF A C p cx cy cz q = true := by
          unfold hsF
          rw [show A (3 * q) + 2 * cx = C p + 2 by omega, show A (3 * q + 1) + 2 * cy = C (p + 1) + 2 by omega, show A (3 * q + 2) + 2 * cz = C (p + 2) + 2 by omega, beq_self_eq_true, beq_self_eq_true, beq_self_eq_true]; rfl
        rw [if_pos ?_]
        unfold hsB
        rcases (by omega : q = 0 ∨ q = 1 ∨ q = 2) with rfl | rfl | rfl
        · rw [w, Bool.true_or]
        · rw [w, Bool.true_or, Bool.or_true]
        · rw [w, Bool.or_true, Bool.or_true]
  refine Ends.eq (b230_0 l (by omega)) ?_
  exact key 3 0 rfl (fun j hj => absurd hj (Nat.not_lt_zero j))
/-- the normal of a DIRECTION -/
def nvI (d a : Nat) : Int := if a = 0 then ((d / 9 : Nat) : Int) - 1 else if a = 1 then ((d / 3 % 3 : Nat) : Int) - 1 else ((d % 3 : Nat) : Int) - 1
theorem v234_0 {x : Nat} (hx : x < 27) : v234 (x : Int) 0 = nvI x 0 ∧ v234 (x : Int) 1 = nvI x 1 ∧ v234 (x : Int) 2 = nvI x 2 := by
  have e1 : bop32 108 (x : Int) 9 = ((x / 9 : Nat) : Int) := divNN (y := 9) (by omega) (by decide)
  have e2 : bop32 108 (x : Int) 3 = ((x / 3 : Nat) : Int) := divNN (y := 3) (by omega) (by decide)
  have e3 : bop32 112 ((x / 3 : Nat) : Int) 3 = ((x / 3 % 3 : Nat) : Int) := modNN (y := 3) (by decide) (by decide)
  have e4 : bop32 112 (x : Int) 3 = ((x % 3 : Nat) : Int) := modNN (y := 3) (by decide) (by decide)
  refine ⟨?_, ?_, ?_⟩
  · unfold v234 nvI
    rw [show tst 1 (0 : Int) 0 = false from rfl, cond_false, if_pos rfl, e1]; clear e1 e2 e3 e4; exact sub32 (by omega) (by omega)
  · unfold v234 nvI
    rw [show tst 1 (1 : Int) 0 = true from rfl, show tst 1 (1 : Int) 1 = false from rfl, cond_true, cond_false, if_neg (by decide), if_pos rfl, e2, e3]; clear e1 e2 e3 e4; exact sub32 (by omega) (by omega)
  · unfold v234 nvI
    rw [show tst 1 (2 : Int) 0 = true from rfl, show tst 1 (2 : Int) 1 = true from rfl, cond_true, cond_true, if_neg (by decide), if_neg (by decide), e4]; clear e1 e2 e3 e4; exact sub32 (by omega) (by omega)
theorem nv_lt {x a : Nat} (hx : x < 27) : -1 ≤ nvI x a ∧ nvI x a ≤ 1 := by
  unfold nvI
  split
  · omega
  · split <;> omega
def plV (k : Nat) : Int := nvI (drT k) 0 * (fcC k 0 : Int) + nvI (drT k) 1 * (fcC k 1 : Int) + nvI (drT k) 2 * (fcC k 2 : Int)
def plM (k m cu : Nat) : Int := nvI (drT k) 0 * ((fcC m 0 : Int) + 2 * (((cu / 9 : Nat) : Int) - 1)) + nvI (drT k) 1 * ((fcC m 1 : Int) + 2 * (((cu / 3 % 3 : Nat) : Int) - 1)) + nvI (drT k) 2 * ((fcC m 2 : Int) + 2 * (((cu % 3 : Nat) : Int) - 1))
def mtB (k s cu m : Nat) : Bool := !((cu == 13) && (m == k)) && (hsB (fcC m) (fcC k) (3 * s) (cu / 9) (cu / 3 % 3) (cu % 3) && (hsB (fcC m) (fcC k) (3 * ((s + 1) % 3)) (cu / 9) (cu / 3 % 3) (cu % 3) && decide (plV k = plM k m cu)))
def cuT (k s : Nat) : Nat := 9 * bcU k s 0 + 3 * bcU k s 1 + bcU k s 2
set_option maxRecDepth 100000 in
theorem mt_all : alB 96 (fun k => alB 96 (fun m => !(drT m == drT k) || alB 3 (fun s => alB 27 (fun cu => mtB k s cu m == ((m == bsT k s) && (cu == cuT k s)))))) = true := by decide +kernel
theorem mt_is {k s cu m : Nat} (hk : k < 96) (hs : s < 3) (hc : cu < 27) (hm : m < 96) (e : drT m = drT k) : mtB k s cu m = true ↔ m = bsT k s ∧ cu = cuT k s := by
  have := alB_t (alB_t mt_all k hk) m hm
  rw [e, beq_self_eq_true, Bool.not_true, Bool.false_or] at this
  have := alB_t (alB_t this s hs) cu hc
  rw [beq_iff_eq] at this
  rw [this, Bool.and_eq_true, beq_iff_eq, beq_iff_eq]
theorem cuT_is {k s : Nat} (hk : k < 96) (hs : s < 3) : cuT k s < 27 ∧ cuT k s / 9 = bcU k s 0 ∧ cuT k s / 3 % 3 = bcU k s 1 ∧ cuT k s % 3 = bcU k s 2 := by
  obtain ⟨-, b, -⟩ := bs_lt hk hs
  have b0 := b 0 (by decide)
  have b1 := b 1 (by decide)
  have b2 := b 2 (by decide)
  unfold cuT
  omega
/-- what is stored of the facet beside k at side s; all of it -/
def BsS (B : Nat) (h : AH) (k s : Nat) : Prop := hv h (B + 47) (3 * k + s) = ((bsT k s : Nat) : Int) ∧ ∀ a, a < 3 → hv h (B + 48) (9 * k + 3 * s + a) = ((bcU k s a : Nat) : Int) - 1
def BsC (B : Nat) (h : AH) : Prop := ∀ k s, k < 96 → s < 3 → BsS B h k s
def fbW (B k s : Nat) : Nat → Nat → Prop := fun c j => (c = B + 49 ∧ j < 9) ∨ (c = B + 50 ∧ j < 9) ∨ (c = B + 47 ∧ j = 3 * k + s) ∨ (c = B + 48 ∧ 9 * k + 3 * s ≤ j ∧ j < 9 * k + 3 * s + 3)
theorem fc_le : alB 96 (fun k => alB 9 (fun i => Nat.ble (fcC k i) 2 && Nat.blt (drT k) 27)) = true := by decide +kernel
theorem fcC_le {k i : Nat} (hk : k < 96) (hi : i < 9) : fcC k i ≤ 2 ∧ drT k < 27 := by
  have := alB_t (alB_t fc_le k hk) i hi
  rw [Bool.and_eq_true] at this
  exact ⟨Nat.le_of_ble_eq_true this.1, blt_lt this.2⟩
set_option maxHeartbeats 2000000 in
theorem c_findBeside228 {k s : Nat} (l : LX B n h) (hd : 12 ≤ d) (m : TbC B h) (hk' : k < 96) (hs : s < 3) :
    Vd (cll PP (ev PP (gsF gv) B) d 228 [(2, rf (B + 36)), (0, (k : Int)), (0, (s : Int))] h) (fun h' => Agr (fbW B k s) h h' ∧ BsS B h' k s) := by
  refine Vd.inq (D := 11) hd (Nat.le_of_ble_eq_true rfl) rfl (fun d hd Q K => ?_)
  have tb : ∀ {q : AH}, Agr (fbW B k s) h q → TbC B q := fun g => m.ext l.2.2 g.ext (fun c j h1 h2 w => by unfold fbW at w; omega)
  obtain ⟨bl, bb, bd⟩ := bs_lt hk' hs
  obtain ⟨c27, c9, c3, c1⟩ := cuT_is hk' hs
  obtain ⟨bs, ebs⟩ : ∃ v, v = bsT k s := ⟨_, rfl⟩
  obtain ⟨cs, ecs⟩ : ∃ v, v = cuT k s := ⟨_, rfl⟩
  rw [← ecs] at c27 c9 c3 c1
  have d45 : ∀ {q : AH} (j : Nat), Agr (fbW B k s) h q → j < 96 → hv q (B + 45) j = ((drT j : Nat) : Int) := fun j g hj => by
    obtain ⟨-, -, -, -, -, -, t7, -⟩ := (tb g).1 (j / 4) (by omega)
    have := (t7 (j % 4) (by omega)).2
    rw [show 4 * (j / 4) + j % 4 = j by omega] at this
    rw [this, ← dr_is (by omega) (by omega), show 4 * (j / 4) + j % 4 = j by omega]
  have a49 : ∀ {q q' : AH}, Agr (fbW B k s) h q → Agr (fun c j => c = B + 49 ∧ j < 9) q q' → Agr (fbW B k s) h q' := fun g g' => g.tr g' (fun c j w => Or.inl w)
  have a50 : ∀ {q q' : AH}, Agr (fbW B k s) h q → Agr (fun c j => c = B + 50 ∧ j < 9) q q' → Agr (fbW B k s) h q' := fun g g' => g.tr g' (fun c j w => Or.inr (Or.inl w))
  have inner : ∀ (cu : Nat), cu < 27 → (∀ (q : AH) (u6 u7 u8 u9 : AV), LX B n q → Agr (fbW B k s) h q → (∀ i, i < 9 → hv q (B + 49) i = ((fcC k i : Nat) : Int)) → (cs ≤ cu → BsS B q k s) → Ends (ev PP (gsF gv) B d 228 30 [(2, rf (B + 36)), (0, (k : Int)), (0, (s : Int)), (0, ((3 * s : Nat) : Int)), (0, ((3 * ((s + 1) % 3) : Nat) : Int)), (0, ((cu + 1 : Nat) : Int)), u6, u7, u8, u9] [] q) Q) → ∀ (r j : Nat) (q : AH), j + r = 96 → LX B n q → Agr (fbW B k s) h q → (∀ i, i < 9 → hv q (B + 49) i = ((fcC k i : Nat) : Int)) → (cs < cu ∨ (cs = cu ∧ bs < j) → BsS B q k s) → Ends (ev PP (gsF gv) B d 228 67 [(2, rf (B + 36)), (0, (k : Int)), (0, (s : Int)), (0, ((3 * s : Nat) : Int)), (0, ((3 * ((s + 1) % 3) : Nat) : Int)), (0, (cu : Int)), (0, ((cu / 9 : Nat) : Int) - 1), (0, ((cu / 3 % 3 : Nat) : Int) - 1), (0, ((cu % 3 : Nat) : Int) - 1), (0, (j : Int))] [] q) Q := by
    intro cu hcu kn r
    induction r with
    | zero =>
      intro j q e lq g I J
      obtain rfl : j = 96 := by omega
      refine Ends.eq (b228_67 lq (by omega)) (Ends.b3 (fun _ => ?_) (fun z => absurd z (by decide)))
      rw [w_succ (by omega)]
      exact kn q _ _ _ _ lq g I (fun z => J (by omega))
    | succ r ih =>
      intro j q e lq g I J
      have hj : j < 96 := by omega
      have next : ∀ (q : AH), LX B n q → Agr (fbW B k s) h q → (∀ i, i < 9 → hv q (B + 49) i = ((fcC k i : Nat) : Int)) → (cs < cu ∨ (cs = cu ∧ bs < j + 1) → BsS B q k s) → Ends (ev PP (gsF gv) B d 228 245 [(2, rf (B + 36)), (0, (k : Int)), (0, (s : Int)), (0, ((3 * s : Nat) : Int)), (0, ((3 * ((s + 1) % 3) : Nat) : Int)), (0, (cu : Int)), (0, ((cu / 9 : Nat) : Int) - 1), (0, ((cu / 3 % 3 : Nat) : Int) - 1), (0, ((cu % 3 : Nat) : Int) - 1), (0, (j : Int))] [] q) Q := fun q lq g I J => by
        refine Ends.eq (b228_245 lq (by omega)) ?_
        rw [w_succ (by omega)]
        exact ih (j + 1) q (by omega) lq g I J
      have skip : ¬ (j = bs ∧ cu = cs) → ∀ (q : AH), (cs < cu ∨ (cs = cu ∧ bs < j) → BsS B q k s) → (cs < cu ∨ (cs = cu ∧ bs < j + 1) → BsS B q k s) := fun w q J z => J (by omega)
      refine Ends.eq (b228_67 lq (by omega)) (Ends.b3 (fun z => absurd z (by omega)) (fun _ => Ends.g ⟨by omega, by omega⟩ (Ends.g ⟨by omega, by omega⟩ ?_)))
      rw [tn, tn, d45 j g hj, d45 k g hk']
      refine Ends.b1 (fun z => next q lq g I (skip (fun w => z (by rw [w.1, ebs, bd])) q J)) (fun zd => ?_)
      have ed : drT j = drT k := by omega
      have mt := mt_is hk' hs hcu hj ed
      rw [← ebs, ← ecs] at mt
      have main : ¬ (cu = 13 ∧ j = k) → Ends (ev PP (gsF gv) B d 228 106 [(2, rf (B + 36)), (0, (k : Int)), (0, (s : Int)), (0, ((3 * s : Nat) : Int)), (0, ((3 * ((s + 1) % 3) : Nat) : Int)), (0, (cu : Int)), (0, ((cu / 9 : Nat) : Int) - 1), (0, ((cu / 3 % 3 : Nat) : Int) - 1), (0, ((cu % 3 : Nat) : Int) - 1), (0, (j : Int))] [] q) Q := fun hne => by
        have m0 : (!((cu == 13) && (j == k))) = true := by
          rw [Bool.not_eq_true', Bool.and_eq_false_iff, beq_eq_false_iff_ne, beq_eq_false_iff_ne]; omega
        refine Ends.eq (b228_106 lq (by omega)) ?_
        rw [show bop32 108 (j : Int) 4 = ((j / 4 : Nat) : Int) from divNN (y := 4) (by omega) (by decide), show bop32 112 (j : Int) 4 = ((j % 4 : Nat) : Int) from modNN (y := 4) (by decide) (by decide)]
        refine Ends.cv lq (by decide +kernel) (c_corners227 (a := B + 50) (t := j / 4) (f := j % 4) lq (by omega) (tb g) (by rw [lk_50 lq]) (by omega) (by omega) (by omega)) (fun h1 l1 _ _ _ ⟨g1, I1⟩ => ?_)
        rw [show 4 * (j / 4) + j % 4 = j by omega] at I1
        have G1 := a50 g g1
        have I2 : ∀ i, i < 9 → hv h1 (B + 49) i = ((fcC k i : Nat) : Int) := fun i hi => by rw [g1.at _ _ (by omega)]; exact I i hi
        have J1 : (cs < cu ∨ (cs = cu ∧ bs < j) → BsS B h1 k s) := fun z => by
          have := J z
          exact ⟨by rw [g1.at _ _ (by omega)]; exact this.1, fun a ha => by rw [g1.at _ _ (by omega)]; exact this.2 a ha⟩
        have hA : ∀ i, i < 9 → hv h1 (B + 50) i = ((fcC j i : Nat) : Int) ∧ fcC j i ≤ 2 := fun i hi => ⟨I1 i hi, (fcC_le hj hi).1⟩
        have hC : ∀ i, i < 9 → hv h1 (B + 49) i = ((fcC k i : Nat) : Int) ∧ fcC k i ≤ 2 := fun i hi => ⟨I2 i hi, (fcC_le hk' hi).1⟩
        refine Ends.eq (b228_122 l1 (by omega)) ?_
        refine Ends.ct l1 (by decide +kernel) (by decide) (c_has230 (p := 3 * s) (cx := cu / 9) (cy := cu / 3 % 3) (cz := cu % 3) l1 (by omega) hA hC (by omega) (by omega) (by omega) (by omega)) (fun v h2 l2 _ _ _ ⟨e2, ev2⟩ => ?_)
        subst e2
        refine Ends.eq (b228_141 l2 (by omega)) ?_
        rw [ev2]
        cases w1 : hsB (fcC j) (fcC k) (3 * s) (cu / 9) (cu / 3 % 3) (cu % 3)
        · refine Ends.b0 (fun _ => next h2 l2 G1 I2 (skip (fun w => ?_) h2 J1)) (fun z => absurd rfl z)
          have := mt.mpr w
          unfold mtB at this
          rw [w1, Bool.false_and, Bool.and_false] at this
          exact absurd this (by decide)
        refine Ends.b0 (fun z => absurd z (by decide)) (fun _ => ?_)
        refine Ends.ct l2 (by decide +kernel) (by decide) (c_has230 (p := 3 * ((s + 1) % 3)) (cx := cu / 9) (cy := cu / 3 % 3) (cz := cu % 3) l2 (by omega) hA hC (by omega) (by omega) (by omega) (by omega)) (fun v h3 l3 _ _ _ ⟨e3, ev3⟩ => ?_)
        subst e3
        refine Ends.eq (b228_164 l3 (by omega)) ?_
        rw [ev3]
        cases w2 : hsB (fcC j) (fcC k) (3 * ((s + 1) % 3)) (cu / 9) (cu / 3 % 3) (cu % 3)
        · refine Ends.b0 (fun _ => next h3 l3 G1 I2 (skip (fun w => ?_) h3 J1)) (fun z => absurd rfl z)
          have := mt.mpr w
          unfold mtB at this
          rw [w2, Bool.false_and, Bool.and_false, Bool.and_false] at this
          exact absurd this (by decide)
        refine Ends.b0 (fun z => absurd z (by decide)) (fun _ => Ends.g ⟨by omega, by omega⟩ ?_)
        have vp : v239 B h3 (k : Int) (((cu / 9 : Nat) : Int) - 1) (((cu / 3 % 3 : Nat) : Int) - 1) (((cu % 3 : Nat) : Int) - 1) = if plV k = plM k j cu then 1 else 0 := by
          have dk := (fcC_le hk' (show 0 < 9 by decide)).2
          obtain ⟨n0, n1, n2⟩ := v234_0 dk
          have b0 := nv_lt (a := 0) dk
          have b1 := nv_lt (a := 1) dk
          have b2 := nv_lt (a := 2) dk
          have f0 := (fcC_le hk' (show 0 < 9 by decide)).1
          have f1 := (fcC_le hk' (show 1 < 9 by decide)).1
          have f2 := (fcC_le hk' (show 2 < 9 by decide)).1
          have q0 := (fcC_le hj (show 0 < 9 by decide)).1
          have q1 := (fcC_le hj (show 1 < 9 by decide)).1
          have q2 := (fcC_le hj (show 2 < 9 by decide)).1
          unfold v239
          rw [tn, d45 k G1 hk', n0, n1, n2, show Int.toNat 0 = 0 from rfl, show Int.toNat 1 = 1 from rfl, show Int.toNat 2 = 2 from rfl, I2 0 (by decide), I2 1 (by decide), I2 2 (by decide), I1 0 (by decide), I1 1 (by decide), I1 2 (by decide)]
          unfold plV plM
          clear n0 n1 n2 dk
          generalize nvI (drT k) 0 = N0 at *
          generalize nvI (drT k) 1 = N1 at *
          generalize nvI (drT k) 2 = N2 at *
          generalize fcC k 0 = F0 at *
          generalize fcC k 1 = F1 at *
          generalize fcC k 2 = F2 at *
          generalize fcC j 0 = P0 at *
          generalize fcC j 1 = P1 at *
          generalize fcC j 2 = P2 at *
          have x1 : cu / 9 < 3 := by omega
          have x2 : cu / 3 % 3 < 3 := by omega
          have x3 : cu % 3 < 3 := by omega
          generalize cu / 9 = C0 at *
          generalize cu / 3 % 3 = C1 at *
          generalize cu % 3 = C2 at *
          have ml : ∀ (N M : Int), -1 ≤ N ∧ N ≤ 1 → -10 ≤ M ∧ M ≤ 10 → bop32 104 N M = N * M ∧ -10 ≤ N * M ∧ N * M ≤ 10 := fun N M h1 h2 => by
            have : -10 ≤ N * M ∧ N * M ≤ 10 := by
              rcases (by omega : N = -1 ∨ N = 0 ∨ N = 1) with rfl | rfl | rfl <;> omega
            exact ⟨mul32 (by omega) (by omega), this⟩
          have md : ∀ (P C : Nat), P ≤ 2 → C < 3 → bop32 96 (P : Int) (bop32 104 2 ((C : Int) - 1)) = (P : Int) + 2 * ((C : Int) - 1) := fun P C h1 h2 => by
            rw [mul32 (by omega) (by omega), add32 (by omega) (by omega)]
          rw [md P0 C0 q0 x1, md P1 C1 q1 x2, md P2 C2 q2 x3]
          have k0 := ml N0 (F0 : Int) b0 (by omega)
          have k1 := ml N1 (F1 : Int) b1 (by omega)
          have k2 := ml N2 (F2 : Int) b2 (by omega)
          have k3 := ml N0 ((P0 : Int) + 2 * ((C0 : Int) - 1)) b0 (by omega)
          have k4 := ml N1 ((P1 : Int) + 2 * ((C1 : Int) - 1)) b1 (by omega)
          have k5 := ml N2 ((P2 : Int) + 2 * ((C2 : Int) - 1)) b2 (by omega)
          rw [k0.1, k1.1, k2.1, k3.1, k4.1, k5.1]
          have k0 := k0.2
          have k1 := k1.2
          have k2 := k2.2
          have k3 := k3.2
          have k4 := k4.2
          have k5 := k5.2
          generalize N0 * (F0 : Int) = y0 at *
          generalize N1 * (F1 : Int) = y1 at *
          generalize N2 * (F2 : Int) = y2 at *
          generalize N0 * ((P0 : Int) + 2 * ((C0 : Int) - 1)) = y3 at *
          generalize N1 * ((P1 : Int) + 2 * ((C1 : Int) - 1)) = y4 at *
          generalize N2 * ((P2 : Int) + 2 * ((C2 : Int) - 1)) = y5 at *
          clear ml md
          rw [show bop32 96 y0 y1 = y0 + y1 from add32 (by omega) (by omega), show bop32 96 y3 y4 = y3 + y4 from add32 (by omega) (by omega), show bop32 96 (y0 + y1) y2 = y0 + y1 + y2 from add32 (by omega) (by omega), show bop32 96 (y3 + y4) y5 = y3 + y4 + y5 from add32 (by omega) (by omega), ct1]
        rw [vp]
        by_cases w3 : plV k = plM k j cu
        · rw [if_pos w3]
          have := mt.mp (by unfold mtB; rw [m0, w1, w2, decide_eq_true w3]; rfl)
          refine Ends.b0 (fun z => absurd z (by decide)) (fun _ => ?_)
          rw [show bop32 96 (bop32 104 (3 : Int) (k : Int)) (s : Int) = ((3 * k + s : Nat) : Int) from by rw [show bop32 104 (3 : Int) (k : Int) = ((3 * k : Nat) : Int) from mulNN (x := 3) (by omega)]; exact addNN (by omega),
            show bop32 96 (bop32 104 (9 : Int) (k : Int)) (bop32 104 (3 : Int) (s : Int)) = ((9 * k + 3 * s : Nat) : Int) from by rw [show bop32 104 (9 : Int) (k : Int) = ((9 * k : Nat) : Int) from mulNN (x := 9) (by omega), show bop32 104 (3 : Int) (s : Int) = ((3 * s : Nat) : Int) from mulNN (x := 3) (by omega)]; exact addNN (by omega),
            show bop32 96 ((9 * k + 3 * s : Nat) : Int) 1 = ((9 * k + 3 * s + 1 : Nat) : Int) from addNN (y := 1) (by omega), show bop32 96 ((9 * k + 3 * s : Nat) : Int) 2 = ((9 * k + 3 * s + 2 : Nat) : Int) from addNN (y := 2) (by omega)]
          simp only [tn, an0]
          refine Ends.g ⟨by omega, by omega⟩ (Ends.g ⟨by omega, by omega⟩ (Ends.g ⟨by omega, by omega⟩ (Ends.g ⟨by omega, by omega⟩ ?_)))
          have G4 : ∀ v w x y, Agr (fbW B k s) h (hset (hset (hset (hset h3 (B + 47) (3 * k + s) v) (B + 48) (9 * k + 3 * s) w) (B + 48) (9 * k + 3 * s + 1) x) (B + 48) (9 * k + 3 * s + 2) y) := fun v w x y => (((G1.set (by unfold fbW; omega)).set (by unfold fbW; omega)).set (by unfold fbW; omega)).set (by unfold fbW; omega)
          refine next _ (LX.setS (LX.setS (LX.setS (LX.setS l3 rfl) rfl) rfl) rfl) (G4 _ _ _ _) (fun i hi => ?_) (fun _ => ⟨?_, fun a ha => ?_⟩)
          · rw [hv_set_ne (by omega), hv_set_ne (by omega), hv_set_ne (by omega), hv_set_ne (by omega)]
            exact I2 i hi
          · rw [hv_set_ne (by omega), hv_set_ne (by omega), hv_set_ne (by omega), hv_set_at, this.1, ebs]
          · rcases (by omega : a = 0 ∨ a = 1 ∨ a = 2) with rfl | rfl | rfl
            · rw [hv_set_ne (by omega), hv_set_ne (by omega), show 9 * k + 3 * s + 0 = 9 * k + 3 * s from rfl, hv_set_at, ← c9, this.2]
            · rw [hv_set_ne (by omega), hv_set_at, ← c3, this.2]
            · rw [hv_set_at, ← c1, this.2]
        · rw [if_neg w3]
          refine Ends.b0 (fun _ => next h3 l3 G1 I2 (skip (fun w => ?_) h3 J1)) (fun z => absurd rfl z)
          have := mt.mpr w
          unfold mtB at this
          rw [decide_eq_false w3, Bool.and_false, Bool.and_false, Bool.and_false] at this
          exact absurd this (by decide)
      refine Ends.b1 (fun z => main (fun w => by omega)) (fun z1 => Ends.b1 (fun z => main (fun w => by omega)) (fun z2 => next q lq g I (skip (fun w => ?_) q J)))
      have := mt.mpr w
      unfold mtB at this
      rw [show (cu == 13) = true from by rw [beq_iff_eq]; omega, show (j == k) = true from by rw [beq_iff_eq]; omega] at this
      exact absurd (show false = true from this) Bool.false_ne_true
  have outer : ∀ (r cu : Nat) (q : AH) (u6 u7 u8 u9 : AV), cu + r = 27 → LX B n q → Agr (fbW B k s) h q → (∀ i, i < 9 → hv q (B + 49) i = ((fcC k i : Nat) : Int)) → (cs < cu → BsS B q k s) → Ends (ev PP (gsF gv) B d 228 30 [(2, rf (B + 36)), (0, (k : Int)), (0, (s : Int)), (0, ((3 * s : Nat) : Int)), (0, ((3 * ((s + 1) % 3) : Nat) : Int)), (0, (cu : Int)), u6, u7, u8, u9] [] q) Q := by
    intro r
    induction r with
    | zero =>
      intro cu q u6 u7 u8 u9 e lq g I J
      refine Ends.eq (b228_30 lq (by omega)) (Ends.b3 (fun _ => Ends.sm (K _ ⟨g, J (by omega)⟩)) (fun z => absurd z (by omega)))
    | succ r ih =>
      intro cu q u6 u7 u8 u9 e lq g I J
      refine Ends.eq (b228_30 lq (by omega)) (Ends.b3 (fun z => absurd z (by omega)) (fun _ => ?_))
      rw [show bop32 108 (cu : Int) 9 = ((cu / 9 : Nat) : Int) from divNN (y := 9) (by omega) (by decide), show bop32 108 (cu : Int) 3 = ((cu / 3 : Nat) : Int) from divNN (y := 3) (by omega) (by decide), show bop32 112 ((cu / 3 : Nat) : Int) 3 = ((cu / 3 % 3 : Nat) : Int) from modNN (y := 3) (by decide) (by decide), show bop32 112 (cu : Int) 3 = ((cu % 3 : Nat) : Int) from modNN (y := 3) (by decide) (by decide), sub32 (by omega) (by omega), sub32 (by omega) (by omega), sub32 (by omega) (by omega)]
      exact inner cu (by omega) (fun q u6 u7 u8 u9 lq g I J => ih (cu + 1) q u6 u7 u8 u9 (by omega) lq g I (fun z => J (by omega))) 96 0 q rfl lq g I (fun z => J (by omega))
  refine Ends.eq (b228_0 l (by omega)) ?_
  rw [show bop32 108 (k : Int) 4 = ((k / 4 : Nat) : Int) from divNN (y := 4) (by omega) (by decide), show bop32 112 (k : Int) 4 = ((k % 4 : Nat) : Int) from modNN (y := 4) (by decide) (by decide)]
  refine Ends.cv l (by decide +kernel) (c_corners227 (a := B + 49) (t := k / 4) (f := k % 4) l (by omega) m (by rw [lk_49 l]) (by omega) (by omega) (by omega)) (fun h1 l1 _ _ _ ⟨g1, I1⟩ => ?_)
  rw [show 4 * (k / 4) + k % 4 = k by omega] at I1
  refine Ends.eq (b228_14 l1 (by omega)) ?_
  rw [show bop32 104 (3 : Int) (s : Int) = ((3 * s : Nat) : Int) from mulNN (x := 3) (by omega), show bop32 96 (s : Int) 1 = ((s + 1 : Nat) : Int) from addNN (y := 1) (by omega), show bop32 112 ((s + 1 : Nat) : Int) 3 = (((s + 1) % 3 : Nat) : Int) from modNN (y := 3) (by decide) (by decide), show bop32 104 (3 : Int) (((s + 1) % 3 : Nat) : Int) = ((3 * ((s + 1) % 3) : Nat) : Int) from mulNN (x := 3) (by omega)]
  exact outer 27 0 h1 _ _ _ _ rfl l1 (a49 Agr.rf g1) I1 (fun z => absurd z (Nat.not_lt_zero _))
/-- the tables are made at first use -/
def BsU (B : Nat) (h : AH) : Prop := hv h (B + 36) 17 = 0 ∨ (hv h (B + 36) 17 = 1 ∧ BsC B h)
def nbW (B : Nat) : Nat → Nat → Prop := fun c j => (c = B + 36 ∧ j = 17) ∨ (B + 47 ≤ c ∧ c ≤ B + 50)
theorem c_needBeside233 (l : LX B n h) (hd : 14 ≤ d) (m : TbC B h) (u : BsU B h) : Vd (cll PP (ev PP (gsF gv) B) d 233 [(2, rf (B + 36))] h) (fun h' => Agr (nbW B) h h' ∧ hv h' (B + 36) 17 = 1 ∧ BsC B h') := by
  refine Vd.inq (D := 13) hd (Nat.le_of_ble_eq_true rfl) rfl (fun d hd Q K => ?_)
  refine Ends.eq (b233_0 l (by omega)) (Ends.b0 (fun z0 => ?_) (fun z0 => ?_))
  · have G0 : Agr (nbW B) h (hset h (B + 36) 17 1) := Agr.rf.set (by unfold nbW; omega)
    have tb : ∀ {q : AH}, Agr (nbW B) h q → TbC B q := fun g => m.ext l.2.2 g.ext (fun c j h1 h2 w => by unfold nbW at w; omega)
    have key : ∀ (r k : Nat) (q : AH) (u2 : AV), k + r = 96 → LX B n q → Agr (nbW B) h q → hv q (B + 36) 17 = 1 → (∀ k' s, k' < k → s < 3 → BsS B q k' s) → Ends (ev PP (gsF gv) B d 233 15 [(2, rf (B + 36)), (0, (k : Int)), u2] [] q) Q := by
      intro r
      induction r with
      | zero =>
        intro k q u2 e lq g e17 I
        refine Ends.eq (b233_15 lq (by omega)) (Ends.b3 (fun _ => Ends.sm (K _ ⟨g, e17, fun k' s hk hs => I k' s (by omega) hs⟩)) (fun z => absurd z (by omega)))
      | succ r ih =>
        intro k q u2 e lq g e17 I
        have row : ∀ (r2 s : Nat) (q : AH), s + r2 = 3 → LX B n q → Agr (nbW B) h q → hv q (B + 36) 17 = 1 → (∀ k' s', (k' < k ∧ s' < 3) ∨ (k' = k ∧ s' < s) → BsS B q k' s') → Ends (ev PP (gsF gv) B d 233 23 [(2, rf (B + 36)), (0, (k : Int)), (0, (s : Int))] [] q) Q := by
          intro r2
          induction r2 with
          | zero =>
            intro s q e2 lq g e17 I
            refine Ends.eq (b233_23 lq (by omega)) (Ends.b3 (fun _ => ?_) (fun z => absurd z (by omega)))
            rw [w_succ (by omega)]
            exact ih (k + 1) q _ (by omega) lq g e17 (fun k' s' h1 h2 => I k' s' (by omega))
          | succ r2 ih2 =>
            intro s q e2 lq g e17 I
            refine Ends.eq (b233_23 lq (by omega)) (Ends.b3 (fun z => absurd z (by omega)) (fun _ => ?_))
            refine Ends.cv lq (by decide +kernel) (c_findBeside228 (k := k) (s := s) lq (by omega) (tb g) (by omega) (by omega)) (fun h1 l1 _ _ _ ⟨g1, s1⟩ => ?_)
            refine Ends.eq (b233_34 l1 (by omega)) ?_
            rw [w_succ (by omega)]
            refine ih2 (s + 1) h1 (by omega) l1 (g.tr g1 (fun c j w => by unfold fbW at w; unfold nbW; omega)) (by rw [g1.at _ _ (by unfold fbW; omega)]; exact e17) (fun k' s' w => ?_)
            by_cases z : k' = k ∧ s' = s
            · rw [z.1, z.2]; exact s1
            · have := I k' s' (by omega)
              exact ⟨by rw [g1.at _ _ (by unfold fbW; omega)]; exact this.1, fun a ha => by rw [g1.at _ _ (by unfold fbW; omega)]; exact this.2 a ha⟩
        refine Ends.eq (b233_15 lq (by omega)) (Ends.b3 (fun z => absurd z (by omega)) (fun _ => ?_))
        exact row 3 0 q rfl lq g e17 (fun k' s' w => I k' s' (by omega) (by omega))
    exact key 96 0 _ _ rfl (LX.setF 36 17 l (by decide +kernel)) G0 (hv_set_at ..) (fun k2 s hk => absurd hk (Nat.not_lt_zero _))
  · rcases u with u | u
    · exact absurd u z0
    · exact Ends.sm (K _ ⟨Agr.rf, u⟩)
end BSC
