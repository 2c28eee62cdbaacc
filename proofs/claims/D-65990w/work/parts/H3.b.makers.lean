/-! L3: makers (model); the faces of a maker and a direction (both sides) -/
noncomputable section MKM
variable {gv : Nat → Int} {B n d mm s : Nat} {h t : AH} {S : Nat → Bool} {F mk : Nat → Nat}
theorem tb5_all : ∀ m : Fin 32, ∀ i : Fin 64, tb ((m : Nat) : Int) i = Nat.testBit m i := by decide +kernel
theorem tbm5 {m i : Nat} (hm : m < 32) (hi : i < 64) : tb (m : Int) i = Nat.testBit m i := tb5_all ⟨m, hm⟩ ⟨i, hi⟩
theorem tbm31 : ∀ i : Fin 64, tb 31 i = decide ((i : Nat) < 5) := by decide +kernel
theorem t5_hi : ∀ m : Fin 32, ∀ i : Fin 64, 5 ≤ (i : Nat) → Nat.testBit m i = false := by decide +kernel
theorem cn5 (m : Fin 32) : cn 1 ((m : Nat) : Int) := by
  have := m.2
  show -9223372036854775808 ≤ ((m : Nat) : Int) ∧ ((m : Nat) : Int) < 9223372036854775808
  omega
/-- the makers of facets, five bits each, twelve in a word -/
def MkM (B n : Nat) (h : AH) (mk : Nat → Nat) : Prop := ∀ K, K < 4 * gN n → mk K < 32 ∧ ∀ b, b < 5 → tb (hv h (B + 237) (K / 12)) (5 * (K % 12) + b) = Nat.testBit (mk K) b
theorem MkM.agr {W : Nat → Nat → Prop} (a : MkM B n h mk) (g : Agr W h t) (hW : ∀ k, ¬ W (B + 237) k) : MkM B n t mk := fun K hK => by
  rw [g.at _ _ (hW _)]; exact a K hK
theorem mk_word {v : Int} {r m : Nat} (hr : r < 12) (hm : m < 32) (e : ∀ b, b < 5 → tb v (5 * r + b) = Nat.testBit m b) : bop64 127 (sop64 123 v ((5 * r : Nat) : Int)) 31 = (m : Int) := by
  refine tb_ext cn_bop64 (cn5 ⟨m, hm⟩) (fun i hi => ?_)
  rw [tb_and, tbm31 ⟨i, hi⟩, tb_sar _ (by omega) hi, tbm5 hm hi]
  show ((if 5 * r + i < 64 then tb v (5 * r + i) else tb v 63) && decide (i < 5)) = _
  by_cases z : i < 5
  · rw [if_pos (by omega), decide_eq_true z, Bool.and_true]; exact e i z
  · rw [decide_eq_false z, Bool.and_false]; exact (t5_hi ⟨m, hm⟩ ⟨i, hi⟩ (Nat.le_of_not_lt z)).symm
theorem gN_lt (hn : n ≤ 52) : gN n ≤ 3374592 := by
  unfold gN
  exact Nat.mul_le_mul (Nat.mul_le_mul (Nat.mul_le_mul (Nat.le_refl 24) hn) hn) hn
theorem v743_is {K : Nat} (hn : n ≤ 52) (a : MkM B n h mk) (hK : K < 4 * gN n) : q743 B n h (K : Int) ∧ v743 B n h (K : Int) = ((mk K : Nat) : Int) := by
  have gl := gN_lt hn
  obtain ⟨a1, a2⟩ := a K hK
  have e1 : bop32 108 (K : Int) (12 : Int) = ((K / 12 : Nat) : Int) := divNN (y := 12) (by omega) (by decide)
  have e2 : bop32 112 (K : Int) (12 : Int) = ((K % 12 : Nat) : Int) := modNN (y := 12) (by decide) (by decide)
  have e3 : bop32 104 (5 : Int) ((K % 12 : Nat) : Int) = ((5 * (K % 12) : Nat) : Int) := mulNN (x := 5) (by omega)
  have r12 : K % 12 < 12 := Nat.mod_lt _ (by decide)
  unfold q743 v743
  rw [e1, e2, e3, tn, mk_word r12 a1 a2]
  clear e1 e2 e3
  refine ⟨⟨by omega, ?_⟩, ?_⟩
  · have : K / 12 ≤ 4 * gN n / 12 := Nat.div_le_div_right (by omega)
    omega
  · exact (uop3 _).trans (w32_nat (Nat.lt_trans a1 (by decide)))
theorem c_setMaker817 {K m : Nat} (l : LX B n h) (hd : 10 ≤ d) (hn : n ≤ 52) (a : MkM B n h mk) (hK : K < 4 * gN n) (hm : m < 32) : Vd (cll PP (ev PP (gsF gv) B) d 817 [(2, rf (B + 149)), (0, (K : Int)), (0, (m : Int))] h) (fun h' => Agr (fun c _ => c = B + 237) h h' ∧ MkM B n h' (fun x => if x = K then m else mk x)) := by
  have gl := gN_lt hn
  have e1 : bop32 108 (K : Int) (12 : Int) = ((K / 12 : Nat) : Int) := divNN (y := 12) (by omega) (by decide)
  have e2 : bop32 112 (K : Int) (12 : Int) = ((K % 12 : Nat) : Int) := modNN (y := 12) (by decide) (by decide)
  have e3 : bop32 104 (5 : Int) ((K % 12 : Nat) : Int) = ((5 * (K % 12) : Nat) : Int) := mulNN (x := 5) (by omega)
  have r12 : K % 12 < 12 := Nat.mod_lt _ (by decide)
  have kd : K / 12 ≤ 4 * gN n / 12 := Nat.div_le_div_right (by omega)
  refine Vd.inq (D := 9) hd (Nat.le_of_ble_eq_true rfl) rfl (fun d hd Q KK => ?_)
  refine Ends.eq (b817_0 l (by omega)) ?_
  rw [e1, e2, e3, tn]
  clear e1 e2
  refine Ends.g ⟨by clear e3; omega, by clear e3; omega⟩ (Ends.sm (KK _ ⟨Agr.rf.set rfl, fun x hx => ?_⟩))
  rw [an1]
  clear e3
  dsimp only
  by_cases z : x / 12 = K / 12
  rotate_left
  · rw [hv_set_ne (fun y => z y.2), if_neg (fun y => z (by rw [y]))]
    exact a x hx
  rw [z, hv_set_at]
  have r12' : x % 12 < 12 := Nat.mod_lt _ (by decide)
  have bits : ∀ i, i < 64 → tb (bop64 129 (bop64 127 (hv h (B + 237) (K / 12)) (bop64 131 (sop64 121 31 ((5 * (K % 12) : Nat) : Int)) (-1))) (sop64 121 (uop 2 (m : Int)) ((5 * (K % 12) : Nat) : Int))) i = ((tb (hv h (B + 237) (K / 12)) i && !(decide (5 * (K % 12) ≤ i) && decide (i - 5 * (K % 12) < 5))) || (decide (5 * (K % 12) ≤ i) && tb (m : Int) (i - 5 * (K % 12)))) := fun i hi => by
    rw [tb_or, tb_and, tb_not _ hi, tb_shl _ (by omega) hi, show uop 2 (m : Int) = (m : Int) from rfl, tb_shl _ (by omega) hi, tbm31 ⟨i - 5 * (K % 12), by omega⟩]
  by_cases y : x = K
  · subst y
    rw [if_pos rfl]
    refine ⟨hm, fun b hb => ?_⟩
    rw [bits _ (by omega), decide_eq_true (show 5 * (x % 12) ≤ 5 * (x % 12) + b by omega), show 5 * (x % 12) + b - 5 * (x % 12) = b by omega, decide_eq_true hb, Bool.true_and, Bool.not_true, Bool.and_false, Bool.false_or, Bool.true_and, tbm5 hm (by omega)]
  · rw [if_neg y]
    have ne : x % 12 ≠ K % 12 := fun w => y (by omega)
    obtain ⟨a1, a2⟩ := a x hx
    refine ⟨a1, fun b hb => ?_⟩
    rw [bits _ (by omega)]
    have old := a2 b hb
    rw [z] at old
    rw [old]
    by_cases w : 5 * (K % 12) ≤ 5 * (x % 12) + b
    · rw [decide_eq_true w, decide_eq_false (show ¬ 5 * (x % 12) + b - 5 * (K % 12) < 5 by omega), Bool.and_false, Bool.not_false, Bool.and_true, Bool.true_and, tbm5 hm (by omega)]
      have := t5_hi ⟨m, hm⟩ ⟨5 * (x % 12) + b - 5 * (K % 12), by omega⟩ (by show 5 ≤ 5 * (x % 12) + b - 5 * (K % 12); omega)
      rw [show Nat.testBit m (5 * (x % 12) + b - 5 * (K % 12)) = false from this, Bool.or_false]
    · rw [decide_eq_false w, Bool.false_and, Bool.false_and, Bool.not_false, Bool.and_true, Bool.or_false]
/-- which of M faces has a maker, a direction, a number among those -/
def fnM (mk dr : Nat → Int) (a w : Int) (k : Nat) : Bool := decide (mk k = a) && decide (dr k = w)
def FnR (mk dr : Nat → Int) (M : Nat) (a w i v : Int) : Prop := (∃ k, k < M ∧ fnM mk dr a w k = true ∧ ((cntN (fnM mk dr a w) k : Nat) : Int) = i ∧ v = (k : Int)) ∨ ((¬ ∃ k, k < M ∧ fnM mk dr a w k = true ∧ ((cntN (fnM mk dr a w) k : Nat) : Int) = i) ∧ v = -1)
theorem fnM_iff {mk dr : Nat → Int} {a w : Int} {k : Nat} : fnM mk dr a w k = true ↔ mk k = a ∧ dr k = w := by
  unfold fnM; rw [Bool.and_eq_true, decide_eq_true_iff, decide_eq_true_iff]
theorem cnt_one {p : Nat → Bool} {k k' : Nat} (h1 : p k = true) (h2 : p k' = true) (e : cntN p k = cntN p k') : k = k' := by
  have c1 := cntN_s p k
  rw [h1, if_pos rfl] at c1
  have c2 := cntN_s p k'
  rw [h2, if_pos rfl] at c2
  rcases (by omega : k < k' ∨ k = k' ∨ k' < k) with z | z | z
  · have c3 : cntN p (k + 1) ≤ cntN p k' := cntN_mono (S := p) _ z
    omega
  · exact z
  · have c3 : cntN p (k' + 1) ≤ cntN p k := cntN_mono (S := p) _ z
    omega
theorem FnR.uniq {mk dr : Nat → Int} {M : Nat} {a w i v v' : Int} (r : FnR mk dr M a w i v) (r' : FnR mk dr M a w i v') : v = v' := by
  rcases r with ⟨k, k1, k2, k3, k4⟩ | ⟨no, e⟩
  · rcases r' with ⟨j, j1, j2, j3, j4⟩ | ⟨no, e⟩
    · rw [k4, j4, cnt_one k2 j2 (by omega)]
    · exact absurd ⟨k, k1, k2, k3⟩ no
  · rcases r' with ⟨j, j1, j2, j3, j4⟩ | ⟨no', e'⟩
    · exact absurd ⟨j, j1, j2, j3⟩ no
    · rw [e, e']
theorem fnM_congr {mk dr mk' dr' : Nat → Int} {M : Nat} {a w : Int} (e : ∀ k, k < M → mk' k = mk k ∧ dr' k = dr k) : ∀ k, k < M → fnM mk' dr' a w k = fnM mk dr a w k := fun k hk => by
  unfold fnM; rw [(e k hk).1, (e k hk).2]
theorem FnR.congr {mk dr mk' dr' : Nat → Int} {M : Nat} {a w i v : Int} (r : FnR mk dr M a w i v) (e : ∀ k, k < M → mk' k = mk k ∧ dr' k = dr k) : FnR mk' dr' M a w i v := by
  have fc := fnM_congr (a := a) (w := w) e
  have cc : ∀ k, k < M → cntN (fnM mk' dr' a w) k = cntN (fnM mk dr a w) k := fun k hk => cntN_congr k (fun i hi => fc i (by omega))
  rcases r with ⟨k, k1, k2, k3, k4⟩ | ⟨no, ev'⟩
  · exact Or.inl ⟨k, k1, by rw [fc k k1]; exact k2, by rw [cc k k1]; exact k3, k4⟩
  · exact Or.inr ⟨fun ⟨k, k1, k2, k3⟩ => no ⟨k, k1, by rw [← fc k k1]; exact k2, by rw [← cc k k1]; exact k3⟩, ev'⟩
theorem FnR.lt {mk dr : Nat → Int} {M : Nat} {a w i v : Int} (r : FnR mk dr M a w i v) : v = -1 ∨ ∃ k : Nat, v = (k : Int) ∧ k < M := by
  rcases r with ⟨k, k1, k2, k3, k4⟩ | ⟨no, ev'⟩
  · exact Or.inr ⟨k, k4, k1⟩
  · exact Or.inl ev'
/-- the desk's faceOf -/
theorem c_faceOf264 {M kc pc cap : Nat} {ka : Nat → Nat} {mk dr : Nat → Int} {a w i : Int} (l : LX B n h) (hd : 10 ≤ d) (hM : M ≤ 4096) (hkc : M ≤ kc) (A : FaI B h pc cap ka kc) (e6 : hv h (B + 82) 6 = (M : Int)) (edr : ∀ k, k < M → hv h (ka 0) k = dr k) (ms : MkS B h mk dr M) :
    Vt 0 (cll PP (ev PP (gsF gv) B) d 264 [(2, rf (B + 92)), (0, a), (0, w), (0, i)] h) (fun v h' => FnR mk dr M a w i v ∧ h' = h) := by
  obtain ⟨q1, q2, q3, q4⟩ := A.2.1.1 0 (by decide)
  refine Vt.inq (D := 9) hd (Nat.le_of_ble_eq_true rfl) rfl (fun d hd Q K => ?_)
  refine Ends.eq (b264_0 l (by omega)) ?_
  have key : ∀ (r k : Nat), k + r = M → (∀ j, j < k → ¬ (fnM mk dr a w j = true ∧ ((cntN (fnM mk dr a w) j : Nat) : Int) = i)) → Ends (ev PP (gsF gv) B d 264 3 [(2, rf (B + 92)), (0, a), (0, w), (0, i), (0, (k : Int))] [] h) Q := by
    intro r
    induction r with
    | zero =>
      intro k e no
      obtain rfl : k = M := by omega
      refine Ends.eq (b264_3 l (by omega)) ?_
      rw [e6]
      exact Ends.b3 (fun _ => Ends.sm (K _ _ ⟨Or.inr ⟨fun ⟨k, k1, k2, k3⟩ => no k k1 ⟨k2, k3⟩, rfl⟩, rfl⟩)) (fun z => absurd z (Int.lt_irrefl _))
    | succ r ih =>
      intro k e no
      have hk : k < M := by omega
      obtain ⟨m1, m2⟩ := ms k hk
      have next : ¬ (fnM mk dr a w k = true ∧ ((cntN (fnM mk dr a w) k : Nat) : Int) = i) → Ends (ev PP (gsF gv) B d 264 54 [(2, rf (B + 92)), (0, a), (0, w), (0, i), (0, (k : Int))] [] h) Q := fun z => by
        refine Ends.eq (b264_54 l (by omega)) ?_
        rw [w_succ (by omega)]
        refine ih (k + 1) (by omega) (fun j hj => ?_)
        rcases (by omega : j < k ∨ j = k) with y | y
        · exact no j y
        · rw [y]; exact z
      refine Ends.eq (b264_3 l (by omega)) ?_
      rw [e6, tn, m1, m2, show hv h (B + 82) 7 = rf (ka 0) from q1, ad_rf, q2, edr k hk]
      refine Ends.b3 (fun z => by omega) (fun _ => Ends.g ⟨by omega, by omega⟩ (Ends.b1 (fun z => next (fun y => z (fnM_iff.mp y.1).1)) (fun z1 => Ends.g ⟨rf_pos _, rfl, by omega, by show (k : Int) < ((kc : Nat) : Int); omega⟩ (Ends.b1 (fun z => next (fun y => z (fnM_iff.mp y.1).2)) (fun z2 => ?_)))))
      have rk : rkF mk dr k = cntN (fnM mk dr a w) k := by unfold rkF fnM; rw [z1, z2]
      rw [rk]
      refine Ends.b1 (fun z => next (fun y => z y.2)) (fun z3 => Ends.sm (K _ _ ⟨Or.inl ⟨k, hk, fnM_iff.mpr ⟨z1, z2⟩, z3, rfl⟩, rfl⟩))
  exact key M 0 (Nat.zero_add _) (fun j hj => absurd hj (Nat.not_lt_zero j))
/-- the model's faces and their makers -/
def mdr (F : Nat → Nat) (i : Nat) : Int := ((drT (F i % 96) : Nat) : Int)
def mmk (mk F : Nat → Nat) (i : Nat) : Int := ((mk (F i) : Nat) : Int)
theorem MFc.agr {r : Nat} {W : Nat → Nat → Prop} (m : MFc B n h r S mm F) (g : Agr W h t) (h1 : ¬ W (B + 149) 85) (h2 : ¬ W (B + 149) 86) (h3 : ∀ k, ¬ W (B + 190) k) : MFc B n t r S mm F := by
  obtain ⟨a, b, c, e⟩ := m
  exact ⟨a, by rw [g.at _ _ h1]; exact b, by rw [g.at _ _ h2]; exact c, fun i hi => by rw [g.at _ _ (h3 i)]; exact e i hi⟩
theorem MFc.fst {r i : Nat} (m : MFc B n h r S mm F) (hi : i < min mm 4096) : hv h (B + 190) i = ((F i : Nat) : Int) ∧ F i < 4 * gN n ∧ bdr n S (F i) = true := by
  obtain ⟨a, b, c, e⟩ := m
  obtain ⟨f1, f2, f3⟩ := (a.1 i (by omega)).1
  exact ⟨e i hi, f1, f2⟩
theorem v727_is {r : Nat} (m : MFc B n h r S mm F) : v727 B h = ((min mm 4096 : Nat) : Int) := by
  unfold v727
  rw [m.2.1, ct3]
  by_cases z : mm < 4096
  · rw [if_pos (by omega), Nat.min_eq_left (by omega)]
  · rw [if_neg (by omega), Nat.min_eq_right (by omega)]; rfl
theorem code_at {K : Nat} (hK : K < 4 * gN n) (I : ∀ a, a < 3 → hv h (B + 188) a = nvI (drT (K % 96)) a) : v572 B h = ((drT (K % 96) : Nat) : Int) := code_is (fcC_le (k := K % 96) (i := 0) K96_lt (by decide)).2 I
theorem c_indexOf676 {r i : Nat} (l : LX B n h) (hd : 14 ≤ d) (hn : n ≤ 52) (m : TbM B h) (f : MFc B n h r S mm F) (k : MkM B n h mk) (hi : i < min mm 4096) :
    Vt 0 (cll PP (ev PP (gsF gv) B) d 676 [(2, rf (B + 149)), (0, (i : Int))] h) (fun v h' => v = ((rkF (mmk mk F) (mdr F) i : Nat) : Int) ∧ Agr (fun c k => c = B + 188 ∧ k < 3) h h') := by
  have m4 : min mm 4096 ≤ 4096 := Nat.min_le_right _ _
  refine Vt.inq (D := 13) hd (Nat.le_of_ble_eq_true rfl) rfl (fun d hd Q KK => ?_)
  obtain ⟨f1, f2, f3⟩ := f.fst hi
  refine Ends.eq (b676_0 l (by omega)) (Ends.g ⟨by omega, by omega⟩ ?_)
  rw [tn, f1]
  refine Ends.ct l (by decide +kernel) (by decide) (c_direction593 l (by omega) hn m f2) (fun v h2 l2 _ _ _ ⟨_, I2, g2⟩ => ?_)
  refine Ends.eq (b676_10 l2 (by omega)) ?_
  rw [code_at f2 I2]
  have key : ∀ (r j : Nat) (q : AH) (x2 : Int), j + r = i → LX B n q → Agr (fun c k => c = B + 188 ∧ k < 3) h q → Ends (ev PP (gsF gv) B d 676 22 [(2, rf (B + 149)), (0, (i : Int)), (0, x2), (0, ((drT (F i % 96) : Nat) : Int)), (0, ((cntN (fun m => decide (mmk mk F m = mmk mk F i) && decide (mdr F m = mdr F i)) j : Nat) : Int)), (0, (j : Int))] [] q) Q := by
    intro r
    induction r with
    | zero =>
      intro j q x2 e lq g
      obtain rfl : j = i := by omega
      exact Ends.eq (b676_22 lq (by omega)) (Ends.b3 (fun _ => Ends.sm (KK _ _ ⟨rfl, g⟩)) (fun z => absurd z (Int.lt_irrefl _)))
    | succ r ih =>
      intro j q x2 e lq g
      have fq := f.agr g (by omega) (by omega) (fun k => by omega)
      have kq := k.agr g (fun k => by omega)
      obtain ⟨a1, a2, a3⟩ := fq.fst (i := j) (by omega)
      obtain ⟨b1, -, -⟩ := fq.fst hi
      obtain ⟨c1, c2⟩ := v743_is hn kq a2
      obtain ⟨d1, d2⟩ := v743_is hn kq f2
      have cb := cntN_le (fun m => decide (mmk mk F m = mmk mk F i) && decide (mdr F m = mdr F i)) j
      have cs := cntN_s (fun m => decide (mmk mk F m = mmk mk F i) && decide (mdr F m = mdr F i)) j
      refine Ends.eq (b676_22 lq (by omega)) (Ends.b3 (fun z => by omega) (fun _ => Ends.g ⟨by omega, by omega⟩ ?_))
      rw [tn, tn, a1, b1, c2, d2]
      refine Ends.g c1 (Ends.g ⟨by omega, by omega⟩ (Ends.g d1 (Ends.b0 (fun z => ?_) (fun z => ?_))))
      · refine Ends.ct lq (by decide +kernel) (by decide) (c_direction593 lq (by omega) hn (m.agr g (fun c k a b _ z => by omega)) a2) (fun v h3 l3 _ _ _ ⟨_, I3, g3⟩ => ?_)
        refine Ends.eq (b676_66 l3 (by omega)) ?_
        rw [code_at a2 I3]
        refine Ends.eq (b676_78 l3 (by omega)) ?_
        rw [w_succ (i := j) (by omega)]
        have nx := ih (j + 1) h3 v (by omega) l3 (g.tr g3 (fun _ _ z => z))
        have ez : decide (mmk mk F j = mmk mk F i) = true := decide_eq_true (by unfold mmk; omega)
        rw [cs, ez, Bool.true_and] at nx
        rw [ct1, w_succ (by omega)]
        by_cases y : mdr F j = mdr F i
        · rw [decide_eq_true y, if_pos rfl] at nx
          rw [if_pos (show ((drT (F j % 96) : Nat) : Int) = ((drT (F i % 96) : Nat) : Int) from y)]
          exact nx
        · rw [decide_eq_false y, if_neg Bool.false_ne_true, Nat.add_zero] at nx
          rw [if_neg (show ¬ ((drT (F j % 96) : Nat) : Int) = ((drT (F i % 96) : Nat) : Int) from y)]
          exact nx
      · refine Ends.eq (b676_78 lq (by omega)) ?_
        rw [w_succ (i := j) (by omega)]
        have nx := ih (j + 1) q x2 (by omega) lq g
        have ez : decide (mmk mk F j = mmk mk F i) = false := decide_eq_false (by unfold mmk; omega)
        rw [cs, ez, Bool.false_and, if_neg Bool.false_ne_true, Nat.add_zero] at nx
        exact nx
  exact key i 0 h2 v (Nat.zero_add _) l2 g2
/-- a known face of a row by maker, direction and number -/
theorem c_faceNamedK {r : Nat} {a w i x7 : Int} {Q : Rs → Prop} {u7 : AV} (l : LX B n h) (hd : 13 ≤ d) (hn : n ≤ 52) (m : TbM B h) (f : MFc B n h r S mm F) (k : MkM B n h mk) (hi : 0 ≤ i ∧ i < 1000000) (KK : ∀ v h', FnR (mmk mk F) (mdr F) (min mm 4096) a w i v → Agr (fun c k => c = B + 188 ∧ k < 3) h h' → Q ((0, (0, v)), h')) :
    Ends (ev PP (gsF gv) B d 618 12 [(2, rf (B + 149)), (0, x7), (0, a), (0, w), (0, i), (0, i), (0, 0), u7] [] h) Q := by
  have m4 : min mm 4096 ≤ 4096 := Nat.min_le_right _ _
  have key : ∀ (r' j : Nat) (q : AH) (u7 : AV), j + r' = min mm 4096 → LX B n q → Agr (fun c k => c = B + 188 ∧ k < 3) h q → (∀ x, x < j → ¬ (fnM (mmk mk F) (mdr F) a w x = true ∧ ((cntN (fnM (mmk mk F) (mdr F) a w) x : Nat) : Int) = i)) → Ends (ev PP (gsF gv) B d 618 12 [(2, rf (B + 149)), (0, x7), (0, a), (0, w), (0, i), (0, i - ((cntN (fnM (mmk mk F) (mdr F) a w) j : Nat) : Int)), (0, (j : Int)), u7] [] q) Q := by
    intro r'
    induction r' with
    | zero =>
      intro j q u7 e lq g no
      obtain rfl : j = min mm 4096 := by omega
      have fq := f.agr g (by omega) (by omega) (fun k => by omega)
      refine Ends.eq (b618_12 lq (by omega)) ?_
      rw [v727_is fq]
      exact Ends.b3 (fun _ => Ends.sm (KK _ _ (Or.inr ⟨fun ⟨k, k1, k2, k3⟩ => no k k1 ⟨k2, k3⟩, rfl⟩) g)) (fun z => absurd z (Int.lt_irrefl _))
    | succ r' ih =>
      intro j q u7 e lq g no
      have hj : j < min mm 4096 := by omega
      have fq := f.agr g (by omega) (by omega) (fun k => by omega)
      have kq := k.agr g (fun k => by omega)
      obtain ⟨a1, a2, a3⟩ := fq.fst hj
      obtain ⟨c1, c2⟩ := v743_is hn kq a2
      have cb := cntN_le (fnM (mmk mk F) (mdr F) a w) j
      have cs := cntN_s (fnM (mmk mk F) (mdr F) a w) j
      have nono : ∀ q' u7, LX B n q' → Agr (fun c k => c = B + 188 ∧ k < 3) h q' → fnM (mmk mk F) (mdr F) a w j = false → Ends (ev PP (gsF gv) B d 618 74 [(2, rf (B + 149)), (0, x7), (0, a), (0, w), (0, i), (0, i - ((cntN (fnM (mmk mk F) (mdr F) a w) j : Nat) : Int)), (0, (j : Int)), u7] [] q') Q := fun q' u7 l' g' z => by
        refine Ends.eq (b618_74 l' (by omega)) ?_
        rw [w_succ (i := j) (by omega)]
        have nx := ih (j + 1) q' u7 (by omega) l' g' (fun x hx => ?_)
        · rw [cs, z, if_neg Bool.false_ne_true, Nat.add_zero] at nx
          exact nx
        · rcases (by omega : x < j ∨ x = j) with y | y
          · exact no x y
          · rw [y, z]; exact fun y => Bool.false_ne_true y.1
      refine Ends.eq (b618_12 lq (by omega)) ?_
      rw [v727_is fq, tn, a1, c2]
      refine Ends.b3 (fun z => by omega) (fun _ => Ends.g ⟨by omega, by omega⟩ (Ends.g c1 (Ends.b0 (fun z1 => ?_) (fun z1 => nono _ _ lq g ?_))))
      rotate_left
      · rw [Bool.eq_false_iff]; exact fun y => z1 (fnM_iff.mp y).1
      refine Ends.ct lq (by decide +kernel) (by decide) (c_direction593 lq (by omega) hn (m.agr g (fun c k a b _ z => by omega)) a2) (fun v h3 l3 _ _ _ ⟨_, I3, g3⟩ => ?_)
      have g4 := g.tr g3 (fun _ _ z => z)
      refine Ends.eq (b618_50 l3 (by omega)) ?_
      rw [code_at a2 I3]
      refine Ends.b0 (fun z2 => ?_) (fun z2 => nono _ _ l3 g4 ?_)
      rotate_left
      · rw [Bool.eq_false_iff]; exact fun y => z2 (fnM_iff.mp y).2
      have yes : fnM (mmk mk F) (mdr F) a w j = true := fnM_iff.mpr ⟨z1, z2⟩
      refine Ends.b1 (fun z3 => ?_) (fun z3 => Ends.sm (KK _ _ (Or.inl ⟨j, hj, yes, by omega, rfl⟩) g4))
      refine Ends.eq (b618_74 l3 (by omega)) ?_
      rw [w_succ (i := j) (by omega), inc32 (by omega) (by omega)]
      have nx := ih (j + 1) h3 (0, v) (by omega) l3 g4 (fun x hx => ?_)
      · rw [cs, yes, if_pos rfl] at nx
        rw [show i - ((cntN (fnM (mmk mk F) (mdr F) a w) j : Nat) : Int) + (-1) = i - ((cntN (fnM (mmk mk F) (mdr F) a w) j + 1 : Nat) : Int) by omega]
        exact nx
      · rcases (by omega : x < j ∨ x = j) with y | y
        · exact no x y
        · rw [y]; exact fun y => z3 (by omega)
  have st := key (min mm 4096) 0 h u7 (Nat.zero_add _) l Agr.rf (fun x hx => absurd hx (Nat.not_lt_zero x))
  rw [show cntN (fnM (mmk mk F) (mdr F) a w) 0 = 0 from rfl, show ((0 : Nat) : Int) = 0 from rfl, Int.sub_zero] at st
  exact st
theorem c_faceNamed618 {a w i : Int} (l : LX B n h) (hd : 32 ≤ d) (hn0 : 0 < n) (hn : n ≤ 52) (m : TbM B h) (hs : s < 19) (bS : MB B n h s S) (b9 : BtM n h (B + 239) (fun _ => false)) (u : hv h (B + 149) 86 = (s : Int) → ∃ mm F, MFc B n h s S mm F) (k : MkM B n h mk) (hi : 0 ≤ i ∧ i < 1000000) :
    Vt 0 (cll PP (ev PP (gsF gv) B) d 618 [(2, rf (B + 149)), (0, (s : Int)), (0, a), (0, w), (0, i)] h) (fun v h' => ∃ mm F, MFc B n h' s S mm F ∧ FnR (mmk mk F) (mdr F) (min mm 4096) a w i v ∧ BtM n h' (B + 239) (fun _ => false) ∧ Agr (fgoW B) h h') := by
  refine Vt.inq (D := 31) hd (Nat.le_of_ble_eq_true rfl) rfl (fun d hd Q KK => ?_)
  refine Ends.eq (b618_0 l (by omega)) ?_
  refine Ends.cv l (by decide +kernel) (c_makeFaces740 l (by omega) hn0 hn m hs bS b9 u) (fun h2 l2 _ _ _ ⟨⟨mm, F, f2⟩, b2, g2⟩ => ?_)
  refine Ends.eq (b618_5 l2 (by omega)) ?_
  refine c_faceNamedK l2 (by omega) hn (m.agr g2 (fun c k a b e z => by unfold fgoW fdfW at z; omega)) f2 (k.agr g2 (fun k z => by unfold fgoW fdfW at z; omega)) hi (fun v h' r g => KK _ _ ⟨mm, F, f2.agr g (by omega) (by omega) (fun k => by omega), r, b2.agr g (fun k => by omega), g2.tr g (fun c k z => ?_)⟩)
  unfold fgoW fdfW; omega
end MKM
