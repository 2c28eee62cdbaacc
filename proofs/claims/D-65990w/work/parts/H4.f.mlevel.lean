/-! L3: faces told by names, looked at once more (model) -/
noncomputable section MNF
variable {gv : Nat → Int} {B n d f1 k mm ax : Nat} {h t : AH} {S V : Nat → Bool} {F mk : Nat → Nat} {N : Nat → Int}
/-- a field that is a name -/
def FnM (B : Nat) (h : AH) (f1 k : Nat) (N : Nat → Int) : Prop := ∃ x, hv h (f1 + 1) k = rf x ∧ hk h x = (1, 23) ∧ B + 246 ≤ x ∧ B + 246 ≤ f1 ∧ hv h x 1 = N 0 ∧ hv h x 2 = N 1 ∧ hv h x 3 = N 2
theorem FnM.agr {W : Nat → Nat → Prop} (f : FnM B h f1 k N) (g : Agr W h t) (hW : ∀ c k, W c k → c < B + 246) : FnM B t f1 k N := by
  obtain ⟨x, e1, e2, e3, e4, e5, e6, e7⟩ := f
  have at' : ∀ c j, B + 246 ≤ c → hv t c j = hv h c j := fun c j hc => g.at _ _ (fun z => by have := hW _ _ z; omega)
  exact ⟨x, by rw [at' _ _ (by omega)]; exact e1, by rw [g.hk]; exact e2, e3, e4, by rw [at' _ _ e3]; exact e5, by rw [at' _ _ e3]; exact e6, by rw [at' _ _ e3]; exact e7⟩
theorem c_faceOf619 (l : LX B n h) (hd : 34 ≤ d) (hn0 : 0 < n) (hn : n ≤ 52) (m : TbM B h) (b : MB B n h 11 S) (b9 : BtM n h (B + 239) (fun _ => false)) (u : hv h (B + 149) 86 = ((11 : Nat) : Int) → ∃ mm F, MFc B n h 11 S mm F) (M : MkM B n h mk) (F1 : YF B f1 h) (fd : FnM B h f1 k N) (hk7 : k < 7) (n2 : 0 ≤ N 2 ∧ N 2 < 1000000) :
    Vt 0 (cll PP (ev PP (gsF gv) B) d 619 [(2, rf (B + 149)), (2, rf f1), (0, (k : Int))] h) (fun v h' => ∃ mm F, MFc B n h' 11 S mm F ∧ FnR (mmk mk F) (mdr F) (min mm 4096) (N 0) (N 1) (N 2) v ∧ BtM n h' (B + 239) (fun _ => false) ∧ Agr (fgoW B) h h') := by
  obtain ⟨x, e1, e2, e3, e4, e5, e6, e7⟩ := fd
  refine Vt.inq (D := 33) hd (Nat.le_of_ble_eq_true rfl) rfl (fun d hd Q K => ?_)
  refine Ends.eq (b619_0 l (by omega) F1) ?_
  rw [tn, e1, ad_rf, e5, e6, e7]
  refine Ends.g ⟨by omega, by omega⟩ (Ends.g ⟨rf_pos _, e2⟩ ?_)
  refine Ends.ct l (by decide +kernel) (by decide) (c_faceNamed618 (s := 11) (a := N 0) (w := N 1) (i := N 2) l (by omega) hn0 hn m (by decide) b b9 u M n2) (fun v h2 l2 _ _ _ ⟨mm, F, y1, y2, y3, y4⟩ => ?_)
  exact Ends.eq (b619_33 l2 (by omega)) (Ends.sm (K _ _ ⟨mm, F, y1, y2, y3, y4⟩))
/-- where asking whether a face is level writes -/
def lvW (B : Nat) : Nat → Nat → Prop := fun c k => (c = B + 188 ∧ k < 3) ∨ (c = B + 149 ∧ 107 ≤ k ∧ k ≤ 109)
theorem c_isLevel701 {i : Nat} (l : LX B n h) (hd : 14 ≤ d) (hn : n ≤ 52) (m : TbM B h) (f : MFc B n h 11 S mm F) (hi : i < min mm 4096) :
    Vt 0 (cll PP (ev PP (gsF gv) B) d 701 [(2, rf (B + 149)), (0, (i : Int))] h) (fun v h' => Agr (lvW B) h h' ∧ ((v = 0 ∧ axD (drT (F i % 96)) < 0) ∨ (v = 1 ∧ 0 ≤ axD (drT (F i % 96)) ∧ hv h' (B + 149) 107 = axD (drT (F i % 96)) ∧ hv h' (B + 149) 109 = sgF (F i) ∧ hv h' (B + 149) 108 = plK n (F i)))) := by
  have m4 : min mm 4096 ≤ 4096 := Nat.min_le_right _ _
  obtain ⟨f1, f2, f3⟩ := f.fst hi
  have d27 := (fcC_le (k := F i % 96) (i := 0) K96_lt (by decide)).2
  obtain ⟨x1, x2, x3⟩ := ax_all ⟨drT (F i % 96), d27⟩
  have x2 : bop32 96 (bop32 96 (v832 (nvI (drT (F i % 96)) 0)) (v832 (nvI (drT (F i % 96)) 1))) (v832 (nvI (drT (F i % 96)) 2)) = 1 ↔ 0 ≤ axD (drT (F i % 96)) := x2
  have x3 : 0 ≤ axD (drT (F i % 96)) → (cond (tst 0 (nvI (drT (F i % 96)) 0) 0) (cond (tst 0 (nvI (drT (F i % 96)) 1) 0) (2 : Int) 1) 0) = axD (drT (F i % 96)) ∧ axD (drT (F i % 96)) < 3 ∧ nvI (drT (F i % 96)) (axD (drT (F i % 96))).toNat = sgF (F i) := x3
  refine Vt.inq (D := 13) hd (Nat.le_of_ble_eq_true rfl) rfl (fun d hd Q K => ?_)
  refine Ends.eq (b701_0 l (by omega)) ?_
  rw [tn, f1]
  refine Ends.g ⟨by omega, by omega⟩ ?_
  refine Ends.ct l (by decide +kernel) (by decide) (c_direction593 l (by omega) hn m f2) (fun v h3 l3 _ _ _ ⟨ev', I3, g3⟩ => ?_)
  have G3 : Agr (lvW B) h h3 := g3.sub (fun c k z => Or.inl z)
  refine Ends.eq (b701_10 l3 (by omega)) ?_
  rw [show Int.toNat (0 : Int) = 0 from rfl, show Int.toNat (1 : Int) = 1 from rfl, show Int.toNat (2 : Int) = 2 from rfl, I3 0 (by decide), I3 1 (by decide), I3 2 (by decide)]
  refine Ends.b0 (fun z1 => ?_) (fun z1 => Ends.sm (K _ _ ⟨G3, Or.inl ⟨rfl, by have := fun w => z1 (x2.mpr w); omega⟩⟩))
  have ax0 := x2.mp z1
  obtain ⟨w1, w2, w3⟩ := x3 ax0
  have ob := ofF_b hn f2
  rw [w1, I3 _ (by omega), w3, ev']
  have pk : bop32 104 (sgF (F i)) (ofF n (F i)) = plK n (F i) := by
    unfold sgF plK
    by_cases z : 13 < drT (F i % 96)
    · rw [if_pos z, if_pos z, mul32 (by omega) (by omega), Int.one_mul]
    · rw [if_neg z, if_neg z, mul32 (by omega) (by omega)]; omega
  rw [pk]
  clear pk
  refine Ends.g ⟨ax0, w2⟩ (Ends.sm (K _ _ ⟨((G3.set (Or.inr ⟨rfl, by decide, by decide⟩)).set (Or.inr ⟨rfl, by decide, by decide⟩)).set (Or.inr ⟨rfl, by decide, by decide⟩), Or.inr ⟨rfl, ax0, ?_, ?_, hv_set_at ..⟩⟩))
  · rw [hv_set_ne (by omega), hv_set_ne (by omega), hv_set_at]
  · rw [hv_set_ne (by omega), hv_set_at]
/-- columns of a face's facets -/
def clP (n ax : Nat) (V : Nat → Bool) (C : Nat) : Prop := ∃ K, K < 4 * gN n ∧ V K = true ∧ colG n ax (K / 4) = C
def clB (n ax : Nat) (V : Nat → Bool) (C : Nat) : Bool := @decide (clP n ax V C) (Classical.propDecidable _)
theorem clB_iff {C : Nat} : clB n ax V C = true ↔ clP n ax V C := by unfold clB; exact @decide_eq_true_iff _ (Classical.propDecidable _)
theorem clB_put {K C : Nat} (hK : K < 4 * gN n) : clB n ax (fun k => V k || decide (k = K)) C = (clB n ax V C || decide (C = colG n ax (K / 4))) := by
  rw [Bool.eq_iff_iff, Bool.or_eq_true, clB_iff, clB_iff, decide_eq_true_iff]
  constructor
  · rintro ⟨K', h1, h2, h3⟩
    have h2 : (V K' || decide (K' = K)) = true := h2
    rw [Bool.or_eq_true, decide_eq_true_iff] at h2
    rcases h2 with h2 | h2
    · exact Or.inl ⟨K', h1, h2, h3⟩
    · subst h2; exact Or.inr h3.symm
  · rintro (⟨K', h1, h2, h3⟩ | h3)
    · exact ⟨K', h1, by show (V K' || decide (K' = K)) = true; rw [h2]; rfl, h3⟩
    · exact ⟨K, hK, by show (V K || decide (K = K)) = true; rw [decide_eq_true rfl, Bool.or_true], h3.symm⟩
theorem clB_none {C : Nat} : clB n ax (fun _ => false) C = false := by
  rw [Bool.eq_false_iff]
  intro z
  obtain ⟨K, -, h2, -⟩ := clB_iff.mp z
  exact absurd h2 Bool.false_ne_true
theorem clB_congr {V' : Nat → Bool} {C : Nat} (e : ∀ k, k < 4 * gN n → (V k = true ↔ V' k = true)) : clB n ax V C = clB n ax V' C := by
  rw [Bool.eq_iff_iff, clB_iff, clB_iff]
  exact ⟨fun ⟨K, h1, h2, h3⟩ => ⟨K, h1, (e K h1).mp h2, h3⟩, fun ⟨K, h1, h2, h3⟩ => ⟨K, h1, (e K h1).mpr h2, h3⟩⟩
def CoI (B n ax : Nat) (V : Nat → Bool) (q : AH) : Prop := TbM B q ∧ hv q (B + 149) 107 = (ax : Int) ∧ ∀ C, C < 4 * n * n → hv q (B + 240) C = if clB n ax V C = true then 1 else 0
theorem c_visitCol {K : Nat} {face : Int} (l : LX B n h) (hd : 20 ≤ d) (hn : n ≤ 52) (hax : ax < 3) (I : CoI B n ax V h) (hK : K < 4 * gN n) : Vd (cll PP (ev PP (gsF gv) B) d 864 [(2, rf (B + 149)), (0, 3), (0, (K : Int)), (0, face)] h) (fun h' => Agr (fun c _ => c = B + 240) h h' ∧ CoI B n ax (fun k => V k || decide (k = K)) h') := by
  obtain ⟨m, e107, I⟩ := I
  have hg := K4_lt hK
  have gl := gN_lt hn
  have k4 : bop32 108 (K : Int) (4 : Int) = ((K / 4 : Nat) : Int) := divNN (y := 4) (by omega) (by decide)
  have fA3 : fA ax < 3 := by have := @fA_2 ax; omega
  have sA3 : sA ax < 3 := by have := @sA_2 ax; omega
  obtain ⟨c1, c2⟩ := coord_is m hn hg fA3
  obtain ⟨c3, c4⟩ := coord_is m hn hg sA3
  have cl := cl_lt (n := n) hg hax
  refine Vd.inq (D := 19) hd (Nat.le_of_ble_eq_true rfl) rfl (fun d hd Q KK => ?_)
  refine Ends.eq (b864_0 l (by omega)) ?_
  rw [show sw864_1 (3 : Int) = 56 from rfl]
  refine Ends.eq (b864_56 l (by omega)) ?_
  rw [k4, e107, (f635_is hax).1, (f635_is hax).2, c2, c4, v573_is hn hg hax, tn, an0]
  refine Ends.g c1 (Ends.g c3 (Ends.g ⟨by omega, by omega⟩ ?_))
  have g : Agr (fun c _ => c = B + 240) h (hset h (B + 240) (colG n ax (K / 4)) 1) := Agr.rf.set rfl
  refine Ends.eq (b864_107 (LX.setS l rfl) (by omega)) (Ends.sm (KK _ ⟨g, m.agr g (fun c k a b _ z => by omega), by rw [g.at _ _ (by omega)]; exact e107, fun C hC => ?_⟩))
  rw [clB_put hK]
  by_cases z : C = colG n ax (K / 4)
  · rw [z, hv_set_at, decide_eq_true rfl, Bool.or_true, if_pos rfl]
  · rw [hv_set_ne (by omega), decide_eq_false z, Bool.or_false]; exact I C hC
/-- edges of cubes of a face's facets, where two planes meet -/
def mqC (n a b : Nat) (pa pb : Int) (K : Nat) : Bool := @decide (∀ k, k < 2 → ((mcC n (K / 4) k a : Nat) : Int) = 2 * pa ∧ ((mcC n (K / 4) k b : Nat) : Int) = 2 * pb) (Classical.propDecidable _)
theorem mqC_iff {n a b : Nat} {pa pb : Int} {K : Nat} : mqC n a b pa pb K = true ↔ ∀ k, k < 2 → ((mcC n (K / 4) k a : Nat) : Int) = 2 * pa ∧ ((mcC n (K / 4) k b : Nat) : Int) = 2 * pb := by unfold mqC; exact @decide_eq_true_iff _ (Classical.propDecidable _)
def mqP (n a b c : Nat) (pa pb : Int) (V : Nat → Bool) (x : Nat) : Prop := ∃ K, K < 4 * gN n ∧ V K = true ∧ mqC n a b pa pb K = true ∧ gC n (K / 4) c = x
def mqB (n a b c : Nat) (pa pb : Int) (V : Nat → Bool) (x : Nat) : Bool := @decide (mqP n a b c pa pb V x) (Classical.propDecidable _)
variable {a b c by0 : Nat} {pa pb : Int}
theorem mqB_iff {x : Nat} : mqB n a b c pa pb V x = true ↔ mqP n a b c pa pb V x := by unfold mqB; exact @decide_eq_true_iff _ (Classical.propDecidable _)
theorem mqB_put {K x : Nat} (hK : K < 4 * gN n) : mqB n a b c pa pb (fun k => V k || decide (k = K)) x = (mqB n a b c pa pb V x || (mqC n a b pa pb K && decide (x = gC n (K / 4) c))) := by
  rw [Bool.eq_iff_iff, Bool.or_eq_true, mqB_iff, mqB_iff, Bool.and_eq_true, decide_eq_true_iff]
  constructor
  · rintro ⟨K', h1, h2, h3, h4⟩
    have h2 : (V K' || decide (K' = K)) = true := h2
    rw [Bool.or_eq_true, decide_eq_true_iff] at h2
    rcases h2 with h2 | h2
    · exact Or.inl ⟨K', h1, h2, h3, h4⟩
    · subst h2; exact Or.inr ⟨h3, h4.symm⟩
  · rintro (⟨K', h1, h2, h3, h4⟩ | ⟨h3, h4⟩)
    · exact ⟨K', h1, by show (V K' || decide (K' = K)) = true; rw [h2]; rfl, h3, h4⟩
    · exact ⟨K, hK, by show (V K || decide (K = K)) = true; rw [decide_eq_true rfl, Bool.or_true], h3, h4.symm⟩
theorem mqB_none {x : Nat} : mqB n a b c pa pb (fun _ => false) x = false := by
  rw [Bool.eq_false_iff]
  intro z
  obtain ⟨K, -, h2, -⟩ := mqB_iff.mp z
  exact absurd h2 Bool.false_ne_true
theorem mqB_congr {V' : Nat → Bool} {x : Nat} (e : ∀ k, k < 4 * gN n → (V k = true ↔ V' k = true)) : mqB n a b c pa pb V x = mqB n a b c pa pb V' x := by
  rw [Bool.eq_iff_iff, mqB_iff, mqB_iff]
  exact ⟨fun ⟨K, h1, h2, h3⟩ => ⟨K, h1, (e K h1).mp h2, h3⟩, fun ⟨K, h1, h2, h3⟩ => ⟨K, h1, (e K h1).mpr h2, h3⟩⟩
def EgF (B : Nat) (q : AH) (a b c : Nat) (pa pb : Int) (by0 : Nat) : Prop := hv q (B + 149) 110 = (a : Int) ∧ hv q (B + 149) 111 = (b : Int) ∧ hv q (B + 149) 112 = (c : Int) ∧ hv q (B + 149) 113 = pa ∧ hv q (B + 149) 114 = pb ∧ hv q (B + 149) 115 = (by0 : Int)
def EgI (B n a b c : Nat) (pa pb : Int) (by0 : Nat) (V : Nat → Bool) (q : AH) : Prop := TbM B q ∧ EgF B q a b c pa pb by0 ∧ ∀ x, x < n → hv q (B + 240) (by0 + x) = if mqB n a b c pa pb V x = true then 1 else 0
def egW (B n by0 : Nat) : Nat → Nat → Prop := fun c k => c = B + 189 ∨ (c = B + 240 ∧ by0 ≤ k ∧ k < by0 + n)
theorem c_markEdge744 {K : Nat} (l : LX B n h) (hd : 14 ≤ d) (hn : n ≤ 52) (ha : a < 3) (hb : b < 3) (hc : c < 3) (hby : by0 + n ≤ 4 * n * n) (hpa : -400 ≤ pa ∧ pa ≤ 400) (hpb : -400 ≤ pb ∧ pb ≤ 400) (I : EgI B n a b c pa pb by0 V h) (hK : K < 4 * gN n) :
    Vd (cll PP (ev PP (gsF gv) B) d 744 [(2, rf (B + 149)), (0, ((K / 4 : Nat) : Int))] h) (fun h' => Agr (egW B n by0) h h' ∧ EgI B n a b c pa pb by0 (fun k => V k || decide (k = K)) h') := by
  obtain ⟨m, ⟨e0, e1, e2, e3, e4, e5⟩, I⟩ := I
  have hg := K4_lt hK
  have n2 := n4_b hn
  obtain ⟨x, ex⟩ : ∃ x, x = gC n (K / 4) c := ⟨_, rfl⟩
  have hx : x < n := by rw [ex]; exact gC_lt hg
  refine Vd.inq (D := 13) hd (Nat.le_of_ble_eq_true rfl) rfl (fun d hd Q KK => ?_)
  refine Ends.eq (b744_0 l (by omega)) ?_
  refine Ends.cv l (by decide +kernel) (c_corners584f l (by omega) hn m hg) (fun h1 l1 _ _ _ ⟨g1, cr⟩ => ?_)
  have at1 : ∀ k, hv h1 (B + 149) k = hv h (B + 149) k := fun k => g1.at _ _ (by omega)
  have m1 : TbM B h1 := m.agr g1 (fun c k a b _ z => by omega)
  have G1 : Agr (egW B n by0) h h1 := g1.sub (fun c k z => Or.inl z.1)
  refine Ends.eq (b744_5 l1 (by omega)) ?_
  have no : mqC n a b pa pb K = false → ∀ x2 : Int, Ends (ev PP (gsF gv) B d 744 56 [(2, rf (B + 149)), (0, ((K / 4 : Nat) : Int)), (0, x2)] [] h1) Q := fun z x2 => by
    refine Ends.eq (b744_56 l1 (by omega)) (Ends.sm (KK _ ⟨G1, m1, ⟨by rw [at1]; exact e0, by rw [at1]; exact e1, by rw [at1]; exact e2, by rw [at1]; exact e3, by rw [at1]; exact e4, by rw [at1]; exact e5⟩, fun y hy => ?_⟩))
    rw [g1.at _ _ (by omega), I y hy, mqB_put hK, z, Bool.false_and, Bool.or_false]
  have bad : ∀ k, k < 2 → ¬ (((mcC n (K / 4) k a : Nat) : Int) = 2 * pa ∧ ((mcC n (K / 4) k b : Nat) : Int) = 2 * pb) → mqC n a b pa pb K = false := fun k hk z => by rw [Bool.eq_false_iff]; exact fun y => z (mqC_iff.mp y k hk)
  have p2a : bop32 104 (2 : Int) pa = 2 * pa := mul32 (by omega) (by omega)
  have p2b : bop32 104 (2 : Int) pb = 2 * pb := mul32 (by omega) (by omega)
  have key : ∀ (r k : Nat), k + r = 2 → (∀ j, j < k → ((mcC n (K / 4) j a : Nat) : Int) = 2 * pa ∧ ((mcC n (K / 4) j b : Nat) : Int) = 2 * pb) → Ends (ev PP (gsF gv) B d 744 7 [(2, rf (B + 149)), (0, ((K / 4 : Nat) : Int)), (0, (k : Int))] [] h1) Q := by
    intro r
    induction r with
    | zero =>
      intro k e J
      obtain rfl : k = 2 := by omega
      obtain ⟨c1, c2⟩ := coord_is m1 hn hg hc
      have g8l := g8_lt hg c
      refine Ends.eq (b744_7 l1 (by omega)) ?_
      rw [at1, at1, e2, e5, c2, shr3 (by omega), g8_div hg hc, ← ex, show bop32 96 (by0 : Int) (x : Int) = ((by0 + x : Nat) : Int) from addNN (by omega), tn, an0]
      refine Ends.b3 (fun _ => Ends.g c1 (Ends.g ⟨by omega, by omega⟩ ?_)) (fun z => absurd z (by decide))
      have on : mqC n a b pa pb K = true := mqC_iff.mpr J
      refine Ends.sm (KK _ ⟨G1.set (Or.inr ⟨rfl, by omega, by omega⟩), m1.agr (Agr.rf.set (W := fun c _ => c = B + 240) rfl) (fun c k a b _ z => by omega), ⟨?_, ?_, ?_, ?_, ?_, ?_⟩, fun y hy => ?_⟩)
      · rw [hv_set_ne (by omega), at1]; exact e0
      · rw [hv_set_ne (by omega), at1]; exact e1
      · rw [hv_set_ne (by omega), at1]; exact e2
      · rw [hv_set_ne (by omega), at1]; exact e3
      · rw [hv_set_ne (by omega), at1]; exact e4
      · rw [hv_set_ne (by omega), at1]; exact e5
      · rw [mqB_put hK, on, Bool.true_and, ← ex]
        by_cases z : y = x
        · rw [z, hv_set_at, decide_eq_true rfl, Bool.or_true, if_pos rfl]
        · rw [hv_set_ne (by omega), decide_eq_false z, Bool.or_false, g1.at _ _ (by omega)]; exact I y hy
    | succ r ih =>
      intro k e J
      have hk : k < 2 := by omega
      have ia : bop32 96 (bop32 104 (3 : Int) (k : Int)) (a : Int) = ((3 * k + a : Nat) : Int) := by rw [show bop32 104 (3 : Int) (k : Int) = ((3 * k : Nat) : Int) from mulNN (x := 3) (by omega), addNN (by omega)]
      have ib : bop32 96 (bop32 104 (3 : Int) (k : Int)) (b : Int) = ((3 * k + b : Nat) : Int) := by rw [show bop32 104 (3 : Int) (k : Int) = ((3 * k : Nat) : Int) from mulNN (x := 3) (by omega), addNN (by omega)]
      refine Ends.eq (b744_7 l1 (by omega)) ?_
      rw [at1, at1, at1, at1, at1, at1, e0, e1, e3, e4, ia, ib, tn, tn, cr k a (by omega) ha, cr k b (by omega) hb, p2a, p2b, w_succ (i := k) (by omega)]
      clear ia ib
      refine Ends.b3 (fun z => by omega) (fun _ => Ends.g ⟨by omega, by omega⟩ (Ends.b1 (fun z => no (bad k hk (fun y => z y.1)) _) (fun z1 => Ends.g ⟨by omega, by omega⟩ (Ends.b0 (fun z2 => ih (k + 1) (by omega) (fun j hj => ?_)) (fun z => no (bad k hk (fun y => z y.2)) _)))))
      rcases (by omega : j < k ∨ j = k) with w | w
      · exact J j w
      · rw [w]; exact ⟨z1, z2⟩
  exact key 2 0 rfl (fun j hj => absurd hj (Nat.not_lt_zero j))
theorem c_visitEdge {K : Nat} {face : Int} (l : LX B n h) (hd : 20 ≤ d) (hn : n ≤ 52) (ha : a < 3) (hb : b < 3) (hc : c < 3) (hby : by0 + n ≤ 4 * n * n) (hpa : -400 ≤ pa ∧ pa ≤ 400) (hpb : -400 ≤ pb ∧ pb ≤ 400) (I : EgI B n a b c pa pb by0 V h) (hK : K < 4 * gN n) : Vd (cll PP (ev PP (gsF gv) B) d 864 [(2, rf (B + 149)), (0, 4), (0, (K : Int)), (0, face)] h) (fun h' => Agr (egW B n by0) h h' ∧ EgI B n a b c pa pb by0 (fun k => V k || decide (k = K)) h') := by
  have gl := gN_lt hn
  have k4 : bop32 108 (K : Int) (4 : Int) = ((K / 4 : Nat) : Int) := divNN (y := 4) (by omega) (by decide)
  refine Vd.inq (D := 19) hd (Nat.le_of_ble_eq_true rfl) rfl (fun d hd Q KK => ?_)
  refine Ends.eq (b864_0 l (by omega)) ?_
  rw [show sw864_1 (4 : Int) = 97 from rfl]
  refine Ends.eq (b864_97 l (by omega)) ?_
  rw [k4]
  refine Ends.cv l (by decide +kernel) (c_markEdge744 l (by omega) hn ha hb hc hby hpa hpb I hK) (fun h1 l1 _ _ _ r => ?_)
  exact Ends.eq (b864_104 l1 (by omega)) (Ends.eq (b864_107 l1 (by omega)) (Ends.sm (KK _ r)))
end MNF
