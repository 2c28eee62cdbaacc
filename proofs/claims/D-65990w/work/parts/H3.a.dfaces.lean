/-! L3: the desk's FACES between calls; makers and ranks -/
noncomputable section FDA
variable {gv : Nat → Int} {B n d a pc cap kc mm : Nat} {h t : AH} {S : Nat → Bool} {ka F : Nat → Nat}
/-- all that finding faces needs -/
def FcN (B n : Nat) (h : AH) (pc cap : Nat) (ka : Nat → Nat) (kc : Nat) : Prop := TbC B h ∧ BsU B h ∧ SoC B h ∧ Reg B n h ∧ FaI B h pc cap ka kc
/-- the kept faces are those of S -/
def FdS (B n : Nat) (h : AH) (S : Nat → Bool) (mm : Nat) (F ka : Nat → Nat) (kc : Nat) : Prop := FcL n (bdr n S) (4 * rw3 (8 * n) (8 * n) 0 0) mm F ∧ hv h (B + 82) 5 = (mm : Int) ∧ hv h (B + 82) 6 = ((min mm 4096 : Nat) : Int) ∧ min mm 4096 ≤ kc ∧ FaK n h (bdr n S) ka mm F
/-- room that faces may still take -/
def fcz (B n : Nat) (h : AH) (cap kc : Nat) : Nat := hus h + lzy B n h + (32768 - 2 * cap) + 6 * (8192 - 2 * kc)
theorem fdW_in (R : Reg B n h) (A : FaI B h pc cap ka kc) {c k : Nat} (z : FdW B h c k) : (c = B + 36 ∧ k = 17) ∨ (B + 47 ≤ c ∧ c ≤ B + 50) ∨ (B + 82 ≤ c ∧ c ≤ B + 90) ∨ B + 246 ≤ c := by
  obtain ⟨⟨p1, p2, p3, p4, p5, p6, p7⟩, ⟨k1, k2, k3⟩, k4⟩ := A
  rcases z with z | z | z | ⟨f, hf, z⟩ | z | ⟨j, hj, z⟩
  · omega
  · unfold nbW at z; omega
  · omega
  · rcases R.1 (33 + f) (by omega) with y | ⟨e, y1, y2, y3, y4⟩
    · rw [rgV_e hf, z] at y; have := rf_pos c; omega
    · rw [rgV_e hf, z] at y1
      have : c = e := by unfold rf at y1; omega
      omega
  · rw [p1] at z
    have : pc = c := by unfold rf at z; omega
    omega
  · obtain ⟨q1, q2, q3, q4⟩ := k1 j hj
    rw [q1] at z
    have : ka j = c := by unfold rf at z; omega
    omega
theorem FcN.exg {W : Nat → Nat → Prop} (f : FcN B n h pc cap ka kc) (hb : B + 246 ≤ hnx h) (g : ExG W h t) (h1 : ∀ c k, B + 36 ≤ c → c ≤ B + 48 → ¬ W c k) (h2 : ∀ k, ¬ W (B + 91) k) (h3 : ∀ i, i < 39 → ¬ W (B + rgC i) (rgK i)) (h4 : ∀ k, 3 ≤ k → k ≤ 12 → ¬ W (B + 82) k) : FcN B n t pc cap ka kc := by
  obtain ⟨m, u, so, R, ⟨p1, p2, p3, p4, p5, p6, p7⟩, ⟨k1, k2, k3⟩, k4⟩ := f
  have nx := g.2.2.1
  refine ⟨m.exg hb g (fun c k a b => h1 c k (by omega) (by omega)), ?_, fun a b m z1 z2 z3 => by rw [g.at _ (by omega) (h2 _)]; exact so a b m z1 z2 z3, (R.exg hb g h3).1, ⟨by rw [g.at _ (by omega) (h4 _ (by decide) (by decide))]; exact p1, by rw [g.at _ (by omega) (h4 _ (by decide) (by decide))]; exact p2, by rw [g.hk p5]; exact p3, p4, by omega, p6, p7⟩, ⟨fun j hj => ?_, k2, k3⟩, k4⟩
  · rcases u with u | ⟨u1, u2⟩
    · left; rw [g.at _ (by omega) (h1 _ _ (by omega) (by omega))]; exact u
    · right; exact ⟨by rw [g.at _ (by omega) (h1 _ _ (by omega) (by omega))]; exact u1, u2.exg hb g (fun c k hc => h1 c k (by omega) (by omega))⟩
  · obtain ⟨q1, q2, q3, q4⟩ := k1 j hj
    exact ⟨by rw [g.at _ (by omega) (h4 _ (by omega) (by omega))]; exact q1, by rw [g.hk q4]; exact q2, q3, by omega⟩
theorem FdS.exg {W : Nat → Nat → Prop} (f : FdS B n h S mm F ka kc) (A : FaI B h pc cap ka kc) (hb : B + 246 ≤ hnx h) (g : ExG W h t) (h4 : ∀ k, k = 5 ∨ k = 6 → ¬ W (B + 82) k) (h5 : ∀ j k, j < 6 → ¬ W (ka j) k) : FdS B n t S mm F ka kc := by
  obtain ⟨f1, f2, f3, f4, f5⟩ := f
  refine ⟨f1, by rw [g.at _ (by omega) (h4 _ (Or.inl rfl))]; exact f2, by rw [g.at _ (by omega) (h4 _ (Or.inr rfl))]; exact f3, f4, fun i hi j hj => ?_⟩
  rw [g.at _ (A.2.1.1 j hj).2.2.2 (h5 j i hj)]; exact f5 i hi j hj
theorem c_findN (l : LX B n h) (hd : 32 ≤ d) (hn4 : 4 ≤ n) (hn : n ≤ 52) (f : FcN B n h pc cap ka kc) (s : SG n h a S) (ha : a < hnx h) (hB : B + 83 < a) (hne : ∀ f, f < 4 → hv h (B + 83) f ≠ rf a) :
    Vd (cll PP (ev PP (gsF gv) B) d 162 [(2, rf (B + 82)), (2, (rf a)), (2, 0)] h) (fun h' => ∃ mm F pc' cap' ka' kc', (FcN B n h' pc' cap' ka' kc' ∧ (hnx h ≤ pc' ∨ hv h (B + 82) 3 = rf pc') ∧ ∀ j, j < 6 → hnx h ≤ ka' j ∨ hv h (B + 82) (7 + j) = rf (ka' j)) ∧ FdS B n h' S mm F ka' kc' ∧ fcz B n h' cap' kc' = fcz B n h cap kc ∧ cel h h' ∧ ExG (FdW B h) h h') := by
  obtain ⟨m, u, so, R, A⟩ := f
  have hb := l.2.2
  have ok : WOk0 gv B n h (bdr n S) 0 (fun _ _ => False) (fun _ _ _ => True) (fun _ _ _ _ _ => True) :=
    ⟨fun _ _ _ _ => Or.inl ⟨rfl, fun _ _ _ _ => trivial⟩, fun _ _ _ _ _ _ _ => trivial, fun _ _ _ _ _ _ _ _ => trivial, fun _ _ _ _ _ _ _ _ _ => trivial, fun _ _ _ _ _ _ _ => trivial, fun _ _ z => z.elim⟩
  obtain ⟨h', e, mm, F, pc', cap', ka', kc', ⟨t1, t2, t3⟩, t4, t5, t6, t7, t8, t9, t10, t11, t12, t13, t14, -⟩ := c_find162 (gv := gv) (d := d) l hd hn4 hn m u so R s ha hB hne A ok trivial
  have X : ExG (FdW B h) h h' := t14.sub (fun c k _ z => z.elim id (fun y => y.elim))
  have fin : ∀ c k, FdW B h c k → (c = B + 36 ∧ k = 17) ∨ (B + 47 ≤ c ∧ c ≤ B + 50) ∨ (B + 82 ≤ c ∧ c ≤ B + 90) ∨ B + 246 ≤ c := fun c k z => fdW_in R A z
  refine ⟨h', e, mm, F, pc', cap', ka', kc', ⟨⟨m.exg hb X (fun c k a b z => by have := fin c k z; omega), Or.inr ⟨t9, t10⟩, fun a b m z1 z2 z3 => ?_, t11, t1⟩, t2, t3⟩, ⟨t4, t5, t6, t7, t8⟩, t12, t13, X⟩
  rw [X.at _ (by omega) (fun z => by have := fin _ _ z; omega)]; exact so a b m z1 z2 z3
/-- the place of the order in which a grain changed last -/
def plcN (Cb : Nat → Nat → Bool) (g : Nat) : Nat → Nat
  | 0 => 0
  | b + 1 => plcN Cb g b + if Cb b g = true then 2 ^ b else 0
def CgS (B n : Nat) (h : AH) (Cb : Nat → Nat → Bool) : Prop := ∀ b, b < 5 → ∃ c, hv h (B + 93) b = rf c ∧ SG n h c (Cb b)
theorem CgS.exg {W : Nat → Nat → Prop} {Cb : Nat → Nat → Bool} (c : CgS B n h Cb) (R : Reg B n h) (hb : B + 246 ≤ hnx h) (g : ExG W h t) (h1 : ∀ b, b < 5 → ¬ W (B + 93) b) (h2 : ∀ b c, b < 5 → hv h (B + 93) b = rf c → ∀ k, ¬ W c k) : CgS B n t Cb := fun b hb5 => by
  obtain ⟨x, e, s⟩ := c b hb5
  have lt : x < hnx h := by
    rcases R.1 (16 + b) (by omega) with y | ⟨e', y1, y2, y3, y4⟩
    · unfold rgV rgC rgK at y
      rw [if_neg (by omega), if_neg (by omega), if_pos (by omega), if_neg (by omega), if_neg (by omega), if_pos (by omega), show 16 + b - 16 = b by omega, e] at y
      have := rf_pos x; omega
    · unfold rgV rgC rgK at y1
      rw [if_neg (by omega), if_neg (by omega), if_pos (by omega), if_neg (by omega), if_neg (by omega), if_pos (by omega), show 16 + b - 16 = b by omega, e] at y1
      have : x = e' := by unfold rf at y1; omega
      omega
  exact ⟨x, by rw [g.at _ (by omega) (h1 b hb5)]; exact e, s.ext (g.ext (c := hnx t - hnx h) (s := hus t - hus h) (by omega) (by have := g.2.2.2; omega)) lt (h2 b x hb5 e)⟩
theorem plcN_lt {Cb : Nat → Nat → Bool} {g : Nat} : ∀ b, plcN Cb g b < 2 ^ b
  | 0 => Nat.one_pos
  | b + 1 => by
    have := plcN_lt (Cb := Cb) (g := g) b
    unfold plcN
    rw [Nat.pow_succ]
    by_cases z : Cb b g = true
    · rw [if_pos z]; omega
    · rw [if_neg z]; omega
theorem or_all : ∀ b : Fin 5, ∀ x : Fin 32, (x : Nat) < 2 ^ (b : Nat) → bop32 128 ((x : Nat) : Int) (bop32 120 1 ((b : Nat) : Int)) = (((x : Nat) + 2 ^ (b : Nat) : Nat) : Int) ∧ bop32 128 ((x : Nat) : Int) (bop32 120 0 ((b : Nat) : Int)) = ((x : Nat) : Int) := by decide +kernel
def plZ (n : Nat) (Cb : Nat → Nat → Bool) (t : Nat) (x y z : Int) : Nat := if inRm n x y z = true then plcN Cb (gI n x.toNat y.toNat z.toNat t) 5 else 0
theorem inRm_iff3 {x y z : Int} : inRm n x y z = true ↔ (0 ≤ x ∧ 0 ≤ y ∧ 0 ≤ z) ∧ x < n ∧ y < n ∧ z < n := by
  unfold inRm
  simp only [Bool.and_eq_true, decide_eq_true_eq]
  omega
theorem c_placeOf293 {Cb : Nat → Nat → Bool} {t : Nat} {x y z : Int} (l : LX B n h) (hd : 10 ≤ d) (hn : n ≤ 52) (C : CgS B n h Cb) (ht : t < 24) : Vt 0 (cll PP (ev PP (gsF gv) B) d 293 [(2, rf (B + 92)), (0, (t : Int)), (0, x), (0, y), (0, z)] h) (fun v h' => h' = h ∧ v = ((plZ n Cb t x y z : Nat) : Int)) := by
  refine Vt.inq (D := 9) hd (Nat.le_of_ble_eq_true rfl) rfl (fun d hd Q K => ?_)
  have no : ¬ ((0 ≤ x ∧ 0 ≤ y ∧ 0 ≤ z) ∧ x < n ∧ y < n ∧ z < n) → Ends (ev PP (gsF gv) B d 293 38 [(2, rf (B + 92)), (0, (t : Int)), (0, x), (0, y), (0, z), (9, 0), (9, 0)] [] h) Q := fun w => by
    refine Ends.eq (b293_38 l (by omega)) (Ends.sm (K _ _ ⟨rfl, ?_⟩))
    unfold plZ
    rw [if_neg (fun v => w (inRm_iff3.mp v))]; rfl
  refine Ends.eq (b293_0 l (by omega)) ?_
  refine Ends.b2 (fun z => no (by omega)) (fun h1 => Ends.b2 (fun z => no (by omega)) (fun h2 => Ends.b2 (fun z => no (by omega)) (fun h3 => Ends.b3 (fun z => no (by omega)) (fun h4 => Ends.b3 (fun z => no (by omega)) (fun h5 => Ends.b2 (fun h6 => ?_) (fun z => no (by omega)))))))
  obtain ⟨X, rfl⟩ : ∃ k : Nat, x = (k : Int) := ⟨x.toNat, by omega⟩
  obtain ⟨Y, rfl⟩ : ∃ k : Nat, y = (k : Int) := ⟨y.toNat, by omega⟩
  obtain ⟨Z, rfl⟩ : ∃ k : Nat, z = (k : Int) := ⟨z.toNat, by omega⟩
  have hX : X < n := by omega
  have hY : Y < n := by omega
  have hZ : Z < n := by omega
  have rl := rw3_lt ht hZ hY
  have key : ∀ (r b : Nat), b + r = 5 → Ends (ev PP (gsF gv) B d 293 46 [(2, rf (B + 92)), (0, (t : Int)), (0, (X : Int)), (0, (Y : Int)), (0, (Z : Int)), (0, ((plcN Cb (gI n X Y Z t) b : Nat) : Int)), (0, (b : Int))] [] h) Q := by
    intro r
    induction r with
    | zero =>
      intro b e
      obtain rfl : b = 5 := by omega
      refine Ends.eq (b293_46 l (by omega)) (Ends.b3 (fun _ => Ends.sm (K _ _ ⟨rfl, ?_⟩)) (fun z => absurd z (by decide)))
      unfold plZ
      rw [if_pos (inRm_iff3.mpr ⟨⟨h1, h2, h3⟩, h4, h5, h6⟩), tn, tn, tn]
    | succ r ih =>
      intro b e
      obtain ⟨c, e1, s⟩ := C b (by omega)
      refine Ends.eq (b293_46 l (by omega)) (Ends.b3 (fun z => by omega) (fun _ => ?_))
      rw [tn, e1, ad_rf, s.1, show v238 n (t : Int) (Z : Int) (Y : Int) = ((rw3 n t Z Y : Nat) : Int) from row_eq hn ht hZ hY, tn, bit_is _ (by omega), s.bit ht hZ hY (by omega), decide_eq_true hX, Bool.true_and, w_succ (i := b) (by omega)]
      refine Ends.g ⟨by omega, by omega⟩ (Ends.g ⟨rf_pos _, rfl, by omega, by show _ < ((24 * n * n : Nat) : Int); omega⟩ ?_)
      have pl := plcN_lt (Cb := Cb) (g := gI n X Y Z t) b
      have p32 : 2 ^ b ≤ 2 ^ 4 := Nat.pow_le_pow_right (by decide) (by omega)
      obtain ⟨o1, o2⟩ := or_all ⟨b, by omega⟩ ⟨plcN Cb (gI n X Y Z t) b, by omega⟩ pl
      have o1 : bop32 128 ((plcN Cb (gI n X Y Z t) b : Nat) : Int) (bop32 120 1 (b : Int)) = ((plcN Cb (gI n X Y Z t) b + 2 ^ b : Nat) : Int) := o1
      have o2 : bop32 128 ((plcN Cb (gI n X Y Z t) b : Nat) : Int) (bop32 120 0 (b : Int)) = ((plcN Cb (gI n X Y Z t) b : Nat) : Int) := o2
      have nx := ih (b + 1) (by omega)
      rw [show plcN Cb (gI n X Y Z t) (b + 1) = plcN Cb (gI n X Y Z t) b + (if Cb b (gI n X Y Z t) = true then 2 ^ b else 0) from rfl] at nx
      cases w : Cb b (gI n X Y Z t)
      · rw [w, if_neg Bool.false_ne_true, Nat.add_zero] at nx
        rw [if_neg Bool.false_ne_true, show uop 3 (0 : Int) = 0 from rfl, o2]
        exact nx
      · rw [w, if_pos rfl] at nx
        rw [if_pos rfl, show uop 3 (1 : Int) = 1 from rfl, o1]
        exact nx
  exact key 5 0 rfl
/-- the place at which a facet came to be -/
def plF (n : Nat) (Cb : Nat → Nat → Bool) (K : Nat) : Nat := max (plcN Cb (K / 4) 5) (if nbr n (K / 4) (K % 4) < 0 then 0 else plcN Cb (nbr n (K / 4) (K % 4)).toNat 5)
theorem plF_lt {Cb : Nat → Nat → Bool} {K : Nat} : plF n Cb K < 32 := by
  unfold plF
  have a := plcN_lt (Cb := Cb) (g := K / 4) 5
  have b := plcN_lt (Cb := Cb) (g := (nbr n (K / 4) (K % 4)).toNat) 5
  by_cases z : nbr n (K / 4) (K % 4) < 0
  · rw [if_pos z]; omega
  · rw [if_neg z]; omega
/-- how many faces before one have its maker and direction -/
def rkF (mk dr : Nat → Int) (i : Nat) : Nat := cntN (fun m => decide (mk m = mk i) && decide (dr m = dr i)) i
/-- makers and ranks of the kept faces -/
def MkS (B : Nat) (h : AH) (mk dr : Nat → Int) (m : Nat) : Prop := ∀ i, i < m → hv h (B + 112) i = mk i ∧ hv h (B + 113) i = ((rkF mk dr i : Nat) : Int)
theorem rkF_s {mk dr : Nat → Int} {i m : Nat} (hm : cntN (fun m => decide (mk m = mk i) && decide (dr m = dr i)) m < 100000) : cond (tst 1 (mk m) (mk i)) ((cntN (fun m => decide (mk m = mk i) && decide (dr m = dr i)) m : Nat) : Int) (cond (tst 1 (dr m) (dr i)) ((cntN (fun m => decide (mk m = mk i) && decide (dr m = dr i)) m : Nat) : Int) (w32 (((cntN (fun m => decide (mk m = mk i) && decide (dr m = dr i)) m : Nat) : Int) + 1))) = ((cntN (fun m => decide (mk m = mk i) && decide (dr m = dr i)) (m + 1) : Nat) : Int) := by
  rw [cntN_s, w_succ (by omega), ct1, ct1]
  by_cases z : mk m = mk i
  · rw [if_pos z, decide_eq_true z, Bool.true_and]
    by_cases y : dr m = dr i
    · rw [if_pos y, decide_eq_true y, if_pos rfl]
    · rw [if_neg y, decide_eq_false y, if_neg Bool.false_ne_true]; rfl
  · rw [if_neg z, decide_eq_false z, Bool.false_and, if_neg Bool.false_ne_true]; rfl
def ffW (B : Nat) (h : AH) : Nat → Nat → Prop := fun c k => FdW B h c k ∨ ((c = B + 112 ∨ c = B + 113) ∧ k < 4096)
set_option maxHeartbeats 4000000 in
theorem c_findFaces272 {Cb : Nat → Nat → Bool} {fa : Nat → Int} (l : LX B n h) (hd : 34 ≤ d) (hn4 : 4 ≤ n) (hn : n ≤ 52) (f : FcN B n h pc cap ka kc) (s : SG n h (B + 117) S) (C : CgS B n h Cb) (hfa : ∀ p, p < 25 → hv h (B + 96) p = fa p) (hC : ∀ K, K < 4 * gN n → plF n Cb K < 25) :
    Vd (cll PP (ev PP (gsF gv) B) d 272 [(2, rf (B + 92))] h) (fun h' => ∃ mm F pc' cap' ka' kc', (FcN B n h' pc' cap' ka' kc' ∧ (hnx h ≤ pc' ∨ hv h (B + 82) 3 = rf pc') ∧ ∀ j, j < 6 → hnx h ≤ ka' j ∨ hv h (B + 82) (7 + j) = rf (ka' j)) ∧ FdS B n h' S mm F ka' kc' ∧ MkS B h' (fun i => fa (plF n Cb (F i))) (fun i => ((drT (F i % 96) : Nat) : Int)) (min mm 4096) ∧ fcz B n h' cap' kc' = fcz B n h cap kc ∧ cel h h' ∧ ExG (ffW B h) h h') := by
  have hb := l.2.2
  refine Vd.inq (D := 33) hd (Nat.le_of_ble_eq_true rfl) rfl (fun d hd Q KK => ?_)
  refine Ends.eq (b272_0 l (by omega)) ?_
  have R0 := f.2.2.2.1
  have A0 := f.2.2.2.2
  have neE : ∀ f, f < 4 → hv h (B + 83) f ≠ rf (B + 117) := fun f hf z => by
    rcases R0.1 (33 + f) (by omega) with y | ⟨e, y1, y2, y3, y4⟩
    · rw [rgV_e hf, z] at y; have := rf_pos (B + 117); omega
    · rw [rgV_e hf, z] at y1; unfold rf at y1; omega
  refine Ends.cv l (by decide +kernel) (c_findN l (by omega) hn4 hn f s (by omega) (by omega) neE) (fun h1 l1 _ _ _ ⟨mm, F, pc', cap', ka', kc', ⟨t1, t2, t3⟩, t4, t5, t6, X⟩ => ?_)
  refine Ends.eq (b272_12 l1 (by omega)) ?_
  obtain ⟨mt, u1, so1, R1, A1⟩ := t1
  have t1 : FcN B n h1 pc' cap' ka' kc' := ⟨mt, u1, so1, R1, A1⟩
  obtain ⟨d1, d2, d3, d4, d5⟩ := t4
  have t4 : FdS B n h1 S mm F ka' kc' := ⟨d1, d2, d3, d4, d5⟩
  have hb1 := l1.2.2
  have C1 : CgS B n h1 Cb := C.exg R0 hb X (fun b hb5 z => by have := fdW_in R0 A0 z; omega) (fun b c hb5 e k z => by
    have e16 : rgV B h (16 + b) = rf c := by
      unfold rgV rgC rgK
      rw [if_neg (by omega), if_neg (by omega), if_pos (by omega), if_neg (by omega), if_neg (by omega), if_pos (by omega), show 16 + b - 16 = b by omega, e]
    have c5 : B + 246 ≤ c ∧ (hk h c).1 = 3 := by
      rcases R0.1 (16 + b) (by omega) with y | ⟨e', y1, y2, y3, y4⟩
      · rw [e16] at y; have := rf_pos c; omega
      · rw [e16] at y1
        have : c = e' := by unfold rf at y1; omega
        rw [this, y4]; exact ⟨y2, rfl⟩
    rcases z with z | z | z | ⟨f, hf, z⟩ | z | ⟨j, hj, z⟩
    · omega
    · unfold nbW at z; omega
    · omega
    · have y := R0.2 (16 + b) (33 + f) (by omega) (by omega) (by omega) (by rw [e16, rgV_e hf, z])
      rw [e16] at y; have := rf_pos c; omega
    · rw [A0.1.1] at z
      have : pc = c := by unfold rf at z; omega
      rw [← this, A0.1.2.2.1] at c5
      exact absurd c5.2 (show ¬ (2 : Nat) = 3 by decide)
    · obtain ⟨q1, q2, q3, q4⟩ := A0.2.1.1 j hj
      rw [q1] at z
      have : ka j = c := by unfold rf at z; omega
      rw [← this, q2] at c5
      exact absurd c5.2 (show ¬ (2 : Nat) = 3 by decide))
  have fa1 : ∀ p, p < 25 → hv h1 (B + 96) p = fa p := fun p hp => by
    rw [X.at _ (by omega) (fun z => by have := fdW_in R0 A0 z; omega)]; exact hfa p hp
  have mk4 : min mm 4096 ≤ 4096 := Nat.min_le_right _ _
  obtain ⟨mk, emk⟩ : ∃ mk : Nat → Int, mk = fun i => fa (plF n Cb (F i)) := ⟨_, rfl⟩
  obtain ⟨dr, edr⟩ : ∃ dr : Nat → Int, dr = fun i => ((drT (F i % 96) : Nat) : Int) := ⟨_, rfl⟩
  have W1 : ∀ c k, ((c = B + 112 ∨ c = B + 113) ∧ k < 4096) → c < B + 246 ∧ c ≠ B + 82 ∧ B + 91 < c := fun c k z => by omega
  have stable : ∀ {q : AH}, Agr (fun c k => (c = B + 112 ∨ c = B + 113) ∧ k < 4096) h1 q → TbC B q ∧ CgS B n q Cb ∧ (∀ p, p < 25 → hv q (B + 96) p = fa p) ∧ (∀ k, hv q (B + 82) k = hv h1 (B + 82) k) ∧ (∀ j, j < 6 → hk q (ka' j) = (2, kc') ∧ ∀ k, hv q (ka' j) k = hv h1 (ka' j) k) := fun g => by
    refine ⟨mt.exg hb1 g.ext.exg (fun c k a b z => by omega), C1.exg R1 hb1 g.ext.exg (fun b _ z => by omega) (fun b c hb5 e k z => ?_), fun p hp => by rw [g.at _ _ (by omega)]; exact fa1 p hp, fun k => g.at _ _ (by omega), fun j hj => ?_⟩
    · rcases R1.1 (16 + b) (by omega) with y | ⟨e', y1, y2, y3, y4⟩
      · unfold rgV rgC rgK at y
        rw [if_neg (by omega), if_neg (by omega), if_pos (by omega), if_neg (by omega), if_neg (by omega), if_pos (by omega), show 16 + b - 16 = b by omega, e] at y
        have := rf_pos c; omega
      · unfold rgV rgC rgK at y1
        rw [if_neg (by omega), if_neg (by omega), if_pos (by omega), if_neg (by omega), if_neg (by omega), if_pos (by omega), show 16 + b - 16 = b by omega, e] at y1
        have : c = e' := by unfold rf at y1; omega
        omega
    · obtain ⟨q1, q2, q3, q4⟩ := A1.2.1.1 j hj
      exact ⟨by rw [g.hk]; exact q2, fun k => g.at _ _ (by omega)⟩
  -- one rank
  have rank : ∀ i, i < min mm 4096 → ∀ (x2 x3 x4 x5 x6 x7 x8 x9 x10 : Int) (q : AH), LX B n q → Agr (fun c k => (c = B + 112 ∨ c = B + 113) ∧ k < 4096) h1 q → (∀ j, j ≤ i → hv q (B + 112) j = mk j) → (∀ q' (x11 x12 : Int), LX B n q' → Agr (fun c k => c = B + 113 ∧ k = i) q q' → hv q' (B + 113) i = ((rkF mk dr i : Nat) : Int) → Ends (ev PP (gsF gv) B d 272 14 [(2, rf (B + 92)), (0, ((i + 1 : Nat) : Int)), (0, x2), (0, x3), (0, x4), (0, x5), (0, x6), (0, x7), (0, x8), (0, x9), (0, x10), (0, x11), (0, x12)] [] q') Q) → ∀ (r m : Nat), m + r = i → Ends (ev PP (gsF gv) B d 272 219 [(2, rf (B + 92)), (0, (i : Int)), (0, x2), (0, x3), (0, x4), (0, x5), (0, x6), (0, x7), (0, x8), (0, x9), (0, x10), (0, ((cntN (fun m => decide (mk m = mk i) && decide (dr m = dr i)) m : Nat) : Int)), (0, (m : Int))] [] q) Q := by
    intro i hi x2 x3 x4 x5 x6 x7 x8 x9 x10 q lq g I kn r
    induction r with
    | zero =>
      intro m e
      obtain rfl : m = i := by omega
      refine Ends.eq (b272_219 lq (by omega)) (Ends.b3 (fun _ => Ends.g ⟨by omega, by omega⟩ ?_) (fun z => absurd z (Int.lt_irrefl _)))
      rw [tn, an0, w_succ (i := m) (by omega)]
      exact kn _ _ _ (LX.setS lq rfl) (Agr.rf.set ⟨rfl, rfl⟩) (hv_set_at ..)
    | succ r ih =>
      intro m e
      obtain ⟨-, -, -, s4, s5⟩ := stable g
      obtain ⟨q1, q2, q3, q4⟩ := A1.2.1.1 0 (by decide)
      have k5 := s5 0 (by decide)
      have drm : ∀ j, j < min mm 4096 → hv q (ka' 0) j = dr j := fun j hj => by rw [k5.2, d5 j hj 0 (by decide), edr]; unfold kpV; rw [if_pos rfl]
      have cb := cntN_le (fun m => decide (mk m = mk i) && decide (dr m = dr i)) m
      refine Ends.eq (b272_219 lq (by omega)) (Ends.b3 (fun z => by omega) (fun _ => Ends.g ⟨by omega, by omega⟩ (Ends.g ⟨by omega, by omega⟩ ?_)))
      rw [tn, tn, I m (by omega), I i (Nat.le_refl _), s4 7, show hv h1 (B + 82) 7 = rf (ka' 0) from q1, ad_rf, k5.1, drm m (by omega), drm i hi, rkF_s (by omega), w_succ (i := m) (by omega)]
      refine Ends.g (cT ⟨⟨rf_pos _, rfl, by omega, by show (m : Int) < ((kc' : Nat) : Int); omega⟩, ⟨rf_pos _, rfl, by omega, by show (i : Int) < ((kc' : Nat) : Int); omega⟩⟩) ?_
      exact ih (m + 1) (by omega)
  have key : ∀ (r i : Nat) (q : AH) (u2 u3 u4 u5 u6 u7 u8 u9 u10 u11 u12 : AV), i + r = min mm 4096 → LX B n q → Agr (fun c k => (c = B + 112 ∨ c = B + 113) ∧ k < 4096) h1 q → MkS B q mk dr i → Ends (ev PP (gsF gv) B d 272 14 [(2, rf (B + 92)), (0, (i : Int)), u2, u3, u4, u5, u6, u7, u8, u9, u10, u11, u12] [] q) Q := by
    intro r
    induction r with
    | zero =>
      intro i q u2 u3 u4 u5 u6 u7 u8 u9 u10 u11 u12 e lq g I
      obtain ⟨-, -, -, s4, s5⟩ := stable g
      refine Ends.eq (b272_14 lq (by omega)) ?_
      rw [s4 6, d3]
      refine Ends.b3 (fun _ => Ends.sm (KK _ ⟨mm, F, pc', cap', ka', kc', ⟨t1.exg hb1 g.ext.exg (fun c k a b z => by omega) (fun k z => by omega) (fun i hi z => by have := rg_in ⟨i, hi⟩; have : rgC i = 27 ∨ rgC i = 53 ∨ rgC i = 93 ∨ rgC i = 94 ∨ rgC i = 83 ∨ rgC i = 81 := this; omega) (fun k a b z => by omega), t2, t3⟩, t4.exg A1 hb1 g.ext.exg (fun k hk z => by omega) (fun j k hj z => ?_), ?_, ?_, t6.tr (cel.agr g), (X.sub (fun c k _ z => Or.inl z)).tr g.ext.exg (fun c k _ z => Or.inr z)⟩)) (fun z => by omega)
      · have := (A1.2.1.1 j hj).2.2.1; omega
      · have e : i = min mm 4096 := by omega
        rw [← e, ← emk, ← edr]; exact I
      · obtain ⟨-, L2⟩ := R1.exg hb1 g.ext.exg (fun i hi z => by have := rg_in ⟨i, hi⟩; have : rgC i = 27 ∨ rgC i = 53 ∨ rgC i = 93 ∨ rgC i = 94 ∨ rgC i = 83 ∨ rgC i = 81 := this; omega)
        rw [← t5]; unfold fcz; rw [L2, g.us]
    | succ r ih =>
      intro i q u2 u3 u4 u5 u6 u7 u8 u9 u10 u11 u12 e lq g I
      obtain ⟨s1, s2, s3, s4, s5⟩ := stable g
      have hi : i < min mm 4096 := by omega
      obtain ⟨hK, -, -⟩ := (d1.1 i (by omega)).1
      obtain ⟨q1, q2, q3, q4⟩ := A1.2.1.1 5 (by decide)
      have k5 := s5 5 (by decide)
      have fst : hv q (ka' 5) i = ((cdN n (F i) : Nat) : Int) := by rw [k5.2, d5 i hi 5 (by decide)]; unfold kpV; rw [if_neg (by decide), if_neg (by decide), if_neg (by decide), if_neg (by decide), if_neg (by decide)]
      obtain ⟨hn0, g1, g2, g3, g4⟩ := g_lt (K4_lt hK)
      have cd := fun _ : Unit => cd_dec hn hK
      have cl := cdN_lt hn hK
      obtain ⟨T, eT⟩ : ∃ T, T = gSo (F i / 4) := ⟨_, rfl⟩
      obtain ⟨f', ef⟩ : ∃ f', f' = F i % 4 := ⟨_, rfl⟩
      have hf : f' < 4 := by omega
      obtain ⟨m1, m2, m3, m4, m5, m6, m7, m8⟩ := s1.1 T (by omega)
      refine Ends.eq (b272_14 lq (by omega)) ?_
      rw [s4 6, d3, s4 12, show hv h1 (B + 82) 12 = rf (ka' 5) from q1, ad_rf, k5.1, tn, fst, (cd ()).1, (cd ()).2.2.1, (cd ()).2.2.2.1, (cd ()).2.2.2.2.1, (cd ()).2.2.2.2.2, ← eT, ← ef, tn]
      refine Ends.b3 (fun z => by omega) (fun _ => Ends.g ⟨rf_pos _, rfl, by omega, by show (i : Int) < ((kc' : Nat) : Int); omega⟩ (Ends.g (q171_ok hn hn0).1 (Ends.g (q171_ok hn hn0).2 (Ends.g (q171_ok hn hn0).2 (Ends.g ⟨by omega, by omega⟩ ?_)))))
      refine Ends.ct lq (by decide +kernel) (by decide) (c_placeOf293 lq (by omega) hn s2 (by omega)) (fun v q2 l2 _ _ _ ⟨e2, ev'⟩ => ?_)
      subst e2 ev'
      have iR : inRm n (gX n (F i / 4) : Int) (gY n (F i / 4) : Int) (gZ n (F i / 4) : Int) = true := inRm_iff3.mpr (by omega)
      have p1 : plZ n Cb T (gX n (F i / 4) : Int) (gY n (F i / 4) : Int) (gZ n (F i / 4) : Int) = plcN Cb (F i / 4) 5 := by
        unfold plZ; rw [if_pos iR, tn, tn, tn, eT, gI_g]
      refine Ends.eq (b272_130 l2 (by omega)) ?_
      rw [p1, show bop32 96 (bop32 104 (4 : Int) (T : Int)) (f' : Int) = ((4 * T + f' : Nat) : Int) from by rw [show bop32 104 (4 : Int) (T : Int) = ((4 * T : Nat) : Int) from mulNN (x := 4) (by omega), addNN (by omega)], tn, (m7 f' hf).1]
      refine Ends.g ⟨by omega, by omega⟩ ?_
      have p2 : ∀ x y z : Int, x = (if f' = 0 then (gX n (F i / 4) : Int) + stpC T 0 else gX n (F i / 4)) → y = (if f' = 0 then (gY n (F i / 4) : Int) + stpC T 1 else gY n (F i / 4)) → z = (if f' = 0 then (gZ n (F i / 4) : Int) + stpC T 2 else gZ n (F i / 4)) → plZ n Cb (nxt T f') x y z = if nbr n (F i / 4) (F i % 4) < 0 then 0 else plcN Cb (nbr n (F i / 4) (F i % 4)).toNat 5 := fun x y z ex ey ez => by
        unfold plZ nbr
        rw [← ef, ← eT]
        by_cases w : f' = 0
        · rw [if_pos w] at ex ey ez
          rw [if_pos w, ex, ey, ez, w]
          by_cases v : inRm n ((gX n (F i / 4) : Int) + stpC T 0) ((gY n (F i / 4) : Int) + stpC T 1) ((gZ n (F i / 4) : Int) + stpC T 2) = true
          · rw [if_pos v, if_pos v, if_neg (by omega), tn]
          · rw [if_neg v, if_neg v, if_pos (by decide)]
        · rw [if_neg w] at ex ey ez
          rw [if_neg w, ex, ey, ez, if_pos iR, if_neg (by omega), tn, tn, tn, tn]
      have by' : cond (tst 0 (hv q2 (B + 42) T) 0) (-1 : Int) 1 = if hiC T = true then 1 else -1 := by
        rw [m6, ct0]
        cases hiC T <;> rfl
      have bb : ∀ a : Int, a = 1 ∨ a = -1 → ∀ X : Nat, X < 100 → bop32 96 (X : Int) a = (X : Int) + a := fun a ha X hX => add32 (by omega) (by omega)
      have stp : ∀ a : Nat, stpC T a = if aC T = a then (if hiC T = true then 1 else -1) else 0 := fun a => rfl
      have s1' : (if hiC T = true then (1 : Int) else -1) = 1 ∨ (if hiC T = true then (1 : Int) else -1) = -1 := by cases hiC T <;> simp
      have cx : ∀ (a X : Nat) (ai : Int), ai = (a : Int) → X < 100 → a < 3 → cond (tst 1 (cond (tst 1 (f' : Int) 0) (3 : Int) (hv q2 (B + 40) T)) ai) (X : Int) (bop32 96 (X : Int) (cond (tst 0 (hv q2 (B + 42) T) 0) (-1 : Int) 1)) = if f' = 0 then (X : Int) + stpC T a else X := fun a X ai eai hX ha => by
        rw [eai, by', m4, ct1, ct1, stp, bb _ s1' X hX]
        by_cases w : f' = 0
        · rw [if_pos (show (f' : Int) = 0 by omega), if_pos w]
          by_cases v : aC T = a
          · rw [if_pos (show ((aC T : Nat) : Int) = (a : Int) by omega), if_pos v]
          · rw [if_neg (show ¬ ((aC T : Nat) : Int) = (a : Int) by omega), if_neg v, Int.add_zero]
        · rw [if_neg (show ¬ (f' : Int) = 0 by omega), if_neg w, if_neg (by omega)]
      have nl : nxt T f' < 24 := nxt_lt ⟨T, by omega⟩ ⟨f', hf⟩
      refine Ends.ct l2 (by decide +kernel) (by decide) (c_placeOf293 l2 (by omega) hn s2 nl) (fun v q3 l3 _ _ _ ⟨e3, ev'⟩ => ?_)
      subst e3 ev'
      rw [p2 _ _ _ (cx 0 _ 0 rfl (by omega) (by decide)) (cx 1 _ 1 rfl (by omega) (by decide)) (cx 2 _ 2 rfl (by omega) (by decide))]
      have mx : v891 ((plcN Cb (F i / 4) 5 : Nat) : Int) (((if nbr n (F i / 4) (F i % 4) < 0 then 0 else plcN Cb (nbr n (F i / 4) (F i % 4)).toNat 5 : Nat) : Nat) : Int) = ((plF n Cb (F i) : Nat) : Int) := by
        rw [max_J]; unfold plF
        generalize (if nbr n (F i / 4) (F i % 4) < 0 then 0 else plcN Cb (nbr n (F i / 4) (F i % 4)).toNat 5) = b
        generalize plcN Cb (F i / 4) 5 = a
        by_cases w : a < b
        · rw [if_pos (by omega), Nat.max_eq_right (by omega)]
        · rw [if_neg (by omega), Nat.max_eq_left (by omega)]
      have pl := hC _ hK
      refine Ends.eq (b272_195 l3 (by omega)) ?_
      rw [mx, tn, tn, an0, s3 _ pl]
      refine Ends.g ⟨by omega, by omega⟩ (Ends.g ⟨by omega, by omega⟩ ?_)
      have emi : fa (plF n Cb (F i)) = mk i := by rw [emk]
      rw [emi]
      have g4' : Agr (fun c k => c = B + 112 ∧ k = i) q3 (hset q3 (B + 112) i (mk i)) := Agr.rf.set ⟨rfl, rfl⟩
      have v4 : hv (hset q3 (B + 112) i (mk i)) (B + 112) i = mk i := hv_set_at ..
      have l4 : LX B n (hset q3 (B + 112) i (mk i)) := LX.setS l3 rfl
      generalize hset q3 (B + 112) i (mk i) = q4 at *
      have gg4 := g.tr g4' (fun c k z => ⟨Or.inl z.1, by omega⟩)
      refine rank i hi _ _ _ _ _ _ _ _ _ q4 l4 gg4 (fun j hj => ?_) (fun q' x11 x12 l' g' v' => ?_) i 0 (Nat.zero_add _)
      · by_cases w : j = i
        · rw [w]; exact v4
        · rw [g4'.at _ _ (by omega)]; exact (I j (by omega)).1
      · refine ih (i + 1) q' _ _ _ _ _ _ _ _ _ _ _ (by omega) l' (gg4.tr g' (fun c k z => ⟨Or.inr z.1, by omega⟩)) (fun j hj => ?_)
        by_cases w : j = i
        · rw [w]
          exact ⟨by rw [g'.at _ _ (by omega)]; exact v4, v'⟩
        · rw [g'.at _ _ (by omega), g'.at _ _ (by omega), g4'.at _ _ (by omega), g4'.at _ _ (by omega)]
          exact I j (by omega)
  exact key (min mm 4096) 0 h1 _ _ _ _ _ _ _ _ _ _ _ (Nat.zero_add _) l1 Agr.rf (fun j hj => absurd hj (Nat.not_lt_zero j))
end FDA
