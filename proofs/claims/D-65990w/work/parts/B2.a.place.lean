/-! L3: the places of the assembly: the picture; the desk's scratch; one turned; a new one -/
theorem tst1t {x y : Int} (h : x ≠ y) : tst 1 x y = true := by rw [tst1, decide_eq_false h]; rfl
theorem tst1f {x y : Int} (h : x = y) : tst 1 x y = false := by rw [tst1, decide_eq_true h]; rfl
theorem ix3 {i a : Nat} (hi : i < 100) (ha : a < 3) : bop32 96 (bop32 104 3 (i : Int)) (a : Int) = ((3 * i + a : Nat) : Int) := by
  rw [show bop32 104 (3 : Int) (i : Int) = ((3 * i : Nat) : Int) from mulNN (x := 3) (by omega), addNN (by omega)]
section ASC
variable {gv : Nat → Int} {B n d : Nat} {h : AH} {is : Nat → Bool} {cl : Nat → Nat} {S : Nat → Nat → Bool} {pl : Nat} {bd wy : Nat → Nat} {sh : Nat → Nat → Int} {lw hg : Nat → Nat → Nat} {M : Int}
/-- both are got -/
def Asd (B n : Nat) (h h' : AH) (s0 s1 : Nat) : Prop := hv h' (B + 118) 19 = rf s0 ∧ hv h' (B + 118) 20 = rf s1 ∧ hv h' (B + 53) 0 = rf s0 ∧ hv h' (B + 53) 1 = rf s1 ∧ (B + 246 ≤ s0 ∧ s0 < hnx h' ∧ hk h' s0 = (3, 24 * n * n) ∧ (s0 < hnx h → Scr B h s0)) ∧ (B + 246 ≤ s1 ∧ s1 < hnx h' ∧ hk h' s1 = (3, 24 * n * n) ∧ (s1 < hnx h → Scr B h s1)) ∧ s0 ≠ s1 ∧ Reg B n h' ∧ hus h' + lzy B n h' = hus h + lzy B n h ∧ hnx h' ≤ hnx h + 2 ∧ Ext (fun c j => (c = B + 53 ∧ j < 2) ∨ (c = B + 118 ∧ (j = 19 ∨ j = 20))) 2 (24 * n * n + 24 * n * n) h h'
theorem rg_118 {j : Nat} (hj : j < 39) : ¬ B + rgC j = B + 118 := fun e => by
  have := rgi hj
  omega
theorem c_need117 (l : LX B n h) (hd : 13 ≤ d) (hn : n ≤ 52) (R : Reg B n h) : Vd (cll PP (ev PP (gsF gv) B) d 117 [(2, rf (B + 118))] h) (fun h' => ∃ s0 s1, Asd B n h h' s0 s1) := by
  have hb := l.2.2
  refine Vd.into (D := 12) hd (Nat.le_of_ble_eq_true rfl) rfl (fun d hd => ?_)
  refine Ends.eq (b117_0 (n := n) (by (repeat' first | assumption | refine LX.setF _ _ ?_ (by decide +kernel) | refine LX.setS ?_ rfl | refine LX.setA ?_ (by first | assumption | omega))) (by first | assumption | omega)) ?_
  refine Ends.ct l (by decide +kernel) (by decide) (c_shR (k := 0) l (by omega) hn (by decide) R) (fun v h1 l1 m1 _ _ ⟨s0, evv, a1, a2, a3, a4, a5, a6, a7, a8, a9⟩ => ?_)
  rw [evv]
  refine Ends.eq (b117_9 (n := n) (by (repeat' first | assumption | refine LX.setF _ _ ?_ (by decide +kernel) | refine LX.setS ?_ rfl | refine LX.setA ?_ (by first | assumption | omega))) (by first | assumption | omega)) ?_
  have l2 : LX B n (hset h1 (B + 118) 19 (rf s0)) := LX.setF 118 19 l1 (by decide +kernel)
  have X2 : Ext (fun c j => c = B + 118 ∧ j = 19) 0 0 h1 (hset h1 (B + 118) 19 (rf s0)) := Ext.rf.set (fun _ => ⟨rfl, rfl⟩)
  obtain ⟨R2, L2⟩ := a5.ext l1.2.2 X2 (fun i hi w => rg_118 hi w.1)
  refine Ends.ct l2 (by decide +kernel) (by decide) (c_shR (k := 1) l2 (by omega) hn (by decide) R2) (fun v3 h3 l3 m3 _ _ ⟨s1, ev3, b1, b2, b3, b4, b5, b6, b7, b8, b9⟩ => ?_)
  rw [ev3]
  refine Ends.eq (b117_21 (n := n) (by (repeat' first | assumption | refine LX.setF _ _ ?_ (by decide +kernel) | refine LX.setS ?_ rfl | refine LX.setA ?_ (by first | assumption | omega))) (by first | assumption | omega)) ?_
  have X4 : Ext (fun c j => c = B + 118 ∧ j = 20) 0 0 h3 (hset h3 (B + 118) 20 (rf s1)) := Ext.rf.set (fun _ => ⟨rfl, rfl⟩)
  obtain ⟨R4, L4⟩ := b5.ext l3.2.2 X4 (fun i hi w => rg_118 hi w.1)
  have n2 : hnx (hset h1 (B + 118) 19 (rf s0)) = hnx h1 := rfl
  have u2 : hus (hset h1 (B + 118) 19 (rf s0)) = hus h1 := rfl
  have n4 : hnx (hset h3 (B + 118) 20 (rf s1)) = hnx h3 := rfl
  have u4 : hus (hset h3 (B + 118) 20 (rf s1)) = hus h3 := rfl
  have hb1 := l1.2.2
  have c1 : hv h3 (B + 53) 0 = rf s0 := by rw [b8.at _ (by omega) (by omega), hv_na (by omega)]; exact a1
  refine Ends.sm ⟨_, rfl, s0, s1, ?_, ?_, ?_, ?_, ⟨a2, by omega, ?_, fun z => ⟨0, by decide, a9 z⟩⟩, ⟨b2, by omega, b4, fun z => ⟨1, by decide, ?_⟩⟩, ?_, R4, by omega, by omega, ?_⟩
  · rw [hv_set_ne (by omega), b8.at _ (by omega) (by omega), hv_set_at]
  · exact hv_set_at ..
  · rw [hv_na (by omega)]; exact c1
  · rw [hv_na (by omega)]; exact b1
  · show hk h3 s0 = _
    rw [b8.hk (by omega)]; exact a4
  · have := b9 (by rw [n2]; omega)
    rw [hv_na (by omega), a8.at _ (by omega) (by omega)] at this
    exact this
  · intro z
    have := b5.2 10 11 (by decide) (by decide) (by decide) (by rw [show rgV B h3 10 = hv h3 (B + 53) 0 from rgV_s (k := 0) (by decide), show rgV B h3 11 = hv h3 (B + 53) 1 from rgV_s (k := 1) (by decide), c1, b1, z])
    rw [show rgV B h3 10 = hv h3 (B + 53) 0 from rgV_s (k := 0) (by decide), c1] at this
    have := rf_pos s0
    omega
  · exact (((a8.sub (fun c j _ w => Or.inl ⟨w.1, by omega⟩) (Nat.le_refl _) (Nat.le_refl _)).set (fun _ => Or.inr ⟨rfl, Or.inl rfl⟩)).tr b8 (fun c j _ w => Or.inl ⟨w.1, by omega⟩)).set (fun _ => Or.inr ⟨rfl, Or.inr rfl⟩)
/-- places of the desk: whose body, which way, how far moved, where they begin and end (in halves) -/
def AsP (B : Nat) (h : AH) (pl : Nat) (bd wy : Nat → Nat) (sh : Nat → Nat → Int) (lw hg : Nat → Nat → Nat) : Prop := ∀ x, x < pl → hv h (B + 119) x = (bd x : Int) ∧ hv h (B + 121) x = (wy x : Int) ∧ ∀ b, b < 3 → hv h (B + 120) (3 * x + b) = sh b x ∧ hv h (B + 122) (3 * x + b) = (lw b x : Int) ∧ hv h (B + 123) (3 * x + b) = (hg b x : Int)
/-- what holds of all places -/
def AsV (n : Nat) (is : Nat → Bool) (M : Int) (pl : Nat) (bd wy : Nat → Nat) (sh : Nat → Nat → Int) (lw hg : Nat → Nat → Nat) : Prop := pl ≤ 12 ∧ ∀ x, x < pl → bd x < 10 ∧ is (bd x) = true ∧ wy x < 48 ∧ ∀ b, b < 3 → lw b x ≤ 2 * n ∧ hg b x ≤ 2 * n ∧ -M ≤ sh b x ∧ sh b x ≤ M
theorem AsP.agr {W : Nat → Nat → Prop} {q : AH} (P : AsP B h pl bd wy sh lw hg) (g : Agr W h q) (hW : ∀ c k, B + 119 ≤ c → c ≤ B + 123 → ¬ W c k) : AsP B q pl bd wy sh lw hg := fun x hx => by
  obtain ⟨p1, p2, p3⟩ := P x hx
  refine ⟨by rw [g.at _ _ (hW _ _ (by omega) (by omega))]; exact p1, by rw [g.at _ _ (hW _ _ (by omega) (by omega))]; exact p2, fun b hb => ?_⟩
  rw [g.at _ _ (hW _ _ (by omega) (by omega)), g.at _ _ (hW _ _ (by omega) (by omega)), g.at _ _ (hW _ _ (by omega) (by omega))]
  exact p3 b hb
theorem AsP.ext {W : Nat → Nat → Prop} {q : AH} {c s : Nat} (P : AsP B h pl bd wy sh lw hg) (hb0 : B + 246 ≤ hnx h) (g : Ext W c s h q) (hW : ∀ c k, B + 119 ≤ c → c ≤ B + 123 → ¬ W c k) : AsP B q pl bd wy sh lw hg := fun x hx => by
  obtain ⟨p1, p2, p3⟩ := P x hx
  refine ⟨by rw [g.at _ (by omega) (hW _ _ (by omega) (by omega))]; exact p1, by rw [g.at _ (by omega) (hW _ _ (by omega) (by omega))]; exact p2, fun b hb => ?_⟩
  rw [g.at _ (by omega) (hW _ _ (by omega) (by omega)), g.at _ (by omega) (hW _ _ (by omega) (by omega)), g.at _ (by omega) (hW _ _ (by omega) (by omega))]
  exact p3 b hb
/-- T turned by a way -/
def TuR (n w : Nat) (T R : Nat → Bool) : Prop := ∀ g, g < gN n → (R g = true ↔ ∃ g0, g0 < gN n ∧ T g0 = true ∧ tuG n w g0 0 0 0 = (g : Int))
theorem TuR.uniq {w : Nat} {T R R' : Nat → Bool} (a : TuR n w T R) (b : TuR n w T R') : ∀ g, g < gN n → R g = R' g := fun g hg => by
  have := (a g hg).trans (b g hg).symm
  cases e : R g <;> cases e' : R' g <;> simp_all
theorem BdC.ext {W : Nat → Nat → Prop} {c s : Nat} {t : AH} (b : BdC B n h is cl S) (hb : B + 246 ≤ hnx h) (g : Ext W c s h t) (h1 : ∀ k, ¬ W (B + 27) k ∧ ¬ W (B + 28) k ∧ ¬ W (B + 117) k) (h2 : ∀ i, i < 10 → is i = true → ∀ k, ¬ W (cl i) k) : BdC B n t is cl S := by
  have n1 := g.2.2.1
  refine ⟨fun i hi => ⟨by rw [g.at _ (by omega) (h1 i).2.1]; exact (b.1 i hi).1, fun e => ?_⟩, b.2.ext g (by omega) (fun k => (h1 k).2.2)⟩
  obtain ⟨c1, c2, c3, c4⟩ := (b.1 i hi).2 e
  exact ⟨by rw [g.at _ (by omega) (h1 i).1]; exact c1, c2, by omega, c4.ext g c3 (h2 i hi e)⟩
theorem c_turned124 {i s bi wi : Nat} (l : LX B n h) (hd : 17 ≤ d) (hn0 : 0 < n) (hn : n ≤ 52) (m : TbC B h) (b : BdC B n h is cl S) (hi : i < 12) (e119 : hv h (B + 119) i = (bi : Int)) (e121 : hv h (B + 121) i = (wi : Int)) (hb : bi < 10) (ib : is bi = true) (hw : wi < 48) (hs : B + 246 ≤ s) (ks : hk h s = (3, 24 * n * n)) (ne : cl bi ≠ s) :
    Vd (cll PP (ev PP (gsF gv) B) d 124 [(2, rf (B + 118)), (0, (i : Int)), (2, rf s)] h) (fun h' => Agr (tuW B s) h h' ∧ ∃ R, SG n h' s R ∧ TuR n wi (S bi) R) := by
  refine Vd.inq (D := 16) hd (Nat.le_of_ble_eq_true rfl) rfl (fun d hd Q K => ?_)
  refine Ends.eq (b124_0 (n := n) (by (repeat' first | assumption | refine LX.setF _ _ ?_ (by decide +kernel) | refine LX.setS ?_ rfl | refine LX.setA ?_ (by first | assumption | omega))) (by first | assumption | omega)) ?_
  refine Ends.cv l (by decide +kernel) (c_clear l (by omega) hn ks (by omega)) (fun h1 l1 _ _ _ ⟨f1, s1⟩ => ?_)
  have g1 := f1.fr.agr
  have g1' : Agr (tuW B s) h h1 := g1.sub (fun c k z => Or.inl z)
  have z1 : SG n h1 s (fun _ => false) := SG.of hn0 s1 (fun _ _ _ _ _ _ _ _ => rfl)
  obtain ⟨c1, c2, c3, c4⟩ := (b.1 _ hb).2 ib
  refine Ends.eq (b124_8 (n := n) (by (repeat' first | assumption | refine LX.setF _ _ ?_ (by decide +kernel) | refine LX.setS ?_ rfl | refine LX.setA ?_ (by first | assumption | omega))) (by first | assumption | omega)) ?_
  rw [tn, g1.at _ _ (show ¬ B + 119 = s by omega), e119, g1.at _ _ (show ¬ B + 121 = s by omega), e121, tn, g1.at _ _ (show ¬ B + 27 = s by omega), c1]
  refine Ends.g ⟨by omega, by omega⟩ (Ends.g ⟨by omega, by omega⟩ ?_)
  refine Ends.cv l1 (by decide +kernel) (c_turn317 l1 (by omega) hn0 hn (m.fr f1.fr (fun c _ _ z => by omega)) z1 (c4.agr g1 (fun _ z => ne z)) (fun z => ne z.symm) (by omega) (Or.inr hs) (Or.inr c2) hw) (fun h2 l2 _ _ _ ⟨g2, R, s2, r2⟩ => ?_)
  refine Ends.eq (b124_33 (n := n) (by (repeat' first | assumption | refine LX.setF _ _ ?_ (by decide +kernel) | refine LX.setS ?_ rfl | refine LX.setA ?_ (by first | assumption | omega))) (by first | assumption | omega)) ?_
  exact Ends.sm (K _ ⟨g1'.tr g2 (fun c k z => z), R, s2, fun g hg => by rw [r2 g hg]; simp⟩)
/-- the end of a solid along an axis, in halves (0 of nothing) -/
def EdS (gr : Bool) (P : Int → Prop) (v : Int) : Prop := (v = 0 ∧ ∀ c, ¬ P c) ∨ (P v ∧ ∀ c, P c → if gr then c ≤ v else v ≤ c)
theorem EdS.uniq {gr : Bool} {P : Int → Prop} {v w : Int} (a : EdS gr P v) (b : EdS gr P w) : v = w := by
  rcases a with ⟨a1, a2⟩ | ⟨a1, a2⟩ <;> rcases b with ⟨b1, b2⟩ | ⟨b1, b2⟩
  · rw [a1, b1]
  · exact absurd b1 (a2 _)
  · exact absurd a1 (b2 _)
  · have := a2 _ b1
    have := b2 _ a1
    cases gr <;> simp at * <;> omega
theorem EdS.congr {gr : Bool} {P P' : Int → Prop} {v : Int} (a : EdS gr P v) (e : ∀ c, P c ↔ P' c) : EdS gr P' v := by
  rw [show P' = P from funext fun c => propext (e c).symm]
  exact a
theorem End_.ed {gr : Bool} {P : Int → Prop} {f v : Int} (a : End_ gr P f v) : EdS gr P v := by
  rcases a with ⟨_, a2, a3⟩ | ⟨_, a2, a3⟩
  · exact Or.inl ⟨a2, a3⟩
  · exact Or.inr ⟨a2, a3⟩
theorem enP_iff {R : Nat → Bool} {a : Nat} {c : Int} : enP n R a 24 c ↔ ∃ g k, g < gN n ∧ k < 4 ∧ R g = true ∧ c = ((cv2 n g k a : Nat) : Int) := by
  constructor
  · rintro ⟨g, k, h1, h2, _, h4, h5⟩
    exact ⟨g, k, h1, h2, h4, h5⟩
  · rintro ⟨g, k, h1, h2, h4, h5⟩
    exact ⟨g, k, h1, h2, (g_lt h1).2.2.2.2, h4, h5⟩
theorem EdS.nat {gr : Bool} {R : Nat → Bool} {a : Nat} {v : Int} (e : EdS gr (enP n R a 24) v) (ha : a < 3) : ∃ k : Nat, v = (k : Int) ∧ k ≤ 2 * n := by
  rcases e with ⟨e1, _⟩ | ⟨e1, _⟩
  · exact ⟨0, e1, by omega⟩
  · obtain ⟨g, k, h1, h2, h4, h5⟩ := enP_iff.mp e1
    exact ⟨_, h5, cv2_le h1 h2 ha⟩
/-- three cells, three places each -/
def tri (b1 b2 b3 pl : Nat) : Nat → Nat → Prop := fun c j => (c = b1 ∨ c = b2 ∨ c = b3) ∧ 3 * pl ≤ j ∧ j < 3 * pl + 3
/-- what place writes -/
def plcW (B : Nat) (h : AH) (pl : Nat) : Nat → Nat → Prop := fun c j => (c = B + 53 ∧ j < 2) ∨ (c = B + 118 ∧ (j = 3 ∨ j = 19 ∨ j = 20)) ∨ (c = B + 54 ∨ c = B + 55 ∨ c = B + 106 ∨ c = B + 107 ∨ c = B + 108) ∨ ((c = B + 119 ∨ c = B + 121) ∧ j = pl) ∨ ((c = B + 120 ∨ c = B + 122 ∨ c = B + 123) ∧ 3 * pl ≤ j ∧ j < 3 * pl + 3) ∨ Scr B h c
def ex1 {α : Type} (f : Nat → α) (k : Nat) (v : α) (x : Nat) : α := if x = k then v else f x
theorem ex1_at {α : Type} {f : Nat → α} {k : Nat} {v : α} : ex1 f k v k = v := if_pos rfl
theorem ex1_ne {α : Type} {f : Nat → α} {k x : Nat} {v : α} (e : x ≠ k) : ex1 f k v x = f x := if_neg e
theorem Scr.ge {c : Nat} (R : Reg B n h) (s : Scr B h c) : B + 246 ≤ c := by
  obtain ⟨k, hk6, e⟩ := s
  rcases R.1 (10 + k) (by omega) with z | ⟨a, z1, z2, _⟩
  · rw [rgV_s hk6, e] at z
    have := rf_pos c
    omega
  · rw [rgV_s hk6, e] at z1
    unfold rf at z1
    omega
theorem c_place118 {b0 w : Nat} (l : LX B n h) (hd : 19 ≤ d) (hn0 : 0 < n) (hn : n ≤ 52) (m : TbC B h) (b : BdC B n h is cl S) (R : Reg B n h) (P : AsP B h pl bd wy sh lw hg) (V : AsV n is M pl bd wy sh lw hg) (e3 : hv h (B + 118) 3 = (pl : Int)) (hpl : pl < 12) (hb : b0 < 10) (ib : is b0 = true) (hw : w < 48) :
    Vt 0 (cll PP (ev PP (gsF gv) B) d 118 [(2, rf (B + 118)), (0, (b0 : Int)), (0, (w : Int))] h) (fun v h' => v = (pl : Int) ∧ hv h' (B + 118) 3 = ((pl + 1 : Nat) : Int) ∧ (∃ (T : Nat → Bool) (lo hi : Nat → Nat), TuR n w (S b0) T ∧ (∀ a, a < 3 → EdS false (enP n T a 24) (lo a) ∧ EdS true (enP n T a 24) (hi a)) ∧ AsP B h' (pl + 1) (ex1 bd pl b0) (ex1 wy pl w) (fun a => ex1 (sh a) pl 0) (fun a => ex1 (lw a) pl (lo a)) (fun a => ex1 (hg a) pl (hi a))) ∧ ScE B n (plcW B h pl) 2 (24 * n * n + 24 * n * n) h h') := by
  have hb0 := l.2.2
  refine Vt.inq (D := 18) hd (Nat.le_of_ble_eq_true rfl) rfl (fun d hd Q K => ?_)
  refine Ends.eq (b118_0 (n := n) (by (repeat' first | assumption | refine LX.setF _ _ ?_ (by decide +kernel) | refine LX.setS ?_ rfl | refine LX.setA ?_ (by first | assumption | omega))) (by first | assumption | omega)) ?_
  refine Ends.cv l (by decide +kernel) (c_need117 l (by omega) hn R) (fun h1 l1 _ _ _ ⟨s0, s1, a1, a2, a3, a4, ⟨a5, a6, a7, c7⟩, ⟨a8, a9, a10, c10⟩, a11, R1, u1, x1, X1⟩ => ?_)
  have sne : ∀ x, x < 10 → is x = true → cl x ≠ s0 := fun x hx ix z => by
    have hs : thS is (x : Int) = true := by
      unfold thS
      rw [decide_eq_true (show (0 : Int) ≤ (x : Int) ∧ (x : Int) < 10 by omega), show ((x : Nat) : Int).toNat = x from rfl, ix, Bool.and_true, Bool.or_true]
    refine scr_c (o := (x : Int)) l b R hs a5 c7 ?_
    unfold clS
    rw [if_neg (by omega)]
    exact z
  have e31 : hv h1 (B + 118) 3 = (pl : Int) := by rw [X1.at _ (by omega) (by omega)]; exact e3
  refine Ends.eq (b118_4 (n := n) (by (repeat' first | assumption | refine LX.setF _ _ ?_ (by decide +kernel) | refine LX.setS ?_ rfl | refine LX.setA ?_ (by first | assumption | omega))) (by first | assumption | omega)) ?_
  rw [e31, tn, an0, an0, a1]
  refine Ends.g ⟨by omega, by omega⟩ ?_
  have l2 : LX B n (hset (hset h1 (B + 119) pl (b0 : Int)) (B + 121) pl (w : Int)) := LX.setS (LX.setS l1 rfl) rfl
  have g2 : Agr (fun c k => (c = B + 119 ∨ c = B + 121) ∧ k = pl) h1 (hset (hset h1 (B + 119) pl (b0 : Int)) (B + 121) pl (w : Int)) := (Agr.rf.set ⟨Or.inl rfl, rfl⟩).set ⟨Or.inr rfl, rfl⟩
  have m1 : TbC B h1 := m.ext hb0 X1 (fun c k h1 h2 z => by omega)
  have P1 : AsP B h1 pl bd wy sh lw hg := P.ext hb0 X1 (fun c k h1 h2 z => by omega)
  have cge : ∀ x, x < 10 → is x = true → B + 246 ≤ cl x ∧ cl x < hnx h := fun x hx ix => ⟨((b.1 x hx).2 ix).2.1, ((b.1 x hx).2 ix).2.2.1⟩
  have b1 : BdC B n h1 is cl S := b.ext hb0 X1 (fun k => by omega) (fun x hx ix k z => by have := cge x hx ix; omega)
  have b2 : BdC B n (hset (hset h1 (B + 119) pl (b0 : Int)) (B + 121) pl (w : Int)) is cl S := b1.ext l1.2.2 g2.ext (fun k => by omega) (fun x hx ix k z => by have := cge x hx ix; omega)
  have m2 : TbC B (hset (hset h1 (B + 119) pl (b0 : Int)) (B + 121) pl (w : Int)) := m1.ext l1.2.2 g2.ext (fun c k h1 h2 z => by omega)
  refine Ends.cv l2 (by decide +kernel) (c_turned124 (i := pl) (bi := b0) (wi := w) l2 (by omega) hn0 hn m2 b2 hpl (by rw [hv_na (by omega)]; exact hv_set_at ..) (hv_set_at ..) hb ib hw a5 (by rw [g2.hk]; exact a7) (sne b0 hb ib)) (fun h3 l3 _ _ _ ⟨g3, T, s3, t3⟩ => ?_)
  refine Ends.eq (b118_32 (n := n) (by (repeat' first | assumption | refine LX.setF _ _ ?_ (by decide +kernel) | refine LX.setS ?_ rfl | refine LX.setA ?_ (by first | assumption | omega))) (by first | assumption | omega)) ?_
  have m3 : TbC B h3 := m2.ext l2.2.2 g3.ext (fun c k h1 h2 z => by unfold tuW at z; omega)
  have e33 : hv h3 (B + 118) 3 = (pl : Int) ∧ hv h3 (B + 118) 19 = rf s0 := by
    rw [g3.at _ _ (by unfold tuW; omega), g3.at _ _ (by unfold tuW; omega), g2.at _ _ (by omega), g2.at _ _ (by omega)]
    exact ⟨e31, a1⟩
  have key : ∀ (r a : Nat) (q : AH), a + r = 3 → LX B n q → Agr (tri (B + 120) (B + 122) (B + 123) pl) h3 q → (∀ x, x < a → hv q (B + 120) (3 * pl + x) = 0 ∧ (∃ v : Nat, hv q (B + 122) (3 * pl + x) = (v : Int) ∧ EdS false (enP n T x 24) v) ∧ ∃ v : Nat, hv q (B + 123) (3 * pl + x) = (v : Int) ∧ EdS true (enP n T x 24) v) → Ends (ev PP (gsF gv) B d 118 35 [(2, rf (B + 118)), (0, (b0 : Int)), (0, (w : Int)), (0, (pl : Int)), (0, (a : Int))] [] q) Q := by
    intro r
    induction r with
    | zero =>
      intro a q ha lq gq lo
      obtain rfl : a = 3 := by omega
      refine Ends.eq (b118_35 (n := n) (by (repeat' first | assumption | refine LX.setF _ _ ?_ (by decide +kernel) | refine LX.setS ?_ rfl | refine LX.setA ?_ (by first | assumption | omega))) (by first | assumption | omega)) ?_
      have e3q : hv q (B + 118) 3 = (pl : Int) := by rw [gq.at _ _ (by unfold tri; omega)]; exact e33.1
      rw [e3q, show bop32 96 (pl : Int) 1 = ((pl + 1 : Nat) : Int) from addNN (y := 1) (by omega)]
      refine Ends.b3 (fun _ => Ends.sm (K _ _ ⟨rfl, hv_set_at .., ⟨T, fun a => (hv q (B + 122) (3 * pl + a)).toNat, fun a => (hv q (B + 123) (3 * pl + a)).toNat, t3, fun a ha => ?_, fun x hx => ?_⟩, ?_⟩)) (fun z => absurd z (by decide))
      · obtain ⟨_, ⟨v, v1, v2⟩, u, u1, u2⟩ := lo a ha
        dsimp only
        rw [v1, u1]
        exact ⟨v2, u2⟩
      · simp only [hv_na (show B + 119 ≠ B + 118 by omega), hv_na (show B + 121 ≠ B + 118 by omega), hv_na (show B + 120 ≠ B + 118 by omega), hv_na (show B + 122 ≠ B + 118 by omega), hv_na (show B + 123 ≠ B + 118 by omega)]
        by_cases z : x = pl
        · rw [z, ex1_at, ex1_at]
          refine ⟨?_, ?_, fun b hb => ?_⟩
          · rw [gq.at _ _ (by unfold tri; omega), g3.at _ _ (by unfold tuW; omega), hv_na (by omega)]; exact hv_set_at ..
          · rw [gq.at _ _ (by unfold tri; omega), g3.at _ _ (by unfold tuW; omega)]; exact hv_set_at ..
          · obtain ⟨w0, ⟨v, v1, v2⟩, u, u1, u2⟩ := lo b hb
            rw [ex1_at, ex1_at, ex1_at, v1, u1]
            exact ⟨w0, rfl, rfl⟩
        · rw [ex1_ne z, ex1_ne z]
          obtain ⟨p1, p2, p3⟩ := P1 x (by omega)
          refine ⟨?_, ?_, fun b hb => ?_⟩
          · rw [gq.at _ _ (by unfold tri; omega), g3.at _ _ (by unfold tuW; omega), g2.at _ _ (by omega)]; exact p1
          · rw [gq.at _ _ (by unfold tri; omega), g3.at _ _ (by unfold tuW; omega), g2.at _ _ (by omega)]; exact p2
          · rw [ex1_ne z, ex1_ne z, ex1_ne z]
            obtain ⟨p4, p5, p6⟩ := p3 b hb
            refine ⟨?_, ?_, ?_⟩
            · rw [gq.at _ _ (by unfold tri; omega), g3.at _ _ (by unfold tuW; omega), g2.at _ _ (by omega)]; exact p4
            · rw [gq.at _ _ (by unfold tri; omega), g3.at _ _ (by unfold tuW; omega), g2.at _ _ (by omega)]; exact p5
            · rw [gq.at _ _ (by unfold tri; omega), g3.at _ _ (by unfold tuW; omega), g2.at _ _ (by omega)]; exact p6
      · have E : Ext (fun c j => ((c = B + 119 ∨ c = B + 121) ∧ j = pl) ∨ tuW B s0 c j ∨ tri (B + 120) (B + 122) (B + 123) pl c j ∨ (c = B + 118 ∧ j = 3)) 0 0 h1 (hset q (B + 118) 3 ((pl + 1 : Nat) : Int)) :=
          ((g2.ext.sub (fun c j _ z => Or.inl z) (Nat.le_refl _) (Nat.le_refl _)).tr (c' := 0) (s' := 0) g3.ext (fun c j _ z => Or.inr (Or.inl z))).tr (c' := 0) (s' := 0) ((gq.ext.sub (W' := fun c j => tri (B + 120) (B + 122) (B + 123) pl c j ∨ (c = B + 118 ∧ j = 3)) (fun c j _ z => Or.inl z) (Nat.le_refl _) (Nat.le_refl _)).set (fun _ => Or.inr ⟨rfl, rfl⟩)) (fun c j _ z => Or.inr (Or.inr z))
        have hb1 := l1.2.2
        obtain ⟨RE, LE⟩ := R1.ext hb1 E (fun i hi z => by have := rgi hi; unfold tuW tri at z; omega)
        have eu := E.2.2.2.2
        refine ⟨(X1.sub (fun c j _ z => by rcases z with z | z; exact Or.inl z; exact Or.inr (Or.inl ⟨z.1, Or.inr z.2⟩)) (Nat.le_refl _) (Nat.le_refl _)).tr (c' := 0) (s' := 0) E (fun c j hc z => ?_), RE, by omega⟩
        rcases z with z | z | z | z
        · exact Or.inr (Or.inr (Or.inr (Or.inl z)))
        · rcases z with z | z
          · exact Or.inr (Or.inr (Or.inr (Or.inr (Or.inr (by rw [z]; exact c7 (by omega))))))
          · exact Or.inr (Or.inr (Or.inl z))
        · exact Or.inr (Or.inr (Or.inr (Or.inr (Or.inl z))))
        · exact Or.inr (Or.inl ⟨z.1, Or.inl z.2⟩)
    | succ r ih =>
      intro a q ha lq gq lo
      have ha3 : a < 3 := by omega
      have sq : SG n q s0 T := s3.agr gq (fun k z => by unfold tri at z; omega)
      have mq : TbC B q := m3.ext l3.2.2 gq.ext (fun c k h1 h2 z => by unfold tri at z; omega)
      have e19 : hv q (B + 118) 19 = rf s0 := by rw [gq.at _ _ (by unfold tri; omega)]; exact e33.2
      refine Ends.eq (b118_35 (n := n) (by (repeat' first | assumption | refine LX.setF _ _ ?_ (by decide +kernel) | refine LX.setS ?_ rfl | refine LX.setA ?_ (by first | assumption | omega))) (by first | assumption | omega)) ?_
      rw [ix3 (by omega) ha3, tn, an0, e19]
      refine Ends.b3 (fun z => by omega) (fun _ => Ends.g ⟨by omega, by omega⟩ ?_)
      have l4 : LX B n (hset q (B + 120) (3 * pl + a) 0) := LX.setS lq rfl
      have g4 : Agr (tri (B + 120) (B + 122) (B + 123) pl) h3 (hset q (B + 120) (3 * pl + a) 0) := gq.set (by unfold tri; omega)
      have cA := c_end (gv := gv) (d := d) (gr := false) l4 (by omega) hn0 hn (mq.ext lq.2.2 (Agr.rf.set (W := fun c _ => c = B + 120) (a := B + 120) (k := 3 * pl + a) (v := 0) rfl).ext (fun c k h1 h2 z => by omega)) (sq.agr (Agr.rf.set (W := fun c _ => c = B + 120) (a := B + 120) (k := 3 * pl + a) (v := 0) rfl) (fun k z => by omega)) ha3
      simp only [Bool.false_eq_true, if_false] at cA
      refine Ends.ct l4 (by decide +kernel) (by decide) cA (fun v5 h5 l5 _ _ _ ⟨e5, f5, d5⟩ => ?_)
      subst e5
      obtain ⟨k5, rfl, b5⟩ := d5.ed.nat ha3
      have k122 : hk (hset q (B + 120) (3 * pl + a) 0) (B + 122) = (2, 36) := l5.1 122 _ rfl
      refine Ends.eq (b118_77 (n := n) (by (repeat' first | assumption | refine LX.setF _ _ ?_ (by decide +kernel) | refine LX.setS ?_ rfl | refine LX.setA ?_ (by first | assumption | omega))) (by first | assumption | omega)) ?_
      rw [ad_rf, k122, tn, an0, hv_na (show B + 118 ≠ B + 120 by omega), e19, ix3 (by omega) ha3]
      refine Ends.g ⟨rf_pos _, rfl, by omega, by show ((3 * pl + a : Nat) : Int) < ((36 : Nat) : Int); omega, by omega⟩ ?_
      have l6 : LX B n (hset (hset q (B + 120) (3 * pl + a) 0) (B + 122) (3 * pl + a) (k5 : Int)) := LX.setS l5 rfl
      have g6 : Agr (fun c _ => c = B + 120 ∨ c = B + 122) q (hset (hset q (B + 120) (3 * pl + a) 0) (B + 122) (3 * pl + a) (k5 : Int)) := (Agr.rf.set (Or.inl rfl)).set (Or.inr rfl)
      have cB := c_end (gv := gv) (d := d) (gr := true) l6 (by omega) hn0 hn (mq.ext lq.2.2 g6.ext (fun c k h1 h2 z => by omega)) (sq.agr g6 (fun k z => by omega)) ha3
      simp only [if_true] at cB
      refine Ends.ct l6 (by decide +kernel) (by decide) cB (fun v7 h7 l7 _ _ _ ⟨e7, f7, d7⟩ => ?_)
      subst e7
      obtain ⟨k7, rfl, b7⟩ := d7.ed.nat ha3
      have k123 : hk (hset (hset q (B + 120) (3 * pl + a) 0) (B + 122) (3 * pl + a) (k5 : Int)) (B + 123) = (2, 36) := l7.1 123 _ rfl
      refine Ends.eq (b118_102 (n := n) (by (repeat' first | assumption | refine LX.setF _ _ ?_ (by decide +kernel) | refine LX.setS ?_ rfl | refine LX.setA ?_ (by first | assumption | omega))) (by first | assumption | omega)) ?_
      rw [ad_rf, k123, tn, an0, w_succ (by omega)]
      refine Ends.g ⟨rf_pos _, rfl, by omega, by show ((3 * pl + a : Nat) : Int) < ((36 : Nat) : Int); omega, by omega⟩ ?_
      refine ih (a + 1) _ (by omega) (LX.setS l7 rfl) ((g4.set (by unfold tri; omega)).set (by unfold tri; omega)) (fun x hx => ?_)
      rw [hv_na (show B + 120 ≠ B + 123 by omega), hv_na (show B + 120 ≠ B + 122 by omega), hv_na (show B + 122 ≠ B + 123 by omega)]
      by_cases z : x = a
      · rw [z, hv_set_at, hv_set_at, hv_set_at]
        exact ⟨rfl, ⟨k5, rfl, d5.ed⟩, k7, rfl, d7.ed⟩
      · repeat rw [hv_set_ne (by omega)]
        exact lo x (by omega)
  exact key 3 0 h3 rfl l3 Agr.rf (fun x hx => absurd hx (by omega))
end ASC
