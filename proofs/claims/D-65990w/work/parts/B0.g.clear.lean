/-! L3: grown by one, as grains; clearance -/
section GR1
variable {n : Nat} {S : Nat → Bool}
/-- S grown by one cube in all directions -/
def gr1 (n : Nat) (S : Nat → Bool) (g : Nat) : Bool := g3 n (fun t z y x => S (gI n x y z t)) (gSo g) (gZ n g) (gY n g) (gX n g)
theorem n1_iff {f : Nat → Bool} {x : Nat} (hx : x < n) : (f x || ((decide (0 < x) && f (x - 1)) || (decide (x + 1 < n) && f (x + 1)))) = true ↔ ∃ x', x' < n ∧ x' ≤ x + 1 ∧ x ≤ x' + 1 ∧ f x' = true := by
  simp only [Bool.or_eq_true, Bool.and_eq_true, decide_eq_true_eq]
  constructor
  · rintro (a | ⟨a, b⟩ | ⟨a, b⟩)
    · exact ⟨x, hx, by omega, by omega, a⟩
    · exact ⟨x - 1, by omega, by omega, by omega, b⟩
    · exact ⟨x + 1, a, by omega, by omega, b⟩
  · rintro ⟨x', a, b, c, e⟩
    have : x' = x ∨ x' = x - 1 ∧ 0 < x ∨ x' = x + 1 := by omega
    rcases this with rfl | ⟨rfl, z⟩ | rfl
    · exact Or.inl e
    · exact Or.inr (Or.inl ⟨z, e⟩)
    · exact Or.inr (Or.inr ⟨a, e⟩)
theorem gr1_near {x : Nat} (hx : x < gN n) : gr1 n S x = true ↔ nearS n 1 S x := by
  obtain ⟨_, x1, x2, x3, x4⟩ := g_lt hx
  have a : gr1 n S x = true ↔ ∃ z', z' < n ∧ z' ≤ gZ n x + 1 ∧ gZ n x ≤ z' + 1 ∧ ∃ y', y' < n ∧ y' ≤ gY n x + 1 ∧ gY n x ≤ y' + 1 ∧ ∃ x', x' < n ∧ x' ≤ gX n x + 1 ∧ gX n x ≤ x' + 1 ∧ S (gI n x' y' z' (gSo x)) = true := by
    unfold gr1 g3 gz1 nz1
    rw [n1_iff (f := fun z => gy1 n (gx1 n (fun t z y x => S (gI n x y z t))) (gSo x) z (gY n x) (gX n x)) x3]
    refine exists_congr fun z' => and_congr Iff.rfl (and_congr Iff.rfl (and_congr Iff.rfl ?_))
    unfold gy1 ny1
    rw [n1_iff (f := fun y => gx1 n (fun t z y x => S (gI n x y z t)) (gSo x) z' y (gX n x)) x2]
    refine exists_congr fun y' => and_congr Iff.rfl (and_congr Iff.rfl (and_congr Iff.rfl ?_))
    unfold gx1 nx1
    exact n1_iff (f := fun x' => S (gI n x' y' z' (gSo x))) x1
  rw [a]
  constructor
  · rintro ⟨z', a1, a2, a3, y', b1, b2, b3, x', c1, c2, c3, e⟩
    refine ⟨gI n x' y' z' (gSo x), gI_lt c1 b1 a1 x4, e, gSo_I x4, fun b hb => ?_⟩
    have : b = 0 ∨ b = 1 ∨ b = 2 := by omega
    rcases this with rfl | rfl | rfl
    · show gX n x ≤ gX n _ + 1 ∧ gX n _ ≤ gX n x + 1
      rw [gX_I c1 x4]; omega
    · show gY n x ≤ gY n _ + 1 ∧ gY n _ ≤ gY n x + 1
      rw [gY_I c1 b1 x4]; omega
    · show gZ n x ≤ gZ n _ + 1 ∧ gZ n _ ≤ gZ n x + 1
      rw [gZ_I c1 b1 x4]; omega
  · rintro ⟨g, hg, e, hs, hb⟩
    obtain ⟨_, g1, g2, g3, g4⟩ := g_lt hg
    have h0 := hb 0 (by decide)
    have h1 := hb 1 (by decide)
    have h2 := hb 2 (by decide)
    refine ⟨gZ n g, g3, h2.2, h2.1, gY n g, g2, h1.2, h1.1, gX n g, g1, h0.2, h0.1, ?_⟩
    rw [← hs, gI_g]
    exact e
/-- grown k times -/
def grk (n : Nat) (S : Nat → Bool) : Nat → Nat → Bool
  | 0 => S
  | k + 1 => gr1 n (grk n S k)
theorem gr1_congr {T : Nat → Bool} (e : ∀ g, g < gN n → S g = T g) {x : Nat} (hx : x < gN n) : gr1 n S x = gr1 n T x := by
  have a := gr1_near (S := S) hx
  have b := gr1_near (S := T) hx
  have c : nearS n 1 S x ↔ nearS n 1 T x := by
    constructor
    · rintro ⟨g, hg, z, r⟩; exact ⟨g, hg, by rw [← e g hg]; exact z, r⟩
    · rintro ⟨g, hg, z, r⟩; exact ⟨g, hg, by rw [e g hg]; exact z, r⟩
  rw [c] at a
  exact Bool.eq_iff_iff.mpr (a.trans b.symm)
/-- do two solids meet -/
def mtS (n : Nat) (S T : Nat → Bool) : Prop := ∃ g, g < gN n ∧ (S g && T g) = true
/-- how far they are apart: x, or -1 -/
def clrS (n : Nat) (S T : Nat → Bool) (x : Int) : Prop := (∃ k : Nat, x = (k : Int) ∧ k ≤ n ∧ mtS n (grk n S k) T ∧ ∀ j, j < k → ¬ mtS n (grk n S j) T) ∨ (x = -1 ∧ ∀ j, j ≤ n → ¬ mtS n (grk n S j) T)
theorem clrS.uniq {T : Nat → Bool} {x y : Int} (a : clrS n S T x) (b : clrS n S T y) : x = y := by
  rcases a with ⟨k, e, k1, k2, k3⟩ | ⟨e, k1⟩
  · rcases b with ⟨j, f, j1, j2, j3⟩ | ⟨f, j1⟩
    · have : k = j := by
        rcases Nat.lt_trichotomy k j with z | z | z
        · exact absurd k2 (j3 k z)
        · exact z
        · exact absurd j2 (k3 j z)
      omega
    · exact absurd k2 (j1 k k1)
  · rcases b with ⟨j, f, j1, j2, j3⟩ | ⟨f, j1⟩
    · exact absurd j2 (k1 j j1)
    · omega
theorem sg_meet {R T : Nat → Bool} : (∃ k x, k < 24 * n * n ∧ x < n ∧ (onK n (fun t z y x => R (gI n x y z t)) k x && onK n (fun t z y x => T (gI n x y z t)) k x) = true) ↔ mtS n R T := by
  constructor
  · rintro ⟨k, x, hk, hx, e⟩
    obtain ⟨k1, k2, k3, _⟩ := rw3_dec (by omega) hk
    exact ⟨_, gI_lt hx k3 k2 k1, e⟩
  · rintro ⟨g, hg, e⟩
    obtain ⟨_, g1, g2, g3, g4⟩ := g_lt hg
    refine ⟨rw3 n (gSo g) (gZ n g) (gY n g), gX n g, rw3_lt g4 g3 g2, g1, ?_⟩
    rw [onK_at g3 g2, onK_at g3 g2, gI_g]
    exact e
end GR1
section CLEAR
variable {gv : Nat → Int} {B n d : Nat} {h : AH} {is : Nat → Bool} {cl : Nat → Nat} {S : Nat → Nat → Bool} {o p : Int} {T : Nat → Bool}
theorem c_grow1 {a : Nat} (l : LX B n h) (hd : 12 ≤ d) (hn4 : 4 ≤ n) (hn : n ≤ 52) (sa : SG n h a T) (hB : B ≤ a) : Vd (cll PP (ev PP (gsF gv) B) d 342 [(2, rf (B + 51)), (2, rf a), (0, (1 : Int))] h) (fun h' => Fr (fun c => c = a ∨ c = B + 52) h h' ∧ SG n h' a (gr1 n T)) := by
  obtain ⟨h', e, f, s⟩ := c_grow (gv := gv) (b := 1) l hd hn4 hn sa hB (by decide)
  refine ⟨h', e, f, SG.of (by omega) s (fun t z y x ht hz hy hx => ?_)⟩
  unfold gr1
  rw [onK_at hz hy, gSo_I ht, gZ_I hx hy ht, gY_I hx hy ht, gX_I hx ht]
  rfl
def w8 (B : Nat) (h : AH) : Nat → Nat → Prop := fun c j => (c = B + 53 ∧ j < 2) ∨ (c = B + 0 ∧ (j = 29 ∨ j = 30)) ∨ c = B + 52 ∨ Scr B h c
theorem c_clearance8 (l : LX B n h) (hd : 20 ≤ d) (hn4 : 4 ≤ n) (hn : n ≤ 52) (b : BdC B n h is cl S) (R : Reg B n h) :
    Opx 0 (cll PP (ev PP (gsF gv) B) d 8 [(2, rf (B + 0)), (0, o), (0, p)] h) (fun x h' => (thS is o = true ∧ thS is p = true) ∧ clrS n (S (rwS o)) (S (rwS p)) x ∧ ScE B n (w8 B h) 2 (24 * n * n + 24 * n * n) h h') (fun c q => c = 31 ∧ ¬ (thS is o = true ∧ thS is p = true) ∧ q = h) := by
  have hb := l.2.2
  have hn0 : 0 < n := by omega
  refine Vtx.into (D := 19) hd (Nat.le_of_ble_eq_true rfl) rfl (fun d hd => ?_)
  refine Ends.eq (b8_0 (n := n) (by (repeat' first | assumption | refine LX.setF _ _ ?_ (by decide +kernel) | refine LX.setS ?_ rfl | refine LX.setA ?_ (by first | assumption | omega))) (by first | assumption | omega)) ?_
  refine Ends.sol l (by omega) b (fun ho => ?_) (fun ho => Ends.thn rfl (Or.inr ⟨_, _, rfl, _, _, ⟨rfl, fun z => by rw [ho] at z; exact absurd z.1 (by decide), rfl⟩, rfl, rfl⟩))
  refine Ends.eq (b8_5 (n := n) (by (repeat' first | assumption | refine LX.setF _ _ ?_ (by decide +kernel) | refine LX.setS ?_ rfl | refine LX.setA ?_ (by first | assumption | omega))) (by first | assumption | omega)) ?_
  refine Ends.sol l (by omega) b (fun hp => ?_) (fun hp => Ends.thn rfl (Or.inr ⟨_, _, rfl, _, _, ⟨rfl, fun z => by rw [hp] at z; exact absurd z.2 (by decide), rfl⟩, rfl, rfl⟩))
  refine Ends.eq (b8_11 (n := n) (by (repeat' first | assumption | refine LX.setF _ _ ?_ (by decide +kernel) | refine LX.setS ?_ rfl | refine LX.setA ?_ (by first | assumption | omega))) (by first | assumption | omega)) ?_
  obtain ⟨t1, t2, t3⟩ := b.sol l ho
  obtain ⟨v1, v2, v3⟩ := b.sol l hp
  refine Ends.cv l (by decide +kernel) (c_needSpare65 l (by omega) hn R) (fun h2 l2 m2 _ _ ⟨s0, s1, a1, a2, a3, a4, ⟨a5, a6, a7, c7⟩, ⟨a8, a9, a10, c10⟩, a11, a12, a13, a14, a15⟩ => ?_)
  have n0 := scr_c l b R ho a5 c7
  have n1 := scr_c l b R hp a5 c7
  refine Ends.eq (b8_17 (n := n) (by (repeat' first | assumption | refine LX.setF _ _ ?_ (by decide +kernel) | refine LX.setS ?_ rfl | refine LX.setA ?_ (by first | assumption | omega))) (by first | assumption | omega)) ?_
  rw [a1]
  refine Ends.cv l2 (by decide +kernel) (c_copy l2 (by omega) (t1.ext a15 t3 (fun j z => by omega)) a7 (by omega)) (fun h3 l3 _ _ _ ⟨f3, s3⟩ => ?_)
  have g3 := f3.agr
  refine Ends.eq (b8_29 (n := n) (by (repeat' first | assumption | refine LX.setF _ _ ?_ (by decide +kernel) | refine LX.setS ?_ rfl | refine LX.setA ?_ (by first | assumption | omega))) (by first | assumption | omega)) ?_
  have vp : SG n h3 (clS B cl p) (S (rwS p)) := (v1.ext a15 v3 (fun j z => by omega)).agr g3 (fun _ z => n1 z)
  have E3 : Ext (w8 B h) 2 (24 * n * n + 24 * n * n) h h3 := (a15.sub (W' := w8 B h) (fun c j _ z => by rcases z with z | z; exact Or.inl z; exact Or.inr (Or.inl z)) (Nat.le_refl _) (Nat.le_refl _)).tr (c' := 0) (s' := 0) g3.ext (fun c j hc z => Or.inr (Or.inr (Or.inr (by rw [z]; exact c7 (by omega)))))
  have key : ∀ (r i : Nat) (q : AH), i + r = n + 1 → LX B n q → Agr (fun c _ => c = s0 ∨ c = B + 52) h3 q → SG n q s0 (grk n (S (rwS o)) i) → (∀ j, j < i → ¬ mtS n (grk n (S (rwS o)) j) (S (rwS p))) → Ends (ev PP (gsF gv) B d 8 32 [(2, rf (B + 0)), (0, o), (0, p), (2, rf (clS B cl o)), (2, rf (clS B cl p)), (0, (i : Int))] [] q) (fun r => (∃ x h', r = ((0, (0, x)), h') ∧ (thS is o = true ∧ thS is p = true) ∧ clrS n (S (rwS o)) (S (rwS p)) x ∧ ScE B n (w8 B h) 2 (24 * n * n + 24 * n * n) h h') ∨ ∃ x h', r = ((1, (2, x)), h') ∧ ∃ c q, (c = 31 ∧ ¬ (thS is o = true ∧ thS is p = true) ∧ q = h) ∧ x = rf (hnx q) ∧ h' = hnew q (1, c) 6) := by
    intro r
    induction r with
    | zero =>
      intro i q hi lq gq sq nm
      have E : ScE B n (w8 B h) 2 (24 * n * n + 24 * n * n) h q := by
        obtain ⟨R3, L3⟩ := a12.ext l2.2.2 g3.ext (fun i hi z => by have := rgi hi; omega)
        obtain ⟨R4, L4⟩ := R3.ext l3.2.2 gq.ext (fun i hi z => by
          have := rgi hi
          omega)
        exact ⟨E3.tr (c' := 0) (s' := 0) gq.ext (fun c j hc z => by rcases z with z | z; exact Or.inr (Or.inr (Or.inr (by rw [z]; exact c7 (by omega)))); exact Or.inr (Or.inr (Or.inl z))), R4, by have := gq.us; have := g3.us; omega⟩
      refine Ends.eq (b8_32 (n := n) (by (repeat' first | assumption | refine LX.setF _ _ ?_ (by decide +kernel) | refine LX.setS ?_ rfl | refine LX.setA ?_ (by first | assumption | omega))) (by first | assumption | omega)) ?_
      exact Ends.b4 (fun _ => Ends.sm (Or.inl ⟨_, _, rfl, ⟨ho, hp⟩, Or.inr ⟨rfl, fun j hj => nm j (by omega)⟩, E⟩)) (fun z => by omega)
    | succ r ih =>
      intro i q hi lq gq sq nm
      have E : ScE B n (w8 B h) 2 (24 * n * n + 24 * n * n) h q := by
        obtain ⟨R3, L3⟩ := a12.ext l2.2.2 g3.ext (fun i hi z => by have := rgi hi; omega)
        obtain ⟨R4, L4⟩ := R3.ext l3.2.2 gq.ext (fun i hi z => by
          have := rgi hi
          omega)
        exact ⟨E3.tr (c' := 0) (s' := 0) gq.ext (fun c j hc z => by rcases z with z | z; exact Or.inr (Or.inr (Or.inr (by rw [z]; exact c7 (by omega)))); exact Or.inr (Or.inr (Or.inl z))), R4, by have := gq.us; have := g3.us; omega⟩
      have k52 : hk h (B + 52) = (3, 64) := l.1 52 _ rfl
      have w52 : clS B cl p ≠ B + 52 := by omega
      have sp : SG n q (clS B cl p) (S (rwS p)) := vp.agr gq (fun _ z => by omega)
      have e29 : hv q (B + 0) 29 = rf s0 := by rw [gq.at _ _ (by omega), g3.at _ _ (show ¬ B + 0 = s0 by omega)]; exact a1
      refine Ends.eq (b8_32 (n := n) (by (repeat' first | assumption | refine LX.setF _ _ ?_ (by decide +kernel) | refine LX.setS ?_ rfl | refine LX.setA ?_ (by first | assumption | omega))) (by first | assumption | omega)) ?_
      refine Ends.b4 (fun z => by omega) (fun _ => ?_)
      rw [e29]
      refine Ends.ct lq (by decide +kernel) (by decide) (c_meet lq (by omega) hn sq sp) (fun y q2 l6 _ _ _ ⟨e2, ey⟩ => ?_)
      subst e2
      refine Ends.eq (b8_54 (n := n) (by (repeat' first | assumption | refine LX.setF _ _ ?_ (by decide +kernel) | refine LX.setS ?_ rfl | refine LX.setA ?_ (by first | assumption | omega))) (by first | assumption | omega)) ?_
      rcases ey with ⟨rfl, ey⟩ | ⟨rfl, ey⟩
      · refine Ends.b0 (fun _ => ?_) (fun z => absurd rfl z)
        rw [e29]
        refine Ends.cv l6 (by decide +kernel) (c_grow1 l6 (by omega) hn4 hn sq (by omega)) (fun q3 l7 _ _ _ ⟨f7, s7⟩ => ?_)
        refine Ends.eq (b8_72 (n := n) (by (repeat' first | assumption | refine LX.setF _ _ ?_ (by decide +kernel) | refine LX.setS ?_ rfl | refine LX.setA ?_ (by first | assumption | omega))) (by first | assumption | omega)) ?_
        rw [w_succ (by omega)]
        refine ih (i + 1) q3 (by omega) l7 (gq.tr f7.agr (fun c k z => z)) s7 (fun j hj => ?_)
        by_cases z : j = i
        · rw [z]
          intro w
          obtain ⟨k, x, hk', hx, e⟩ := sg_meet.mpr w
          rw [ey k x hk' hx] at e
          exact absurd e (by decide)
        · exact nm j (by omega)
      · exact Ends.b0 (fun z => absurd z (by decide)) (fun _ => Ends.sm (Or.inl ⟨_, _, rfl, ⟨ho, hp⟩, Or.inl ⟨i, rfl, by omega, sg_meet.mp ey, nm⟩, E⟩))
  exact key (n + 1) 0 h3 (by omega) l3 Agr.rf s3 (fun j hj => absurd hj (by omega))
end CLEAR
