/-! L3: whether a point is inside: the desk -/
def sel3 (a : Nat) (x y z : Int) : Int := if a = 0 then x else if a = 1 then y else z
def flp (b : Bool) (c : Int) : Int := if b = true then 8 - c else c
/-- whether a grain of sort t has a point of its cube -/
def hpB (t : Nat) (x y z : Int) : Bool := decide (flp (hiC t) (sel3 (aC t) x y z) ≤ flp (hiB t) (sel3 (aB t) x y z) ∧ flp (hiB t) (sel3 (aB t) x y z) ≤ sel3 (aA t) x y z ∧ flp (hiB t) (sel3 (aB t) x y z) ≤ 8 - sel3 (aA t) x y z)
theorem hp_cover : ∀ x : Fin 9, ∀ y : Fin 9, ∀ z : Fin 9, ∃ t : Fin 24, hpB t ((x : Nat) : Int) ((y : Nat) : Int) ((z : Nat) : Int) = true := by decide +kernel
theorem sel_c {a : Nat} {x y z : Int} : cond (tst 1 ((a : Nat) : Int) 0) (cond (tst 1 ((a : Nat) : Int) 1) z y) x = sel3 a x y z := by
  rw [ct1, ct1]
  unfold sel3
  by_cases e : a = 0
  · rw [if_pos e, if_pos (by rw [e]; rfl)]
  · rw [if_neg e, if_neg (show ¬ ((a : Nat) : Int) = 0 from fun w => e (Int.ofNat.inj w))]
    by_cases e1 : a = 1
    · rw [if_pos e1, if_pos (by rw [e1]; rfl)]
    · rw [if_neg e1, if_neg (show ¬ ((a : Nat) : Int) = 1 from fun w => e1 (Int.ofNat.inj w))]
theorem sel_b {a : Nat} {x y z : Int} (hx : 0 ≤ x ∧ x ≤ 8) (hy : 0 ≤ y ∧ y ≤ 8) (hz : 0 ≤ z ∧ z ≤ 8) : 0 ≤ sel3 a x y z ∧ sel3 a x y z ≤ 8 := by
  unfold sel3
  split
  · exact hx
  · split
    · exact hy
    · exact hz
theorem flp_c {b : Bool} {c : Int} (hc : 0 ≤ c ∧ c ≤ 8) : cond (tst 0 (if b = true then (1 : Int) else 0) 0) c (bop32 100 8 c) = flp b c := by
  unfold flp
  cases b
  · rfl
  · rw [if_pos rfl, if_pos rfl]
    show bop32 100 8 c = 8 - c
    exact sub32 (by omega) (by omega)
theorem hp_4 {a b c : Int} (ha : 0 ≤ a ∧ a ≤ 8) : cond (tst 4 c b) (0 : Int) (cond (tst 4 b a) 0 (cond (tst 4 b (bop32 100 8 a)) 0 1)) = if decide (c ≤ b ∧ b ≤ a ∧ b ≤ 8 - a) = true then 1 else 0 := by
  rw [show bop32 100 8 a = 8 - a from sub32 (by omega) (by omega), ct4, ct4, ct4]
  simp only [decide_eq_true_eq]
  by_cases h1 : b < c
  · rw [if_pos h1, if_neg (by omega)]
  rw [if_neg h1]
  by_cases h2 : a < b
  · rw [if_pos h2, if_neg (by omega)]
  rw [if_neg h2]
  by_cases h3 : 8 - a < b
  · rw [if_pos h3, if_neg (by omega)]
  rw [if_neg h3, if_pos (by omega)]
/-- what is known of the counts -/
def inI (al so M : Nat) (A E : Prop) : Prop := so ≤ al ∧ al ≤ M ∧ (so = al ↔ A) ∧ (so ≠ 0 ↔ E)
theorem inI.step {al so M : Nat} {A E : Prop} (i : inI al so M A E) (p g : Bool) : inI (al + if p = true then 1 else 0) (so + if (p && g) = true then 1 else 0) (M + 1) (A ∧ (p = true → g = true)) (E ∨ (p = true ∧ g = true)) := by
  obtain ⟨i1, i2, i3, i4⟩ := i
  cases p <;> cases g <;> refine ⟨?_, ?_, ?_, ?_⟩ <;> simp <;> grind
theorem inI.cg {al so M M2 : Nat} {A E A2 E2 : Prop} (i : inI al so M A E) (hm : M ≤ M2) (h1 : A ↔ A2) (h2 : E ↔ E2) : inI al so M2 A2 E2 :=
  ⟨i.1, Nat.le_trans i.2.1 hm, i.2.2.1.trans h1, i.2.2.2.trans h2⟩
theorem cnt_b {x : Nat} (hx : x < 2147483647) {g : Bool} : bop32 96 (x : Int) (cond (tst 0 (if g = true then (1 : Int) else 0) 0) (0 : Int) 1) = ((x + (if g = true then 1 else 0) : Nat) : Int) := by
  have e : cond (tst 0 (if g = true then (1 : Int) else 0) 0) (0 : Int) 1 = (((if g = true then 1 else 0) : Nat) : Int) := by cases g <;> rfl
  rw [e]
  exact addNN (by split <;> omega)
theorem bord_c {x y z m : Nat} : cond (tst 1 (cond (tst 0 (x : Int) 0) 1 (cond (tst 0 (y : Int) 0) 1 (cond (tst 0 (z : Int) 0) 1 (cond (tst 0 (x : Int) (m : Int)) 1 (cond (tst 0 (y : Int) (m : Int)) 1 (cond (tst 1 (z : Int) (m : Int)) 0 1)))))) (0 : Int)) (2 : Int) 1 = if x = 0 ∨ y = 0 ∨ z = 0 ∨ x = m ∨ y = m ∨ z = m then 2 else 1 := by
  have n1 : ∀ a : Nat, a ≠ 0 → tst 0 (a : Int) 0 = false := fun a h => by rw [tst0]; exact decide_eq_false (fun w => h (Int.ofNat.inj w))
  have n2 : ∀ a b : Nat, a ≠ b → tst 0 (a : Int) (b : Int) = false := fun a b h => by rw [tst0]; exact decide_eq_false (fun w => h (Int.ofNat.inj w))
  have p2 : ∀ a : Nat, tst 0 (a : Int) (a : Int) = true := fun a => by rw [tst0]; exact decide_eq_true rfl
  by_cases h1 : x = 0
  · rw [if_pos (Or.inl h1), h1]; rfl
  by_cases h2 : y = 0
  · rw [if_pos (Or.inr (Or.inl h2)), n1 x h1, h2]; rfl
  by_cases h3 : z = 0
  · rw [if_pos (Or.inr (Or.inr (Or.inl h3))), n1 x h1, n1 y h2, h3]; rfl
  rw [n1 x h1, n1 y h2, n1 z h3]
  by_cases h4 : x = m
  · rw [if_pos (Or.inr (Or.inr (Or.inr (Or.inl h4)))), h4, p2]; rfl
  rw [n2 x m h4]
  by_cases h5 : y = m
  · rw [if_pos (Or.inr (Or.inr (Or.inr (Or.inr (Or.inl h5))))), h5, p2]; rfl
  rw [n2 y m h5]
  by_cases h6 : z = m
  · rw [if_pos (Or.inr (Or.inr (Or.inr (Or.inr (Or.inr h6))))), h6, ct1 (a := (m : Int)) (b := (m : Int)), if_pos rfl]; rfl
  · rw [if_neg (by omega), ct1 (a := (z : Int)) (b := (m : Int)), if_neg (show ¬ (z : Int) = (m : Int) from fun w => h6 (Int.ofNat.inj w))]; rfl
section QUAN
variable {X : Nat → Prop} {A : Prop} {a h : Nat}
theorem all_st (w : a ≤ h) : ((A ∧ X a) ∧ ∀ g, a + 1 ≤ g → g ≤ h → X g) ↔ (A ∧ ∀ g, a ≤ g → g ≤ h → X g) := by
  constructor
  · rintro ⟨⟨h1, h2⟩, h3⟩
    refine ⟨h1, fun g h4 h5 => ?_⟩
    by_cases e : g = a
    · rw [e]; exact h2
    · exact h3 g (by omega) h5
  · rintro ⟨h1, h2⟩
    exact ⟨⟨h1, h2 a (Nat.le_refl a) w⟩, fun g h4 h5 => h2 g (by omega) h5⟩
theorem ex_st (w : a ≤ h) : ((A ∨ X a) ∨ ∃ g, a + 1 ≤ g ∧ g ≤ h ∧ X g) ↔ (A ∨ ∃ g, a ≤ g ∧ g ≤ h ∧ X g) := by
  constructor
  · rintro ((h1 | h1) | ⟨g, h1, h2, h3⟩)
    · exact Or.inl h1
    · exact Or.inr ⟨a, Nat.le_refl a, w, h1⟩
    · exact Or.inr ⟨g, by omega, h2, h3⟩
  · rintro (h1 | ⟨g, h1, h2, h3⟩)
    · exact Or.inl (Or.inl h1)
    · by_cases e : g = a
      · rw [e] at h3; exact Or.inl (Or.inr h3)
      · exact Or.inr ⟨g, by omega, h2, h3⟩
theorem all_0 (w : h < a) : A ↔ (A ∧ ∀ g, a ≤ g → g ≤ h → X g) := ⟨fun h1 => ⟨h1, fun g h2 h3 => absurd h2 (by omega)⟩, fun h1 => h1.1⟩
theorem ex_0 (w : h < a) : A ↔ (A ∨ ∃ g, a ≤ g ∧ g ≤ h ∧ X g) := ⟨Or.inl, fun h1 => by
  rcases h1 with h1 | ⟨g, h2, h3, _⟩
  · exact h1
  · omega⟩
end QUAN
/-- a grain of cube (e - 1, f - 1, g - 1) has the point; it is in T -/
def inP (n : Nat) (x y z e f g t : Nat) : Bool := decide (1 ≤ e ∧ e ≤ n ∧ 1 ≤ f ∧ f ≤ n ∧ 1 ≤ g ∧ g ≤ n) && hpB t ((x : Int) - 8 * ((e : Int) - 1)) ((y : Int) - 8 * ((f : Int) - 1)) ((z : Int) - 8 * ((g : Int) - 1))
def inG (n : Nat) (T : Nat → Bool) (e f g t : Nat) : Bool := T (gI n (e - 1) (f - 1) (g - 1) t)
def inX (n : Nat) (T : Nat → Bool) (x y z e f g : Nat) : Prop := ∀ t, 0 ≤ t → t ≤ 23 → inP n x y z e f g t = true → inG n T e f g t = true
def inY (n : Nat) (T : Nat → Bool) (x y z e f g : Nat) : Prop := ∃ t, 0 ≤ t ∧ t ≤ 23 ∧ inP n x y z e f g t = true ∧ inG n T e f g t = true
/-- all the grains there, some of them -/
def inA (n : Nat) (T : Nat → Bool) (x y z : Nat) : Prop := ∀ e, (x + 7) / 8 ≤ e → e ≤ x / 8 + 1 → ∀ f, (y + 7) / 8 ≤ f → f ≤ y / 8 + 1 → ∀ g, (z + 7) / 8 ≤ g → g ≤ z / 8 + 1 → inX n T x y z e f g
def inE (n : Nat) (T : Nat → Bool) (x y z : Nat) : Prop := ∃ e, (x + 7) / 8 ≤ e ∧ e ≤ x / 8 + 1 ∧ ∃ f, (y + 7) / 8 ≤ f ∧ f ≤ y / 8 + 1 ∧ ∃ g, (z + 7) / 8 ≤ g ∧ g ≤ z / 8 + 1 ∧ inY n T x y z e f g
def inB (n x y z : Nat) : Prop := x = 0 ∨ y = 0 ∨ z = 0 ∨ x = 8 * n ∨ y = 8 * n ∨ z = 8 * n
noncomputable def insS (n : Nat) (T : Nat → Bool) (x y z : Nat) : Int := @ite Int (¬ inE n T x y z) (Classical.propDecidable _) 0 (@ite Int (inA n T x y z ∧ ¬ inB n x y z) (Classical.propDecidable _) 1 2)
section INS
variable {gv : Nat → Int} {B n d : Nat} {h : AH} {is : Nat → Bool} {cl : Nat → Nat} {S : Nat → Nat → Bool} {T : Nat → Bool} {o : Int}
theorem v40_is (m : TbC B h) {t : Nat} (ht : t < 24) {x y z : Int} (hx : 0 ≤ x ∧ x ≤ 8) (hy : 0 ≤ y ∧ y ≤ 8) (hz : 0 ≤ z ∧ z ≤ 8) : v40 B h (t : Int) x y z = if hpB t x y z = true then 1 else 0 := by
  obtain ⟨-, m2, m3, m4, m5, m6, -, -⟩ := m.1 t ht
  unfold v40
  rw [tn, m2, m3, m4, m5, m6, sel_c, sel_c, sel_c, flp_c (sel_b hx hy hz), flp_c (sel_b hx hy hz)]
  exact hp_4 (sel_b hx hy hz)
theorem c_inside43 (l : LX B n h) (hd : 20 ≤ d) (hn : n ≤ 52) (m : TbC B h) (bd : BdC B n h is cl S) {x y z : Int} :
    Opx 0 (cll PP (ev PP (gsF gv) B) d 43 [(2, rf (B + 0)), (0, o), (0, x), (0, y), (0, z)] h) (fun v h' => thS is o = true ∧ ((0 ≤ x ∧ x ≤ 8 * (n : Int)) ∧ (0 ≤ y ∧ y ≤ 8 * (n : Int)) ∧ 0 ≤ z ∧ z ≤ 8 * (n : Int)) ∧ v = insS n (S (rwS o)) x.toNat y.toNat z.toNat ∧ h' = h) (fun c q => q = h ∧ ((c = 31 ∧ thS is o = false) ∨ (c = 27 ∧ thS is o = true ∧ ¬ ((0 ≤ x ∧ x ≤ 8 * (n : Int)) ∧ (0 ≤ y ∧ y ≤ 8 * (n : Int)) ∧ 0 ≤ z ∧ z ≤ 8 * (n : Int))))) := by
  refine Opx.inq (D := 19) hd (Nat.le_of_ble_eq_true rfl) rfl (fun d hd Q K KE => ?_)
  refine Ends.eq (b43_0 (n := n) (by (repeat' first | assumption | refine LX.setF _ _ ?_ (by decide +kernel) | refine LX.setS ?_ rfl | refine LX.setA ?_ (by first | assumption | omega))) (by first | assumption | omega)) ?_
  refine Ends.sol l (by omega) bd (fun ho => ?_) (fun ho => Ends.thn rfl (KE _ _ ⟨rfl, Or.inl ⟨rfl, ho⟩⟩))
  refine Ends.eq (b43_5 (n := n) (by (repeat' first | assumption | refine LX.setF _ _ ?_ (by decide +kernel) | refine LX.setS ?_ rfl | refine LX.setA ?_ (by first | assumption | omega))) (by first | assumption | omega)) ?_
  have n8 : bop32 104 (8 : Int) (n : Int) = ((8 * n : Nat) : Int) := mulNN (x := 8) (by omega)
  rw [n8]
  refine Ends.need (p := decide ((0 ≤ x ∧ x ≤ 8 * (n : Int)) ∧ (0 ≤ y ∧ y ≤ 8 * (n : Int)) ∧ 0 ≤ z ∧ z ≤ 8 * (n : Int))) l (by omega) (by
    rw [v42_in, v42_in, v42_in]
    simp only [ct0, decide_eq_true_eq]
    grind) (fun hp => ?_) (fun hp => Ends.thn rfl (KE _ _ ⟨rfl, Or.inr ⟨rfl, ho, of_decide_eq_false hp⟩⟩))
  have hp := of_decide_eq_true hp
  obtain ⟨s, s2, s3⟩ := bd.sol l ho
  have K2 := fun v e => K v h ⟨ho, hp, e, rfl⟩
  clear K KE n8
  generalize clS B cl o = s0 at *
  generalize S (rwS o) = T at *
  obtain ⟨x, rfl⟩ : ∃ k : Nat, x = (k : Int) := ⟨x.toNat, by omega⟩
  obtain ⟨y, rfl⟩ : ∃ k : Nat, y = (k : Int) := ⟨y.toNat, by omega⟩
  obtain ⟨z, rfl⟩ : ∃ k : Nat, z = (k : Int) := ⟨z.toNat, by omega⟩
  have hx : x ≤ 8 * n := by omega
  have hy : y ≤ 8 * n := by omega
  have hz : z ≤ 8 * n := by omega
  rw [tn, tn, tn] at K2
  have lo : ∀ w : Nat, w ≤ 8 * n → bop32 100 (bop32 108 (bop32 96 (w : Int) 7) 8) 1 = (((w + 7) / 8 : Nat) : Int) - 1 := fun w hw => by
    rw [show bop32 96 (w : Int) 7 = ((w + 7 : Nat) : Int) from addNN (y := 7) (by omega), show bop32 108 ((w + 7 : Nat) : Int) 8 = (((w + 7) / 8 : Nat) : Int) from divNN (y := 8) (by omega) (by omega)]
    exact sub32 (by omega) (by omega)
  have hi : ∀ w : Nat, w ≤ 8 * n → bop32 108 (w : Int) 8 = ((w / 8 : Nat) : Int) := fun w hw => divNN (y := 8) (by omega) (by omega)
  have inc : ∀ e : Nat, e ≤ 100 → w32 ((e : Int) - 1 + 1) = ((e + 1 : Nat) : Int) - 1 := fun e he => by
    rw [show (e : Int) - 1 + 1 = (e : Int) by omega]
    exact (w32_id ⟨by omega, by omega⟩).trans (by omega)
  have rg : ∀ e : Nat, v42 ((e : Int) - 1) 0 (bop32 100 (n : Int) 1) = if 1 ≤ e ∧ e ≤ n then 1 else 0 := fun e => by
    rw [show bop32 100 (n : Int) 1 = (n : Int) - 1 from sub32 (by omega) (by omega), v42_in]
    by_cases w : 1 ≤ e ∧ e ≤ n
    · rw [if_pos w, if_pos (by omega)]
    · rw [if_neg w, if_neg (by omega)]
  have rel : ∀ (w e : Nat), (w + 7) / 8 ≤ e → e ≤ w / 8 + 1 → 1 ≤ e → w ≤ 8 * n → bop32 100 (w : Int) (bop32 104 8 (((e - 1 : Nat) : Int))) = (w : Int) - 8 * ((e : Int) - 1) ∧ 0 ≤ (w : Int) - 8 * ((e : Int) - 1) ∧ (w : Int) - 8 * ((e : Int) - 1) ≤ 8 := fun w e h1 h2 h3 hw => by
    rw [show bop32 104 (8 : Int) (((e - 1 : Nat) : Int)) = ((8 * (e - 1) : Nat) : Int) from mulNN (x := 8) (by omega), sub32 (by omega) (by omega)]
    refine ⟨by omega, by omega, by omega⟩
  have hex : x / 8 + 1 ≤ 53 := by omega
  have hey : y / 8 + 1 ≤ 53 := by omega
  have hez : z / 8 + 1 ≤ 53 := by omega
  -- the sorts of one cube
  have lt : ∀ (e f g : Nat), (x + 7) / 8 ≤ e → e ≤ x / 8 + 1 → (y + 7) / 8 ≤ f → f ≤ y / 8 + 1 → (z + 7) / 8 ≤ g → g ≤ z / 8 + 1 → (1 ≤ e ∧ e ≤ n) → (1 ≤ f ∧ f ≤ n) → (1 ≤ g ∧ g ≤ n) → ∀ (c t al so M : Nat) (A E : Prop), t + c = 24 → M + c ≤ 100000 → inI al so M A E → (∀ al' so' u12, inI al' so' (M + c) (A ∧ ∀ t', t ≤ t' → t' ≤ 23 → inP n x y z e f g t' = true → inG n T e f g t' = true) (E ∨ ∃ t', t ≤ t' ∧ t' ≤ 23 ∧ inP n x y z e f g t' = true ∧ inG n T e f g t' = true) → Ends (ev PP (gsF gv) B d 43 254 [(2, rf (B + 0)), (0, o), (0, (x : Int)), (0, (y : Int)), (0, (z : Int)), (2, rf s0), (0, ((8 * n : Nat) : Int)), (0, (al' : Int)), (0, (so' : Int)), (0, (e : Int) - 1), (0, (f : Int) - 1), (0, (g : Int) - 1), u12] [] h) Q) → Ends (ev PP (gsF gv) B d 43 174 [(2, rf (B + 0)), (0, o), (0, (x : Int)), (0, (y : Int)), (0, (z : Int)), (2, rf s0), (0, ((8 * n : Nat) : Int)), (0, (al : Int)), (0, (so : Int)), (0, (e : Int) - 1), (0, (f : Int) - 1), (0, (g : Int) - 1), (0, (t : Int))] [] h) Q := by
    intro e f g e1 e2 f1 f2 g1 g2 he hf hg c
    induction c with
    | zero =>
      intro t al so M A E ht hM i k
      obtain rfl : t = 24 := by omega
      refine Ends.eq (b43_174 (n := n) (by (repeat' first | assumption | refine LX.setF _ _ ?_ (by decide +kernel) | refine LX.setS ?_ rfl | refine LX.setA ?_ (by first | assumption | omega))) (by first | assumption | omega)) ?_
      exact Ends.b3 (fun _ => k al so _ (i.cg (Nat.le_refl _) (all_0 (X := fun t' => inP n x y z e f g t' = true → inG n T e f g t' = true) (by decide)) (ex_0 (X := fun t' => inP n x y z e f g t' = true ∧ inG n T e f g t' = true) (by decide)))) (fun w => absurd w (by decide))
    | succ c ih =>
      intro t al so M A E ht hM i k
      have ht' : t < 24 := by omega
      have hso : so < 2147483647 := by have := i.1; have := i.2.1; omega
      obtain ⟨ra, ra1, ra2⟩ := rel x e e1 e2 he.1 hx
      obtain ⟨rb, rb1, rb2⟩ := rel y f f1 f2 hf.1 hy
      obtain ⟨rc, rc1, rc2⟩ := rel z g g1 g2 hg.1 hz
      have i1 := i.1
      have i2 := i.2.1
      have st := i.step (inP n x y z e f g t) (inG n T e f g t)
      have nx : ∀ (a1 b1 : Int), a1 = ((al + (if inP n x y z e f g t = true then 1 else 0) : Nat) : Int) → b1 = ((so + (if (inP n x y z e f g t && inG n T e f g t) = true then 1 else 0) : Nat) : Int) → Ends (ev PP (gsF gv) B d 43 174 [(2, rf (B + 0)), (0, o), (0, (x : Int)), (0, (y : Int)), (0, (z : Int)), (2, rf s0), (0, ((8 * n : Nat) : Int)), (0, a1), (0, b1), (0, (e : Int) - 1), (0, (f : Int) - 1), (0, (g : Int) - 1), (0, ((t + 1 : Nat) : Int))] [] h) Q := fun a1 b1 ea eb => by
        rw [ea, eb]
        refine ih (t + 1) _ _ (M + 1) _ _ (by omega) (by omega) st (fun al' so' u12 j => k al' so' u12 (j.cg (by omega) ?_ ?_))
        · exact all_st (X := fun t' => inP n x y z e f g t' = true → inG n T e f g t' = true) (by omega)
        · exact ex_st (X := fun t' => inP n x y z e f g t' = true ∧ inG n T e f g t' = true) (by omega)
      have ez : ∀ k : Nat, 1 ≤ k → (k : Int) - 1 = ((k - 1 : Nat) : Int) := fun k hk => by omega
      have ve := has_eq hn ht' (show e - 1 < n by omega) (show f - 1 < n by omega) (show g - 1 < n by omega) s
      have vo := has_ok (x := e - 1) hn ht' (show f - 1 < n by omega) (show g - 1 < n by omega) s
      rw [onK_at (by omega) (by omega)] at ve
      have hpE : inP n x y z e f g t = hpB t ((x : Int) - 8 * ((e : Int) - 1)) ((y : Int) - 8 * ((f : Int) - 1)) ((z : Int) - 8 * ((g : Int) - 1)) := by
        unfold inP
        rw [decide_eq_true (by omega), Bool.true_and]
      have v4 := v40_is m ht' ⟨ra1, ra2⟩ ⟨rb1, rb2⟩ ⟨rc1, rc2⟩
      rw [← hpE] at v4
      refine Ends.eq (b43_174 l (by omega)) ?_
      rw [ez e he.1, ez f hf.1, ez g hg.1, ra, rb, rc, v4, ve]
      refine Ends.b3 (fun w => absurd w (by omega)) (fun _ => Ends.g ⟨by omega, by omega⟩ (Ends.g ?_ ?_))
      · cases inP n x y z e f g t
        · exact trivial
        · exact vo
      · rw [w_succ (i := t) (by omega), w_succ (i := al) (by omega), ← ez e he.1, ← ez f hf.1, ← ez g hg.1]
        have gG : inG n T e f g t = T (gI n (e - 1) (f - 1) (g - 1) t) := rfl
        rw [← gG]
        clear v4 ve ra rb rc gG
        cases hP : inP n x y z e f g t
        · exact nx _ _ (by rw [hP]; rfl) (by rw [hP]; rfl)
        · exact nx _ _ (by rw [hP]; rfl) (by rw [hP]; exact cnt_b hso)
  -- along z
  have lk : ∀ (e f : Nat), (x + 7) / 8 ≤ e → e ≤ x / 8 + 1 → (y + 7) / 8 ≤ f → f ≤ y / 8 + 1 → ∀ (c g al so M : Nat) (A E : Prop) (u12 : AV), g + c = z / 8 + 2 → (z + 7) / 8 ≤ g → M + 24 * c ≤ 90000 → inI al so M A E → (∀ al' so' u11 u12, inI al' so' (M + 24 * c) (A ∧ ∀ g', g ≤ g' → g' ≤ z / 8 + 1 → inX n T x y z e f g') (E ∨ ∃ g', g ≤ g' ∧ g' ≤ z / 8 + 1 ∧ inY n T x y z e f g') → Ends (ev PP (gsF gv) B d 43 92 [(2, rf (B + 0)), (0, o), (0, (x : Int)), (0, (y : Int)), (0, (z : Int)), (2, rf s0), (0, ((8 * n : Nat) : Int)), (0, (al' : Int)), (0, (so' : Int)), (0, (e : Int) - 1), (0, ((f + 1 : Nat) : Int) - 1), u11, u12] [] h) Q) → Ends (ev PP (gsF gv) B d 43 113 [(2, rf (B + 0)), (0, o), (0, (x : Int)), (0, (y : Int)), (0, (z : Int)), (2, rf s0), (0, ((8 * n : Nat) : Int)), (0, (al : Int)), (0, (so : Int)), (0, (e : Int) - 1), (0, (f : Int) - 1), (0, (g : Int) - 1), u12] [] h) Q := by
    intro e f e1 e2 f1 f2 c
    induction c with
    | zero =>
      intro g al so M A E u12 hg g0 hM i k
      refine Ends.eq (b43_113 l (by omega)) ?_
      rw [hi z hz, inc f (by omega)]
      exact Ends.b4 (fun _ => k al so _ _ (i.cg (by omega) (all_0 (X := fun g' => inX n T x y z e f g') (by omega)) (ex_0 (X := fun g' => inY n T x y z e f g') (by omega)))) (fun w => absurd w (by omega))
    | succ c ih =>
      intro g al so M A E u12 hg g0 hM i k
      have nx : ∀ (al so : Nat) (u12 : AV), inI al so (M + 24) (A ∧ inX n T x y z e f g) (E ∨ inY n T x y z e f g) → Ends (ev PP (gsF gv) B d 43 254 [(2, rf (B + 0)), (0, o), (0, (x : Int)), (0, (y : Int)), (0, (z : Int)), (2, rf s0), (0, ((8 * n : Nat) : Int)), (0, (al : Int)), (0, (so : Int)), (0, (e : Int) - 1), (0, (f : Int) - 1), (0, (g : Int) - 1), u12] [] h) Q := fun al so u12 j => by
        refine Ends.eq (b43_254 l (by omega)) ?_
        rw [inc g (by omega)]
        refine ih (g + 1) al so (M + 24) _ _ u12 (by omega) (by omega) (by omega) j (fun al' so' u11 u12 j2 => k al' so' u11 u12 (j2.cg (by omega) ?_ ?_))
        · exact all_st (X := fun g' => inX n T x y z e f g') (by omega)
        · exact ex_st (X := fun g' => inY n T x y z e f g') (by omega)
      have out : ¬ (1 ≤ e ∧ e ≤ n ∧ 1 ≤ f ∧ f ≤ n ∧ 1 ≤ g ∧ g ≤ n) → ∀ u12, Ends (ev PP (gsF gv) B d 43 254 [(2, rf (B + 0)), (0, o), (0, (x : Int)), (0, (y : Int)), (0, (z : Int)), (2, rf s0), (0, ((8 * n : Nat) : Int)), (0, (al : Int)), (0, (so : Int)), (0, (e : Int) - 1), (0, (f : Int) - 1), (0, (g : Int) - 1), u12] [] h) Q := fun w u12 => by
        have no : ∀ t, inP n x y z e f g t = false := fun t => by unfold inP; rw [decide_eq_false w, Bool.false_and]
        refine nx al so u12 (i.cg (by omega) ⟨fun a => ⟨a, fun t _ _ q => ?_⟩, fun a => a.1⟩ ⟨Or.inl, fun a => ?_⟩)
        · rw [no t] at q; exact absurd q Bool.false_ne_true
        · rcases a with a | ⟨t, _, _, q, _⟩
          · exact a
          · rw [no t] at q; exact absurd q Bool.false_ne_true
      refine Ends.eq (b43_113 l (by omega)) ?_
      rw [hi z hz, rg e, rg f, rg g]
      refine Ends.b4 (fun w => absurd w (by omega)) (fun _ => ?_)
      by_cases he : 1 ≤ e ∧ e ≤ n
      rotate_left
      · rw [if_neg he]
        exact Ends.b0 (fun _ => out (fun w => he ⟨w.1, w.2.1⟩) _) (fun w => absurd rfl w)
      rw [if_pos he]
      refine Ends.b0 (fun w => absurd w (by decide)) (fun _ => ?_)
      by_cases hf : 1 ≤ f ∧ f ≤ n
      rotate_left
      · rw [if_neg hf]
        exact Ends.b0 (fun _ => out (fun w => hf ⟨w.2.2.1, w.2.2.2.1⟩) _) (fun w => absurd rfl w)
      rw [if_pos hf]
      refine Ends.b0 (fun w => absurd w (by decide)) (fun _ => ?_)
      by_cases hg' : 1 ≤ g ∧ g ≤ n
      rotate_left
      · rw [if_neg hg']
        exact Ends.b1 (fun w => absurd rfl w) (fun _ => out (fun w => hg' ⟨w.2.2.2.2.1, w.2.2.2.2.2⟩) _)
      rw [if_pos hg']
      refine Ends.b1 (fun _ => ?_) (fun w => absurd w (by decide))
      exact lt e f g e1 e2 f1 f2 g0 (by omega) he hf hg' 24 0 al so M A E rfl (by omega) i (fun al' so' u12 j => nx al' so' u12 j)
  -- along y
  have lj : ∀ (e : Nat), (x + 7) / 8 ≤ e → e ≤ x / 8 + 1 → ∀ (c f al so M : Nat) (A E : Prop) (u11 u12 : AV), f + c = y / 8 + 2 → (y + 7) / 8 ≤ f → M + 48 * c ≤ 80000 → inI al so M A E → (∀ al' so' u10 u11 u12, inI al' so' (M + 48 * c) (A ∧ ∀ f', f ≤ f' → f' ≤ y / 8 + 1 → ∀ g, (z + 7) / 8 ≤ g → g ≤ z / 8 + 1 → inX n T x y z e f' g) (E ∨ ∃ f', f ≤ f' ∧ f' ≤ y / 8 + 1 ∧ ∃ g, (z + 7) / 8 ≤ g ∧ g ≤ z / 8 + 1 ∧ inY n T x y z e f' g) → Ends (ev PP (gsF gv) B d 43 72 [(2, rf (B + 0)), (0, o), (0, (x : Int)), (0, (y : Int)), (0, (z : Int)), (2, rf s0), (0, ((8 * n : Nat) : Int)), (0, (al' : Int)), (0, (so' : Int)), (0, ((e + 1 : Nat) : Int) - 1), u10, u11, u12] [] h) Q) → Ends (ev PP (gsF gv) B d 43 92 [(2, rf (B + 0)), (0, o), (0, (x : Int)), (0, (y : Int)), (0, (z : Int)), (2, rf s0), (0, ((8 * n : Nat) : Int)), (0, (al : Int)), (0, (so : Int)), (0, (e : Int) - 1), (0, (f : Int) - 1), u11, u12] [] h) Q := by
    intro e e1 e2 c
    induction c with
    | zero =>
      intro f al so M A E u11 u12 hf f0 hM i k
      refine Ends.eq (b43_92 l (by omega)) ?_
      rw [hi y hy, inc e (by omega)]
      exact Ends.b4 (fun _ => k al so _ _ _ (i.cg (by omega) (all_0 (X := fun f' => ∀ g, (z + 7) / 8 ≤ g → g ≤ z / 8 + 1 → inX n T x y z e f' g) (by omega)) (ex_0 (X := fun f' => ∃ g, (z + 7) / 8 ≤ g ∧ g ≤ z / 8 + 1 ∧ inY n T x y z e f' g) (by omega)))) (fun w => absurd w (by omega))
    | succ c ih =>
      intro f al so M A E u11 u12 hf f0 hM i k
      refine Ends.eq (b43_92 l (by omega)) ?_
      rw [hi y hy, lo z hz]
      refine Ends.b4 (fun w => absurd w (by omega)) (fun _ => ?_)
      refine lk e f e1 e2 f0 (by omega) (z / 8 + 2 - (z + 7) / 8) ((z + 7) / 8) al so M A E u12 (by omega) (Nat.le_refl _) (by omega) i (fun al' so' u11 u12 j => ?_)
      refine ih (f + 1) al' so' (M + 48) _ _ u11 u12 (by omega) (by omega) (by omega) (j.cg (by omega) Iff.rfl Iff.rfl) (fun al' so' u10 u11 u12 j2 => k al' so' u10 u11 u12 (j2.cg (by omega) ?_ ?_))
      · exact all_st (X := fun f' => ∀ g, (z + 7) / 8 ≤ g → g ≤ z / 8 + 1 → inX n T x y z e f' g) (by omega)
      · exact ex_st (X := fun f' => ∃ g, (z + 7) / 8 ≤ g ∧ g ≤ z / 8 + 1 ∧ inY n T x y z e f' g) (by omega)
  -- along x
  have li : ∀ (c e al so M : Nat) (A E : Prop) (u10 u11 u12 : AV), e + c = x / 8 + 2 → (x + 7) / 8 ≤ e → M + 96 * c ≤ 70000 → inI al so M A E → (∀ v al' so', inI al' so' (M + 96 * c) (A ∧ ∀ e', e ≤ e' → e' ≤ x / 8 + 1 → ∀ f, (y + 7) / 8 ≤ f → f ≤ y / 8 + 1 → ∀ g, (z + 7) / 8 ≤ g → g ≤ z / 8 + 1 → inX n T x y z e' f g) (E ∨ ∃ e', e ≤ e' ∧ e' ≤ x / 8 + 1 ∧ ∃ f, (y + 7) / 8 ≤ f ∧ f ≤ y / 8 + 1 ∧ ∃ g, (z + 7) / 8 ≤ g ∧ g ≤ z / 8 + 1 ∧ inY n T x y z e' f g) → v = cond (tst 1 (so' : Int) 0) (cond (tst 1 (so' : Int) (al' : Int)) 2 (cond (tst 1 (cond (tst 0 (x : Int) 0) 1 (cond (tst 0 (y : Int) 0) 1 (cond (tst 0 (z : Int) 0) 1 (cond (tst 0 (x : Int) ((8 * n : Nat) : Int)) 1 (cond (tst 0 (y : Int) ((8 * n : Nat) : Int)) 1 (cond (tst 1 (z : Int) ((8 * n : Nat) : Int)) 0 1)))))) (0 : Int)) 2 1)) (0 : Int) → Q ((0, (0, v)), h)) → Ends (ev PP (gsF gv) B d 43 72 [(2, rf (B + 0)), (0, o), (0, (x : Int)), (0, (y : Int)), (0, (z : Int)), (2, rf s0), (0, ((8 * n : Nat) : Int)), (0, (al : Int)), (0, (so : Int)), (0, (e : Int) - 1), u10, u11, u12] [] h) Q := by
    intro c
    induction c with
    | zero =>
      intro e al so M A E u10 u11 u12 he e0 hM i k
      refine Ends.eq (b43_72 l (by omega)) ?_
      rw [hi x hx]
      exact Ends.b4 (fun _ => Ends.sm (k _ al so (i.cg (by omega) (all_0 (X := fun e' => ∀ f, (y + 7) / 8 ≤ f → f ≤ y / 8 + 1 → ∀ g, (z + 7) / 8 ≤ g → g ≤ z / 8 + 1 → inX n T x y z e' f g) (by omega)) (ex_0 (X := fun e' => ∃ f, (y + 7) / 8 ≤ f ∧ f ≤ y / 8 + 1 ∧ ∃ g, (z + 7) / 8 ≤ g ∧ g ≤ z / 8 + 1 ∧ inY n T x y z e' f g) (by omega))) rfl)) (fun w => absurd w (by omega))
    | succ c ih =>
      intro e al so M A E u10 u11 u12 he e0 hM i k
      refine Ends.eq (b43_72 l (by omega)) ?_
      rw [hi x hx, lo y hy]
      refine Ends.b4 (fun w => absurd w (by omega)) (fun _ => ?_)
      refine lj e e0 (by omega) (y / 8 + 2 - (y + 7) / 8) ((y + 7) / 8) al so M A E u11 u12 (by omega) (Nat.le_refl _) (by omega) i (fun al' so' u10 u11 u12 j => ?_)
      refine ih (e + 1) al' so' (M + 96) _ _ u10 u11 u12 (by omega) (by omega) (by omega) (j.cg (by omega) Iff.rfl Iff.rfl) (fun v al' so' j2 ev_ => k v al' so' (j2.cg (by omega) ?_ ?_) ev_)
      · exact all_st (X := fun e' => ∀ f, (y + 7) / 8 ≤ f → f ≤ y / 8 + 1 → ∀ g, (z + 7) / 8 ≤ g → g ≤ z / 8 + 1 → inX n T x y z e' f g) (by omega)
      · exact ex_st (X := fun e' => ∃ f, (y + 7) / 8 ≤ f ∧ f ≤ y / 8 + 1 ∧ ∃ g, (z + 7) / 8 ≤ g ∧ g ≤ z / 8 + 1 ∧ inY n T x y z e' f g) (by omega)
  refine Ends.eq (b43_55 (n := n) (by (repeat' first | assumption | refine LX.setF _ _ ?_ (by decide +kernel) | refine LX.setS ?_ rfl | refine LX.setA ?_ (by first | assumption | omega))) (by first | assumption | omega)) ?_
  rw [lo x hx]
  refine li (x / 8 + 2 - (x + 7) / 8) ((x + 7) / 8) 0 0 0 True False _ _ _ (by omega) (Nat.le_refl _) (by omega) ⟨Nat.le_refl 0, Nat.le_refl 0, ⟨fun _ => trivial, fun _ => rfl⟩, ⟨fun w => w rfl, fun w => w.elim⟩⟩ (fun v al so i ev_ => K2 v ?_)
  obtain ⟨i1, i2, i3, i4⟩ := i
  have a3 : so = al ↔ inA n T x y z := i3.trans ⟨fun w => w.2, fun w => ⟨trivial, w⟩⟩
  have a4 : so ≠ 0 ↔ inE n T x y z := i4.trans ⟨fun w => w.resolve_left id, Or.inr⟩
  have bb : cond (tst 1 (cond (tst 0 (x : Int) 0) 1 (cond (tst 0 (y : Int) 0) 1 (cond (tst 0 (z : Int) 0) 1 (cond (tst 0 (x : Int) ((8 * n : Nat) : Int)) 1 (cond (tst 0 (y : Int) ((8 * n : Nat) : Int)) 1 (cond (tst 1 (z : Int) ((8 * n : Nat) : Int)) 0 1)))))) (0 : Int)) (2 : Int) 1 = if x = 0 ∨ y = 0 ∨ z = 0 ∨ x = 8 * n ∨ y = 8 * n ∨ z = 8 * n then 2 else 1 := by
    exact bord_c
  rw [ev_, bb, ct1, ct1]
  unfold insS
  by_cases s0' : so = 0
  · rw [if_pos (show (so : Int) = 0 by omega), if_pos (show ¬ inE n T x y z from fun w => (a4.mpr w) s0')]
  · rw [if_neg (show ¬ (so : Int) = 0 from fun w => s0' (Int.ofNat.inj w)), if_neg (show ¬ ¬ inE n T x y z from fun w => w (a4.mp s0'))]
    by_cases sa : so = al
    · rw [if_pos (show (so : Int) = (al : Int) by rw [sa])]
      by_cases w : x = 0 ∨ y = 0 ∨ z = 0 ∨ x = 8 * n ∨ y = 8 * n ∨ z = 8 * n
      · rw [if_pos w, if_neg (show ¬ (inA n T x y z ∧ ¬ inB n x y z) from fun q => q.2 w)]
      · rw [if_neg w, if_pos (show inA n T x y z ∧ ¬ inB n x y z from ⟨a3.mp sa, w⟩)]
    · rw [if_neg (show ¬ (so : Int) = (al : Int) from fun w => sa (Int.ofNat.inj w)), if_neg (show ¬ (inA n T x y z ∧ ¬ inB n x y z) from fun q => sa (a3.mpr q.1))]
end INS
