/-! L3: who clashes: the k-th pair; the desk's search -/
section CLA
/-- pair p = 12 i + j is none that meets -/
noncomputable def clK (Mt : Nat → Nat → Prop) (pl p : Nat) : Bool := @decide (¬ (p / 12 < p % 12 ∧ p % 12 < pl ∧ Mt (p / 12) (p % 12))) (Classical.propDecidable _)
theorem clK_iff {Mt : Nat → Nat → Prop} {pl p : Nat} : clK Mt pl p = false ↔ p / 12 < p % 12 ∧ p % 12 < pl ∧ Mt (p / 12) (p % 12) := by
  unfold clK
  rw [decide_eq_false_iff_not, Classical.not_not]
theorem clK_at {Mt : Nat → Nat → Prop} {pl i j : Nat} (hj : j < 12) : clK Mt pl (12 * i + j) = false ↔ i < j ∧ j < pl ∧ Mt i j := by
  rw [clK_iff, show (12 * i + j) / 12 = i by omega, show (12 * i + j) % 12 = j by omega]
theorem clK_congr {Mt Mt' : Nat → Nat → Prop} {pl : Nat} (e : ∀ i j, i < j → j < pl → (Mt i j ↔ Mt' i j)) : clK Mt pl = clK Mt' pl := funext fun p => by
  have : (clK Mt pl p = false) ↔ (clK Mt' pl p = false) := by
    rw [clK_iff, clK_iff]
    constructor
    · rintro ⟨a, b, c⟩; exact ⟨a, b, (e _ _ a b).mp c⟩
    · rintro ⟨a, b, c⟩; exact ⟨a, b, (e _ _ a b).mpr c⟩
  cases e1 : clK Mt pl p <;> cases e2 : clK Mt' pl p
  · rfl
  · rw [e2] at this; exact absurd (this.mp e1) (by decide)
  · rw [e1] at this; exact absurd (this.mpr e2) (by decide)
  · rfl
/-- how many of the first p meet -/
noncomputable def clN (Mt : Nat → Nat → Prop) (pl p : Nat) : Nat := cntN (fun q => !clK Mt pl q) p
theorem clN_s {Mt : Nat → Nat → Prop} {pl p : Nat} : clN Mt pl (p + 1) = clN Mt pl p + if clK Mt pl p = false then 1 else 0 := by
  unfold clN
  rw [cntN_s]
  cases clK Mt pl p <;> rfl
theorem clN_skip {Mt : Nat → Nat → Prop} {pl p : Nat} : ∀ m, (∀ q, p ≤ q → q < p + m → clK Mt pl q ≠ false) → clN Mt pl (p + m) = clN Mt pl p
  | 0, _ => rfl
  | m + 1, h => by
    rw [← Nat.add_assoc, clN_s, clN_skip m (fun q h1 h2 => h q h1 (by omega)), if_neg (h _ (by omega) (by omega))]
    rfl
theorem clN_le {Mt : Nat → Nat → Prop} {pl p : Nat} : clN Mt pl p ≤ p := cntN_le _ _
/-- the k-th pair that clashes, as 100 i + j; -1 -/
def ClA (Mt : Nat → Nat → Prop) (pl : Nat) (k x : Int) : Prop := (k < 0 ∧ x = -1) ∨ (0 ≤ k ∧ ((∃ i j : Nat, i < j ∧ j < pl ∧ Mt i j ∧ ((clN Mt pl (12 * i + j) : Nat) : Int) = k ∧ x = ((100 * i + j : Nat) : Int)) ∨ (x = -1 ∧ ((clN Mt pl (12 * pl) : Nat) : Int) ≤ k)))
theorem clN_lt {Mt : Nat → Nat → Prop} {pl p q : Nat} (h : p < q) (e : clK Mt pl p = false) : clN Mt pl p < clN Mt pl q := by
  have := cntN_mono (S := fun q => !clK Mt pl q) (i := p + 1) q h
  have e2 := clN_s (Mt := Mt) (pl := pl) (p := p)
  rw [if_pos e] at e2
  unfold clN at *
  omega
theorem ClA.uniq {Mt : Nat → Nat → Prop} {pl : Nat} (hp : pl ≤ 12) {k x y : Int} (a : ClA Mt pl k x) (b : ClA Mt pl k y) : x = y := by
  rcases a with ⟨a0, a1⟩ | ⟨a0, a1⟩ <;> rcases b with ⟨b0, b1⟩ | ⟨b0, b1⟩
  · rw [a1, b1]
  · omega
  · omega
  rcases a1 with ⟨i, j, a2, a3, a4, a5, a6⟩ | ⟨a1, a2⟩ <;> rcases b1 with ⟨i', j', b2, b3, b4, b5, b6⟩ | ⟨b1, b2⟩
  · have c := (clK_at (Mt := Mt) (pl := pl) (i := i) (show j < 12 by omega)).mpr ⟨a2, a3, a4⟩
    have c' := (clK_at (Mt := Mt) (pl := pl) (i := i') (show j' < 12 by omega)).mpr ⟨b2, b3, b4⟩
    rcases Nat.lt_trichotomy (12 * i + j) (12 * i' + j') with z | z | z
    · have := clN_lt z c; omega
    · omega
    · have := clN_lt z c'; omega
  · have c := (clK_at (Mt := Mt) (pl := pl) (i := i) (show j < 12 by omega)).mpr ⟨a2, a3, a4⟩
    have := clN_lt (q := 12 * pl) (by omega) c
    omega
  · have c := (clK_at (Mt := Mt) (pl := pl) (i := i') (show j' < 12 by omega)).mpr ⟨b2, b3, b4⟩
    have := clN_lt (q := 12 * pl) (by omega) c
    omega
  · rw [a1, b1]
theorem ClA.congr {Mt Mt' : Nat → Nat → Prop} {pl : Nat} {k x : Int} (a : ClA Mt pl k x) (e : ∀ i j, i < j → j < pl → (Mt i j ↔ Mt' i j)) : ClA Mt' pl k x := by
  have en : clN Mt pl = clN Mt' pl := by unfold clN; rw [clK_congr e]
  rcases a with a | ⟨a0, ⟨i, j, a2, a3, a4, a5, a6⟩ | a1⟩
  · exact Or.inl a
  · exact Or.inr ⟨a0, Or.inl ⟨i, j, a2, a3, (e i j a2 a3).mp a4, by rw [← en]; exact a5, a6⟩⟩
  · exact Or.inr ⟨a0, Or.inr (by rw [← en]; exact a1)⟩
/-- what goes on row by row: from row i's beginning to its first pair; from its end to the next row -/
theorem clN_row {Mt : Nat → Nat → Prop} {pl i : Nat} (hi : i < 12) : clN Mt pl (12 * i + (i + 1)) = clN Mt pl (12 * i) := clN_skip (i + 1) (fun q h1 h2 => by
  rw [show q = 12 * i + (q - 12 * i) by omega]
  intro z
  have := (clK_at (show q - 12 * i < 12 by omega)).mp z
  omega)
theorem clN_end {Mt : Nat → Nat → Prop} {pl i : Nat} (hp : pl ≤ 12) : clN Mt pl (12 * (i + 1)) = clN Mt pl (12 * i + pl) := by
  rw [show 12 * (i + 1) = (12 * i + pl) + (12 - pl) by omega]
  refine clN_skip (12 - pl) (fun q h1 h2 => ?_)
  rw [show q = 12 * i + (q - 12 * i) by omega]
  intro z
  have := (clK_at (show q - 12 * i < 12 by omega)).mp z
  omega
end CLA
section CLASH109
variable {gv : Nat → Int} {B n d : Nat} {h : AH} {is : Nat → Bool} {cl : Nat → Nat} {S : Nat → Nat → Bool} {pl : Nat} {bd wy : Nat → Nat} {sh : Nat → Nat → Int} {lw hg : Nat → Nat → Nat}
/-- places i and j have a grain in common -/
def MtI (n : Nat) (S : Nat → Nat → Bool) (bd wy : Nat → Nat) (sh : Nat → Nat → Int) (i j : Nat) : Prop := MtS n (wy i) (wy j) (S (bd i)) (S (bd j)) (fun k => sh k j - sh k i)
/-- the cells that two turned solids are made in, and what turning needs -/
def asW (B s0 s1 : Nat) : Nat → Nat → Prop := fun c k => c = s0 ∨ c = s1 ∨ (c = B + 54 ∨ c = B + 55 ∨ c = B + 106 ∨ c = B + 107 ∨ c = B + 108) ∨ (B + 128 ≤ c ∧ c ≤ B + 131) ∨ (c = B + 118 ∧ k = 18)
def clW (B : Nat) (h : AH) : Nat → Nat → Prop := fun c j => (c = B + 53 ∧ j < 2) ∨ (c = B + 118 ∧ (j = 19 ∨ j = 20)) ∨ (c = B + 54 ∨ c = B + 55 ∨ c = B + 106 ∨ c = B + 107 ∨ c = B + 108) ∨ ((B + 128 ≤ c ∧ c ≤ B + 131) ∨ (c = B + 118 ∧ j = 18)) ∨ Scr B h c
/-- all that is known while the desk turns places into its two cells -/
def AsX (B n : Nat) (q : AH) (is : Nat → Bool) (cl : Nat → Nat) (S : Nat → Nat → Bool) (pl : Nat) (bd wy : Nat → Nat) (sh : Nat → Nat → Int) (lw hg : Nat → Nat → Nat) (s0 s1 : Nat) : Prop := TbC B q ∧ BdC B n q is cl S ∧ AsP B q pl bd wy sh lw hg ∧ hv q (B + 118) 3 = (pl : Int) ∧ hv q (B + 118) 19 = rf s0 ∧ hv q (B + 118) 20 = rf s1 ∧ (B + 246 ≤ s0 ∧ s0 < hnx q ∧ hk q s0 = (3, 24 * n * n)) ∧ (B + 246 ≤ s1 ∧ s1 < hnx q ∧ hk q s1 = (3, 24 * n * n)) ∧ s0 ≠ s1 ∧ B + 246 ≤ hnx q ∧ ∀ x, x < 10 → is x = true → cl x ≠ s0 ∧ cl x ≠ s1
theorem AsX.agr {s0 s1 : Nat} {W : Nat → Nat → Prop} {q : AH} (x : AsX B n h is cl S pl bd wy sh lw hg s0 s1) (g : Agr W h q) (hW : ∀ c k, W c k → c = s0 ∨ c = s1 ∨ c = B + 54 ∨ c = B + 55 ∨ (B + 106 ≤ c ∧ c ≤ B + 108) ∨ (B + 128 ≤ c ∧ c ≤ B + 131) ∨ (c = B + 118 ∧ k = 18)) : AsX B n q is cl S pl bd wy sh lw hg s0 s1 := by
  obtain ⟨x1, x2, x3, x4, x5, x6, ⟨x7, x8, x9⟩, ⟨y7, y8, y9⟩, x10, x11, x12⟩ := x
  refine ⟨x1.ext x11 g.ext (fun c k h1 h2 z => by have := hW _ _ z; omega), x2.ext x11 g.ext (fun k => ?_) (fun i hi ii k z => ?_), x3.agr g (fun c k h1 h2 z => by have := hW _ _ z; omega), by rw [g.at _ _ (fun z => by have := hW _ _ z; omega)]; exact x4, by rw [g.at _ _ (fun z => by have := hW _ _ z; omega)]; exact x5, by rw [g.at _ _ (fun z => by have := hW _ _ z; omega)]; exact x6, ⟨x7, by rw [g.nx]; exact x8, by rw [g.hk]; exact x9⟩, ⟨y7, by rw [g.nx]; exact y8, by rw [g.hk]; exact y9⟩, x10, by rw [g.nx]; exact x11, x12⟩
  · refine ⟨fun z => ?_, fun z => ?_, fun z => ?_⟩ <;> (have := hW _ _ z; omega)
  · have := hW _ _ z
    have c1 := ((x2.1 i hi).2 ii).2.1
    have := x12 i hi ii
    omega
/-- a place turned into the one cell or the other -/
theorem AsX.turn {s0 s1 i : Nat} {M : Int} {b : Bool} (x : AsX B n h is cl S pl bd wy sh lw hg s0 s1) (l : LX B n h) (hd : 17 ≤ d) (hn0 : 0 < n) (hn : n ≤ 52) (V : AsV n is M pl bd wy sh lw hg) (hi : i < pl) : Vd (cll PP (ev PP (gsF gv) B) d 124 [(2, rf (B + 118)), (0, (i : Int)), (2, rf (if b then s1 else s0))] h) (fun h' => Agr (tuW B (if b then s1 else s0)) h h' ∧ ∃ R, SG n h' (if b then s1 else s0) R ∧ TuR n (wy i) (S (bd i)) R) := by
  obtain ⟨x1, x2, x3, x4, x5, x6, ⟨x7, x8, x9⟩, ⟨y7, y8, y9⟩, x10, x11, x12⟩ := x
  have V1 := V.2 i hi
  have hp := V.1
  have P := x3 i hi
  cases b
  · exact c_turned124 l hd hn0 hn x1 x2 (by omega) P.1 P.2.1 V1.1 V1.2.1 V1.2.2.1 x7 x9 (x12 _ V1.1 V1.2.1).1
  · exact c_turned124 l hd hn0 hn x1 x2 (by omega) P.1 P.2.1 V1.1 V1.2.1 V1.2.2.1 y7 y9 (x12 _ V1.1 V1.2.1).2
theorem AsX.meet {s0 s1 i j ax : Nat} {M : Int} {R0 R1 : Nat → Bool} {y : Int} (x : AsX B n h is cl S pl bd wy sh lw hg s0 s1) (l : LX B n h) (hd : 12 ≤ d) (hn0 : 0 < n) (hn : n ≤ 52) (V : AsV n is M pl bd wy sh lw hg) (hM : M ≤ 1000000) (hi : i < pl) (hj : j < pl) (z0 : SG n h s0 R0) (z1 : SG n h s1 R1) (t0 : TuR n (wy i) (S (bd i)) R0) (t1 : TuR n (wy j) (S (bd j)) R1) (hy : -1000 ≤ y ∧ y ≤ 1000) :
    Vt 0 (cll PP (ev PP (gsF gv) B) d 116 [(2, rf (B + 118)), (0, (i : Int)), (0, (j : Int)), (0, (ax : Int)), (0, y)] h) (fun v h' => h' = h ∧ ((v = 1 ∧ MtS n (wy i) (wy j) (S (bd i)) (S (bd j)) (fun k => sh k j - sh k i + if k = ax then y else 0)) ∨ (v = 0 ∧ ¬ MtS n (wy i) (wy j) (S (bd i)) (S (bd j)) (fun k => sh k j - sh k i + if k = ax then y else 0)))) := by
  obtain ⟨x1, x2, x3, x4, x5, x6, x7⟩ := x
  have hp := V.1
  have Vi := V.2 i hi
  have Vj := V.2 j hj
  exact c_meet116 l hd hn0 hn (by omega) (by omega) x5 x6 z0 z1 t0 t1 Vi.2.2.1 Vj.2.2.1 (fun b hb => ⟨((x3 i hi).2.2 b hb).1, by have := Vi.2.2.2 b hb; omega⟩) (fun b hb => ⟨((x3 j hj).2.2 b hb).1, by have := Vj.2.2.2 b hb; omega⟩) hy
/-- what need leaves -/
theorem Asd.x {s0 s1 : Nat} {h1 : AH} (a : Asd B n h h1 s0 s1) (l : LX B n h) (m : TbC B h) (b : BdC B n h is cl S) (R : Reg B n h) (P : AsP B h pl bd wy sh lw hg) (e3 : hv h (B + 118) 3 = (pl : Int)) : AsX B n h1 is cl S pl bd wy sh lw hg s0 s1 := by
  have hb0 := l.2.2
  obtain ⟨a1, a2, a3, a4, ⟨a5, a6, a7, c7⟩, ⟨a8, a9, a10, c10⟩, a11, R1, u1, x1, X1⟩ := a
  have n1 := X1.2.2.1
  have hs : ∀ x, x < 10 → is x = true → thS is (x : Int) = true := fun x hx ix => by
    unfold thS
    rw [decide_eq_true (show (0 : Int) ≤ (x : Int) ∧ (x : Int) < 10 by omega), show ((x : Nat) : Int).toNat = x from rfl, ix, Bool.and_true, Bool.or_true]
  have ec : ∀ x : Nat, clS B cl (x : Int) = cl x := fun x => by unfold clS; rw [if_neg (by omega)]; rfl
  refine ⟨m.ext hb0 X1 (fun c k h1 h2 z => by omega), b.ext hb0 X1 (fun k => by omega) (fun x hx ix k z => by have := ((b.1 x hx).2 ix).2.1; omega), P.ext hb0 X1 (fun c k h1 h2 z => by omega), by rw [X1.at _ (by omega) (by omega)]; exact e3, a1, a2, ⟨a5, a6, a7⟩, ⟨a8, a9, a10⟩, a11, by omega, fun x hx ix => ⟨fun z => ?_, fun z => ?_⟩⟩
  · exact scr_c (o := (x : Int)) l b R (hs x hx ix) a5 c7 (by rw [ec]; exact z)
  · exact scr_c (o := (x : Int)) l b R (hs x hx ix) a8 c10 (by rw [ec]; exact z)
/-- what the search has left behind -/
theorem Asd.sc {s0 s1 : Nat} {h1 q : AH} (a : Asd B n h h1 s0 s1) (l : LX B n h) (l1 : LX B n h1) (g : Agr (asW B s0 s1) h1 q) : ScE B n (clW B h) 2 (24 * n * n + 24 * n * n) h q := by
  obtain ⟨a1, a2, a3, a4, ⟨a5, a6, a7, c7⟩, ⟨a8, a9, a10, c10⟩, a11, R1, u1, x1, X1⟩ := a
  have hb1 := l1.2.2
  obtain ⟨RE, LE⟩ := R1.ext hb1 g.ext (fun i hi z => by have := rgi hi; unfold asW at z; omega)
  refine ⟨(X1.sub (fun c j _ z => by rcases z with z | z; exact Or.inl z; exact Or.inr (Or.inl z)) (Nat.le_refl _) (Nat.le_refl _)).tr (c' := 0) (s' := 0) g.ext (fun c j hc z => ?_), RE, by rw [g.us, LE]; omega⟩
  rcases z with z | z | z | z
  · exact Or.inr (Or.inr (Or.inr (Or.inr (by rw [z]; exact c7 (by omega)))))
  · exact Or.inr (Or.inr (Or.inr (Or.inr (by rw [z]; exact c10 (by omega)))))
  · exact Or.inr (Or.inr (Or.inl z))
  · exact Or.inr (Or.inr (Or.inr (Or.inl z)))
theorem c_clash109 {k : Int} {M : Int} (l : LX B n h) (hd : 21 ≤ d) (hn0 : 0 < n) (hn : n ≤ 52) (m : TbC B h) (b : BdC B n h is cl S) (R : Reg B n h) (P : AsP B h pl bd wy sh lw hg) (V : AsV n is M pl bd wy sh lw hg) (hM : M ≤ 1000000) (e3 : hv h (B + 118) 3 = (pl : Int)) (hk32 : -2147483648 ≤ k ∧ k < 2147483648) :
    Vt 0 (cll PP (ev PP (gsF gv) B) d 109 [(2, rf (B + 118)), (0, k)] h) (fun x h' => ClA (MtI n S bd wy sh) pl k x ∧ ScE B n (clW B h) 2 (24 * n * n + 24 * n * n) h h') := by
  have hp := V.1
  refine Vt.inq (D := 20) hd (Nat.le_of_ble_eq_true rfl) rfl (fun d hd Q K => ?_)
  refine Ends.eq (b109_0 (n := n) (by (repeat' first | assumption | refine LX.setF _ _ ?_ (by decide +kernel) | refine LX.setS ?_ rfl | refine LX.setA ?_ (by first | assumption | omega))) (by first | assumption | omega)) ?_
  refine Ends.cv l (by decide +kernel) (c_need117 l (by omega) hn R) (fun h1 l1 _ _ _ ⟨s0, s1, a⟩ => ?_)
  have X1 := a.x l m b R P e3
  have sne := X1.2.2.2.2.2.2.2.2.1
  have sge := X1.2.2.2.2.2.2.1.1
  have tge := X1.2.2.2.2.2.2.2.1.1
  have fin : ∀ x q, Agr (asW B s0 s1) h1 q → ClA (MtI n S bd wy sh) pl k x → Q ((0, (0, x)), q) := fun x q g c => K _ _ ⟨c, a.sc l l1 g⟩
  have aX : ∀ c k, asW B s0 s1 c k → c = s0 ∨ c = s1 ∨ c = B + 54 ∨ c = B + 55 ∨ (B + 106 ≤ c ∧ c ≤ B + 108) ∨ (B + 128 ≤ c ∧ c ≤ B + 131) ∨ (c = B + 118 ∧ k = 18) := fun c k z => by unfold asW at z; omega
  have out : ∀ q (x2 x3 : Int) (u4 : AV), LX B n q → Agr (asW B s0 s1) h1 q → ClA (MtI n S bd wy sh) pl k (-1) → Ends (ev PP (gsF gv) B d 109 96 [(2, rf (B + 118)), (0, k), (0, x2), (0, x3), u4] [] q) Q := fun q x2 x3 u4 lq g c => by
    refine Ends.eq (b109_96 (n := n) (by (repeat' first | assumption | refine LX.setF _ _ ?_ (by decide +kernel) | refine LX.setS ?_ rfl | refine LX.setA ?_ (by first | assumption | omega))) (by first | assumption | omega)) ?_
    exact Ends.sm (fin _ _ g c)
  have rows : ∀ (r i : Nat) (q : AH) (u4 : AV), i + r = pl → LX B n q → Agr (asW B s0 s1) h1 q → (0 ≤ k → ((clN (MtI n S bd wy sh) pl (12 * i) : Nat) : Int) ≤ k) → Ends (ev PP (gsF gv) B d 109 8 [(2, rf (B + 118)), (0, k), (0, ((clN (MtI n S bd wy sh) pl (12 * i) : Nat) : Int)), (0, (i : Int)), u4] [] q) Q := by
    intro r
    induction r with
    | zero =>
      intro i q u4 hi lq gq hc
      obtain rfl : i = pl := by omega
      have Xq := X1.agr gq aX
      refine Ends.eq (b109_8 (n := n) (by (repeat' first | assumption | refine LX.setF _ _ ?_ (by decide +kernel) | refine LX.setS ?_ rfl | refine LX.setA ?_ (by first | assumption | omega))) (by first | assumption | omega)) ?_
      rw [Xq.2.2.2.1]
      refine Ends.b3 (fun _ => out _ _ _ _ lq gq ?_) (fun z => by omega)
      by_cases k0 : k < 0
      · exact Or.inl ⟨k0, rfl⟩
      · exact Or.inr ⟨by omega, Or.inr ⟨rfl, hc (by omega)⟩⟩
    | succ r ih =>
      intro i q u4 hi lq gq hc
      have hip : i < pl := by omega
      have Xq := X1.agr gq aX
      refine Ends.eq (b109_8 (n := n) (by (repeat' first | assumption | refine LX.setF _ _ ?_ (by decide +kernel) | refine LX.setS ?_ rfl | refine LX.setA ?_ (by first | assumption | omega))) (by first | assumption | omega)) ?_
      rw [Xq.2.2.2.1, Xq.2.2.2.2.1]
      refine Ends.b3 (fun z => by omega) (fun _ => Ends.b2 (fun z => out _ _ _ _ lq gq (Or.inl ⟨z, rfl⟩)) (fun k0 => ?_))
      have tu := Xq.turn (gv := gv) (d := d) (b := false) lq (by omega) hn0 hn V hip
      simp only [Bool.false_eq_true, if_false] at tu
      refine Ends.cv lq (by decide +kernel) tu (fun q2 l2 _ _ _ ⟨g2, R0, z0, t0⟩ => ?_)
      have gq2 : Agr (asW B s0 s1) h1 q2 := gq.tr g2 (fun c k z => by unfold tuW at z; unfold asW; omega)
      refine Ends.eq (b109_29 (n := n) (by (repeat' first | assumption | refine LX.setF _ _ ?_ (by decide +kernel) | refine LX.setS ?_ rfl | refine LX.setA ?_ (by first | assumption | omega))) (by first | assumption | omega)) ?_
      rw [show bop32 96 (i : Int) 1 = ((i + 1 : Nat) : Int) from addNN (y := 1) (by omega)]
      have cols : ∀ (r2 j : Nat) (q3 : AH), j + r2 = pl → i < j → LX B n q3 → Agr (asW B s0 s1) h1 q3 → SG n q3 s0 R0 → ((clN (MtI n S bd wy sh) pl (12 * i + j) : Nat) : Int) ≤ k → Ends (ev PP (gsF gv) B d 109 34 [(2, rf (B + 118)), (0, k), (0, ((clN (MtI n S bd wy sh) pl (12 * i + j) : Nat) : Int)), (0, (i : Int)), (0, (j : Int))] [] q3) Q := by
        intro r2
        induction r2 with
        | zero =>
          intro j q3 hj hij l3 g3 z3 hc3
          obtain rfl : j = pl := by omega
          have X3 := X1.agr g3 aX
          refine Ends.eq (b109_34 (n := n) (by (repeat' first | assumption | refine LX.setF _ _ ?_ (by decide +kernel) | refine LX.setS ?_ rfl | refine LX.setA ?_ (by first | assumption | omega))) (by first | assumption | omega)) ?_
          rw [X3.2.2.2.1, w_succ (by omega)]
          refine Ends.b3 (fun _ => ?_) (fun z => by omega)
          rw [← clN_end hp] at hc3 ⊢
          exact ih (i + 1) q3 _ (by omega) l3 g3 (fun _ => hc3)
        | succ r2 ihc =>
          intro j q3 hj hij l3 g3 z3 hc3
          have hjp : j < pl := by omega
          have X3 := X1.agr g3 aX
          refine Ends.eq (b109_34 (n := n) (by (repeat' first | assumption | refine LX.setF _ _ ?_ (by decide +kernel) | refine LX.setS ?_ rfl | refine LX.setA ?_ (by first | assumption | omega))) (by first | assumption | omega)) ?_
          rw [X3.2.2.2.1, X3.2.2.2.2.2.1]
          refine Ends.b3 (fun z => by omega) (fun _ => ?_)
          have tu3 := X3.turn (gv := gv) (d := d) (b := true) l3 (by omega) hn0 hn V hjp
          simp only [if_true] at tu3
          refine Ends.cv l3 (by decide +kernel) tu3 (fun q4 l4 _ _ _ ⟨g4, R1, z1, t1⟩ => ?_)
          have gq4 : Agr (asW B s0 s1) h1 q4 := g3.tr g4 (fun c k z => by unfold tuW at z; unfold asW; omega)
          have X4 := X1.agr gq4 aX
          have z04 : SG n q4 s0 R0 := z3.agr g4 (fun k z => by unfold tuW at z; omega)
          refine Ends.eq (b109_53 (n := n) (by (repeat' first | assumption | refine LX.setF _ _ ?_ (by decide +kernel) | refine LX.setS ?_ rfl | refine LX.setA ?_ (by first | assumption | omega))) (by first | assumption | omega)) ?_
          have me := X4.meet (gv := gv) (d := d) (ax := 0) (y := 0) l4 (by omega) hn0 hn V hM hip hjp z04 z1 t0 t1 (by omega)
          refine Ends.ct l4 (by decide +kernel) (by decide) me (fun v q5 l5 _ _ _ ⟨e5, evv⟩ => ?_)
          subst e5
          have mi : MtS n (wy i) (wy j) (S (bd i)) (S (bd j)) (fun k => sh k j - sh k i + if k = 0 then 0 else 0) ↔ MtI n S bd wy sh i j := MtS.congr (fun _ _ => rfl) (fun _ _ => rfl) (fun k _ => by split <;> omega)
          rw [mi] at evv
          have ck := clK_at (Mt := MtI n S bd wy sh) (pl := pl) (i := i) (j := j) (by omega)
          have cs := clN_s (Mt := MtI n S bd wy sh) (pl := pl) (p := 12 * i + j)
          have cl1 := clN_le (Mt := MtI n S bd wy sh) (pl := pl) (p := 12 * i + j)
          have nx : ((clN (MtI n S bd wy sh) pl (12 * i + j + 1) : Nat) : Int) ≤ k → Ends (ev PP (gsF gv) B d 109 84 [(2, rf (B + 118)), (0, k), (0, ((clN (MtI n S bd wy sh) pl (12 * i + j + 1) : Nat) : Int)), (0, (i : Int)), (0, (j : Int))] [] q5) Q := fun hc5 => by
            refine Ends.eq (b109_84 (n := n) (by (repeat' first | assumption | refine LX.setF _ _ ?_ (by decide +kernel) | refine LX.setS ?_ rfl | refine LX.setA ?_ (by first | assumption | omega))) (by first | assumption | omega)) ?_
            rw [w_succ (by omega)]
            exact ihc (j + 1) q5 (by omega) (by omega) l5 gq4 z04 hc5
          refine Ends.eq (b109_62 (n := n) (by (repeat' first | assumption | refine LX.setF _ _ ?_ (by decide +kernel) | refine LX.setS ?_ rfl | refine LX.setA ?_ (by first | assumption | omega))) (by first | assumption | omega)) ?_
          rcases evv with ⟨rfl, yes⟩ | ⟨rfl, no⟩
          · refine Ends.b1 (fun _ => ?_) (fun z => absurd z (by decide))
            rw [if_pos (ck.mpr ⟨hij, hjp, yes⟩)] at cs
            refine Ends.b1 (fun z => ?_) (fun z => ?_)
            · rw [w_succ (by omega), ← cs]
              exact nx (by omega)
            · rw [show bop32 104 (100 : Int) (i : Int) = ((100 * i : Nat) : Int) from mulNN (x := 100) (by omega), addNN (by omega)]
              exact Ends.sm (fin _ _ gq4 (Or.inr ⟨k0, Or.inl ⟨i, j, hij, hjp, yes, z, rfl⟩⟩))
          · refine Ends.b1 (fun z => absurd rfl z) (fun _ => ?_)
            have cs2 : clN (MtI n S bd wy sh) pl (12 * i + j + 1) = clN (MtI n S bd wy sh) pl (12 * i + j) := by rw [cs, if_neg (fun z => no (ck.mp z).2.2)]; rfl
            rw [← cs2]
            exact nx (by omega)
      have := cols (pl - (i + 1)) (i + 1) q2 (by omega) (by omega) l2 gq2 z0 (by rw [clN_row (by omega)]; exact hc k0)
      rw [clN_row (by omega)] at this
      exact this
  refine Ends.eq (b109_4 (n := n) (by (repeat' first | assumption | refine LX.setF _ _ ?_ (by decide +kernel) | refine LX.setS ?_ rfl | refine LX.setA ?_ (by first | assumption | omega))) (by first | assumption | omega)) ?_
  exact rows pl 0 h1 _ (by omega) l1 Agr.rf (fun z => z)
end CLASH109
