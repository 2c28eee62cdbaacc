/-! L3: faces found by a name or two thirds of one (both sides) -/
noncomputable section FND
variable {gv : Nat → Int} {B n d m a pc cap kc : Nat} {h t : AH} {u : Nat → Int} {ka mk : Nat → Nat} {is : Nat → Bool} {cl : Nat → Nat} {SS : Nat → Nat → Bool}
/-- which faces are meant -/
def mtF (mk dr : Nat → Int) (N : Nat → Int) (K k : Nat) : Bool := fnM mk dr (N 0) (N 1) k && (decide (K ≠ 3) || decide (((rkF mk dr k : Nat) : Int) = N 2))
theorem mtF_congr {mk dr mk' dr' N : Nat → Int} {M K : Nat} (e : ∀ k, k < M → mk' k = mk k ∧ dr' k = dr k) : ∀ k, k < M → mtF mk' dr' N K k = mtF mk dr N K k := fun k hk => by
  unfold mtF; rw [fnM_congr e k hk, rkF_congr e hk]
theorem mtF_N {mk dr N N' : Nat → Int} {K k : Nat} (e0 : N' 0 = N 0) (e1 : N' 1 = N 1) (e2 : K = 3 → N' 2 = N 2) : mtF mk dr N' K k = mtF mk dr N K k := by
  unfold mtF
  rw [e0, e1]
  by_cases z : K = 3
  · rw [e2 z]
  · rw [decide_eq_true z, Bool.true_or, Bool.true_or]
/-- i-th among those below M -/
def nthR (p : Nat → Bool) (M : Nat) (i v : Int) : Prop := (∃ k, k < M ∧ p k = true ∧ ((cntN p k : Nat) : Int) = i ∧ v = (k : Int)) ∨ ((¬ ∃ k, k < M ∧ p k = true ∧ ((cntN p k : Nat) : Int) = i) ∧ v = -1)
theorem nthR.uniq {p : Nat → Bool} {M : Nat} {i v v' : Int} (r : nthR p M i v) (r' : nthR p M i v') : v = v' := by
  rcases r with ⟨k, k1, k2, k3, k4⟩ | ⟨no, e⟩
  · rcases r' with ⟨j, j1, j2, j3, j4⟩ | ⟨no, e⟩
    · rw [k4, j4, cnt_one k2 j2 (by omega)]
    · exact absurd ⟨k, k1, k2, k3⟩ no
  · rcases r' with ⟨j, j1, j2, j3, j4⟩ | ⟨no', e'⟩
    · exact absurd ⟨j, j1, j2, j3⟩ no
    · rw [e, e']
theorem nth_ex {p : Nat → Bool} {M : Nat} {i : Int} : (∃ k, k < M ∧ p k = true ∧ ((cntN p k : Nat) : Int) = i) ↔ (0 ≤ i ∧ i < ((cntN p M : Nat) : Int)) := by
  constructor
  · rintro ⟨k, k1, k2, k3⟩
    have c := cntN_s p k
    rw [k2, if_pos rfl] at c
    have c2 : cntN p (k + 1) ≤ cntN p M := cntN_mono (S := p) _ k1
    omega
  · rintro ⟨z1, z2⟩
    obtain ⟨k, k1, k2, k3⟩ := cntN_nth (f := p) (p := i.toNat) M (by omega)
    exact ⟨k, k1, k2, by omega⟩
/-- of three numbers there is one face at most -/
theorem mt3_one {mk dr N : Nat → Int} {k j : Nat} (h1 : mtF mk dr N 3 k = true) (h2 : mtF mk dr N 3 j = true) : k = j := by
  unfold mtF at h1 h2
  rw [decide_eq_false (show ¬ (3 ≠ 3) by decide), Bool.false_or, Bool.and_eq_true, decide_eq_true_iff] at h1 h2
  have rk : ∀ k, fnM mk dr (N 0) (N 1) k = true → rkF mk dr k = cntN (fnM mk dr (N 0) (N 1)) k := fun k e => by
    obtain ⟨e1, e2⟩ := fnM_iff.mp e
    unfold rkF fnM; rw [e1, e2]
  rw [rk k h1.1] at h1
  rw [rk j h2.1] at h2
  exact cnt_one h1.1 h2.1 (by omega)
theorem mt3_nth {mk dr N : Nat → Int} {M : Nat} {v : Int} (r : FnR mk dr M (N 0) (N 1) (N 2) v) : nthR (mtF mk dr N 3) M 0 v := by
  have iff : ∀ k, mtF mk dr N 3 k = true ↔ fnM mk dr (N 0) (N 1) k = true ∧ ((cntN (fnM mk dr (N 0) (N 1)) k : Nat) : Int) = N 2 := fun k => by
    unfold mtF
    rw [decide_eq_false (show ¬ (3 ≠ 3) by decide), Bool.false_or, Bool.and_eq_true, decide_eq_true_iff]
    constructor
    · rintro ⟨a, b⟩
      obtain ⟨e1, e2⟩ := fnM_iff.mp a
      refine ⟨a, ?_⟩
      rw [← b]; unfold rkF fnM; rw [e1, e2]
    · rintro ⟨a, b⟩
      obtain ⟨e1, e2⟩ := fnM_iff.mp a
      refine ⟨a, ?_⟩
      rw [← b]; unfold rkF fnM; rw [e1, e2]
  have c0 : ∀ k, mtF mk dr N 3 k = true → cntN (mtF mk dr N 3) k = 0 := fun k hk => cntN_none k (fun i hi => by
    cases e : mtF mk dr N 3 i
    · rfl
    · have := mt3_one e hk; omega)
  rcases r with ⟨k, k1, k2, k3, k4⟩ | ⟨no, ev'⟩
  · have := (iff k).mpr ⟨k2, k3⟩
    exact Or.inl ⟨k, k1, this, by rw [c0 k this]; rfl, k4⟩
  · exact Or.inr ⟨fun ⟨k, k1, k2, _⟩ => no ⟨k, k1, ((iff k).mp k2).1, ((iff k).mp k2).2⟩, ev'⟩
/-- what finding answers -/
def fdR (p : Nat → Bool) (M : Nat) (x : Int) : Prop := (cntN p M = 0 ∧ x = -1) ∨ (cntN p M = 1 ∧ nthR p M 0 x) ∨ (2 ≤ cntN p M ∧ x = -2)
/-- the desk's list -/
def LfR (B : Nat) (h : AH) (p : Nat → Bool) (M : Nat) : Prop := hv h (B + 0) 23 = ((cntN p M : Nat) : Int) ∧ ∀ k, k < M → p k = true → hv h (B + 30) (cntN p k) = (k : Int)
def fiW (B : Nat) (h : AH) : Nat → Nat → Prop := fun c k => sfW B h c k ∨ (c = B + 0 ∧ (k = 15 ∨ k = 23 ∨ k = 24)) ∨ c = B + 33 ∨ (c = B + 30 ∧ k < 4096)
/-- exactly K numbers -/
def exN (u : Nat → Int) (m K : Nat) : Prop := (2 ≤ K ∧ K ≤ 3) ∧ nmO u m 0 K ∧ nen u m 0 K = m
theorem sfW_lo (R : Reg B n h) (A : FaI B h pc cap ka kc) {c k : Nat} (z : sfW B h c k) : (c = B + 0 ∧ (k = 20 ∨ k = 21)) ∨ (B + 36 ≤ c ∧ c ≤ B + 50 ∧ (c = B + 36 → k = 17) ∧ ¬ (B + 37 ≤ c ∧ c ≤ B + 46)) ∨ (B + 82 ≤ c ∧ c ≤ B + 90) ∨ c = B + 112 ∨ c = B + 113 ∨ B + 246 ≤ c := by
  rcases z with z | z
  · rcases z with z | z
    · have := fdW_in R A z; omega
    · omega
  · omega
theorem c_find33 (l : LX B n h) (hd : 42 ≤ d) (hn4 : 4 ≤ n) (hn : n ≤ 52) (f : FcN B n h pc cap ka kc) (bd : BdC B n h is cl SS) (P : PmD B n h (SS 10) mk) (q : FoD B n h is SS mk ka kc) (h15 : hv h (B + 0) 15 = (m : Int)) (hm : m ≤ 8192) (hb : ∀ i, i < m → (-128 ≤ hv h (B + 26) i ∧ hv h (B + 26) i < 128) ∧ hv h (B + 26) i % 256 = u i) :
    Vt 0 (cll PP (ev PP (gsF gv) B) d 33 [(2, rf (B + 0))] h) (fun x h' => ((¬ ∃ K, exN u m K) ∧ x = -3 ∧ Agr (fun c k => (c = B + 0 ∧ k = 15) ∨ c = B + 33) h h' ∧ hv h' (B + 0) 15 = 0) ∨ ∃ K, exN u m K ∧ ∃ mm F pc' cap' ka' kc', (FcN B n h' pc' cap' ka' kc' ∧ (hnx h ≤ pc' ∨ hv h (B + 82) 3 = rf pc') ∧ ∀ j, j < 6 → hnx h ≤ ka' j ∨ hv h (B + 82) (7 + j) = rf (ka' j)) ∧ FdS B n h' (SS 10) mm F ka' kc' ∧ MkS B h' (mmk mk F) (mdr F) (min mm 4096) ∧ FoD B n h' is SS mk ka' kc' ∧ fcz B n h' cap' kc' = fcz B n h cap kc ∧ cel h h' ∧ ExG (fiW B h) h h' ∧ hv h' (B + 0) 15 = 0 ∧ hv h' (B + 0) 24 = hv h (B + 92) 37 ∧ LfR B h' (mtF (mmk mk F) (mdr F) (fun j => nbV u m (nst u m 0 j)) K) (min mm 4096) ∧ fdR (mtF (mmk mk F) (mdr F) (fun j => nbV u m (nst u m 0 j)) K) (min mm 4096) x) := by
  have hb0 := l.2.2
  obtain ⟨s1, -, -⟩ := bd.sol (o := -1) l (by unfold thS; rfl)
  have s1 : SG n h (B + 117) (SS 10) := s1
  refine Vt.inq (D := 41) hd (Nat.le_of_ble_eq_true rfl) rfl (fun d hd Q KK => ?_)
  refine Ends.eq (b33_0 l (by omega)) ?_
  refine Ends.ct l (by decide +kernel) (by decide) (c_read76 l (by omega)) (fun x h1 l1 _ _ _ ⟨ex, e1⟩ => ?_)
  have g1 : Agr (fun c k => c = B + 0 ∧ k = 15) h h1 := by rw [e1]; exact Agr.rf.set ⟨rfl, rfl⟩
  have v15 : hv h1 (B + 0) 15 = 0 := by rw [e1]; exact hv_set_at ..
  clear e1
  refine Ends.eq (b33_4 l1 (by omega)) ?_
  rw [ex, h15]
  refine Ends.ct l1 (by decide +kernel) (by decide) (c_numbers66 (p := 0) (q := m) (at' := 0) (u := u) l1 (by omega) hm (fun i hi => by rw [g1.at _ _ (by omega)]; exact hb i hi) (Nat.zero_le _) (by decide)) (fun y h2 l2 _ _ _ ⟨g2, r2⟩ => ?_)
  have g12 : Agr (fun c k => (c = B + 0 ∧ k = 15) ∨ c = B + 33) h h2 := (g1.sub (fun c k z => Or.inl z)).tr g2 (fun c k z => Or.inr z.1)
  have w15 : hv h2 (B + 0) 15 = 0 := by rw [g2.at _ _ (by omega)]; exact v15
  refine Ends.eq (b33_12 l2 (by omega)) ?_
  by_cases ok : ∃ K, exN u m K
  rotate_left
  · refine Ends.b3 (fun z => absurd ?_ ok) (fun _ => Ends.sm (KK _ _ (Or.inl ⟨ok, rfl, g12, w15⟩)))
    rcases r2 with ⟨K, k1, k2, k3, k4, -⟩ | ⟨-, k4⟩
    · exact ⟨K, ⟨by omega, by omega⟩, k2, k3⟩
    · omega
  obtain ⟨K, k1, k2, k3⟩ := ok
  have exK : exN u m K := ⟨k1, k2, k3⟩
  have yK : y = (K : Int) ∧ ∀ j, j < K → hv h2 (B + 33) j = nbV u m (nst u m 0 j) := by
    rcases r2 with ⟨K', c1, c2, c3, c4, c5⟩ | ⟨no, -⟩
    · have : K' = K := by
        unfold nen at c3 k3
        rcases (by omega : K' < K ∨ K' = K ∨ K < K') with z | z | z
        · have := nst_mono (u := u) (m := m) (p := 0) (show K' - 1 < K - 1 by omega)
          have ge : nst u m 0 (K - 1) ≤ en isD u m (nst u m 0 (K - 1)) := en_ge
          omega
        · exact z
        · have := nst_mono (u := u) (m := m) (p := 0) (show K - 1 < K' - 1 by omega)
          have ge : nst u m 0 (K' - 1) ≤ en isD u m (nst u m 0 (K' - 1)) := en_ge
          omega
      subst this
      exact ⟨c4, fun j hj => by have := c5 j hj; rw [Nat.zero_add] at this; exact this⟩
    · exact absurd ⟨K, ⟨by omega, by omega⟩, k2, k3⟩ no
  obtain ⟨yK, nums⟩ := yK
  rw [yK]
  refine Ends.b3 (fun _ => ?_) (fun z => by omega)
  have n27 : ∀ i, i < 39 → rgC i = 27 ∨ rgC i = 53 ∨ rgC i = 93 ∨ rgC i = 94 ∨ rgC i = 83 ∨ rgC i = 81 := fun i hi => rg_in ⟨i, hi⟩
  have f2 : FcN B n h2 pc cap ka kc := f.exg hb0 g12.ext.exg (fun c k a b z => by omega) (fun k z => by omega) (fun i hi z => by have := n27 i hi; omega) (fun k a b z => by omega)
  have hb2 := l2.2.2
  have s2 : SG n h2 (B + 117) (SS 10) := s1.agr g12 (fun k => by omega)
  have A := f.2.2.2.2
  have R := f.2.2.2.1
  have P2 : PmD B n h2 (SS 10) mk := by
    rcases P with ⟨p1, p2⟩ | ⟨p1, Cb, fa, p2, p3, p4, p5⟩
    · exact Or.inl ⟨by rw [g12.at _ _ (by omega)]; exact p1, p2⟩
    · refine Or.inr ⟨by rw [g12.at _ _ (by omega)]; exact p1, Cb, fa, p2.exg R hb0 g12.ext.exg (fun b _ z => by omega) (fun b c hb5 e k z => ?_), fun p hp => by rw [g12.at _ _ (by omega)]; exact p3 p hp, p4, p5⟩
      rcases R.1 (16 + b) (by omega) with y | ⟨e', y1, y2, y3, y4⟩
      · unfold rgV rgC rgK at y
        rw [if_neg (by omega), if_neg (by omega), if_pos (by omega), if_neg (by omega), if_neg (by omega), if_pos (by omega), show 16 + b - 16 = b by omega, e] at y
        have := rf_pos c; omega
      · unfold rgV rgC rgK at y1
        rw [if_neg (by omega), if_neg (by omega), if_pos (by omega), if_neg (by omega), if_neg (by omega), if_pos (by omega), show 16 + b - 16 = b by omega, e] at y1
        have : c = e' := by unfold rf at y1; omega
        omega
  have ka246 : ∀ j k, j < 6 → ¬ ((ka j = B + 0 ∧ k = 15) ∨ ka j = B + 33) := fun j k hj z => by have := (A.2.1.1 j hj).2.2.1; omega
  have q2 : FoD B n h2 is SS mk ka kc := by
    rcases q with y | ⟨y, mm, F, y1, y2⟩ | ⟨i, hi, y, y1⟩
    · exact Or.inl (by rw [g12.at _ _ (by omega)]; exact y)
    · exact Or.inr (Or.inl ⟨by rw [g12.at _ _ (by omega)]; exact y, mm, F, y1.exg A hb0 g12.ext.exg (fun k hk z => by omega) ka246, fun i hi => by rw [g12.at _ _ (by omega), g12.at _ _ (by omega)]; exact y2 i hi⟩)
    · refine Or.inr (Or.inr ⟨i, hi, by rw [g12.at _ _ (by omega)]; exact y, fun z1 z2 => ?_⟩)
      rw [g12.at _ _ (by omega), g12.at _ _ (by omega)] at z2
      obtain ⟨mm, F, w⟩ := y1 z1 z2
      exact ⟨mm, F, w.exg A hb0 g12.ext.exg (fun k hk z => by omega) ka246⟩
  refine Ends.cv l2 (by decide +kernel) (c_partFaces68 l2 (by omega) hn4 hn f2 s2 P2 q2) (fun h3 l3 _ _ _ ⟨mm, F, pc', cap', ka', kc', t1, t2, t3⟩ => ?_)
  obtain ⟨⟨u1, u2, u3⟩, u4, u5, u6, u7⟩ := t1
  have lo3 : ∀ {c k : Nat}, sfW B h2 c k → _ := fun z => sfW_lo f2.2.2.2.1 f2.2.2.2.2 z
  have nums3 : ∀ j, j < K → hv h3 (B + 33) j = nbV u m (nst u m 0 j) := fun j hj => by rw [u7.at _ (by omega) (fun z => by have := lo3 z; omega)]; exact nums j hj
  have v15' : hv h3 (B + 0) 15 = 0 := by rw [u7.at _ (by omega) (fun z => by have := lo3 z; omega)]; exact w15
  have v37 : hv h3 (B + 92) 37 = hv h (B + 92) 37 := by rw [u7.at _ (by omega) (fun z => by have := lo3 z; omega), g12.at _ _ (by omega)]
  refine Ends.eq (b33_25 l3 (by omega)) ?_
  rw [v37]
  have g4 : Agr (fun c k => c = B + 0 ∧ (k = 23 ∨ k = 24)) h3 (hset (hset h3 (B + 0) 23 0) (B + 0) 24 (hv h (B + 92) 37)) := (Agr.rf.set ⟨rfl, Or.inl rfl⟩).set ⟨rfl, Or.inr rfl⟩
  have l4 : LX B n (hset (hset h3 (B + 0) 23 0) (B + 0) 24 (hv h (B + 92) 37)) := LX.setF 0 24 (LX.setF 0 23 l3 (by decide +kernel)) (by decide +kernel)
  have v23 : hv (hset (hset h3 (B + 0) 23 0) (B + 0) 24 (hv h (B + 92) 37)) (B + 0) 23 = 0 := by rw [hv_set_ne (by omega), hv_set_at]
  have v24 : hv (hset (hset h3 (B + 0) 23 0) (B + 0) 24 (hv h (B + 92) 37)) (B + 0) 24 = hv h (B + 92) 37 := hv_set_at ..
  generalize hset (hset h3 (B + 0) 23 0) (B + 0) 24 (hv h (B + 92) 37) = h4 at *
  have m4 : min mm 4096 ≤ 4096 := Nat.min_le_right _ _
  obtain ⟨d1, d2, d3, d4, d5⟩ := u4
  have A3 := u1.2.2.2.2
  obtain ⟨mt, emt⟩ : ∃ mt, mt = mtF (mmk mk F) (mdr F) (fun j => nbV u m (nst u m 0 j)) K := ⟨_, rfl⟩
  have hb3 := l3.2.2
  have fin : ∀ h', LX B n h' → Agr (fun c k => (c = B + 0 ∧ (k = 23 ∨ k = 24)) ∨ (c = B + 30 ∧ k < 4096)) h3 h' → hv h' (B + 0) 24 = hv h (B + 92) 37 → LfR B h' mt (min mm 4096) → ∀ x, fdR mt (min mm 4096) x → Q ((0, (0, x)), h') := fun h' l' g' w24 lf x r => by
    obtain ⟨-, L⟩ := u1.2.2.2.1.exg hb3 g'.ext.exg (fun i hi z => by have := n27 i hi; omega)
    have kaN : ∀ j k, j < 6 → ¬ ((ka' j = B + 0 ∧ (k = 23 ∨ k = 24)) ∨ (ka' j = B + 30 ∧ k < 4096)) := fun j k hj z => by have := (A3.2.1.1 j hj).2.2.1; omega
    have fd : FdS B n h' (SS 10) mm F ka' kc' := (show FdS B n h3 (SS 10) mm F ka' kc' from ⟨d1, d2, d3, d4, d5⟩).exg A3 hb3 g'.ext.exg (fun k hk z => by omega) kaN
    have ms : MkS B h' (mmk mk F) (mdr F) (min mm 4096) := fun i hi => by rw [g'.at _ _ (by omega), g'.at _ _ (by omega)]; exact t2 i hi
    refine KK _ _ (Or.inr ⟨K, exK, mm, F, pc', cap', ka', kc', ⟨u1.exg hb3 g'.ext.exg (fun c k a b z => by omega) (fun k z => by omega) (fun i hi z => by have := n27 i hi; omega) (fun k a b z => by omega), ?_, fun j hj => ?_⟩, fd, ms, Or.inr (Or.inl ⟨by rw [g'.at _ _ (by omega)]; exact t3, mm, F, fd, ms⟩), ?_, (cel.agr g12).tr (u6.tr (cel.agr g')), ?_, by rw [g'.at _ _ (by omega)]; exact v15', w24, by rw [← emt]; exact lf, by rw [← emt]; exact r⟩)
    · rcases u2 with z | z
      · left; rw [← g12.nx]; exact z
      · right; rw [← g12.at _ _ (by omega)]; exact z
    · rcases u3 j hj with z | z
      · left; rw [← g12.nx]; exact z
      · right; rw [← g12.at _ _ (by omega)]; exact z
    · have e1 : fcz B n h' cap' kc' = fcz B n h3 cap' kc' := by unfold fcz; rw [L, g'.us]
      obtain ⟨-, L2⟩ := R.exg hb0 g12.ext.exg (fun i hi z => by have := n27 i hi; omega)
      have e2 : fcz B n h2 cap kc = fcz B n h cap kc := by unfold fcz; rw [L2, g12.us]
      rw [e1, u5, e2]
    · have E : ∀ c k, sfW B h2 c k → sfW B h c k := fun c k z => by
        rcases z with z | z
        · rcases z with z | z
          · refine Or.inl (Or.inl ?_)
            rcases z with z | z | z | ⟨f, hf, z⟩ | z | ⟨j, hj, z⟩
            · exact Or.inl z
            · exact Or.inr (Or.inl z)
            · exact Or.inr (Or.inr (Or.inl z))
            · exact Or.inr (Or.inr (Or.inr (Or.inl ⟨f, hf, by rw [← g12.at _ _ (by omega)]; exact z⟩)))
            · exact Or.inr (Or.inr (Or.inr (Or.inr (Or.inl (by rw [← g12.at _ _ (by omega)]; exact z)))))
            · exact Or.inr (Or.inr (Or.inr (Or.inr (Or.inr ⟨j, hj, by rw [← g12.at _ _ (by omega)]; exact z⟩))))
          · exact Or.inl (Or.inr z)
        · exact Or.inr z
      refine ((g12.ext.exg.sub (fun c k _ z => ?_)).tr u7 (fun c k _ z => Or.inl (E c k z))).tr g'.ext.exg (fun c k _ z => ?_)
      · rcases z with z | z
        · exact Or.inr (Or.inl ⟨z.1, Or.inl z.2⟩)
        · exact Or.inr (Or.inr (Or.inl z))
      · rcases z with z | z
        · exact Or.inr (Or.inl ⟨z.1, Or.inr z.2⟩)
        · exact Or.inr (Or.inr (Or.inr z))
  have key : ∀ (r k : Nat) (q : AH), k + r = min mm 4096 → LX B n q → Agr (fun c k => (c = B + 0 ∧ (k = 23 ∨ k = 24)) ∨ (c = B + 30 ∧ k < 4096)) h3 q → hv q (B + 0) 24 = hv h (B + 92) 37 → LfR B q mt k → Ends (ev PP (gsF gv) B d 33 43 [(2, rf (B + 0)), (0, (m : Int)), (0, (K : Int)), (0, (k : Int))] [] q) Q := by
    intro r
    induction r with
    | zero =>
      intro k q e lq g w24 lf
      have e : k = min mm 4096 := by omega
      subst e
      refine Ends.eq (b33_43 lq (by omega)) ?_
      rw [g.at (B + 82) 6 (by omega), d3, lf.1]
      refine Ends.b3 (fun _ => Ends.sm (fin q lq g w24 lf _ ?_)) (fun z => absurd z (Int.lt_irrefl _))
      rw [ct1, ct1]
      rcases (by omega : cntN mt (min mm 4096) = 0 ∨ cntN mt (min mm 4096) = 1 ∨ 2 ≤ cntN mt (min mm 4096)) with z | z | z
      · rw [if_pos (by omega)]; exact Or.inl ⟨z, rfl⟩
      · rw [if_neg (by omega), if_pos (by omega)]
        obtain ⟨k, k1, k2, k3⟩ := nth_ex (p := mt) (M := min mm 4096) (i := 0) |>.mpr ⟨by omega, by omega⟩
        refine Or.inr (Or.inl ⟨z, Or.inl ⟨k, k1, k2, k3, ?_⟩⟩)
        have := lf.2 k k1 k2
        rw [show cntN mt k = 0 by omega] at this
        exact this
      · rw [if_neg (by omega), if_neg (by omega)]; exact Or.inr (Or.inr ⟨z, rfl⟩)
    | succ r ih =>
      intro k q e lq g w24 lf
      have hk : k < min mm 4096 := by omega
      obtain ⟨x1, x2⟩ := t2 k hk
      obtain ⟨y1, y2, y3, y4⟩ := A3.2.1.1 0 (by decide)
      have e284 : v284 B q (k : Int) = mmk mk F k := by unfold v284; rw [tn, g.at _ _ (by omega)]; exact x1
      have e297 : v297 B q (k : Int) = ((rkF (mmk mk F) (mdr F) k : Nat) : Int) := by unfold v297; rw [tn, g.at _ _ (by omega)]; exact x2
      have edr : hv q (ka' 0) k = mdr F k := by
        rw [g.at _ _ (by omega), d5 k hk 0 (by decide)]
        unfold kpV; rw [if_pos rfl]; rfl
      have n0 : hv q (B + 33) 0 = nbV u m (nst u m 0 0) := by rw [g.at _ _ (by omega)]; exact nums3 0 (by omega)
      have n1 : hv q (B + 33) 1 = nbV u m (nst u m 0 1) := by rw [g.at _ _ (by omega)]; exact nums3 1 (by omega)
      have cs := cntN_s mt k
      have cb := cntN_le mt k
      have no : mt k = false → Ends (ev PP (gsF gv) B d 33 134 [(2, rf (B + 0)), (0, (m : Int)), (0, (K : Int)), (0, (k : Int))] [] q) Q := fun z => by
        refine Ends.eq (b33_134 lq (by omega)) ?_
        rw [w_succ (by omega)]
        rw [z, if_neg Bool.false_ne_true, Nat.add_zero] at cs
        refine ih (k + 1) q (by omega) lq g w24 ⟨by rw [cs]; exact lf.1, fun j hj hp => ?_⟩
        rcases (by omega : j < k ∨ j = k) with w | w
        · exact lf.2 j w hp
        · rw [w, z] at hp; exact absurd hp Bool.false_ne_true
      have yes : mt k = true → Ends (ev PP (gsF gv) B d 33 114 [(2, rf (B + 0)), (0, (m : Int)), (0, (K : Int)), (0, (k : Int))] [] q) Q := fun z => by
        rw [z, if_pos rfl] at cs
        refine Ends.eq (b33_114 lq (by omega)) ?_
        rw [lf.1, tn, an0, show bop32 96 ((cntN mt k : Nat) : Int) (1 : Int) = ((cntN mt k + 1 : Nat) : Int) from addNN (y := 1) (by omega)]
        refine Ends.g ⟨by omega, by omega⟩ ?_
        have lq2 : LX B n (hset (hset q (B + 30) (cntN mt k) (k : Int)) (B + 0) 23 ((cntN mt k + 1 : Nat) : Int)) := LX.setF 0 23 (LX.setS lq rfl) (by decide +kernel)
        refine Ends.eq (b33_134 lq2 (by omega)) ?_
        rw [w_succ (by omega)]
        refine ih (k + 1) _ (by omega) lq2 ((g.set (Or.inr ⟨rfl, by omega⟩)).set (Or.inl ⟨rfl, Or.inl rfl⟩)) (by rw [hv_set_ne (by omega), hv_set_ne (by omega)]; exact w24) ⟨by rw [hv_set_at, cs], fun j hj hp => ?_⟩
        rw [hv_set_ne (by omega)]
        rcases (by omega : j < k ∨ j = k) with w | w
        · have cj : cntN mt (j + 1) ≤ cntN mt k := cntN_mono (S := mt) _ w
          have cj2 := cntN_s mt j
          rw [hp, if_pos rfl] at cj2
          rw [hv_set_ne (by omega)]; exact lf.2 j w hp
        · rw [w, hv_set_at]
      refine Ends.eq (b33_43 lq (by omega)) ?_
      rw [g.at (B + 82) 6 (by omega), d3, e284, e297, g.at (B + 82) 7 (by omega), show hv h3 (B + 82) 7 = rf (ka' 0) from y1, ad_rf, g.hk, y2, tn, edr, show Int.toNat (0 : Int) = 0 from rfl, show Int.toNat (1 : Int) = 1 from rfl, n0, n1]
      have mtk : mt k = (fnM (mmk mk F) (mdr F) (nbV u m (nst u m 0 0)) (nbV u m (nst u m 0 1)) k && (decide (K ≠ 3) || decide (((rkF (mmk mk F) (mdr F) k : Nat) : Int) = nbV u m (nst u m 0 2)))) := by rw [emt]; rfl
      have fno : ¬ (mmk mk F k = nbV u m (nst u m 0 0) ∧ mdr F k = nbV u m (nst u m 0 1)) → mt k = false := fun z => by
        rw [mtk, show fnM (mmk mk F) (mdr F) (nbV u m (nst u m 0 0)) (nbV u m (nst u m 0 1)) k = false from by rw [Bool.eq_false_iff]; exact fun y => z (fnM_iff.mp y), Bool.false_and]
      refine Ends.b3 (fun z => by omega) (fun _ => Ends.g ⟨by omega, by omega⟩ (Ends.b1 (fun z => no (fno (fun y => z y.1))) (fun z1 => Ends.g ⟨rf_pos _, rfl, by omega, by show (k : Int) < (kc' : Int); omega⟩ (Ends.b1 (fun z => no (fno (fun y => z y.2))) (fun z2 => ?_)))))
      have fyes : fnM (mmk mk F) (mdr F) (nbV u m (nst u m 0 0)) (nbV u m (nst u m 0 1)) k = true := fnM_iff.mpr ⟨z1, z2⟩
      rw [fyes, Bool.true_and] at mtk
      refine Ends.b1 (fun z3 => yes (by rw [mtk, decide_eq_true (show K ≠ 3 by omega), Bool.true_or])) (fun z3 => Ends.g ⟨by omega, by omega⟩ ?_)
      have K3 : K = 3 := by omega
      have n2 : hv q (B + 33) 2 = nbV u m (nst u m 0 2) := by rw [g.at _ _ (by omega)]; exact nums3 2 (by omega)
      rw [show Int.toNat (2 : Int) = 2 from rfl, n2]
      rw [decide_eq_false (show ¬ K ≠ 3 by omega), Bool.false_or] at mtk
      exact Ends.b0 (fun z4 => yes (by rw [mtk]; exact decide_eq_true z4)) (fun z4 => no (by rw [mtk]; exact decide_eq_false z4))
  exact key (min mm 4096) 0 h4 (Nat.zero_add _) l4 (g4.sub (fun c k z => Or.inl z)) v24 ⟨v23, fun k hk _ => absurd hk (Nat.not_lt_zero k)⟩
end FND
