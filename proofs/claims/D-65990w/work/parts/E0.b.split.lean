/-! L3: split (desk) -/
section SPLIT
variable {gv : Nat → Int} {B n d : Nat} {h : AH} {S : Nat → Bool} {v w : Int} {v0 v1 v2 v3 : Int}
theorem Rw.put2 {s q : AH} {a p : Nat} {K : Nat → Nat → Bool} (u : Rw n h a K s p) (g : Agr (fun c k => c = a ∧ k = p) s q) (w1 : p < 24 * n * n → cn 1 (hv q a p)) (hw : p < 24 * n * n → ∀ x, x < 64 → tb (hv q a p) x = (decide (x < n) && K p x)) : Rw n h a K q (p + 1) := by
  refine ⟨u.1.tr g (fun c k z => z.1), fun k hk h2 => ?_, fun k hk => ?_⟩
  · by_cases e : k = p
    · rw [e]; rw [e] at h2
      exact ⟨w1 h2, hw h2⟩
    · rw [g.at _ _ (fun z => e z.2)]
      exact u.2.1 k (by omega) h2
  · rw [g.at _ _ (fun z => by omega)]
    exact u.2.2 k (by omega)
theorem mul1 (hv : -1 ≤ v ∧ v ≤ 1) (hw : 0 ≤ w ∧ w ≤ 1000) : bop32 104 v w = v * w ∧ -1000 ≤ v * w ∧ v * w ≤ 1000 := by
  have h : v = -1 ∨ v = 0 ∨ v = 1 := by omega
  have b : -1000 ≤ v * w ∧ v * w ≤ 1000 := by rcases h with rfl | rfl | rfl <;> omega
  exact ⟨mul32 (by omega) (by omega), b⟩
/-- on the side that stays -/
def spS (n : Nat) (v0 v1 v2 v3 : Int) (g : Nat) : Bool := decide (v0 * (g8 n g 0 : Nat) + v1 * (g8 n g 1 : Nat) + v2 * (g8 n g 2 : Nat) ≤ 8 * v3)
theorem g8_I {x y z t : Nat} (hx : x < n) (hy : y < n) (ht : t < 24) : g8 n (gI n x y z t) 0 = 8 * x + rT t 0 ∧ g8 n (gI n x y z t) 1 = 8 * y + rT t 1 ∧ g8 n (gI n x y z t) 2 = 8 * z + rT t 2 := by
  unfold g8
  rw [gX_I hx ht, gY_I hx hy ht, gZ_I hx hy ht, gSo_I ht]
  exact ⟨rfl, rfl, rfl⟩
/-- one bit is taken out -/
theorem off_bit {v : Int} {x i : Nat} (hx : x < 64) (hi : i < 64) : tb (bop64 127 v (bop64 131 (sop64 121 1 (x : Int)) (-1))) i = (tb v i && !decide (i = x)) := by
  rw [tb_and, tb_not _ hi, one_bit hx hi]
theorem c_split310 (l : LX B n h) (hd : 10 ≤ d) (hn0 : 0 < n) (hn : n ≤ 52) (m : TbC B h) (s : SG n h (B + 117) S) (e0 : hv h (B + 97) 0 = v0) (e1 : hv h (B + 97) 1 = v1) (e2 : hv h (B + 97) 2 = v2) (e3 : hv h (B + 97) 3 = v3) (b0 : -1 ≤ v0 ∧ v0 ≤ 1) (b1 : -1 ≤ v1 ∧ v1 ≤ 1) (b2 : -1 ≤ v2 ∧ v2 ≤ 1) (b3 : -1000 ≤ v3 ∧ v3 ≤ 1000) :
    Vd (cll PP (ev PP (gsF gv) B) d 310 [(2, rf (B + 92))] h) (fun h' => Agr (fun c _ => c = B + 117) h h' ∧ SG n h' (B + 117) (fun g => S g && spS n v0 v1 v2 v3 g)) := by
  refine Vd.inq (D := 9) hd (Nat.le_of_ble_eq_true rfl) rfl (fun d hd Q K => ?_)
  have hN := rows_le hn
  have key := tzy (n := n) hn0 (fun p q => LX B n q ∧ Rw n h (B + 117) (onK n (fun t z y x => S (gI n x y z t) && spS n v0 v1 v2 v3 (gI n x y z t))) q p)
    (fun t q => ∀ u2 u3 u4 u5 u6, Ends (ev PP (gsF gv) B d 310 2 [(2, rf (B + 92)), (0, (t : Int)), u2, u3, u4, u5, u6] [] q) Q)
    (fun t z q => ∀ u3 u4 u5 u6, Ends (ev PP (gsF gv) B d 310 10 [(2, rf (B + 92)), (0, (t : Int)), (0, (z : Int)), u3, u4, u5, u6] [] q) Q)
    (fun t z y q => ∀ u4 u5 u6, Ends (ev PP (gsF gv) B d 310 20 [(2, rf (B + 92)), (0, (t : Int)), (0, (z : Int)), (0, (y : Int)), u4, u5, u6] [] q) Q)
    (fun t q ht i k u2 u3 u4 u5 u6 => Ends.eq (b310_2 i.1 (by omega)) (Ends.b3 (fun w => absurd w (by omega)) (fun _ => k _ _ _ _)))
    (fun t z q ht hz i k u3 u4 u5 u6 => Ends.eq (b310_10 i.1 (by omega)) (Ends.b3 (fun w => absurd w (by omega)) (fun _ => k _ _ _)))
    (fun t q ht i k u3 u4 u5 u6 => Ends.eq (b310_10 i.1 (by omega)) (Ends.b3 (fun _ => by rw [w_succ (by omega)]; exact k _ _ _ _ _) (fun w => absurd w (by omega))))
    (fun t z q ht hz i k u4 u5 u6 => Ends.eq (b310_20 i.1 (by omega)) (Ends.b3 (fun _ => by rw [w_succ (by omega)]; exact k _ _ _ _) (fun w => absurd w (by omega))))
    ?_
    (fun q i u2 u3 u4 u5 u6 => Ends.eq (b310_2 i.1 (by omega)) (Ends.b3 (fun _ => Ends.sm (K _ ⟨i.2.1, i.2.fin s.1⟩)) (fun w => absurd w (by omega))))
  · refine Ends.eq (b310_0 (n := n) (by (repeat' first | assumption | refine LX.setF _ _ ?_ (by decide +kernel) | refine LX.setS ?_ rfl | refine LX.setA ?_ (by first | assumption | omega))) (by first | assumption | omega)) ?_
    exact key h ⟨l, Rw.ini⟩ _ _ _ _ _
  · intro t z y q ht hz hy i k u4 u5 u6
    obtain ⟨lq, R⟩ := i
    have r1 := rw3_lt ht hz hy
    have g := R.1
    obtain ⟨p, ep⟩ : ∃ p, p = rw3 n t z y := ⟨_, rfl⟩
    have m1 := (m.1 t ht).1
    have y0 : rT t 0 < 8 := (rT_lt ⟨t, ht⟩ 0).2
    have y1 : rT t 1 < 8 := (rT_lt ⟨t, ht⟩ 1).2
    have y2 : rT t 2 < 8 := (rT_lt ⟨t, ht⟩ 2).2
    have old : ∀ i, i < 64 → tb (hv q (B + 117) p) i = (decide (i < n) && S (gI n i y z t)) := fun i hi => by rw [R.2.2 p (by omega), ep]; exact s.bit ht hz hy hi
    have cold : cn 1 (hv q (B + 117) p) := by rw [R.2.2 p (by omega), ep]; exact (s.2 _ r1).1
    have kk : ∀ i, onK n (fun t z y x => S (gI n x y z t) && spS n v0 v1 v2 v3 (gI n x y z t)) p i = (S (gI n i y z t) && spS n v0 v1 v2 v3 (gI n i y z t)) := fun i => by rw [ep, onK_at hz hy]
    rw [← ep] at R k r1
    -- behind a row
    have fin : ∀ (q' : AH) (u5 u6 : AV), LX B n q' → Rw n h (B + 117) (onK n (fun t z y x => S (gI n x y z t) && spS n v0 v1 v2 v3 (gI n x y z t))) q' (p + 1) → Ends (ev PP (gsF gv) B d 310 183 [(2, rf (B + 92)), (0, (t : Int)), (0, (z : Int)), (0, (y : Int)), (0, (p : Int)), u5, u6] [] q') Q := fun q' u5 u6 l' R' => by
      refine Ends.eq (b310_183 l' (by omega)) ?_
      rw [w_succ (by omega)]
      exact k q' ⟨l', R'⟩ _ _ _
    have cell : ∀ {W : Nat → Nat → Prop} {q' : AH}, Agr W q q' → (∀ k, ¬ W (B + 97) k) → (∀ k, ¬ W (B + 37) k) → (hv q' (B + 97) 0 = v0 ∧ hv q' (B + 97) 1 = v1 ∧ hv q' (B + 97) 2 = v2 ∧ hv q' (B + 97) 3 = v3) ∧ ∀ a, a < 3 → hv q' (B + 37) (3 * t + a) = (rT t a : Nat) := fun g' w1 w2 => by
      refine ⟨⟨?_, ?_, ?_, ?_⟩, fun a ha => ?_⟩
      · rw [g'.at _ _ (w1 _), g.at _ _ (by omega)]; exact e0
      · rw [g'.at _ _ (w1 _), g.at _ _ (by omega)]; exact e1
      · rw [g'.at _ _ (w1 _), g.at _ _ (by omega)]; exact e2
      · rw [g'.at _ _ (w1 _), g.at _ _ (by omega)]; exact e3
      · rw [g'.at _ _ (w2 _), g.at _ _ (by omega)]; exact m1 a ha
    obtain ⟨⟨f0, f1, f2, f3⟩, f37⟩ := cell (q' := q) (W := fun _ _ => False) Agr.rf (fun _ w => w) (fun _ w => w)
    have t31 : bop32 96 (bop32 104 (3 : Int) (t : Int)) 1 = ((3 * t + 1 : Nat) : Int) := by rw [show bop32 104 (3 : Int) (t : Int) = ((3 * t : Nat) : Int) from mulNN (x := 3) (by omega)]; exact addNN (y := 1) (by omega)
    have t32 : bop32 96 (bop32 104 (3 : Int) (t : Int)) 2 = ((3 * t + 2 : Nat) : Int) := by rw [show bop32 104 (3 : Int) (t : Int) = ((3 * t : Nat) : Int) from mulNN (x := 3) (by omega)]; exact addNN (y := 2) (by omega)
    have t30 : bop32 104 (3 : Int) (t : Int) = ((3 * t + 0 : Nat) : Int) := mulNN (x := 3) (by omega)
    have c8 : ∀ x r : Nat, x < 52 → r < 8 → bop32 96 (bop32 104 (8 : Int) (x : Int)) ((r : Nat) : Int) = ((8 * x + r : Nat) : Int) := fun x r h1 h2 => by rw [show bop32 104 (8 : Int) (x : Int) = ((8 * x : Nat) : Int) from mulNN (x := 8) (by omega)]; exact addNN (by omega)
    obtain ⟨p1, p2, p3⟩ := mul1 (w := ((8 * y + rT t 1 : Nat) : Int)) b1 (by omega)
    obtain ⟨p4, p5, p6⟩ := mul1 (w := ((8 * z + rT t 2 : Nat) : Int)) b2 (by omega)
    have sp : ∀ x, x < n → spS n v0 v1 v2 v3 (gI n x y z t) = decide (v0 * ((8 * x + rT t 0 : Nat) : Int) + (v1 * ((8 * y + rT t 1 : Nat) : Int) + v2 * ((8 * z + rT t 2 : Nat) : Int)) ≤ 8 * v3) := fun x hx => by
      obtain ⟨a1, a2, a3⟩ := g8_I (z := z) hx hy ht
      unfold spS
      rw [a1, a2, a3, Int.add_assoc]
    obtain ⟨A, eA⟩ : ∃ A, A = v1 * ((8 * y + rT t 1 : Nat) : Int) := ⟨_, rfl⟩
    obtain ⟨C, eC⟩ : ∃ C, C = v2 * ((8 * z + rT t 2 : Nat) : Int) := ⟨_, rfl⟩
    rw [← eA] at p1 p2 p3
    rw [← eC] at p4 p5 p6
    simp only [← eA, ← eC] at sp
    have lx : ∀ (c x : Nat) (q' : AH) (u4 : AV), x + c = n → LX B n q' → Agr (fun c k => c = B + 117 ∧ k = p) q q' → cn 1 (hv q' (B + 117) p) → (∀ i, i < 64 → tb (hv q' (B + 117) p) i = (decide (i < n) && (S (gI n i y z t) && (decide (x ≤ i) || spS n v0 v1 v2 v3 (gI n i y z t))))) → Ends (ev PP (gsF gv) B d 310 111 [(2, rf (B + 92)), (0, (t : Int)), (0, (z : Int)), (0, (y : Int)), (0, (p : Int)), (0, A + C), (0, (x : Int))] [] q') Q := by
      intro c
      induction c with
      | zero =>
        intro x q' u4 hx l' g' c' hb'
        refine Ends.eq (b310_111 l' (by omega)) (Ends.b3 (fun _ => ?_) (fun w => absurd w (by omega)))
        refine fin q' _ _ l' (R.put2 g' (fun _ => c') (fun _ i hi => ?_))
        rw [hb' i hi, kk i]
        by_cases hin : i < n
        · rw [decide_eq_false (show ¬ x ≤ i by omega), Bool.false_or]
        · rw [decide_eq_false hin, Bool.false_and, Bool.false_and]
      | succ c ih =>
        intro x q' u4 hx l' g' c' hb'
        obtain ⟨⟨f0, f1, f2, f3⟩, f37⟩ := cell g' (fun _ w => by omega) (fun _ w => by omega)
        have hxn : x < n := by omega
        obtain ⟨p7, p8, p9⟩ := mul1 (w := ((8 * x + rT t 0 : Nat) : Int)) b0 (by omega)
        have go : ∀ q'' : AH, LX B n q'' → Agr (fun c k => c = B + 117 ∧ k = p) q q'' → cn 1 (hv q'' (B + 117) p) → (∀ i, i < 64 → tb (hv q'' (B + 117) p) i = (decide (i < n) && (S (gI n i y z t) && (decide (x + 1 ≤ i) || spS n v0 v1 v2 v3 (gI n i y z t))))) → Ends (ev PP (gsF gv) B d 310 177 [(2, rf (B + 92)), (0, (t : Int)), (0, (z : Int)), (0, (y : Int)), (0, (p : Int)), (0, A + C), (0, (x : Int))] [] q'') Q := fun q'' l'' g'' c'' hb'' => by
          refine Ends.eq (b310_177 l'' (by omega)) ?_
          rw [w_succ (by omega)]
          exact ih (x + 1) q'' u4 (by omega) l'' g'' c'' hb''
        refine Ends.eq (b310_111 l' (by omega)) (Ends.b3 (fun w => absurd w (by omega)) (fun _ => ?_))
        rw [t30, tn, show Int.toNat 0 = 0 from rfl, show Int.toNat 3 = 3 from rfl, f0, f3, f37 0 (by decide), c8 x _ (by omega) y0, p7, add32 (by omega) (by omega), mul32 (x := 8) (y := v3) (by omega) (by omega), tn, an1]
        refine Ends.g ⟨by omega, by omega⟩ (Ends.b5 (fun w => ?_) (fun w => ?_))
        · refine go q' l' g' c' (fun i hi => ?_)
          rw [hb' i hi]
          by_cases e : i = x
          · rw [e, sp x hxn, decide_eq_true w, Bool.or_true, Bool.or_true]
          · rw [show decide (x + 1 ≤ i) = decide (x ≤ i) from decide_eq_decide.mpr ⟨fun z => Nat.le_of_succ_le z, fun z => Nat.lt_of_le_of_ne z (Ne.symm e)⟩]
        · refine Ends.g ⟨by omega, by omega⟩ (go _ (l'.setS rfl) (g'.set ⟨rfl, rfl⟩) (by rw [hv_set_at]; exact cn_bop64) (fun i hi => ?_))
          rw [hv_set_at, off_bit (by omega) hi, hb' i hi]
          by_cases e : i = x
          · rw [e, sp x hxn, decide_eq_true rfl, decide_eq_false (show ¬ x + 1 ≤ x by omega), decide_eq_false (show ¬ (v0 * ((8 * x + rT t 0 : Nat) : Int) + (A + C) ≤ 8 * v3) by omega)]
            simp
          · rw [decide_eq_false e, show decide (x + 1 ≤ i) = decide (x ≤ i) from decide_eq_decide.mpr ⟨fun z => Nat.le_of_succ_le z, fun z => Nat.lt_of_le_of_ne z (Ne.symm e)⟩, Bool.not_false, Bool.and_true]
    refine Ends.eq (b310_20 lq (by omega)) (Ends.b3 (fun w => absurd w (by omega)) (fun _ => ?_))
    rw [row_eq hn ht hz hy, ← ep, tn]
    refine Ends.g ⟨by omega, by omega⟩ (Ends.b1 (fun w => ?_) (fun w => ?_))
    · rw [t31, t32, tn, tn, show Int.toNat 1 = 1 from rfl, show Int.toNat 2 = 2 from rfl, f1, f2, f37 1 (by decide), f37 2 (by decide), c8 y _ (by omega) y1, c8 z _ (by omega) y2, p1, p4, add32 (by omega) (by omega)]
      refine Ends.g ⟨by omega, by omega⟩ (Ends.g ⟨by omega, by omega⟩ ?_)
      exact lx n 0 q u4 (by omega) lq Agr.rf cold (fun i hi => by rw [old i hi, decide_eq_true (Nat.zero_le i), Bool.true_or, Bool.and_true])
    · refine fin q _ _ lq (R.put2 Agr.rf (fun _ => cold) (fun _ i hi => ?_))
      have z0 := cmp64_z.mp w
      have := old i hi
      rw [z0, tb_0] at this
      rw [z0, tb_0, kk i, ← Bool.and_assoc, ← this, Bool.false_and]
end SPLIT
