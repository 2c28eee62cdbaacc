/-! L3: Store.setText, text -/
/-- the cells from k on hold the m bytes of b -/
def TxAt (c : Nat → Int) (k : Nat) (b : Nat → Int) (m : Nat) : Prop := c k = (m : Int) + 1 ∧ ∀ i, i < m → uop 4 (bop32 122 (c (k + 1 + i / 4)) ((24 - 8 * (i % 4) : Nat) : Int)) = b i ∧ -128 ≤ b i ∧ b i < 128
def bz (b : Nat → Int) (m j : Nat) : Int := if j < m then b j else 0
/-- a text of m bytes comes to the cells from k on: the first i cells of it -/
def txp (c : Nat → Int) (k : Nat) (b : Nat → Int) (m i : Nat) : Nat → Int := fun z => if z = k then (m : Int) + 1 else if k + 1 ≤ z ∧ z < k + 1 + i then pk4 (bz b m (4 * (z - (k + 1)))) (bz b m (4 * (z - (k + 1)) + 1)) (bz b m (4 * (z - (k + 1)) + 2)) (bz b m (4 * (z - (k + 1)) + 3)) else c z
def txt (c : Nat → Int) (k : Nat) (b : Nat → Int) (m : Nat) : Nat → Int := txp c k b m ((m + 3) / 4)
theorem bz_r {b : Nat → Int} {m j : Nat} (hb : ∀ i, i < m → -128 ≤ b i ∧ b i < 128) : -128 ≤ bz b m j ∧ bz b m j < 128 := by
  unfold bz
  split
  · next e => exact hb j e
  · exact ⟨by decide, by decide⟩
theorem txt_at {c : Nat → Int} {k m : Nat} {b : Nat → Int} (hb : ∀ i, i < m → -128 ≤ b i ∧ b i < 128) : TxAt (txt c k b m) k b m := by
  refine ⟨by unfold txt txp; rw [if_pos rfl], fun i hi => ⟨?_, hb i hi⟩⟩
  have e1 : txt c k b m (k + 1 + i / 4) = pk4 (bz b m (4 * (i / 4))) (bz b m (4 * (i / 4) + 1)) (bz b m (4 * (i / 4) + 2)) (bz b m (4 * (i / 4) + 3)) := by
    unfold txt txp
    rw [if_neg (by omega), if_pos (by omega), show k + 1 + i / 4 - (k + 1) = i / 4 by omega]
  have e2 : bz b m i = b i := by unfold bz; rw [if_pos hi]
  obtain ⟨p1, p2, p3, p4⟩ := pk4_at (bz_r (j := 4 * (i / 4)) hb) (bz_r (j := 4 * (i / 4) + 1) hb) (bz_r (j := 4 * (i / 4) + 2) hb) (bz_r (j := 4 * (i / 4) + 3) hb)
  rw [e1, ← e2]
  have h4 : i % 4 = 0 ∨ i % 4 = 1 ∨ i % 4 = 2 ∨ i % 4 = 3 := by omega
  rcases h4 with q | q | q | q
  · rw [q, show bz b m i = bz b m (4 * (i / 4)) by congr 1; omega]; exact p1
  · rw [q, show bz b m i = bz b m (4 * (i / 4) + 1) by congr 1; omega]; exact p2
  · rw [q, show bz b m i = bz b m (4 * (i / 4) + 2) by congr 1; omega]; exact p3
  · rw [q, show bz b m i = bz b m (4 * (i / 4) + 3) by congr 1; omega]; exact p4
theorem txt_ne {c : Nat → Int} {k m z : Nat} {b : Nat → Int} (h : z < k ∨ k + 1 + (m + 3) / 4 ≤ z) : txt c k b m z = c z := by
  unfold txt txp
  rw [if_neg (by omega), if_neg (by omega)]
section TEXT
variable {gv : Nat → Int} {B n d : Nat} {h : AH} {H : Nat → Nat → Int} {s : Nat → Nat} {dn tt tu mw : Nat} {c : Nat → Int}
theorem i452 {f i j : Nat} (hs : f + 4 * i + j < 2147483648) : bop32 96 (bop32 96 (f : Int) (bop32 104 (4 : Int) (i : Int))) (j : Int) = ((f + 4 * i + j : Nat) : Int) := by
  have e1 : bop32 104 (4 : Int) (i : Int) = ((4 * i : Nat) : Int) := mulNN (x := 4) (by omega)
  rw [e1, addNN (by omega), addNN (by omega)]
theorem e_pack {Q} (l : LX B n h) (hd : 9 ≤ d) {k f e i j N a : Nat} {v : Int} {u8 : AV} (ha : hk h a = (4, N)) (he : e ≤ N) (hN : N ≤ 100000) (hj : j < 4) (hf : f ≤ e) (hi : i < 100)
    (K : Ends (ev PP (gsF gv) B d 452 33 [(2, rf (B + 1)), (0, (k : Int)), (2, rf a), (0, (f : Int)), (0, (e : Int)), (0, (i : Int)), (0, w32 (v * 256 + bz (fun z => hv h a (f + z)) (e - f) (4 * i + j) % 256)), (0, ((j + 1 : Nat) : Int)), (0, ((f + 4 * i + j : Nat) : Int))] [] h) Q) :
    Ends (ev PP (gsF gv) B d 452 33 [(2, rf (B + 1)), (0, (k : Int)), (2, rf a), (0, (f : Int)), (0, (e : Int)), (0, (i : Int)), (0, v), (0, (j : Int)), u8] [] h) Q := by
  refine Ends.eq (b452_33 (n := n) (by (repeat' first | assumption | refine LX.setF _ _ ?_ (by decide +kernel) | refine LX.setS ?_ rfl | refine LX.setA ?_ (by first | assumption | omega))) (by first | assumption | omega)) ?_
  rw [i452 (by omega), tst3, ad_rf, ha, tn, w_succ (by omega)]
  refine Ends.b3 (fun _ => by omega) (fun _ => ?_)
  unfold bz at K
  by_cases q : f + 4 * i + j < e
  · have q1 : decide (((f + 4 * i + j : Nat) : Int) < (e : Int)) = true := decide_eq_true (by omega)
    rw [q1]
    refine Ends.g ⟨rf_pos _, rfl, by omega, by show _ < ((N : Nat) : Int); omega⟩ ?_
    rw [if_pos (by omega)] at K
    dsimp only at K
    rw [show f + (4 * i + j) = f + 4 * i + j by omega] at K
    have hm : 0 ≤ hv h a (f + 4 * i + j) % 256 ∧ hv h a (f + 4 * i + j) % 256 < 256 := by omega
    rw [show (cond (!true) (0 : Int) (bop32 126 (hv h a (f + 4 * i + j)) 255)) = hv h a (f + 4 * i + j) % 256 from and255 _, or_lo hm.1 hm.2]
    exact K
  · have q1 : decide (((f + 4 * i + j : Nat) : Int) < (e : Int)) = false := decide_eq_false (by omega)
    rw [q1]
    refine Ends.g trivial ?_
    rw [if_neg (by omega)] at K
    rw [show (cond (!false) (0 : Int) (bop32 126 (hv h a (f + 4 * i + j)) 255)) = 0 from rfl, or_lo (by decide) (by decide)]
    exact K
theorem txp0 (c : Nat → Int) (k m : Nat) (b : Nat → Int) : upc c k ((m : Int) + 1) = txp c k b m 0 := by
  funext z
  unfold upc txp
  by_cases e : z = k
  · rw [if_pos e, if_pos e]
  · rw [if_neg e, if_neg e, if_neg (by omega)]
theorem txp_s (c : Nat → Int) (k m i : Nat) (b : Nat → Int) : upc (txp c k b m i) (k + 1 + i) (pk4 (bz b m (4 * i)) (bz b m (4 * i + 1)) (bz b m (4 * i + 2)) (bz b m (4 * i + 3))) = txp c k b m (i + 1) := by
  funext z
  unfold upc txp
  by_cases e : z = k + 1 + i
  · rw [if_pos e, e, if_neg (by omega), if_pos (by omega), show k + 1 + i - (k + 1) = i by omega]
  · rw [if_neg e]
    by_cases e2 : z = k
    · rw [if_pos e2, if_pos e2]
    · rw [if_neg e2, if_neg e2]
      by_cases e3 : k + 1 ≤ z ∧ z < k + 1 + i
      · rw [if_pos e3, if_pos (by omega)]
      · rw [if_neg e3, if_neg (by omega)]
theorem b_len {f e : Nat} (h1 : f ≤ e) (h2 : e < 2147483640) : bop32 96 (bop32 100 (e : Int) (f : Int)) 1 = ((e - f : Nat) : Int) + 1 := by
  rw [subNN (by omega) h1, add32 (by omega) (by omega)]
theorem b_cells {f e : Nat} (h1 : f ≤ e) (h2 : e < 2147483640) : bop32 108 (bop32 96 (bop32 100 (e : Int) (f : Int)) 3) 4 = (((e - f + 3) / 4 : Nat) : Int) := by
  rw [subNN (by omega) h1, show bop32 96 ((e - f : Nat) : Int) 3 = ((e - f + 3 : Nat) : Int) from addNN (y := 3) (by omega)]
  exact divNN (y := 4) (by omega) (by omega)
theorem b_at {k i : Nat} (h : k + i < 100000) : bop32 96 (bop32 96 (k : Int) 1) (i : Int) = ((k + 1 + i : Nat) : Int) := by
  rw [show bop32 96 (k : Int) 1 = ((k + 1 : Nat) : Int) from addNN (y := 1) (by omega), addNN (by omega)]
theorem c_setText (l : LX B n h) (hd : 14 ≤ d) (S : Sw B h H s dn tu mw c) {k f e N a : Nat} (hkk : k + 61 ≤ 37368) (ha : hk h a = (4, N)) (hax : a < hnx h) (he : e ≤ N) (hN : N ≤ 100000) (hf : f ≤ e) (hm : e - f ≤ 240) (hw : mw + 70 < 1000000) :
    Vd (cll PP (ev PP (gsF gv) B) d 452 [(2, rf (B + 1)), (0, (k : Int)), (2, (rf a)), (0, (f : Int)), (0, (e : Int))] h) (fun h' => SX B h h' ∧ Sw B h' H s dn tu (mw + 1 + (e - f + 3) / 4) (txt c k (fun z => hv h a (f + z)) (e - f))) := by
  have k1 := S.1.2.1
  have hb := l.2.2
  have na : ∀ z, ¬ StW B h a z := fun z q => by
    rcases q with q | q | q | q | q | q
    · rw [q.1, lk_1 l] at ha; exact absurd (congrArg Prod.fst ha) (by show ¬ (1 : Nat) = 4; decide)
    · rw [q, lk_2 l] at ha; exact absurd (congrArg Prod.fst ha) (by show ¬ (2 : Nat) = 4; decide)
    · rw [q, lk_6 l] at ha; exact absurd (congrArg Prod.fst ha) (by show ¬ (2 : Nat) = 4; decide)
    · rw [q, k1.1] at ha; exact absurd (congrArg Prod.fst ha) (by show ¬ (2 : Nat) = 4; decide)
    · rw [q, k1.2.1] at ha; exact absurd (congrArg Prod.fst ha) (by show ¬ (2 : Nat) = 4; decide)
    · rw [q, k1.2.2] at ha; exact absurd (congrArg Prod.fst ha) (by show ¬ (2 : Nat) = 4; decide)
  refine Vd.into (D := 13) hd (Nat.le_of_ble_eq_true rfl) rfl (fun d hd => ?_)
  refine Ends.eq (b452_0 (n := n) (by (repeat' first | assumption | refine LX.setF _ _ ?_ (by decide +kernel) | refine LX.setS ?_ rfl | refine LX.setA ?_ (by first | assumption | omega))) (by first | assumption | omega)) ?_
  rw [b_len hf (by omega)]
  refine Ends.cv l (by decide +kernel) (c_stSet l (by omega) S (by omega) (by omega)) (fun h1 l1 _ _ _ ⟨x1, S1⟩ => ?_)
  rw [txp0 c k (e - f) (fun z => hv h a (f + z))] at S1
  refine Ends.eq (b452_11 (n := n) (by (repeat' first | assumption | refine LX.setF _ _ ?_ (by decide +kernel) | refine LX.setS ?_ rfl | refine LX.setA ?_ (by first | assumption | omega))) (by first | assumption | omega)) ?_
  refine lp (((e - f + 3) / 4)) (fun i L q => ∃ (z0 : Nat), ∃ u6 u7 u8 : AV, L = [(2, rf (B + 1)), (0, ((k : Int))), (2, (rf a)), (0, ((f : Int))), (0, ((e : Int))), (0, ((i : Int))), u6, u7, u8] ∧ LX B n q ∧ i ≤ ((e - f + 3) / 4) ∧ SX B h q ∧ Sw B q H s dn tu (mw + 1 + i) (txp c k (fun z => hv h a (f + z)) (e - f) i)) ?_ ?_ (0) ⟨0, _, _, _, rfl, (by (repeat' first | assumption | refine LX.setF _ _ ?_ (by decide +kernel) | refine LX.setS ?_ rfl | refine LX.setA ?_ (by assumption))), by omega, ?_⟩
  · rintro i _ q hi ⟨z0, uq0, uq1, uq2, rfl, lq, hiN, ⟨xq, Sq⟩⟩ ihi
    have aq : hk q a = (4, N) := by rw [xq.1.hk hax]; exact ha
    have vq : ∀ z, hv q a z = hv h a z := fun z => xq.1.at z hax (na z)
    refine Ends.eq (b452_14 (n := n) (by (repeat' first | assumption | refine LX.setF _ _ ?_ (by decide +kernel) | refine LX.setS ?_ rfl | refine LX.setA ?_ (by first | assumption | omega))) (by first | assumption | omega)) ?_
    rw [b_cells hf (by omega)]
    refine Ends.b3 (fun _ => by omega) (fun _ => ?_)
    refine e_pack (j := 0) lq (by omega) aq he hN (by decide) hf (by omega) ?_
    refine e_pack (j := 1) lq (by omega) aq he hN (by decide) hf (by omega) ?_
    refine e_pack (j := 2) lq (by omega) aq he hN (by decide) hf (by omega) ?_
    refine e_pack (j := 3) lq (by omega) aq he hN (by decide) hf (by omega) ?_
    rw [pk4_fold]
    refine Ends.eq (b452_33 (n := n) (by (repeat' first | assumption | refine LX.setF _ _ ?_ (by decide +kernel) | refine LX.setS ?_ rfl | refine LX.setA ?_ (by first | assumption | omega))) (by first | assumption | omega)) ?_
    refine Ends.b3 (fun _ => ?_) (fun y => absurd y (by decide))
    rw [b_at (by omega)]
    refine Ends.cv lq (by decide +kernel) (c_stSet lq (by omega) Sq (by omega) (by omega)) (fun h2 l2 _ _ _ ⟨x2, S2⟩ => ?_)
    refine Ends.eq (b452_95 (n := n) (by (repeat' first | assumption | refine LX.setF _ _ ?_ (by decide +kernel) | refine LX.setS ?_ rfl | refine LX.setA ?_ (by first | assumption | omega))) (by first | assumption | omega)) ?_
    rw [w_succ (by omega)]
    refine ihi _ _ ⟨0, _, _, _, rfl, (by (repeat' first | assumption | refine LX.setF _ _ ?_ (by decide +kernel) | refine LX.setS ?_ rfl | refine LX.setA ?_ (by assumption))), by omega, ?_⟩
    have ef : (fun z => hv q a (f + z)) = (fun z => hv h a (f + z)) := funext (fun z => vq _)
    rw [ef, show 4 * i + 0 = 4 * i from rfl, txp_s] at S2
    exact ⟨xq.tr x2, S2⟩
  · rintro i _ q hi ⟨z0, uq0, uq1, uq2, rfl, lq, hiN, ⟨xq, Sq⟩⟩
    obtain rfl : i = (e - f + 3) / 4 := by omega
    refine Ends.eq (b452_14 (n := n) (by (repeat' first | assumption | refine LX.setF _ _ ?_ (by decide +kernel) | refine LX.setS ?_ rfl | refine LX.setA ?_ (by first | assumption | omega))) (by first | assumption | omega)) ?_
    rw [b_cells hf (by omega)]
    refine Ends.b3 (fun _ => Ends.sm ⟨_, rfl, xq, Sq⟩) (fun _ => by omega)
  · exact ⟨x1, S1⟩
theorem b_sh {i : Nat} : bop32 100 (24 : Int) (bop32 104 (8 : Int) (bop32 112 (i : Int) 4)) = ((24 - 8 * (i % 4) : Nat) : Int) := by
  rw [show bop32 112 (i : Int) 4 = ((i % 4 : Nat) : Int) from modNN (y := 4) (by decide) (by decide), show bop32 104 (8 : Int) ((i % 4 : Nat) : Int) = ((8 * (i % 4) : Nat) : Int) from mulNN (x := 8) (by omega)]
  exact subNN (x := 24) (by decide) (by omega)
theorem c_stText (l : LX B n h) (hd : 10 ≤ d) (hc : ∀ z, z < 37368 → hv h (B + 2) z = c z) {k N a m : Nat} {b : Nat → Int} (hkk : k + 61 ≤ 37368) (ha : hk h a = (4, N)) (haB : B ≤ a) (T : TxAt c k b m) (hm : m ≤ 240) (hN : m ≤ N) :
    Vt 0 (cll PP (ev PP (gsF gv) B) d 453 [(2, rf (B + 1)), (0, (k : Int)), (2, (rf a))] h) (fun v h' => v = (m : Int) ∧ Agr (fun c z => c = a ∧ z < m) h h' ∧ ∀ i, i < m → hv h' a i = b i) := by
  have na : a ≠ B + 2 := fun q => by rw [q, lk_2 l] at ha; exact absurd (congrArg Prod.fst ha) (by show ¬ (2 : Nat) = 4; decide)
  refine Vt.into (D := 9) hd (Nat.le_of_ble_eq_true rfl) rfl (fun d hd => ?_)
  refine Ends.eq (b453_0 (n := n) (by (repeat' first | assumption | refine LX.setF _ _ ?_ (by decide +kernel) | refine LX.setS ?_ rfl | refine LX.setA ?_ (by first | assumption | omega))) (by first | assumption | omega)) ?_
  rw [tn, hc k (by omega), T.1, sub32 (by omega) (by omega), show (m : Int) + 1 - 1 = (m : Int) by omega]
  refine Ends.g ⟨by omega, by omega⟩ ?_
  refine lp (m) (fun i L q => ∃ (z0 : Nat), L = [(2, rf (B + 1)), (0, ((k : Int))), (2, (rf a)), (0, ((m : Int))), (0, ((i : Int)))] ∧ LX B n q ∧ i ≤ m ∧ Agr (fun c z => c = a ∧ z < m) h q ∧ ∀ j, j < i → hv q a j = b j) ?_ ?_ (0) ⟨0, rfl, (by (repeat' first | assumption | refine LX.setF _ _ ?_ (by decide +kernel) | refine LX.setS ?_ rfl | refine LX.setA ?_ (by assumption))), by omega, ?_, ?_⟩
  · rintro i _ q hi ⟨z0, rfl, lq, hiN, gq, w⟩ ihi
    refine Ends.eq (b453_12 (n := n) (by (repeat' first | assumption | refine LX.setF _ _ ?_ (by decide +kernel) | refine LX.setS ?_ rfl | refine LX.setA ?_ (by first | assumption | omega))) (by first | assumption | omega)) ?_
    have aq : hk q a = (4, N) := by rw [gq.hk]; exact ha
    rw [show bop32 108 (i : Int) 4 = ((i / 4 : Nat) : Int) from divNN (y := 4) (by omega) (by decide), b_at (by omega), ad_rf, aq, tn, tn, b_sh, gq.at (B + 2) _ (by omega), hc _ (by omega), (T.2 i hi).1, w_succ (by omega)]
    refine Ends.b3 (fun _ => by omega) (fun _ => Ends.g ⟨by omega, by omega⟩ (Ends.g ⟨rf_pos _, rfl, by omega, by show _ < ((N : Nat) : Int); omega, haB⟩ ?_))
    have an2 : anar 2 (b i) = b i := bm256 rfl (T.2 i hi).2.1 (T.2 i hi).2.2
    rw [an2]
    have l3 : LX B n (hset q a i (b i)) := LX.setA (t := 2) lq (by rw [aq])
    refine ihi _ _ ⟨0, rfl, (by (repeat' first | assumption | refine LX.setF _ _ ?_ (by decide +kernel) | refine LX.setS ?_ rfl | refine LX.setA ?_ (by assumption))), by omega, ?_, ?_⟩
    · exact gq.set ⟨rfl, hi⟩
    · intro j hj
      rw [hv_set, if_pos rfl]
      split
      · next e => rw [e]
      · exact w j (by omega)
  · rintro i _ q hi ⟨z0, rfl, lq, hiN, gq, w⟩
    obtain rfl : i = m := by omega
    refine Ends.eq (b453_12 (n := n) (by (repeat' first | assumption | refine LX.setF _ _ ?_ (by decide +kernel) | refine LX.setS ?_ rfl | refine LX.setA ?_ (by first | assumption | omega))) (by first | assumption | omega)) ?_
    refine Ends.b3 (fun _ => Ends.sm ⟨_, _, rfl, rfl, gq, w⟩) (fun _ => by omega)
  · exact Agr.rf
  · exact fun j hj => absurd hj (by omega)
end TEXT
