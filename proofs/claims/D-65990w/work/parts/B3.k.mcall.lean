/-! L3: the model's path as a whole -/
theorem ct0 {α : Type} {a b : Int} {x y : α} : cond (tst 0 a b) x y = if a = b then x else y := by
  rw [tst0]
  by_cases e : a = b
  · rw [if_pos e, decide_eq_true e]; rfl
  · rw [if_neg e, decide_eq_false e]; rfl
theorem ct1 {α : Type} {a b : Int} {x y : α} : cond (tst 1 a b) x y = if a = b then y else x := by
  rw [tst1]
  by_cases e : a = b
  · rw [if_pos e, decide_eq_true e]; rfl
  · rw [if_neg e, decide_eq_false e]; rfl
theorem ct2 {α : Type} {a b : Int} {x y : α} : cond (tst 2 a b) x y = if a < b then x else y := by
  rw [tst2]
  by_cases e : a < b
  · rw [if_pos e, decide_eq_true e]; rfl
  · rw [if_neg e, decide_eq_false e]; rfl
theorem ct3 {α : Type} {a b : Int} {x y : α} : cond (tst 3 a b) x y = if a < b then y else x := by
  rw [tst3]
  by_cases e : a < b
  · rw [if_pos e, decide_eq_true e]; rfl
  · rw [if_neg e, decide_eq_false e]; rfl
theorem ct4 {α : Type} {a b : Int} {x y : α} : cond (tst 4 a b) x y = if b < a then x else y := by
  rw [tst4]
  by_cases e : b < a
  · rw [if_pos e, decide_eq_true e]; rfl
  · rw [if_neg e, decide_eq_false e]; rfl
theorem ct5 {α : Type} {a b : Int} {x y : α} : cond (tst 5 a b) x y = if b < a then y else x := by
  rw [tst5]
  by_cases e : b < a
  · rw [if_pos e, decide_eq_true e]; rfl
  · rw [if_neg e, decide_eq_false e]; rfl
section MPT
variable {gv : Nat → Int} {B n d : Nat} {h : AH} {is : Nat → Bool} {S : Nat → Nat → Bool} {o r z w : Int} {pa cap many : Nat}
/-- in which bounds the numbers of a path are -/
def paOK (n : Nat) (r z w : Int) : Bool := decide ((1 ≤ r ∧ r ≤ 8) ∧ (0 ≤ z ∧ z ≤ (n : Int)) ∧ 1 ≤ w ∧ w ≤ 576)
theorem mpa_c : (cond (tst 2 r 1) (2 : Int) (cond (tst 4 r 8) 2 (cond (tst 2 z 0) 2 (cond (tst 4 z (n : Int)) 2 (cond (tst 2 w 1) 2 (cond (tst 5 w 576) 0 2)))))) = if paOK n r z w = true then 0 else 2 := by
  unfold paOK
  simp only [ct2, ct4, ct5, decide_eq_true_eq]
  grind
/-- the runs of a path in the model's cells -/
def RnM (B : Nat) (h : AH) (n r z N : Nat) (fr to at_ : Nat → Nat) (pa cap : Nat) : Prop := PosM B h pa cap (4 * N) ∧ hv h (B + 149) 161 = (r : Int) ∧ hv h (B + 149) 162 = (z : Int) ∧ N ≤ 2120 ∧ ∀ i, i < N → rn12 h pa i (fr i : Int) (to i : Int) (at_ i : Int) (z : Int) (n : Int) ∧ fr i ≤ n ∧ to i ≤ n ∧ at_ i ≤ n
def patW (B n pa : Nat) : Nat → Nat → Prop := fun c k => (c = B + 149 ∧ (k = 0 ∨ (159 ≤ k ∧ k ≤ 162))) ∨ c = pa ∨ c = B + 241 ∨ wto3 B n 13 c k
theorem wto3_c {c k t : Nat} (w : wto3 B n t c k) : c = B + 236 := by
  rcases w with w | w | w <;> exact w.1
theorem PosM.agr {W : Nat → Nat → Prop} {t : AH} (p : PosM B h pa cap many) (g : Agr W h t) (h1 : ¬ W (B + 149) 159) (h2 : ¬ W (B + 149) 160) : PosM B t pa cap many := by
  obtain ⟨a1, a2, a3, a4, a5, a6⟩ := p
  exact ⟨by rw [g.at _ _ h1]; exact a1, by rw [g.hk]; exact a2, a3, by rw [g.nx]; exact a4, by rw [g.at _ _ h2]; exact a5, a6⟩
/-- how many runs a path has -/
noncomputable def pthN (n : Nat) (T : Nat → Bool) (r z w : Int) : Nat := rwB n r.toNat (qS n (grk n T ((w - 1).toNat / 64)) z.toNat) ((w - 1).toNat % 64 + 1) (n / ((w - 1).toNat % 64 + 1) + 1)
/-- its runs -/
def pthL (n : Nat) (T : Nat → Bool) (r z w : Int) (fr to at_ : Nat → Nat) : Prop := RL n r.toNat (qS n (grk n T ((w - 1).toNat / 64)) z.toNat) ((w - 1).toNat % 64 + 1) (pthN n T r z w) fr to at_
theorem pthL_ex {T : Nat → Bool} : ∃ fr to at_, pthL n T r z w fr to at_ := RL_ex (by omega)
theorem dm64 {w : Int} (h1 : 1 ≤ w) (h2 : w ≤ 576) : bop32 108 (bop32 100 w 1) 64 = (((w - 1).toNat / 64 : Nat) : Int) ∧ bop32 96 (bop32 112 (bop32 100 w 1) 64) 1 = (((w - 1).toNat % 64 + 1 : Nat) : Int) := by
  obtain ⟨k, rfl⟩ : ∃ k : Nat, w = (k : Int) + 1 := ⟨(w - 1).toNat, by omega⟩
  rw [show ((k : Int) + 1 - 1).toNat = k by omega, show bop32 100 ((k : Int) + 1) 1 = (k : Int) from by rw [sub32 (by omega) (by omega)]; omega]
  exact ⟨divNN (y := 64) (by omega) (by decide), by rw [show bop32 112 (k : Int) 64 = ((k % 64 : Nat) : Int) from modNN (y := 64) (by decide) (by decide)]; exact addNN (y := 1) (by omega)⟩
/-- the rows -/
theorem path_rows {x1 x4 : Int} {r0 z0 al ey : Nat} {Q : Nat → Nat → Nat → Bool} {h0 : AH} {P : Rs → Prop} {u8 u9 u10 u11 : AV} (hd : 16 ≤ d) (hn : n ≤ 52) (hr : 1 ≤ r0) (hr8 : r0 ≤ 8) (hev : 1 ≤ ey) (hev64 : ey ≤ 64) (l0 : LX B n h0) (p0 : PtI B n Q r0 z0 h0 h0 pa cap 0 pa cap)
    (K : ∀ q pa' cap', LX B n q → PtI B n Q r0 z0 h0 q pa cap (rwB n r0 Q ey (n / ey + 1)) pa' cap' → (∀ k, k * ey ≤ n → RwM q pa' n (frS n r0 Q (k * ey)) (frE n r0 Q (k * ey)) (k * ey) z0 (rwB n r0 Q ey k) (decide (k % 2 = 1))) → P ((0, (0, ((4 * rwB n r0 Q ey (n / ey + 1) : Nat) : Int))), q)) :
    Ends (ev PP (gsF gv) B d 775 120 [(2, rf (B + 149)), (0, x1), (0, (r0 : Int)), (0, (z0 : Int)), (0, x4), (0, (al : Int)), (0, (ey : Int)), (0, (0 : Int)), u8, u9, u10, u11] [] h0) P := by
  have rn := rowsEv (n := n) hev
  have nb : rwB n r0 Q ey (n / ey + 1) ≤ 2120 := rwB_le hn hr hr8 hev rn.1
  have key : ∀ (c k : Nat) (q : AH) (pa' cap' : Nat) (u8 u9 u10 u11 : AV), k + c = n / ey + 1 → LX B n q → PtI B n Q r0 z0 h0 q pa cap (rwB n r0 Q ey k) pa' cap' → (∀ k', k' < k → RwM q pa' n (frS n r0 Q (k' * ey)) (frE n r0 Q (k' * ey)) (k' * ey) z0 (rwB n r0 Q ey k') (decide (k' % 2 = 1))) → Ends (ev PP (gsF gv) B d 775 120 [(2, rf (B + 149)), (0, x1), (0, (r0 : Int)), (0, (z0 : Int)), (0, x4), (0, (al : Int)), (0, (ey : Int)), (0, (k : Int)), u8, u9, u10, u11] [] q) P := by
    intro c
    induction c with
    | zero =>
      intro k q pa' cap' u8 u9 u10 u11 hk lq pq lo
      obtain rfl : k = n / ey + 1 := by omega
      have kb : (n / ey + 1) * ey ≤ n + 64 := by rw [Nat.succ_mul]; omega
      refine Ends.eq (b775_120 (n := n) (by (repeat' first | assumption | refine LX.setF _ _ ?_ (by decide +kernel) | refine LX.setS ?_ rfl | refine LX.setA ?_ (by first | assumption | omega))) (by first | assumption | omega)) ?_
      rw [show bop32 104 ((n / ey + 1 : Nat) : Int) (ey : Int) = (((n / ey + 1) * ey : Nat) : Int) from mulNN (by omega), pq.1.1.2.2.2.2.1]
      refine Ends.b4 (fun _ => Ends.sm (K q pa' cap' lq pq (fun k' hk' => lo k' ?_))) (fun z => by omega)
      have := (Nat.le_div_iff_mul_le (by omega)).mpr hk'
      omega
    | succ c ih =>
      intro k q pa' cap' u8 u9 u10 u11 hk lq pq lo
      have hkn : k * ey ≤ n := (Nat.le_div_iff_mul_le (by omega)).mp (by omega)
      have nb1 : rwB n r0 Q ey k + rnN (frS n r0 Q (k * ey)) (frE n r0 Q (k * ey)) (n + 1) ≤ 2120 := rwB_le hn hr hr8 hev hkn
      refine Ends.eq (b775_120 (n := n) (by (repeat' first | assumption | refine LX.setF _ _ ?_ (by decide +kernel) | refine LX.setS ?_ rfl | refine LX.setA ?_ (by first | assumption | omega))) (by first | assumption | omega)) ?_
      rw [show bop32 104 (k : Int) (ey : Int) = ((k * ey : Nat) : Int) from mulNN (by omega), show bop32 112 (k : Int) 2 = ((k % 2 : Nat) : Int) from modNN (y := 2) (by decide) (by decide)]
      refine Ends.b4 (fun z => by omega) (fun _ => ?_)
      -- behind a row
      have nxt : ∀ (q2 : AH) (pa2 cap2 : Nat) (x9 x10 : Int) (u : AV), LX B n q2 → PtI B n Q r0 z0 h0 q2 pa cap (rwB n r0 Q ey k + rnN (frS n r0 Q (k * ey)) (frE n r0 Q (k * ey)) (n + 1)) pa2 cap2 → (∀ j, j < 12 * rwB n r0 Q ey k → hv q2 pa2 j = hv q pa' j) → RwM q2 pa2 n (frS n r0 Q (k * ey)) (frE n r0 Q (k * ey)) (k * ey) z0 (rwB n r0 Q ey k) (decide (k % 2 = 1)) → Ends (ev PP (gsF gv) B d 775 309 [(2, rf (B + 149)), (0, x1), (0, (r0 : Int)), (0, (z0 : Int)), (0, x4), (0, (al : Int)), (0, (ey : Int)), (0, (k : Int)), (0, ((k * ey : Nat) : Int)), (0, x9), (0, x10), u] [] q2) P := fun q2 pa2 cap2 x9 x10 u l2 p2 k2 r2 => by
        refine Ends.eq (b775_309 (n := n) (by (repeat' first | assumption | refine LX.setF _ _ ?_ (by decide +kernel) | refine LX.setS ?_ rfl | refine LX.setA ?_ (by first | assumption | omega))) (by first | assumption | omega)) ?_
        rw [w_succ (by have := Nat.div_le_self n ey; omega)]
        refine ih (k + 1) q2 pa2 cap2 _ _ _ _ (by omega) l2 p2 (fun k' hk' => ?_)
        by_cases e : k' = k
        · rw [e]; exact r2
        · have mo : rwB n r0 Q ey (k' + 1) ≤ rwB n r0 Q ey k := sumN_mono _ (by omega)
          have mo' : rwB n r0 Q ey k' + rnN (frS n r0 Q (k' * ey)) (frE n r0 Q (k' * ey)) (n + 1) ≤ rwB n r0 Q ey k := mo
          intro a b ru
          have lt := rwP_lt (back := decide (k' % 2 = 1)) ru
          exact (lo k' (by omega) a b ru).keep (m := 12 * rwB n r0 Q ey k) (by omega) k2
      by_cases odd : k % 2 = 1
      · rw [ct1, if_neg (by omega), ct5, if_neg (by omega)]
        refine row_dn (Q := Q) (Y := k * ey) (m0 := rwB n r0 Q ey k) (by omega) hn hr8 hkn rfl (by omega) lq pq (fun q2 pa2 cap2 x10 u l2 p2 k2 r2 => nxt q2 pa2 cap2 _ _ _ l2 p2 k2 ?_)
        rw [decide_eq_true odd]; exact r2
      · rw [ct1, if_pos (by omega), ct5, if_pos (by omega)]
        refine row_up (Q := Q) (Y := k * ey) (m0 := rwB n r0 Q ey k) (by omega) hn hr8 hkn rfl (by omega) lq pq (fun q2 pa2 cap2 x10 u l2 p2 k2 r2 => nxt q2 pa2 cap2 _ _ _ l2 p2 k2 ?_)
        rw [decide_eq_false odd]; exact r2
  exact key (n / ey + 1) 0 h0 pa cap _ _ _ _ (by omega) l0 p0 (fun k' hk' => absurd hk' (by omega))
theorem c_path775 (l : LX B n h) (hd : 20 ≤ d) (hn : n ≤ 52) (m : TbM B h) (b : BdM B n h is S) (p : PosM B h pa cap many) :
    Vt 0 (cll PP (ev PP (gsF gv) B) d 775 [(2, rf (B + 149)), (0, o), (0, r), (0, z), (0, w)] h) (fun v h' => (thS is o = false ∧ MdA B h 1 v h') ∨ (thS is o = true ∧ paOK n r z w = false ∧ MdA B h 2 v h') ∨ (thS is o = true ∧ paOK n r z w = true ∧ v = ((4 * pthN n (S (rwS o)) r z w : Nat) : Int) ∧ hv h' (B + 149) 0 = 0 ∧ ∃ pa' cap', (∀ fr to at_, pthL n (S (rwS o)) r z w fr to at_ → RnM B h' n r.toNat z.toNat (pthN n (S (rwS o)) r z w) fr to at_ pa' cap') ∧ cap ≤ cap' ∧ (pa' = pa ∨ hnx h ≤ pa') ∧ Ext (patW B n pa) (cap' - cap) (2 * cap' - 2 * cap) h h')) := by
  have hb0 := l.2.2
  refine Vt.inq (D := 19) hd (Nat.le_of_ble_eq_true rfl) rfl (fun d hd P K => ?_)
  refine Ends.eq (b775_0 (n := n) (by (repeat' first | assumption | refine LX.setF _ _ ?_ (by decide +kernel) | refine LX.setS ?_ rfl | refine LX.setA ?_ (by first | assumption | omega))) (by first | assumption | omega)) ?_
  obtain ⟨q5, e5⟩ := v765_is (o := o) (fun i hi => (b.1 i hi).1)
  refine Ends.g q5 ?_
  rw [e5, mpa_c]
  cases hs : thS is o
  · refine Ends.mbad l (by omega) (c := 1) (by decide) (by rw [if_neg Bool.false_ne_true]; rfl) ?_
    have l1 : LX B n (hset h (B + 149) 0 ((1 : Nat) : Int)) := LX.setF 149 0 l (by decide +kernel)
    refine Ends.eq (b775_58 (n := n) l1 (by omega)) (Ends.b0 (fun z => absurd z (by decide)) (fun _ => Ends.sm (K _ _ (Or.inl ⟨hs, rfl, rfl⟩))))
  cases hp : paOK n r z w
  · refine Ends.mbad l (by omega) (c := 2) (by decide) (by rw [if_pos rfl, if_neg Bool.false_ne_true]; rfl) ?_
    have l1 : LX B n (hset h (B + 149) 0 ((2 : Nat) : Int)) := LX.setF 149 0 l (by decide +kernel)
    refine Ends.eq (b775_58 (n := n) l1 (by omega)) (Ends.b0 (fun z => absurd z (by decide)) (fun _ => Ends.sm (K _ _ (Or.inr (Or.inl ⟨hs, hp, rfl, rfl⟩)))))
  refine Ends.mok l (by omega) (by rw [if_pos rfl, if_pos rfl]; rfl) ?_
  have l1 : LX B n (hset h (B + 149) 0 0) := LX.setF 149 0 l (by decide +kernel)
  have g1 : Agr (fun c k => c = B + 149 ∧ k = 0) h (hset h (B + 149) 0 0) := Agr.rf.set ⟨rfl, rfl⟩
  have b1 := b.fset 0 0
  have m1 : TbM B (hset h (B + 149) 0 0) := m.agr g1 (fun c k h1 h2 h3 w => by omega)
  have p1 : PosM B (hset h (B + 149) 0 0) pa cap many := p.agr g1 (by omega) (by omega)
  have z1 : hv (hset h (B + 149) 0 0) (B + 149) 0 = 0 := hv_set_at ..
  have ok := of_decide_eq_true hp
  obtain ⟨⟨r1, r8⟩, ⟨zz0, zn⟩, w1, w5⟩ := ok
  obtain ⟨r0, rfl⟩ : ∃ k : Nat, r = (k : Int) := ⟨r.toNat, by omega⟩
  obtain ⟨z0, rfl⟩ : ∃ k : Nat, z = (k : Int) := ⟨z.toNat, by omega⟩
  generalize hset h (B + 149) 0 0 = h1 at *
  refine Ends.eq (b775_58 (n := n) l1 (by omega)) (Ends.b0 (fun _ => ?_) (fun z => absurd rfl z))
  obtain ⟨d1, d2⟩ := dm64 w1 w5
  rw [d1, d2, v806_is hs]
  obtain ⟨mb, rw11⟩ := b1.sol hs
  have rt : ((r0 : Int)).toNat = r0 := rfl
  have zt : ((z0 : Int)).toNat = z0 := rfl
  unfold pthL pthN at K
  rw [rt, zt] at K
  have al8 : (w - 1).toNat / 64 ≤ 8 := by omega
  have ey64 : (w - 1).toNat % 64 + 1 ≤ 64 := by omega
  have ey1 : 1 ≤ (w - 1).toNat % 64 + 1 := by omega
  generalize (w - 1).toNat / 64 = al at *
  generalize (w - 1).toNat % 64 + 1 = ey at *
  refine Ends.cv l1 (by decide +kernel) (c_growM (s := rwS o) (t := 13) l1 (by omega) hn (by omega) (by decide) (by omega) mb (r := al) (by omega)) (fun h2 l2 _ _ _ ⟨g2, R, mb2, hR⟩ => ?_)
  have m2 : TbM B h2 := m1.agr g2 (fun c k a1 a2 a3 w => by have := wto3_c w; omega)
  have p2 := p1.agr g2 (fun w => by have := wto3_c w; omega) (fun w => by have := wto3_c w; omega)
  have mk : MB B n h2 13 (grk n (S (rwS o)) al) := mb2.congr (fun g hg => Bool.eq_iff_iff.mpr ((hR g hg).trans (grk_near (n := n) (S := S (rwS o)) al hg).symm))
  refine Ends.eq (b775_95 (n := n) l2 (by omega)) ?_
  refine Ends.cv l2 (by decide +kernel) (c_shade819 (s := 13) (z0 := z0) l2 (by omega) hn (by decide) m2 mk (by omega)) (fun h3 l3 _ _ _ ⟨g3, D, s3, hD⟩ => ?_)
  have m3 : TbM B h3 := m2.agr g3 (fun c k a1 a2 a3 w => by omega)
  obtain ⟨a1, a2, a3, a4, a5, a6, a7, a8⟩ := p2.agr g3 (fun w => by omega) (fun w => by omega)
  have sh3 : ShQ B n h3 (qS n (grk n (S (rwS o)) al) z0) := ⟨D, _, z0, s3, hD, fun q y x _ _ _ => qS_iff⟩
  have z3 : hv h3 (B + 149) 0 = 0 := by rw [g3.at _ _ (by omega), g2.at _ _ (fun w => by have := wto3_c w; omega)]; exact z1
  refine Ends.eq (b775_102 (n := n) l3 (by omega)) ?_
  have l4 : LX B n (hset (hset (hset h3 (B + 149) 160 0) (B + 149) 161 (r0 : Int)) (B + 149) 162 (z0 : Int)) := LX.setF 149 162 (LX.setF 149 161 (LX.setF 149 160 l3 (by decide +kernel)) (by decide +kernel)) (by decide +kernel)
  have g4 : Agr (fun c k => c = B + 149 ∧ (k = 160 ∨ k = 161 ∨ k = 162)) h3 (hset (hset (hset h3 (B + 149) 160 0) (B + 149) 161 (r0 : Int)) (B + 149) 162 (z0 : Int)) := ((Agr.rf.set ⟨rfl, Or.inl rfl⟩).set ⟨rfl, Or.inr (Or.inl rfl)⟩).set ⟨rfl, Or.inr (Or.inr rfl)⟩
  have f160 : hv (hset (hset (hset h3 (B + 149) 160 0) (B + 149) 161 (r0 : Int)) (B + 149) 162 (z0 : Int)) (B + 149) 160 = ((4 * 0 : Nat) : Int) := by rw [hv_set_ne (by omega), hv_set_ne (by omega), hv_set_at]; rfl
  have f161 : hv (hset (hset (hset h3 (B + 149) 160 0) (B + 149) 161 (r0 : Int)) (B + 149) 162 (z0 : Int)) (B + 149) 161 = (r0 : Int) := by rw [hv_set_ne (by omega), hv_set_at]
  have f162 : hv (hset (hset (hset h3 (B + 149) 160 0) (B + 149) 161 (r0 : Int)) (B + 149) 162 (z0 : Int)) (B + 149) 162 = (z0 : Int) := hv_set_at ..
  generalize hset (hset (hset h3 (B + 149) 160 0) (B + 149) 161 (r0 : Int)) (B + 149) 162 (z0 : Int) = h4 at *
  have p4 : PosM B h4 pa cap (4 * 0) := ⟨by rw [g4.at _ _ (by omega)]; exact a1, by rw [g4.hk]; exact a2, a3, by rw [g4.nx]; exact a4, f160, by omega, a7, a8⟩
  have z4 : hv h4 (B + 149) 0 = 0 := by rw [g4.at _ _ (by omega)]; exact z3
  have nx4 : hnx h4 = hnx h := by rw [g4.nx, g3.nx, g2.nx, g1.nx]
  have pt : PtI B n (qS n (grk n (S (rwS o)) al) z0) r0 z0 h4 h4 pa cap 0 pa cap := ⟨⟨p4, Nat.le_refl _, Or.inl rfl, Ext.rf⟩, m3.agr g4 (fun c k h1 h2 h3 w => by omega), sh3.agr g4 (fun k w => by omega), f161, f162⟩
  have nb : rwB n r0 (qS n (grk n (S (rwS o)) al) z0) ey (n / ey + 1) ≤ 2120 := rwB_le hn (by omega) (by omega) ey1 (rowsEv ey1).1
  refine path_rows (Q := qS n (grk n (S (rwS o)) al) z0) (al := al) (ey := ey) (by omega) hn (by omega) (by omega) ey1 ey64 l4 pt (fun q pa' cap' lq pq rws => K _ _ (Or.inr (Or.inr ⟨hs, hp, rfl, ?_, pa', cap', fun fr to at_ rl => ?_, pq.1.2.1, ?_, ?_⟩)))
  · rw [pq.1.2.2.2.at _ (by omega) (by unfold psW; omega)]; exact z4
  · refine ⟨pq.1.1, pq.2.2.2.1, pq.2.2.2.2, nb, fun i hi => ⟨?_, rl.bd i hi⟩⟩
    obtain ⟨k, a, b, hk, ru, ei, e1, e2, e3⟩ := rl.2 i hi
    have rr := rws k hk a b ru
    rw [← ei] at rr
    rw [e1, e2, e3]
    revert rr
    cases decide (k % 2 = 1) <;> exact id
  · have := pq.1.2.2.1
    rw [nx4] at this
    exact this
  · have E1 : Ext (patW B n pa) 0 0 h h1 := g1.ext.sub (fun c k _ w => Or.inl ⟨w.1, Or.inl w.2⟩) (Nat.le_refl _) (Nat.le_refl _)
    have E2 := E1.tr g2.ext (fun c k _ w => Or.inr (Or.inr (Or.inr w)))
    have E3 := E2.tr g3.ext (fun c k _ w => Or.inr (Or.inr (Or.inl w)))
    have E4 := E3.tr g4.ext (fun c k _ w => Or.inl ⟨w.1, by omega⟩)
    have E5 := E4.tr pq.1.2.2.2 (fun c k _ w => by unfold psW at w; unfold patW; omega)
    exact E5.sub (fun c k _ w => w) (by omega) (by omega)
end MPT
