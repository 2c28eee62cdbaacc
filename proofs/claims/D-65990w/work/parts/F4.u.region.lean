/-! L3: the region of a sketch (desk) -/
noncomputable section RGD
variable {gv : Nat → Int} {B n d D b p y : Nat} {h : AH} {lv : Nat → Bool} {U0 V0 U1 V1 DU DV SZ CU CV LA : Nat → Int} {CR : Nat → Nat} {k m l f : Nat} {u v w x c : Int} {R : Nat → Nat → Nat → Bool}
/-- quarters, row by row -/
def dnB (p y q v : Nat) : Prop := q < p ∨ (q = p ∧ v < y)
def QuP (n : Nat) (h : AH) (b : Nat) (R : Nat → Nat → Nat → Bool) (p y : Nat) : Prop := hk h b = (3, 4 * n) ∧ ∀ q v, q < 4 → v < n → dnB p y q v → cn 1 (hv h b (q * n + v)) ∧ ∀ x, x < 64 → tb (hv h b (q * n + v)) x = (decide (x < n) && R q v x)
theorem QuP.zero (e : hk h b = (3, 4 * n)) : QuP n h b R 0 0 := ⟨e, fun q v _ _ z => by
  rcases z with z | ⟨-, z⟩
  · exact absurd z (Nat.not_lt_zero q)
  · exact absurd z (Nat.not_lt_zero v)⟩
theorem QuP.next (s : QuP n h b R p n) : QuP n h b R (p + 1) 0 := ⟨s.1, fun q v hq hv z => s.2 q v hq hv (by
  unfold dnB at *
  omega)⟩
theorem QuP.done (s : QuP n h b R 4 0) : Qua n h b R := ⟨s.1, fun q v hq hv => s.2 q v hq hv (Or.inl hq)⟩
theorem QuP.put {m : Int} (s : QuP n h b R p y) (hp : p < 4) (hy : y < n) (cm : cn 1 m) (hm : ∀ x, x < 64 → tb m x = (decide (x < n) && R p y x)) : QuP n (hset h b (p * n + y) m) b R p (y + 1) := by
  refine ⟨s.1, fun q' y' hq' hy' z => ?_⟩
  by_cases e : q' = p ∧ y' = y
  · rw [e.1, e.2, hv_set_at]
    exact ⟨cm, hm⟩
  · have ne : q' * n + y' ≠ p * n + y := fun w => e (by
      have h1 := dm (a := q') hy'
      have h2 := dm (a := p) hy
      rw [w] at h1
      omega)
    rw [hv_set_ne (fun w => ne w.2)]
    refine s.2 q' y' hq' hy' ?_
    unfold dnB at *
    omega
theorem wi_lc : wiD lv LA U0 V0 V1 DU DV u v (-1) = lcB lv U0 V0 V1 DU DV u v := funext (fun k => by
  unfold wiD lcB
  rw [decide_eq_true (show (-1 : Int) < 0 by decide), Bool.true_or, Bool.and_true])
theorem bit_put {m : Int} {j i : Nat} {P : Nat → Bool} (hi : i < 64) (hj : j < 64) (hm : tb m j = (decide (j < i) && P j)) (pi : P i = true) : tb (bop64 129 m (sop64 121 1 (i : Int))) j = (decide (j < i + 1) && P j) := by
  rw [tb_or, hm, one_bit (by omega) hj]
  by_cases z : j = i
  · rw [z, pi]; simp
  · by_cases y : j < i
    · simp [z, y, show j < i + 1 by omega]
    · simp [z, y, show ¬ j < i + 1 by omega]
theorem bit_no {m : Int} {j i : Nat} {P : Nat → Bool} (hm : tb m j = (decide (j < i) && P j)) (pi : P i = false) : tb m j = (decide (j < i + 1) && P j) := by
  rw [hm]
  by_cases z : j = i
  · rw [z, pi]; simp
  · by_cases y : j < i
    · simp [y, show j < i + 1 by omega]
    · simp [y, show ¬ j < i + 1 by omega]
/-- the region by quarters -/
def rgQ (lv : Nat → Bool) (U0 V0 V1 DU DV : Nat → Int) (D : Nat) (CU CV : Nat → Int) (CR : Nat → Nat) (q v u : Nat) : Bool := rgB lv U0 V0 V1 DU DV D CU CV CR (8 * (u : Int) + sU q) (8 * (v : Int) + sV q)
set_option maxHeartbeats 2000000 in
theorem c_region432 (l : LX B n h) (hd : 12 ≤ d) (hn : n ≤ 52) (Sg : SgD B h lv U0 V0 U1 V1) (bd : BdL lv U0 V0 U1 V1) (hl : ∀ k, lv k = true → (hv h (B + 73) k = DU k ∧ hv h (B + 74) k = DV k) ∧ D8 (DU k) (DV k)) (Dd : DscD B n h D CU CV CR) (kb : hk h b = (3, 4 * n)) (hb : B + 81 ≤ b) :
    Vd (cll PP (ev PP (gsF gv) B) d 432 [(2, rf (B + 56)), (2, rf b)] h) (fun h' => Agr (fun c _ => c = b) h h' ∧ Qua n h' b (rgQ lv U0 V0 V1 DU DV D CU CV CR)) := by
  refine Vd.inq (D := 11) hd (Nat.le_of_ble_eq_true rfl) rfl (fun d hd P K => ?_)
  obtain ⟨R, eR⟩ : ∃ R, R = rgQ lv U0 V0 V1 DU DV D CU CV CR := ⟨_, rfl⟩
  have quas : ∀ (c p : Nat) (q : AH) (u3 u4 u5 u6 u7 u8 u9 u10 : AV), p + c = 4 → LX B n q → Agr (fun c _ => c = b) h q → QuP n q b R p 0 → Ends (ev PP (gsF gv) B d 432 2 [(2, rf (B + 56)), (2, rf b), (0, (p : Int)), u3, u4, u5, u6, u7, u8, u9, u10] [] q) P := by
    intro c
    induction c with
    | zero =>
      intro p q u3 u4 u5 u6 u7 u8 u9 u10 hp lq g qq
      obtain rfl : p = 4 := by omega
      refine Ends.eq (b432_2 (n := n) (by (repeat' first | assumption | refine LX.setF _ _ ?_ (by decide +kernel) | refine LX.setS ?_ rfl | refine LX.setA ?_ (by first | assumption | omega))) (by first | assumption | omega)) ?_
      exact Ends.b3 (fun _ => Ends.sm (K _ ⟨g, by rw [← eR]; exact qq.done⟩)) (fun z => absurd z (by decide))
    | succ c ihc =>
      intro p q u3 u4 u5 u6 u7 u8 u9 u10 hp lq g qq
      have hp4 : p < 4 := by omega
      have su := sU_b (q := p)
      have sv := sV_b (q := p)
      have rows : ∀ (c y : Nat) (q : AH) (u4 u5 u6 u7 u8 u9 u10 : AV), y + c = n → LX B n q → Agr (fun c _ => c = b) h q → QuP n q b R p y → Ends (ev PP (gsF gv) B d 432 9 [(2, rf (B + 56)), (2, rf b), (0, (p : Int)), (0, (y : Int)), u4, u5, u6, u7, u8, u9, u10] [] q) P := by
        intro c
        induction c with
        | zero =>
          intro y q u4 u5 u6 u7 u8 u9 u10 hy lq g qq
          obtain rfl : n = y := by omega
          refine Ends.eq (b432_9 (n := n) (by (repeat' first | assumption | refine LX.setF _ _ ?_ (by decide +kernel) | refine LX.setS ?_ rfl | refine LX.setA ?_ (by first | assumption | omega))) (by first | assumption | omega)) ?_
          refine Ends.b3 (fun _ => ?_) (fun z => absurd z (Int.lt_irrefl _))
          rw [w_succ (by omega)]
          exact ihc (p + 1) q _ _ _ _ _ _ _ _ (by omega) lq g qq.next
        | succ c ihr =>
          intro y q u4 u5 u6 u7 u8 u9 u10 hy lq g qq
          have at_ : ∀ c k, c < B + 81 → hv q c k = hv h c k := fun c k hc => g.at _ _ (fun z => by omega)
          have Sq : SgD B q lv U0 V0 U1 V1 := Sg.agr g (fun c k z => by omega)
          have hlq : ∀ k, lv k = true → (hv q (B + 73) k = DU k ∧ hv q (B + 74) k = DV k) ∧ D8 (DU k) (DV k) := fun k z => by
            rw [at_ _ _ (by omega), at_ _ _ (by omega)]; exact hl k z
          have idx : ∀ _ : Unit, bop32 96 (bop32 104 (p : Int) (n : Int)) (y : Int) = ((p * n + y : Nat) : Int) := fun _ => by
            have := Nat.mul_le_mul (show p ≤ 3 by omega) hn
            rw [show bop32 104 (p : Int) (n : Int) = ((p * n : Nat) : Int) from mulNN (by omega)]
            exact addNN (by omega)
          have cols : ∀ (c x : Nat) (m : Int) (u5 u7 u8 u9 u10 : AV), x + c = n → ¬ u5.1 = 1 → cn 1 m → (∀ j, j < 64 → tb m j = (decide (j < x) && R p y j)) → Ends (ev PP (gsF gv) B d 432 23 [(2, rf (B + 56)), (2, rf b), (0, (p : Int)), (0, (y : Int)), (1, m), u5, (0, (x : Int)), u7, u8, u9, u10] [] q) P := by
            intro c
            induction c with
            | zero =>
              intro x m u5 u7 u8 u9 u10 hx nu5 cm hm
              obtain rfl : n = x := by omega
              have ql := q_lt (n := n) (q := p) (v := y) hp4 (by omega)
              refine Ends.eq (b432_23 (n := n) (by (repeat' first | assumption | refine LX.setF _ _ ?_ (by decide +kernel) | refine LX.setS ?_ rfl | refine LX.setA ?_ (by first | assumption | omega))) (by first | assumption | omega)) ?_
              rw [idx (), tn, ad_rf, an1]
              refine Ends.b3 (fun _ => Ends.g ⟨rf_pos _, by rw [g.hk, kb], by omega, by rw [g.hk, kb]; show ((p * n + y : Nat) : Int) < ((4 * n : Nat) : Int); omega, by omega⟩ ?_) (fun z => absurd z (Int.lt_irrefl _))
              rw [w_succ (by omega)]
              refine ihr (y + 1) _ _ _ _ _ _ _ _ (by omega) (lq.setA (t := 1) (by rw [g.hk, kb])) (g.set rfl) (qq.put hp4 (by omega) cm hm)
            | succ c ihx =>
              intro x m u5 u7 u8 u9 u10 hx nu5 cm hm
              have e1 : bop32 96 (bop32 104 8 (x : Int)) (v434 (p : Int)) = 8 * (x : Int) + sU p := by
                rw [v434_is ⟨p, hp4⟩, mul32 (x := 8) (y := (x : Int)) (by omega) (by omega)]
                exact add32 (by simp only; omega) (by simp only; omega)
              have e2 : bop32 96 (bop32 104 8 (y : Int)) (v435 (p : Int)) = 8 * (y : Int) + sV p := by
                rw [v435_is ⟨p, hp4⟩, mul32 (x := 8) (y := (y : Int)) (by omega) (by omega)]
                exact add32 (by simp only; omega) (by simp only; omega)
              obtain ⟨X, eX⟩ : ∃ X, X = 8 * (x : Int) + sU p := ⟨_, rfl⟩
              obtain ⟨Y, eY⟩ : ∃ Y, Y = 8 * (y : Int) + sV p := ⟨_, rfl⟩
              have rxy : R p y x = rgB lv U0 V0 V1 DU DV D CU CV CR X Y := by rw [eR, eX, eY]; rfl
              refine Ends.eq (b432_23 (n := n) (by (repeat' first | assumption | refine LX.setF _ _ ?_ (by decide +kernel) | refine LX.setS ?_ rfl | refine LX.setA ?_ (by first | assumption | omega))) (by first | assumption | omega)) ?_
              rw [e1, e2, ← eX, ← eY]
              clear e1 e2
              refine Ends.b3 (fun z => absurd z (by omega)) (fun _ => ?_)
              refine Ends.ct lq (by decide +kernel) (by decide) (c_isWithin416 lq (by omega) Sq bd hlq (by omega) (by omega)) (fun y0 q2 l2 _ _ _ ⟨eq2_, ey0⟩ => ?_)
              subst eq2_
              rw [wi_lc] at ey0
              obtain ⟨F, eF⟩ : ∃ F, F = lcB lv U0 V0 V1 DU DV X Y := ⟨_, rfl⟩
              rw [← eF] at ey0
              have next : ∀ (m' : Int) (u5 : AV) (x7 x8 x9 x10 : Int), ¬ u5.1 = 1 → cn 1 m' → (∀ j, j < 64 → tb m' j = (decide (j < x + 1) && R p y j)) → Ends (ev PP (gsF gv) B d 432 149 [(2, rf (B + 56)), (2, rf b), (0, (p : Int)), (0, (y : Int)), (1, m'), u5, (0, (x : Int)), (0, x7), (0, x8), (0, x9), (0, x10)] [] q2) P := fun m' u5 x7 x8 x9 x10 nu5 cm' hm' => by
                refine Ends.eq (b432_149 (n := n) nu5 l2 (by omega)) ?_
                rw [w_succ (by omega)]
                exact ihx (x + 1) m' _ _ _ _ _ (by omega) nu5 cm' hm'
              have discs : ∀ (r i : Nat), i + r = D → Ends (ev PP (gsF gv) B d 432 69 [(2, rf (B + 56)), (2, rf b), (0, (p : Int)), (0, (y : Int)), (1, m), u5, (0, (x : Int)), (0, X), (0, Y), (0, parI (cntN F 24 + cntN (dcB CU CV CR X Y) i)), (0, (i : Int))] [] q2) P := by
                intro r
                induction r with
                | zero =>
                  intro i ei
                  obtain rfl : i = D := by omega
                  have rr : R p y x = decide ((cntN F 24 + cntN (dcB CU CV CR X Y) i) % 2 = 1) := by rw [rxy, eF]; rfl
                  refine Ends.eq (b432_69 (n := n) (by (repeat' first | assumption | refine LX.setF _ _ ?_ (by decide +kernel) | refine LX.setS ?_ rfl | refine LX.setA ?_ (by first | assumption | omega))) (by first | assumption | omega)) ?_
                  rw [at_ _ _ (by omega), Dd.1.1]
                  refine Ends.b3 (fun _ => Ends.b0 (fun z => next m _ _ _ _ _ nu5 cm (fun j hj => bit_no (P := R p y) (hm j hj) ?_)) (fun z => next _ _ _ _ _ _ (by decide) cn_bop64 (fun j hj => bit_put (P := R p y) (by omega) hj (hm j hj) ?_))) (fun z => absurd z (Int.lt_irrefl _))
                  · rw [rr]
                    unfold parI at z
                    exact decide_eq_false (by omega)
                  · rw [rr]
                    unfold parI at z
                    exact decide_eq_true (by omega)
                | succ r ih =>
                  intro i ei
                  have D6 := Dd.1.2
                  obtain ⟨⟨y1, y2, y3⟩, b1, b2, b3⟩ := Dd.2 i (by omega)
                  have e1 : bop32 104 8 (CU i) = 8 * CU i := mul32 (by omega) (by omega)
                  have e2 : bop32 104 8 (CV i) = 8 * CV i := mul32 (by omega) (by omega)
                  have e3 : bop32 100 X (8 * CU i) = X - 8 * CU i := sub32 (by omega) (by omega)
                  have e4 : bop32 100 Y (8 * CV i) = Y - 8 * CV i := sub32 (by omega) (by omega)
                  have e5 := v410_is (r := CR i) (x := X - 8 * CU i) (y := Y - 8 * CV i) (by omega) (by omega) (by omega)
                  rw [show und (CR i) (X - 8 * CU i) (Y - 8 * CV i) 0 = dcB CU CV CR X Y i from rfl] at e5
                  refine Ends.eq (b432_69 (n := n) (by (repeat' first | assumption | refine LX.setF _ _ ?_ (by decide +kernel) | refine LX.setS ?_ rfl | refine LX.setA ?_ (by first | assumption | omega))) (by first | assumption | omega)) ?_
                  simp only [tn]
                  rw [at_ _ _ (by omega), at_ _ _ (by omega), at_ _ _ (by omega), at_ _ _ (by omega), Dd.1.1, y1, y2, y3, e1, e2, e3, e4, e5, ct0, ct1, par_tog, w_succ (by omega)]
                  clear e1 e2 e3 e4 e5
                  refine Ends.b3 (fun z => absurd z (by omega)) (fun _ => Ends.g ⟨by omega, by omega⟩ ?_)
                  have go := ih (i + 1) (by omega)
                  rw [cntN_s (dcB CU CV CR X Y) i] at go
                  cases z : dcB CU CV CR X Y i
                  · rw [z] at go
                    exact go
                  · rw [z] at go
                    exact go
              refine Ends.eq (b432_64 (n := n) (by (repeat' first | assumption | refine LX.setF _ _ ?_ (by decide +kernel) | refine LX.setS ?_ rfl | refine LX.setA ?_ (by first | assumption | omega))) (by first | assumption | omega)) ?_
              rw [ey0]
              exact discs D 0 (by omega)
          refine Ends.eq (b432_9 (n := n) (by (repeat' first | assumption | refine LX.setF _ _ ?_ (by decide +kernel) | refine LX.setS ?_ rfl | refine LX.setA ?_ (by first | assumption | omega))) (by first | assumption | omega)) ?_
          refine Ends.b3 (fun z => absurd z (by omega)) (fun _ => ?_)
          exact cols n 0 0 _ _ _ _ _ (by omega) (by decide) ⟨by decide, by decide⟩ (fun j _ => by rw [tb_0]; simp)
      refine Ends.eq (b432_2 (n := n) (by (repeat' first | assumption | refine LX.setF _ _ ?_ (by decide +kernel) | refine LX.setS ?_ rfl | refine LX.setA ?_ (by first | assumption | omega))) (by first | assumption | omega)) ?_
      exact Ends.b3 (fun z => absurd z (by omega)) (fun _ => rows n 0 q _ _ _ _ _ _ _ (by omega) lq g qq)
  refine Ends.eq (b432_0 (n := n) (by (repeat' first | assumption | refine LX.setF _ _ ?_ (by decide +kernel) | refine LX.setS ?_ rfl | refine LX.setA ?_ (by first | assumption | omega))) (by first | assumption | omega)) ?_
  exact quas 4 0 h _ _ _ _ _ _ _ _ rfl l Agr.rf (QuP.zero kb)
end RGD
