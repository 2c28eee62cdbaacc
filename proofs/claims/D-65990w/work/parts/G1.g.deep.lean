/-! L3: tapers (model): squares, whether a place is deep in them -/
noncomputable section DEEP
variable {gv : Nat → Int} {B n d D ax f1 q s g : Nat} {h : AH} {lv : Nat → Bool} {U0 V0 U1 V1 DU DV SZ CU CV nb : Nat → Int} {CR : Nat → Nat} {f : Nat → Nat → Nat} {A C H x y o : Int}
/-- the squares of the model -/
def SqM (B n : Nat) (q : AH) (f : Nat → Nat → Nat) : Prop := hk q (B + 235) = (5, n * n) ∧ ∀ u v, u < n → v < n → hv q (B + 235) (n * u + v) = ((f v u : Nat) : Int)
theorem sq_ix {u v : Nat} (hn : n ≤ 52) (hu : u < n) (hv0 : v < n) : bop32 96 (bop32 104 (n : Int) (u : Int)) (v : Int) = ((n * u + v : Nat) : Int) ∧ n * u + v < n * n := by
  have h1 := Nat.mul_le_mul_left n (show u + 1 ≤ n by omega)
  have h2 := Nat.mul_le_mul hn hn
  rw [Nat.mul_add, Nat.mul_one] at h1
  rw [show bop32 104 (n : Int) (u : Int) = ((n * u : Nat) : Int) from mulNN (by omega)]
  exact ⟨addNN (by omega), by omega⟩
theorem v716_is (hn : n ≤ 52) (hf : ∀ v u, f v u ≤ 1) (M : SqM B n h f) : q716 B n h x y ∧ v716 B n h x y = (if (0 ≤ x ∧ x < n) ∧ (0 ≤ y ∧ y < n) ∧ f y.toNat x.toNat = 1 then 1 else 0) := by
  have ix : (0 ≤ x ∧ x < n) ∧ (0 ≤ y ∧ y < n) → bop32 96 (bop32 104 (n : Int) x) y = ((n * x.toNat + y.toNat : Nat) : Int) ∧ n * x.toNat + y.toNat < n * n := fun z => by
    have := sq_ix (n := n) (u := x.toNat) (v := y.toNat) hn (by omega) (by omega)
    rw [show ((x.toNat : Nat) : Int) = x by omega, show ((y.toNat : Nat) : Int) = y by omega] at this
    exact this
  constructor
  · unfold q716
    rw [ct2, ct2, ct3, ct3]
    by_cases c1 : x < 0
    · rw [if_pos c1]; trivial
    rw [if_neg c1]
    by_cases c2 : y < 0
    · rw [if_pos c2]; trivial
    rw [if_neg c2]
    by_cases c3 : x < (n : Int)
    · rw [if_pos c3]
      by_cases c4 : y < (n : Int)
      · rw [if_pos c4]
        obtain ⟨i1, i2⟩ := ix ⟨⟨by omega, c3⟩, by omega, c4⟩
        rw [i1]
        exact ⟨by omega, by omega⟩
      · rw [if_neg c4]; trivial
    · rw [if_neg c3]; trivial
  · unfold v716
    rw [ct2, ct2, ct3, ct3, ct0]
    by_cases c1 : x < 0
    · rw [if_pos c1, if_neg (by omega)]
    rw [if_neg c1]
    by_cases c2 : y < 0
    · rw [if_pos c2, if_neg (by omega)]
    rw [if_neg c2]
    by_cases c3 : x < (n : Int)
    · rw [if_pos c3]
      by_cases c4 : y < (n : Int)
      · rw [if_pos c4]
        obtain ⟨i1, i2⟩ := ix ⟨⟨by omega, c3⟩, by omega, c4⟩
        rw [i1, tn, M.2 x.toNat y.toNat (by omega) (by omega)]
        have := hf y.toNat x.toNat
        by_cases e : f y.toNat x.toNat = 1
        · rw [if_neg (by omega), if_pos ⟨⟨by omega, c3⟩, ⟨by omega, c4⟩, e⟩]
        · rw [if_pos (by omega), if_neg (fun z => e z.2.2)]
      · rw [if_neg c4, if_neg (fun z => c4 z.2.1.2)]
    · rw [if_neg c3, if_neg (fun z => c3 z.1.2)]
theorem sh3 : ∀ i : Fin 60, ∀ j : Fin 100, bop32 122 (((100 * i + j : Nat) : Int) - 5000) 3 = (((100 * i + j : Nat) : Int) - 5000) / 8 := by decide +kernel
theorem sh3_8 {t : Int} (h1 : -5000 ≤ t) (h2 : t < 1000) : bop32 122 t 3 = t / 8 := by
  have := sh3 ⟨(t + 5000).toNat / 100, by omega⟩ ⟨(t + 5000).toNat % 100, by omega⟩
  simp only at this
  rw [show ((100 * ((t + 5000).toNat / 100) + (t + 5000).toNat % 100 : Nat) : Int) - 5000 = t by omega] at this
  exact this
set_option maxHeartbeats 1000000 in
theorem c_isDeep683 (l : LX B n h) (hd : 10 ≤ d) (hn : n ≤ 52) (hf : ∀ v u, f v u ≤ 1) (M : SqM B n h f) (bA : 0 ≤ A ∧ A < 8 * n) (bC : 0 ≤ C ∧ C < 8 * n) (bH : 0 < H ∧ H ≤ 3700) : Vt 0 (cll PP (ev PP (gsF gv) B) d 683 [(2, rf (B + 149)), (0, A), (0, C), (0, H)] h) (fun x h' => h' = h ∧ x = b2i (tpB n f A C H)) := by
  refine Vt.inq (D := 9) hd (Nat.le_of_ble_eq_true rfl) rfl (fun d hd Q K => ?_)
  have e1 : v640 (bop32 100 A H) = (A - H) / 8 := by
    unfold v640
    rw [sub32 (by omega) (by omega)]
    exact sh3_8 (by omega) (by omega)
  have e2 : v640 (bop32 100 C H) = (C - H) / 8 := by
    unfold v640
    rw [sub32 (by omega) (by omega)]
    exact sh3_8 (by omega) (by omega)
  have e3 : bop32 96 A H = A + H := add32 (by omega) (by omega)
  have e4 : bop32 96 C H = C + H := add32 (by omega) (by omega)
  obtain ⟨u0, eu0⟩ : ∃ u, u = (A - H) / 8 := ⟨_, rfl⟩
  obtain ⟨v0, ev0⟩ : ∃ u, u = (C - H) / 8 := ⟨_, rfl⟩
  have bad : ∀ X Y : Int, u0 ≤ X → 8 * X < A + H → v0 ≤ Y → 8 * Y < C + H → ¬ ((0 ≤ X ∧ X < n) ∧ (0 ≤ Y ∧ Y < n) ∧ f Y.toNat X.toNat = 1) → Q ((0, (0, 0)), h) := fun X Y h1 h2 h3 h4 h5 => by
    refine K _ _ ⟨rfl, ?_⟩
    rw [tpB_f (fun t => h5 (t X Y (by omega) h2 (by omega) h4))]; rfl
  have cols : ∀ (r : Nat) (X : Int) (u5 : AV), 8 * X + r = A + H + 8 → u0 ≤ X → (∀ X' Y : Int, u0 ≤ X' → X' < X → v0 ≤ Y → 8 * Y < C + H → (0 ≤ X' ∧ X' < n) ∧ (0 ≤ Y ∧ Y < n) ∧ f Y.toNat X'.toNat = 1) → Ends (ev PP (gsF gv) B d 683 8 [(2, rf (B + 149)), (0, A), (0, C), (0, H), (0, X), u5] [] h) Q := by
    intro r
    refine Nat.strongRecOn r (fun r ihr => ?_)
    intro X u5 er hX ok
    have m8 : bop32 104 8 X = 8 * X := mul32 (by omega) (by omega)
    refine Ends.eq (b683_8 l (by omega)) ?_
    rw [m8, e2, e3, ← ev0]
    refine Ends.b3 (fun z => Ends.sm (K _ _ ⟨rfl, ?_⟩)) (fun zX => ?_)
    · rw [tpB_t (fun X' Y h1 h2 h3 h4 => ok X' Y (by omega) (by omega) (by omega) h4)]; rfl
    have inner : ∀ (r' : Nat) (Y : Int), 8 * Y + r' = C + H + 8 → v0 ≤ Y → (∀ Y' : Int, v0 ≤ Y' → Y' < Y → (0 ≤ X ∧ X < n) ∧ (0 ≤ Y' ∧ Y' < n) ∧ f Y'.toNat X.toNat = 1) → Ends (ev PP (gsF gv) B d 683 27 [(2, rf (B + 149)), (0, A), (0, C), (0, H), (0, X), (0, Y)] [] h) Q := by
      intro r'
      refine Nat.strongRecOn r' (fun r' ihy => ?_)
      intro Y ey hY okY
      have m8' : bop32 104 8 Y = 8 * Y := mul32 (by omega) (by omega)
      obtain ⟨q7, v7⟩ := v716_is (x := X) (y := Y) hn hf M
      refine Ends.eq (b683_27 l (by omega)) ?_
      rw [m8', e4, v7]
      refine Ends.b3 (fun z => ?_) (fun zY => Ends.g q7 ?_)
      · rw [show w32 (X + 1) = X + 1 from w32_id ⟨by omega, by omega⟩]
        refine ihr (r - 8) (by omega) (X + 1) _ (by omega) (by omega) (fun X' Y' h1 h2 h3 h4 => ?_)
        rcases (by omega : X' < X ∨ X' = X) with w | w
        · exact ok X' Y' h1 w h3 h4
        · rw [w]; exact okY Y' h3 (by omega)
      · by_cases e : (0 ≤ X ∧ X < n) ∧ (0 ≤ Y ∧ Y < n) ∧ f Y.toNat X.toNat = 1
        · rw [if_pos e]
          refine Ends.b1 (fun _ => ?_) (fun z => absurd z (by decide))
          rw [show w32 (Y + 1) = Y + 1 from w32_id ⟨by omega, by omega⟩]
          refine ihy (r' - 8) (by omega) (Y + 1) (by omega) (by omega) (fun Y' h1 h2 => ?_)
          rcases (by omega : Y' < Y ∨ Y' = Y) with w | w
          · exact okY Y' h1 w
          · rw [w]; exact e
        · rw [if_neg e]
          exact Ends.b1 (fun z => absurd rfl z) (fun _ => Ends.sm (bad X Y hX zX hY zY e))
    exact inner (C + H + 8 - 8 * v0).toNat v0 (by omega) (Int.le_refl _) (fun Y' h1 h2 => by omega)
  refine Ends.eq (b683_0 l (by omega)) ?_
  rw [e1, ← eu0]
  exact cols (A + H + 8 - 8 * u0).toNat u0 _ (by omega) (Int.le_refl _) (fun X' Y h1 h2 => by omega)
/-- unit squares of a region -/
def sqR (lv : Nat → Bool) (U0 V0 V1 DU DV : Nat → Int) (D : Nat) (CU CV : Nat → Int) (CR : Nat → Nat) (v u : Nat) : Nat := if rgB lv U0 V0 V1 DU DV D CU CV CR (8 * (u : Int) + 4) (8 * (v : Int) + 3) = true then 1 else 0
set_option maxHeartbeats 1000000 in
theorem c_fillSquares630 (l : LX B n h) (hd : 12 ≤ d) (hn : n ≤ 52) (Sm : SgM B h lv U0 V0 U1 V1) (hG : ∀ k, k < 24 → lv k = true → SgK n U0 V0 U1 V1 DU DV SZ k) (hl : ∀ k, lv k = true → k < 24) (Dm : DscM B n h D CU CV CR) : Vd (cll PP (ev PP (gsF gv) B) d 630 [(2, rf (B + 149))] h) (fun h' => Agr (fun c _ => c = B + 235) h h' ∧ SqM B n h' (sqR lv U0 V0 V1 DU DV D CU CV CR)) := by
  refine Vd.inq (D := 11) hd (Nat.le_of_ble_eq_true rfl) rfl (fun d hd Q K => ?_)
  obtain ⟨f, ef⟩ : ∃ f, f = sqR lv U0 V0 V1 DU DV D CU CV CR := ⟨_, rfl⟩
  have rows : ∀ (c u : Nat) (q : AH) (u2 : AV), u + c = n → LX B n q → Agr (fun c _ => c = B + 235) h q → (∀ u' v', u' < u → v' < n → hv q (B + 235) (n * u' + v') = ((f v' u' : Nat) : Int)) → Ends (ev PP (gsF gv) B d 630 2 [(2, rf (B + 149)), (0, (u : Int)), u2] [] q) Q := by
    intro c
    induction c with
    | zero =>
      intro u q u2 hu lq g ok
      obtain rfl : n = u := by omega
      refine Ends.eq (b630_2 (n := n) (by (repeat' first | assumption | refine LX.setF _ _ ?_ (by decide +kernel) | refine LX.setS ?_ rfl | refine LX.setA ?_ (by first | assumption | omega))) (by first | assumption | omega)) ?_
      refine Ends.b3 (fun _ => Ends.sm (K _ ⟨g, lk_235 lq, ?_⟩)) (fun z => absurd z (Int.lt_irrefl _))
      rw [← ef]; exact ok
    | succ c ihc =>
      intro u q u2 hu lq g ok
      have cols : ∀ (c v : Nat) (q : AH), v + c = n → LX B n q → Agr (fun c _ => c = B + 235) h q → (∀ u' v', u' < n → v' < n → u' < u ∨ (u' = u ∧ v' < v) → hv q (B + 235) (n * u' + v') = ((f v' u' : Nat) : Int)) → Ends (ev PP (gsF gv) B d 630 12 [(2, rf (B + 149)), (0, (u : Int)), (0, (v : Int))] [] q) Q := by
        intro c
        induction c with
        | zero =>
          intro v q hv_ lq g ok
          obtain rfl : n = v := by omega
          refine Ends.eq (b630_12 (n := n) (by (repeat' first | assumption | refine LX.setF _ _ ?_ (by decide +kernel) | refine LX.setS ?_ rfl | refine LX.setA ?_ (by first | assumption | omega))) (by first | assumption | omega)) ?_
          refine Ends.b3 (fun _ => ?_) (fun z => absurd z (Int.lt_irrefl _))
          rw [w_succ (by omega)]
          refine ihc (u + 1) q _ (by omega) lq g (fun u' v' h1 h2 => ok u' v' (by omega) h2 (by omega))
        | succ c ihv =>
          intro v q hv_ lq g ok
          have Sq : SgM B q lv U0 V0 U1 V1 := Sm.agr g (fun c k z => by omega)
          have at_ : ∀ c k, c ≠ B + 235 → hv q c k = hv h c k := fun c k hc => g.at _ _ hc
          have Dq : DscM B n q D CU CV CR := ⟨⟨by rw [at_ _ _ (by omega)]; exact Dm.1.1, Dm.1.2⟩, fun i hi => by
            rw [at_ _ _ (by omega), at_ _ _ (by omega), at_ _ _ (by omega)]; exact Dm.2 i hi⟩
          obtain ⟨i1, i2⟩ := sq_ix (n := n) (u := u) (v := v) hn (by omega) (by omega)
          have m1 : bop32 96 (bop32 104 8 (u : Int)) 4 = 8 * (u : Int) + 4 := by
            rw [mul32 (x := 8) (y := (u : Int)) (by omega) (by omega)]
            exact add32 (by omega) (by omega)
          have m2 : bop32 96 (bop32 104 8 (v : Int)) 3 = 8 * (v : Int) + 3 := by
            rw [mul32 (x := 8) (y := (v : Int)) (by omega) (by omega)]
            exact add32 (by omega) (by omega)
          refine Ends.eq (b630_12 (n := n) (by (repeat' first | assumption | refine LX.setF _ _ ?_ (by decide +kernel) | refine LX.setS ?_ rfl | refine LX.setA ?_ (by first | assumption | omega))) (by first | assumption | omega)) ?_
          rw [i1, m1, m2]
          clear m1 m2 i1
          refine Ends.b3 (fun z => absurd z (by omega)) (fun _ => ?_)
          refine Ends.ct lq (by decide +kernel) (by decide) (c_isInRegion697 lq (by omega) (by omega) Sq hG hl Dq (u := 8 * (u : Int) + 4) (v := 8 * (v : Int) + 3) (by omega) (by omega) (by omega)) (fun y q2 l2 _ _ _ ⟨eq2_, ey⟩ => ?_)
          subst eq2_
          refine Ends.eq (b630_48 (n := n) (by (repeat' first | assumption | refine LX.setF _ _ ?_ (by decide +kernel) | refine LX.setS ?_ rfl | refine LX.setA ?_ (by first | assumption | omega))) (by first | assumption | omega)) ?_
          have fv : y = ((f v u : Nat) : Int) := by
            rw [ey, ef]
            unfold sqR
            cases rgB lv U0 V0 V1 DU DV D CU CV CR (8 * (u : Int) + 4) (8 * (v : Int) + 3) <;> rfl
          have y01 : y = 0 ∨ y = 1 := by
            rw [ey]
            cases rgB lv U0 V0 V1 DU DV D CU CV CR (8 * (u : Int) + 4) (8 * (v : Int) + 3)
            · exact Or.inl rfl
            · exact Or.inr rfl
          rw [ad_rf, tn, an3 y01, fv, w_succ (by omega)]
          refine Ends.g ⟨rf_pos _, by rw [lk_235 lq], by omega, by rw [lk_235 lq]; show ((n * u + v : Nat) : Int) < ((n * n : Nat) : Int); omega, by omega⟩ ?_
          refine ihv (v + 1) _ (by omega) (lq.setS rfl) (g.set rfl) (fun u' v' h1 h2 h3 => ?_)
          by_cases e : u' = u ∧ v' = v
          · rw [e.1, e.2]; exact hv_set_at _ _ _ _
          · have ne : n * u' + v' ≠ n * u + v := fun w => e (by
              have e1 := dm (a := u') h2
              have e2 := dm (a := u) (show v < n by omega)
              rw [Nat.mul_comm u' n, w] at e1
              rw [Nat.mul_comm u n] at e2
              omega)
            rw [hv_set_ne (fun w => ne w.2)]
            exact ok u' v' h1 h2 (by omega)
      refine Ends.eq (b630_2 (n := n) (by (repeat' first | assumption | refine LX.setF _ _ ?_ (by decide +kernel) | refine LX.setS ?_ rfl | refine LX.setA ?_ (by first | assumption | omega))) (by first | assumption | omega)) ?_
      exact Ends.b3 (fun z => absurd z (by omega)) (fun _ => cols n 0 q (by omega) lq g (fun u' v' h1 h2 h3 => ok u' v' (by omega) h2))
  refine Ends.eq (b630_0 (n := n) (by (repeat' first | assumption | refine LX.setF _ _ ?_ (by decide +kernel) | refine LX.setS ?_ rfl | refine LX.setA ?_ (by first | assumption | omega))) (by first | assumption | omega)) ?_
  exact rows n 0 h _ (by omega) l Agr.rf (fun u' v' h1 => absurd h1 (Nat.not_lt_zero _))
end DEEP
