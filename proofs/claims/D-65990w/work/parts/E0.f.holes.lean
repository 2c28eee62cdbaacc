/-! L3: hollows are filled (desk) -/
section FILLH
variable {gv : Nat → Int} {B n d tl : Nat} {h : AH} {S : Nat → Bool}
def w271 (B : Nat) (h : AH) (tl : Nat) : Nat → Nat → Prop := fun c _ => c = B + 81 ∨ FlO B h c ∨ c = B + 117 ∨ c = tl
theorem fh_e1 {t : Nat} (ht : t < 24) (hn : n ≤ 52) : bop32 104 (bop32 104 (bop32 96 (t : Int) 1) (n : Int)) (n : Int) = (((t + 1) * n * n : Nat) : Int) := by
  have b1 : (t + 1) * n ≤ 24 * 52 := Nat.mul_le_mul (by omega) hn
  have b2 : (t + 1) * n * n ≤ 24 * 52 * 52 := Nat.mul_le_mul b1 hn
  rw [show bop32 96 (t : Int) 1 = ((t + 1 : Nat) : Int) from addNN (y := 1) (by omega), mulNN (by omega), mulNN (by omega)]
theorem c_fillHollows271 (l : LX B n h) (hd : 22 ≤ d) (hn0 : 0 < n) (hn : n ≤ 52) (m : TbC B h) (R : Reg B n h) (F : FlI B n h) (e12 : hv h (B + 92) 12 = rf tl) (htl : B + 246 ≤ tl) (htl2 : tl < hnx h) (hts : Scr B h tl) (kt : hk h tl = (3, 24 * n * n)) (s : SG n h (B + 117) S) :
    Vd (cll PP (ev PP (gsF gv) B) d 271 [(2, rf (B + 92))] h) (fun h' => (∃ T, SG n h' (B + 117) T ∧ ∀ g, g < gN n → (T g = true ↔ S g = true ∨ (S g = false ∧ ¬ bdR n (fun g => !S g) g))) ∧ FlE B n (w271 B h tl) 4 (4 * (24 * n * n)) h h') := by
  have hb0 := l.2.2
  have hN := rows_le hn
  refine Vd.inq (D := 21) hd (Nat.le_of_ble_eq_true rfl) rfl (fun d hd Q K => ?_)
  have nfl : ¬ FlO B h tl := scr_fl R F hts
  -- the last loop
  have l2 : ∀ (se : Nat) (U : Nat → Bool) (q : AH), LX B n q → hv q (B + 92) 12 = rf tl → hv q (B + 81) 2 = rf se → SG n q tl (fun g => !S g) → SG n q se U → SG n q (B + 117) S → se ≠ B + 117 → (∀ q', LX B n q' → Agr (fun c _ => c = B + 117) q q' → SG n q' (B + 117) (fun g => S g || (!S g && !U g)) → Q ((0, (9, 0)), q')) → ∀ u2, Ends (ev PP (gsF gv) B d 271 93 [(2, rf (B + 92)), (0, 0), u2] [] q) Q := by
    intro se U q lq f12 f2 st ss sp hse k u2
    have key : ∀ (c p : Nat) (q' : AH), p + c = 24 * n * n → LX B n q' → Rw n q (B + 117) (onK n (fun t z y x => S (gI n x y z t) || (!S (gI n x y z t) && !U (gI n x y z t)))) q' p → Ends (ev PP (gsF gv) B d 271 93 [(2, rf (B + 92)), (0, (p : Int)), u2] [] q') Q := by
      intro c
      induction c with
      | zero =>
        intro p q' e l' r
        have e : p = 24 * n * n := by omega
        subst e
        exact Ends.eq (b271_93 l' (by omega)) (Ends.b3 (fun _ => Ends.sm (k q' l' r.1 (r.fin sp.1))) (fun w => absurd w (by omega)))
      | succ c ih =>
        intro p q' e l' r
        have hp : p < 24 * n * n := by omega
        obtain ⟨d1, d2, d3, d4⟩ := rw3_dec hn0 hp
        have g := r.1
        have st' : SG n q' tl (fun g => !S g) := st.agr g (fun _ w => by omega)
        have ss' : SG n q' se U := ss.agr g (fun _ w => hse w)
        refine Ends.eq (b271_93 l' (by omega)) (Ends.b3 (fun w => absurd w (by omega)) (fun _ => Ends.g ⟨by omega, by omega⟩ ?_))
        rw [g.at _ _ (show ¬ B + 92 = B + 117 by omega), f12, g.at _ _ (show ¬ B + 81 = B + 117 by omega), f2, ad_rf, ad_rf, st'.1, ss'.1, tn, an1, w_succ (by omega)]
        refine Ends.g ⟨rf_pos _, rfl, by omega, by show _ < ((24 * n * n : Nat) : Int); omega⟩ (Ends.g ⟨rf_pos _, rfl, by omega, by show _ < ((24 * n * n : Nat) : Int); omega⟩ ?_)
        refine ih (p + 1) _ (by omega) (l'.setS rfl) (r.put cn_bop64 (fun x hx => ?_))
        have b1 := st'.bit d1 d2 d3 hx
        have b2 := ss'.bit d1 d2 d3 hx
        have b3 := sp.bit d1 d2 d3 hx
        rw [d4] at b1 b2 b3
        rw [tb_or, tb_and, tb_not _ hx, r.2.2 p (Nat.le_refl p), b1, b2, b3]
        unfold onK
        cases decide (x < n) <;> simp
    exact key (24 * n * n) 0 q (by omega) lq Rw.ini
  -- what the tool is
  have lk : ∀ (t : Nat), t < 24 → ∀ (c p : Nat) (q : AH), p + c = (t + 1) * n * n → LX B n q → Rw n h tl (onK n (fun t z y x => !S (gI n x y z t))) q p → (∀ q' u2, LX B n q' → Rw n h tl (onK n (fun t z y x => !S (gI n x y z t))) q' ((t + 1) * n * n) → Ends (ev PP (gsF gv) B d 271 2 [(2, rf (B + 92)), (0, ((t + 1 : Nat) : Int)), u2] [] q') Q) → Ends (ev PP (gsF gv) B d 271 20 [(2, rf (B + 92)), (0, (t : Int)), (0, (p : Int))] [] q) Q := by
    intro t ht c
    have b1 : (t + 1) * n ≤ 24 * n := Nat.mul_le_mul_right n (by omega)
    have b2 : (t + 1) * n * n ≤ 24 * n * n := Nat.mul_le_mul_right n b1
    induction c with
    | zero =>
      intro p q e lq r k
      have e : p = (t + 1) * n * n := by omega
      refine Ends.eq (b271_20 lq (by omega)) ?_
      rw [fh_e1 ht hn, w_succ (by omega)]
      exact Ends.b3 (fun _ => k q _ lq (e ▸ r)) (fun w => absurd w (by omega))
    | succ c ih =>
      intro p q e lq r k
      have hp : p < 24 * n * n := by omega
      obtain ⟨d1, d2, d3, d4⟩ := rw3_dec hn0 hp
      have g := r.1
      have sp : SG n q (B + 117) S := s.agr g (fun _ w => by omega)
      refine Ends.eq (b271_20 lq (by omega)) ?_
      rw [fh_e1 ht hn]
      refine Ends.b3 (fun w => absurd w (by omega)) (fun _ => Ends.g ⟨by omega, by omega⟩ ?_)
      rw [g.at _ _ (show ¬ B + 92 = tl by omega), e12, ad_rf, g.hk, kt, tn, an1, w_succ (by omega)]
      refine Ends.g ⟨rf_pos _, rfl, by omega, by show _ < ((24 * n * n : Nat) : Int); omega, by omega⟩ ?_
      refine ih (p + 1) _ (by omega) (lq.setA (t := 1) (by rw [g.hk, kt])) (r.put cn_bop64 (fun x hx => ?_)) k
      exact not_bits hn (r := fun x => S (gI n x (p % n) (p / n % n) (p / (n * n)))) (fun y hy => by have := sp.bit d1 d2 d3 hy; rw [d4] at this; exact this) hx
  have lt : ∀ (c t : Nat) (q : AH) (u2 : AV), t + c = 24 → LX B n q → Rw n h tl (onK n (fun t z y x => !S (gI n x y z t))) q (t * n * n) → Ends (ev PP (gsF gv) B d 271 2 [(2, rf (B + 92)), (0, (t : Int)), u2] [] q) Q := by
    intro c
    induction c with
    | succ c ih =>
      intro t q u2 e lq r
      refine Ends.eq (b271_2 lq (by omega)) (Ends.b3 (fun w => absurd w (by omega)) (fun _ => ?_))
      have b0 : t * n ≤ 24 * n := Nat.mul_le_mul_right n (by omega)
      have b1 : t * n * n ≤ 24 * n * n := Nat.mul_le_mul_right n b0
      have b2 : t * n * n ≤ (t + 1) * n * n := Nat.mul_le_mul_right n (Nat.mul_le_mul_right n (by omega))
      rw [mulNN (by omega), mulNN (by omega)]
      exact lk t (by omega) ((t + 1) * n * n - t * n * n) (t * n * n) q (by omega) lq r (fun q' u2 l' r' => ih (t + 1) q' u2 (by omega) l' r')
    | zero =>
      intro t q u2 e lq r
      have e : t = 24 := by omega
      subst e
      refine Ends.eq (b271_2 lq (by omega)) (Ends.b3 (fun _ => ?_) (fun w => absurd w (by omega)))
      have g := r.1
      have st : SG n q tl (fun g => !S g) := r.fin kt
      have sp : SG n q (B + 117) S := s.agr g (fun _ w => by omega)
      obtain ⟨R1, L1⟩ := R.ext hb0 g.ext (fun i hi w => by have := rgi hi; have := rgC_lt ⟨i, hi⟩; omega)
      obtain ⟨F1, LF1⟩ := F.ext hb0 g.ext (fun k w => by omega) (fun a k z w => nfl (w ▸ z))
      have O1 : ∀ a, FlO B q a ↔ FlO B h a := fun a => FlO.keep hb0 g.ext (fun k w => by omega)
      have f12 : hv q (B + 92) 12 = rf tl := by rw [g.at _ _ (by omega)]; exact e12
      have fo : ∀ c, FlO B q c → B + 246 ≤ c := fun c w => F1.own w
      rw [f12]
      refine Ends.cv lq (by decide +kernel) (c_beginI lq (by omega) hn0 hn R1 F1 st (by rw [g.nx]; exact htl2) (Or.inr htl) (fun k z1 z2 z3 => nfl ((O1 tl).mp ⟨k, z1, by omega, z3⟩))) (fun h1 l1 n1 _ _ ⟨se, fs, qu, qd, F2, c1, A1, R2, L2, X2⟩ => ?_)
      refine Ends.eq (b271_84 (n := n) (by (repeat' first | assumption | refine LX.setF _ _ ?_ (by decide +kernel) | refine LX.setS ?_ rfl | refine LX.setA ?_ (by first | assumption | omega))) (by first | assumption | omega)) ?_
      have m1 : TbC B h1 := (m.ext hb0 g.ext (fun c k z1 z2 w => by omega)).ext lq.2.2 X2 (fun c k z1 z2 w => by rcases w with w | w; omega; have := fo _ w; omega)
      refine Ends.cv l1 (by decide +kernel) (c_fromBorder l1 (by omega) hn0 hn m1 F2) (fun h3 l3 _ _ _ ⟨f3, U, F3, cl3, e3⟩ => ?_)
      obtain ⟨R3, L3, LF3⟩ := R2.flo l1 F2 f3 F3
      refine Ends.eq (b271_91 (n := n) (by (repeat' first | assumption | refine LX.setF _ _ ?_ (by decide +kernel) | refine LX.setS ?_ rfl | refine LX.setA ?_ (by first | assumption | omega))) (by first | assumption | omega)) ?_
      have nft : ¬ FlO B q tl := fun w => nfl ((O1 tl).mp w)
      have B3 := F3.1
      have s3 : SG n h3 (B + 117) S := (sp.ext X2 (by have := lq.2.2; omega) (fun k w => by rcases w with w | w; omega; have := fo _ w; omega)).fr f3 (fun w => by have := flA_ge F2 w; omega)
      have e12' : hv h3 (B + 92) 12 = rf tl := by
        rw [f3.agr.at _ _ (fun w => by have := flA_ge F2 w; omega), X2.at _ (by have := lq.2.2; omega) (fun w => by rcases w with w | w; omega; have := fo _ w; omega)]
        exact f12
      refine l2 se U h3 l3 e12' B3.1 F3.2.1 F3.2.2.1 s3 (by unfold FlC at B3; omega) (fun q' l' g' s' => ?_) u2
      have u4 := g'.us
      have u3 := f3.agr.us
      obtain ⟨R4, L4⟩ := R3.ext l3.2.2 g'.ext (fun i hi w => by have := rgi hi; have := rgC_lt ⟨i, hi⟩; omega)
      have LF4 : lzF B n q' = lzF B n h3 := by unfold lzF; rw [g'.at _ _ (by omega)]
      have F4 := F3.agr g' (fun k w => by omega) (fun c w k e => by unfold FlC at B3; omega)
      have E4 := F4.end hn0 (by rw [g'.nx, f3.agr.nx]; exact c1)
      refine K _ ⟨⟨_, s', fun x hx => ?_⟩, ?_, R4, E4, by have := g.us; omega, fun c hc z => (O1 c).mp ((A1 c (flo_O F4 z) (by have := g.nx; omega)).resolve_left (by have := E4.own z; omega))⟩
      · have := e3 x hx
        show (S x || (!S x && !U x)) = true ↔ _
        unfold bdR
        rw [← this]
        cases S x <;> cases U x <;> simp
      · have e1 : Ext (w271 B h tl) 0 0 h q := g.ext.sub (fun c k _ w => Or.inr (Or.inr (Or.inr w))) (Nat.le_refl _) (Nat.le_refl _)
        have e2 := e1.tr X2 (fun c k _ w => by
          rcases w with w | w
          · exact Or.inl w
          · exact Or.inr (Or.inl ((O1 c).mp w)))
        have nq : hnx q = hnx h := g.nx
        have e3 := e2.tr (c' := 0) (s' := 0) f3.agr.ext (fun c k hc w => by
          rcases A1 c w (by omega) with w | w
          · exact Or.inl w
          · exact Or.inr (Or.inl ((O1 c).mp w)))
        exact (e3.tr (c' := 0) (s' := 0) g'.ext (fun c k _ w => Or.inr (Or.inr (Or.inl w)))).sub (fun _ _ _ w => w) (by omega) (by omega)
  refine Ends.eq (b271_0 (n := n) (by (repeat' first | assumption | refine LX.setF _ _ ?_ (by decide +kernel) | refine LX.setS ?_ rfl | refine LX.setA ?_ (by first | assumption | omega))) (by first | assumption | omega)) ?_
  exact lt 24 0 h _ rfl l (by simp only [Nat.zero_mul]; exact Rw.ini)
end FILLH
