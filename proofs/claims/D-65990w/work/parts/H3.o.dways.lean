/-! L3: how many dimensions are needed (desk): the rounds -/
noncomputable section DWY
variable {D : Nat} {V : Nat → Nat → Int} {T : Nat → Bool} {G : Nat → Int} {gv : Nat → Int} {B n d : Nat} {h : AH}
theorem xor_tw : ∀ e : Fin 32, bop32 130 ((e : Nat) : Int) 1 = ((twE e : Nat) : Int) := by decide +kernel
theorem v892_if {a b : Int} : v892 a b = if b < a then b else a := by unfold v892; rw [ct4]
set_option maxHeartbeats 2000000 in
theorem c_findWays34 (l : LX B n h) (hd : 13 ≤ d) (dm : DmD B h D V) (st : ∀ i, i < D → (hv h (B + 35) i = -1000000 ↔ T i = false)) (gl : ∀ k, k < 3 → hv h (B + 33) (3 + k) = G k) :
    Vd (cll PP (ev PP (gsF gv) B) d 34 [(2, rf (B + 0))] h) (fun h' => Agr (fun c _ => c = B + 34) h h' ∧ ∀ e, e < 2 * D → LvT D V T G e (hv h' (B + 34) e)) := by
  have hb := l.2.2
  have d1 := dm.1
  have d2 := dm.2.1
  refine Vd.inq (D := 12) hd (Nat.le_of_ble_eq_true rfl) rfl (fun d hd Q K => ?_)
  have dd : ∀ {q : AH}, Agr (fun c _ => c = B + 34) h q → DmD B q D V := fun g => ⟨by rw [g.at _ _ (by omega)]; exact d1, d2, fun i k hi hk => by rw [g.at _ _ (by omega)]; exact dm.2.2 i k hi hk⟩
  have two : ∀ {q : AH}, Agr (fun c _ => c = B + 34) h q → bop32 104 (2 : Int) (hv q (B + 0) 25) = ((2 * D : Nat) : Int) := fun g => by rw [g.at _ _ (by omega), d1]; exact mulNN (x := 2) (by omega)
  have div2 : ∀ e : Nat, e < 64 → bop32 108 (e : Int) 2 = ((e / 2 : Nat) : Int) := fun e he => divNN (y := 2) (by omega) (by decide)
  have mod2 : ∀ e : Nat, bop32 112 (e : Int) 2 = ((e % 2 : Nat) : Int) := fun e => modNN (y := 2) (by decide) (by decide)
  -- the rounds
  have rounds : ∀ (r v : Nat) (q : AH) (u2 u3 : AV), v + r = 2 * D → LX B n q → Agr (fun c _ => c = B + 34) h q → FwS D V T G (hv q (B + 34)) → FwC D V T G v (hv q (B + 34)) → Ends (ev PP (gsF gv) B d 34 51 [(2, rf (B + 0)), (0, (v : Int)), u2, u3] [] q) Q := by
    intro r
    induction r with
    | zero =>
      intro v q u2 u3 e lq g s c
      obtain rfl : v = 2 * D := by omega
      refine Ends.eq (b34_51 lq (by omega)) ?_
      rw [two g]
      exact Ends.b3 (fun _ => Ends.sm (K _ ⟨g, fun e he => s.lv d2 c he⟩)) (fun z => absurd z (Int.lt_irrefl _))
    | succ r ih =>
      intro v q u2 u3 e lq g s c
      refine Ends.eq (b34_51 lq (by omega)) ?_
      rw [two g]
      refine Ends.b3 (fun z => by omega) (fun _ => ?_)
      have ends : ∀ (r k : Nat) (q : AH) (u3 : AV), k + r = 2 * D → LX B n q → Agr (fun c _ => c = B + 34) h q → FwS D V T G (hv q (B + 34)) → FwC D V T G v (hv q (B + 34)) → FwP D V T G v k (hv q (B + 34)) → Ends (ev PP (gsF gv) B d 34 63 [(2, rf (B + 0)), (0, (v : Int)), (0, (k : Int)), u3] [] q) Q := by
        intro r
        induction r with
        | zero =>
          intro k q u3 e lq g s c p
          obtain rfl : k = 2 * D := by omega
          refine Ends.eq (b34_63 lq (by omega)) ?_
          rw [two g, w_succ (i := v) (by omega)]
          exact Ends.b3 (fun _ => ih (v + 1) q _ _ (by omega) lq g s (p.fin c)) (fun z => absurd z (Int.lt_irrefl _))
        | succ r ihk =>
          intro k q u3 e lq g s c p
          have hk2 : k < 2 * D := by omega
          have tail : ∀ (q1 : AH), LX B n q1 → Agr (fun c _ => c = B + 34) h q1 → FwS D V T G (hv q1 (B + 34)) → FwC D V T G v (hv q1 (B + 34)) → FwP D V T G v k (hv q1 (B + 34)) → (T (k / 2) = true → ∀ w, w ≤ v → rc D V T G w (twE k) → hv q1 (B + 34) k ≤ (w : Int) + 1) → Ends (ev PP (gsF gv) B d 34 112 [(2, rf (B + 0)), (0, (v : Int)), (0, (k : Int)), u3] [] q1) Q := by
            intro q1 l1 g1 s1 c1 p1 own
            obtain ⟨C, eC⟩ : ∃ C, C = hv q1 (B + 34) k := ⟨_, rfl⟩
            have inner : ∀ (r m : Nat) (q1 : AH), m + r = 2 * D → LX B n q1 → Agr (fun c _ => c = B + 34) h q1 → FwS D V T G (hv q1 (B + 34)) → FwC D V T G v (hv q1 (B + 34)) → FwP D V T G v k (hv q1 (B + 34)) → hv q1 (B + 34) k = C → (∀ e, e < m → sE V e k → hv q1 (B + 34) e ≤ C) → Ends (ev PP (gsF gv) B d 34 114 [(2, rf (B + 0)), (0, (v : Int)), (0, (k : Int)), (0, (m : Int))] [] q1) Q := by
              intro r
              induction r with
              | zero =>
                intro m q1 e l1 g1 s1 c1 p1 ek le
                obtain rfl : m = 2 * D := by omega
                refine Ends.eq (b34_114 l1 (by omega)) ?_
                rw [two g1, w_succ (i := k) (by omega)]
                refine Ends.b3 (fun _ => ihk (k + 1) q1 _ (by omega) l1 g1 s1 c1 (fun k' hk' t y w hy se hw r => ?_)) (fun z => absurd z (Int.lt_irrefl _))
                rcases (by omega : k' < k ∨ k' = k) with z | z
                · exact p1 k' z t y w hy se hw r
                · subst z
                  have a1 := le y hy se
                  have a2 := own t w hw r
                  omega
              | succ r ihm =>
                intro m q1 e l1 g1 s1 c1 p1 ek le
                have hm : m < 2 * D := by omega
                have next : ∀ q2, LX B n q2 → Agr (fun c _ => c = B + 34) h q2 → FwS D V T G (hv q2 (B + 34)) → (∀ i, hv q2 (B + 34) i ≤ hv q1 (B + 34) i) → hv q2 (B + 34) k = C → (sE V m k → hv q2 (B + 34) m ≤ C) → Ends (ev PP (gsF gv) B d 34 174 [(2, rf (B + 0)), (0, (v : Int)), (0, (k : Int)), (0, (m : Int))] [] q2) Q := fun q2 l2 g2 s2 lo ek2 le2 => by
                  refine Ends.eq (b34_174 l2 (by omega)) ?_
                  rw [w_succ (i := m) (by omega)]
                  refine ihm (m + 1) q2 (by omega) l2 g2 s2 (c1.lo lo) (p1.lo lo) ek2 (fun e he se => ?_)
                  rcases (by omega : e < m ∨ e = m) with z | z
                  · exact Int.le_trans (lo e) (le e z se)
                  · rw [z] at se ⊢; exact le2 se
                refine Ends.eq (b34_114 l1 (by omega)) ?_
                rw [two g1, div2 m (by omega), mod2 m, div2 k (by omega), mod2 k, show bop32 96 (bop32 104 (8 : Int) ((k / 2 : Nat) : Int)) (bop32 104 (3 : Int) ((k % 2 : Nat) : Int)) = ((8 * (k / 2) + 3 * (k % 2) : Nat) : Int) from by rw [show bop32 104 (8 : Int) ((k / 2 : Nat) : Int) = ((8 * (k / 2) : Nat) : Int) from mulNN (x := 8) (by omega), show bop32 104 (3 : Int) ((k % 2 : Nat) : Int) = ((3 * (k % 2) : Nat) : Int) from mulNN (x := 3) (by omega), addNN (by omega)]]
                refine Ends.b3 (fun z => by omega) (fun _ => ?_)
                refine Ends.ct l1 (by decide +kernel) (by decide) (c_isName46 (e := m) (at' := 8 * (k / 2) + 3 * (k % 2)) (a := B + 31) (N := 128) (G := wyN V k) l1 (by omega) (dd g1) hm (lk_31 l1) (by omega) (by decide) (fun j hj => by
                  rw [show 8 * (k / 2) + 3 * (k % 2) + j = 8 * (k / 2) + (3 * (k % 2) + j) by omega]
                  exact (dd g1).2.2 _ _ (by omega) (by omega))) (fun y q2 l2 _ _ _ ⟨e2, ey⟩ => ?_)
                subst e2
                refine Ends.eq (b34_150 l2 (by omega)) ?_
                by_cases se : sE V m k
                · have se' : isE V m (wyN V k) := se
                  rw [ey, if_pos se', tn, tn, an0, v892_if]
                  refine Ends.b0 (fun z => absurd z (by decide)) (fun _ => Ends.g ⟨by omega, by omega⟩ (Ends.g ⟨by omega, by omega⟩ ?_))
                  rw [ek]
                  obtain ⟨⟨sk1, sk2⟩, sk3⟩ := s1 k hk2
                  rw [ek] at sk1 sk2 sk3
                  obtain ⟨x1, x2⟩ := s1.up (f' := hv (hset q2 (B + 34) m (if C < hv q2 (B + 34) m then C else hv q2 (B + 34) m)) (B + 34)) (e := m) (x := C) sk1 (fun w => (sk3 w).sm (sE.sy se)) (fun i => by
                    by_cases z : i = m
                    · rw [if_pos z, z, hv_set_at]
                    · rw [if_neg z, hv_set_ne (fun y => z y.2)])
                  refine next _ (LX.setS l2 rfl) (g1.set rfl) x1 x2 ?_ (fun _ => ?_)
                  · by_cases z : k = m
                    · rw [← z, hv_set_at, ek, if_neg (Int.lt_irrefl _)]
                    · rw [hv_set_ne (fun y => z y.2)]; exact ek
                  · rw [hv_set_at]
                    by_cases z : C < hv q2 (B + 34) m
                    · rw [if_pos z]; exact Int.le_refl _
                    · rw [if_neg z]; omega
                · have se' : ¬ isE V m (wyN V k) := se
                  rw [ey, if_neg se']
                  exact Ends.b0 (fun _ => next q2 l2 g1 s1 (fun i => Int.le_refl _) ek (fun y => absurd y se)) (fun z => absurd rfl z)
            refine Ends.eq (b34_112 l1 (by omega)) ?_
            exact inner (2 * D) 0 q1 (Nat.zero_add _) l1 g1 s1 c1 p1 eC.symm (fun e he => absurd he (Nat.not_lt_zero _))
          refine Ends.eq (b34_63 lq (by omega)) ?_
          rw [two g, div2 k (by omega), tn, g.at (B + 35) _ (by omega)]
          refine Ends.b3 (fun z => by omega) (fun _ => Ends.g ⟨by omega, by omega⟩ (Ends.b0 (fun z => ?_) (fun z => ?_)))
          · have tf := (st (k / 2) (by omega)).mp z
            exact tail q lq g s c p (fun t => by rw [tf] at t; exact absurd t Bool.false_ne_true)
          · have tt : T (k / 2) = true := by
              cases ht : T (k / 2)
              · exact absurd ((st (k / 2) (by omega)).mpr ht) z
              · rfl
            have tl := twE_lt (D := D) hk2
            obtain ⟨⟨t1, t2⟩, t3⟩ := s (twE k) tl
            rw [show bop32 130 (k : Int) 1 = ((twE k : Nat) : Int) from xor_tw ⟨k, by omega⟩, tn, tn, an0, v892_if, show bop32 96 (hv q (B + 34) (twE k)) 1 = hv q (B + 34) (twE k) + 1 from add32 (by omega) (by omega)]
            refine Ends.g ⟨by omega, by omega⟩ (Ends.g ⟨by omega, by omega⟩ ?_)
            obtain ⟨X, eX⟩ : ∃ X, X = hv q (B + 34) (twE k) + 1 := ⟨_, rfl⟩
            rw [← eX]
            obtain ⟨x1, x2⟩ := s.up (f' := hv (hset q (B + 34) k (if X < hv q (B + 34) k then X else hv q (B + 34) k)) (B + 34)) (e := k) (x := X) (by omega) (fun w => by
              have r := t3 (by omega)
              rw [show X.toNat = (hv q (B + 34) (twE k)).toNat + 1 by omega]
              exact Or.inr ⟨k, hk2, sE_self k, tt, r⟩) (fun i => by
              by_cases z : i = k
              · rw [if_pos z, z, hv_set_at]
              · rw [if_neg z, hv_set_ne (fun y => z y.2)])
            refine tail _ (LX.setS lq rfl) (g.set rfl) x1 (c.lo x2) (p.lo x2) (fun _ w hw r => ?_)
            have a1 := c (twE k) w tl hw r
            rw [hv_set_at]
            by_cases z : X < hv q (B + 34) k
            · rw [if_pos z]; omega
            · rw [if_neg z]; omega
      exact ends (2 * D) 0 q _ (Nat.zero_add _) lq g s c (fun k' hk' => absurd hk' (Nat.not_lt_zero _))
  -- which ends have the second name
  have first : ∀ (r e : Nat) (q : AH) (u2 u3 : AV), e + r = 2 * D → LX B n q → Agr (fun c _ => c = B + 34) h q → (∀ i, i < e → hv q (B + 34) i = if isE V i G then 0 else 1000) → Ends (ev PP (gsF gv) B d 34 2 [(2, rf (B + 0)), (0, (e : Int)), u2, u3] [] q) Q := by
    intro r
    induction r with
    | zero =>
      intro e q u2 u3 ee lq g I
      obtain rfl : e = 2 * D := by omega
      refine Ends.eq (b34_2 lq (by omega)) ?_
      rw [two g]
      refine Ends.b3 (fun _ => rounds (2 * D) 0 q _ _ (Nat.zero_add _) lq g (fun i hi => ?_) (fun i w hi hw r => ?_)) (fun z => absurd z (Int.lt_irrefl _))
      · rw [I i hi]
        by_cases y : isE V i G
        · rw [if_pos y]; exact ⟨by omega, fun _ => y⟩
        · rw [if_neg y]; exact ⟨by omega, fun z => absurd z (by decide)⟩
      · have w0 : w = 0 := by omega
        subst w0
        have r' : isE V i G := r
        rw [I i hi, if_pos r']; exact Int.le_refl _
    | succ r ih =>
      intro e q u2 u3 ee lq g I
      refine Ends.eq (b34_2 lq (by omega)) ?_
      rw [two g, div2 e (by omega), mod2 e]
      refine Ends.b3 (fun z => by omega) (fun _ => ?_)
      refine Ends.ct lq (by decide +kernel) (by decide) (c_isName46 (e := e) (at' := 3) (a := B + 33) (N := 6) (G := G) lq (by omega) (dd g) (by omega) (lk_33 lq) (by decide) (by decide) (fun k hk => by rw [g.at _ _ (by omega)]; exact gl k hk)) (fun y q2 l2 _ _ _ ⟨e2, ey⟩ => ?_)
      subst e2
      have k34 : hk q2 (B + 34) = (0 + 2, 32) := lk_34 l2
      refine Ends.eq (b34_32 l2 (by omega)) ?_
      rw [ad_rf, k34, tn, an0, ct0, w_succ (i := e) (by omega)]
      refine Ends.g ⟨rf_pos _, rfl, by omega, by show (e : Int) < ((32 : Nat) : Int); omega, by omega⟩ ?_
      refine ih (e + 1) _ _ _ (by omega) (LX.setS l2 rfl) (g.set rfl) (fun i hi => ?_)
      by_cases z : i = e
      · rw [z, hv_set_at, ey]
        by_cases y : isE V e G
        · rw [if_pos y, if_pos y]; rfl
        · rw [if_neg y, if_neg y]; rfl
      · rw [hv_set_ne (fun y => z y.2)]; exact I i (by omega)
  exact Ends.eq (b34_0 l (by omega)) (first (2 * D) 0 h _ _ (Nat.zero_add _) l Agr.rf (fun i hi => absurd hi (Nat.not_lt_zero _)))
end DWY
