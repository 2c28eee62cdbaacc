/-! L3: the model's positions told, gouge, left -/
section MLF
variable {gv : Nat → Int} {B n d r z N : Nat} {h : AH} {is : Nat → Bool} {S : Nat → Nat → Bool} {o k a : Int} {pa cap : Nat} {fr to at_ : Nat → Nat}
theorem RnM.agr {W : Nat → Nat → Prop} {t : AH} (p : RnM B h n r z N fr to at_ pa cap) (g : Agr W h t) (hW : ∀ k, 159 ≤ k → k ≤ 162 → ¬ W (B + 149) k) (h3 : ∀ k, ¬ W pa k) : RnM B t n r z N fr to at_ pa cap := by
  obtain ⟨p1, p2, p3, p4, p5⟩ := p
  exact ⟨p1.agr g (hW _ (by omega) (by omega)) (hW _ (by omega) (by omega)), by rw [g.at _ _ (hW _ (by omega) (by omega))]; exact p2, by rw [g.at _ _ (hW _ (by omega) (by omega))]; exact p3, p4, fun i hi => ⟨(p5 i hi).1.keep (Nat.le_refl _) (fun k _ => g.at _ _ (h3 k)), (p5 i hi).2⟩⟩
/-- number k of a path's positions -/
def posF (n z : Nat) (fr to at_ : Nat → Nat) (k a : Nat) : Int := if a = 0 then (if k % 4 < 2 then (fr (k / 4) : Int) else to (k / 4)) else if a = 1 then (at_ (k / 4) : Int) else if k % 4 = 0 ∨ k % 4 = 3 then (n : Int) else z
theorem rn12.nth {h : AH} {pa i p a : Nat} {f t y z n : Int} (s : rn12 h pa i f t y z n) (hp : p < 4) (ha : a < 3) : hv h pa (12 * i + 3 * p + a) = if a = 0 then (if p < 2 then f else t) else if a = 1 then y else if p = 0 ∨ p = 3 then n else z := by
  obtain ⟨⟨a1, a2, a3⟩, ⟨b1, b2, b3⟩, ⟨c1, c2, c3⟩, d1, d2, d3⟩ := s
  have hp' : p = 0 ∨ p = 1 ∨ p = 2 ∨ p = 3 := by omega
  have ha' : a = 0 ∨ a = 1 ∨ a = 2 := by omega
  rcases hp' with rfl | rfl | rfl | rfl <;> rcases ha' with rfl | rfl | rfl
  · exact a1
  · exact a2
  · exact a3
  · exact b1
  · exact b2
  · exact b3
  · exact c1
  · exact c2
  · exact c3
  · exact d1
  · exact d2
  · exact d3
theorem RnM.pos {m c : Nat} (p : RnM B h n r z N fr to at_ pa cap) (hk : m < 4 * N) (ha : c < 3) : hv h pa (3 * m + c) = posF n z fr to at_ m c := by
  have e := (p.2.2.2.2 (m / 4) (by omega)).1.nth (p := m % 4) (a := c) (by omega) ha
  rw [show 3 * m + c = 12 * (m / 4) + 3 * (m % 4) + c by omega, e]
  rfl
theorem ps_c {m : Nat} : (cond (tst 2 k 0) (1 : Int) (cond (tst 2 k (m : Int)) (cond (tst 2 a 0) 2 (cond (tst 5 a 2) 0 2)) 1)) = if ¬ (0 ≤ k ∧ k < (m : Int)) then 1 else if ¬ (0 ≤ a ∧ a ≤ 2) then 2 else 0 := by
  simp only [ct2, ct5]
  grind
theorem c_position781 (l : LX B n h) (hd : 14 ≤ d) (p : RnM B h n r z N fr to at_ pa cap) :
    Vt 0 (cll PP (ev PP (gsF gv) B) d 781 [(2, rf (B + 149)), (0, k), (0, a)] h) (fun v h' => (¬ (0 ≤ k ∧ k < ((4 * N : Nat) : Int)) ∧ MdA B h 1 v h') ∨ ((0 ≤ k ∧ k < ((4 * N : Nat) : Int)) ∧ ¬ (0 ≤ a ∧ a ≤ 2) ∧ MdA B h 2 v h') ∨ ((0 ≤ k ∧ k < ((4 * N : Nat) : Int)) ∧ (0 ≤ a ∧ a ≤ 2) ∧ v = posF n z fr to at_ k.toNat a.toNat ∧ h' = hset h (B + 149) 0 0)) := by
  have hb0 := l.2.2
  refine Vt.inq (D := 13) hd (Nat.le_of_ble_eq_true rfl) rfl (fun d hd P K => ?_)
  have n4 := p.2.2.2.1
  refine Ends.eq (b781_0 (n := n) (by (repeat' first | assumption | refine LX.setF _ _ ?_ (by decide +kernel) | refine LX.setS ?_ rfl | refine LX.setA ?_ (by first | assumption | omega))) (by first | assumption | omega)) ?_
  rw [p.1.2.2.2.2.1, ps_c]
  by_cases c1 : 0 ≤ k ∧ k < ((4 * N : Nat) : Int)
  rotate_left
  · rw [if_pos c1]
    refine Ends.mbad l (by omega) (c := 1) (by decide) rfl ?_
    have l1 : LX B n (hset h (B + 149) 0 ((1 : Nat) : Int)) := LX.setF 149 0 l (by decide +kernel)
    exact Ends.eq (b781_34 (n := n) l1 (by omega)) (Ends.b0 (fun z => absurd z (by decide)) (fun _ => Ends.sm (K _ _ (Or.inl ⟨c1, rfl, rfl⟩))))
  by_cases c2 : 0 ≤ a ∧ a ≤ 2
  rotate_left
  · rw [if_neg (fun w => w c1), if_pos c2]
    refine Ends.mbad l (by omega) (c := 2) (by decide) rfl ?_
    have l1 : LX B n (hset h (B + 149) 0 ((2 : Nat) : Int)) := LX.setF 149 0 l (by decide +kernel)
    exact Ends.eq (b781_34 (n := n) l1 (by omega)) (Ends.b0 (fun z => absurd z (by decide)) (fun _ => Ends.sm (K _ _ (Or.inr (Or.inl ⟨c1, c2, rfl, rfl⟩)))))
  rw [if_neg (fun w => w c1), if_neg (fun w => w c2)]
  refine Ends.mok l (by omega) rfl ?_
  have l1 : LX B n (hset h (B + 149) 0 0) := LX.setF 149 0 l (by decide +kernel)
  have g1 : Agr (fun c k => c = B + 149 ∧ k = 0) h (hset h (B + 149) 0 0) := Agr.rf.set ⟨rfl, rfl⟩
  have pp := p.1.2.2.1
  have p1 := p.agr g1 (fun k h1 h2 w => by omega) (fun k w => by omega)
  obtain ⟨m, rfl⟩ : ∃ m : Nat, k = (m : Int) := ⟨k.toNat, by omega⟩
  obtain ⟨c, rfl⟩ : ∃ m : Nat, a = (m : Int) := ⟨a.toNat, by omega⟩
  have ps := p1.pos (m := m) (c := c) (by omega) (by omega)
  have cb := p1.1.2.2.2.2.2.1
  refine Ends.eq (b781_34 (n := n) l1 (by omega)) (Ends.b0 (fun _ => ?_) (fun z => absurd rfl z))
  rw [p1.1.1, ad_rf, p1.1.2.1, show bop32 104 (3 : Int) (m : Int) = ((3 * m : Nat) : Int) from mulNN (x := 3) (by omega), show bop32 96 ((3 * m : Nat) : Int) (c : Int) = ((3 * m + c : Nat) : Int) from addNN (by omega), tn]
  refine Ends.g ⟨rf_pos _, rfl, by omega, by show ((3 * m + c : Nat) : Int) < ((cap : Nat) : Int); omega⟩ (Ends.sm (K _ _ (Or.inr (Or.inr ⟨c1, c2, ps, rfl⟩))))
theorem mm_c {f t : Nat} : (cond (tst 3 (f : Int) (t : Int)) (t : Int) (f : Int)) = ((min f t : Nat) : Int) ∧ (cond (tst 3 (f : Int) (t : Int)) (f : Int) (t : Int)) = ((max f t : Nat) : Int) := by
  rw [ct3, ct3]
  by_cases e : (f : Int) < t
  · rw [if_pos e, if_pos e]; omega
  · rw [if_neg e, if_neg e]; omega
/-- the tool goes over run i -/
theorem c_run660 {mk : Bool} {i : Nat} {D : Nat → Bool} (l : LX B n h) (hd : 12 ≤ d) (hn : n ≤ 52) (hr : r ≤ 8) (m : TbM B h) (p : RnM B h n r z N fr to at_ pa cap) (sh : ShM B n h D) (hi : i < N) :
    Vt 0 (cll PP (ev PP (gsF gv) B) d 660 [(2, rf (B + 149)), (0, (i : Int)), (2, (if mk = true then rf (B + 241) else 0))] h) (fun v h' => Agr (fun c _ => c = B + 241) h h' ∧ ShM B n h' (fun k => D k || (mk && unK n r (min (fr i) (to i)) (max (fr i) (to i)) (at_ i) k)) ∧ (mk = true → v = 0) ∧ (mk = false → (v = 1 ∧ ∃ k, k < 24 * n * n ∧ D k = true ∧ unK n r (min (fr i) (to i)) (max (fr i) (to i)) (at_ i) k = true) ∨ (v = 0 ∧ ¬ ∃ k, k < 24 * n * n ∧ D k = true ∧ unK n r (min (fr i) (to i)) (max (fr i) (to i)) (at_ i) k = true))) := by
  have hb0 := l.2.2
  refine Vt.inq (D := 11) hd (Nat.le_of_ble_eq_true rfl) rfl (fun d hd P K => ?_)
  obtain ⟨p1, p2, p3, p4, p5⟩ := p
  obtain ⟨s, f1, f2, f3⟩ := p5 i hi
  have cb := p1.2.2.2.2.2.1
  refine Ends.eq (b660_0 (n := n) (by (repeat' first | assumption | refine LX.setF _ _ ?_ (by decide +kernel) | refine LX.setS ?_ rfl | refine LX.setA ?_ (by first | assumption | omega))) (by first | assumption | omega)) ?_
  rw [p1.1, ad_rf, p1.2.1, show bop32 104 (12 : Int) (i : Int) = ((12 * i : Nat) : Int) from mulNN (x := 12) (by omega), show bop32 96 ((12 * i : Nat) : Int) 6 = ((12 * i + 6 : Nat) : Int) from addNN (y := 6) (by omega), show bop32 96 ((12 * i : Nat) : Int) 1 = ((12 * i + 1 : Nat) : Int) from addNN (y := 1) (by omega), tn, tn, tn, s.1.1, s.1.2.1, s.2.2.1.1, mm_c.1, mm_c.2, p2]
  refine Ends.g ⟨rf_pos _, rfl, by omega, by show ((12 * i : Nat) : Int) < ((cap : Nat) : Int); omega⟩ (Ends.g ⟨rf_pos _, rfl, by omega, by show ((12 * i + 6 : Nat) : Int) < ((cap : Nat) : Int); omega⟩ (Ends.g ⟨rf_pos _, rfl, by omega, by show ((12 * i + 1 : Nat) : Int) < ((cap : Nat) : Int); omega⟩ ?_))
  refine Ends.ct l (by decide +kernel) (by decide) (c_goesOver659 (mk := mk) (D := D) l (by omega) hn hr m sh (by omega) (by omega) f3) (fun v h1 l1 _ _ _ ⟨g1, s1, v1, v2⟩ => ?_)
  refine Ends.eq (b660_68 (n := n) (by (repeat' first | assumption | refine LX.setF _ _ ?_ (by decide +kernel) | refine LX.setS ?_ rfl | refine LX.setA ?_ (by first | assumption | omega))) (by first | assumption | omega)) ?_
  refine Ends.g ?_ (Ends.sm (K _ _ ⟨g1, s1, v1, v2⟩))
  cases mk
  · rcases v2 rfl with ⟨e, _⟩ | ⟨e, _⟩
    · exact Or.inr e
    · exact Or.inl e
  · exact Or.inl (v1 rfl)
theorem gos_blk {f t y0 : Nat} {T : Nat → Bool} : goS n r z T f t y0 ↔ blk n r (qS n T z) (min f t) y0 (max f t - min f t) := by
  constructor
  · rintro ⟨q, y, x, h1, h2, h3, h4, h5⟩
    exact ⟨q, y, x, h1, h2, h3, qS_iff.mpr h5, h4⟩
  · rintro ⟨q, y, x, h1, h2, h3, h4, h5⟩
    exact ⟨q, y, x, h1, h2, h3, h5, qS_iff.mp h4⟩
def guW (B : Nat) : Nat → Nat → Prop := fun c k => (c = B + 149 ∧ k = 0) ∨ c = B + 241
theorem c_gouge662 (l : LX B n h) (hd : 16 ≤ d) (hn : n ≤ 52) (hr : r ≤ 8) (hz : z ≤ n) (m : TbM B h) (b : BdM B n h is S) (p : RnM B h n r z N fr to at_ pa cap) :
    Vt 0 (cll PP (ev PP (gsF gv) B) d 662 [(2, rf (B + 149)), (0, o)] h) (fun v h' => (thS is o = false ∧ MdA B h 1 v h') ∨ (thS is o = true ∧ Agr (guW B) h h' ∧ hv h' (B + 149) 0 = 0 ∧ GoA n r z N (S (rwS o)) fr to at_ v)) := by
  have hb0 := l.2.2
  refine Vt.inq (D := 15) hd (Nat.le_of_ble_eq_true rfl) rfl (fun d hd P K => ?_)
  refine Ends.eq (b662_0 (n := n) (by (repeat' first | assumption | refine LX.setF _ _ ?_ (by decide +kernel) | refine LX.setS ?_ rfl | refine LX.setA ?_ (by first | assumption | omega))) (by first | assumption | omega)) ?_
  obtain ⟨q5, e5⟩ := v765_is (o := o) (fun i hi => (b.1 i hi).1)
  refine Ends.g q5 ?_
  rw [e5]
  cases hs : thS is o
  · refine Ends.mbad l (by omega) (c := 1) (by decide) rfl ?_
    have l1 : LX B n (hset h (B + 149) 0 ((1 : Nat) : Int)) := LX.setF 149 0 l (by decide +kernel)
    exact Ends.eq (b662_17 (n := n) l1 (by omega)) (Ends.b0 (fun z => absurd z (by decide)) (fun _ => Ends.sm (K _ _ (Or.inl ⟨hs, rfl, rfl⟩))))
  refine Ends.mok l (by omega) rfl ?_
  have l1 : LX B n (hset h (B + 149) 0 0) := LX.setF 149 0 l (by decide +kernel)
  have g1 : Agr (fun c k => c = B + 149 ∧ k = 0) h (hset h (B + 149) 0 0) := Agr.rf.set ⟨rfl, rfl⟩
  have b1 := b.fset 0 0
  have m1 : TbM B (hset h (B + 149) 0 0) := m.agr g1 (fun c k h1 h2 h3 w => by omega)
  have pp := p.1.2.2.1
  have p1 := p.agr g1 (fun k h1 h2 w => by omega) (fun k w => by omega)
  have z1 : hv (hset h (B + 149) 0 0) (B + 149) 0 = 0 := hv_set_at ..
  generalize hset h (B + 149) 0 0 = h1 at *
  obtain ⟨mb, rw11⟩ := b1.sol hs
  have n4 := p.2.2.2.1
  refine Ends.eq (b662_17 (n := n) l1 (by omega)) (Ends.b0 (fun _ => ?_) (fun z => absurd rfl z))
  rw [v806_is hs, p1.2.2.1]
  refine Ends.cv l1 (by decide +kernel) (c_shade819 (s := rwS o) (z0 := z) l1 (by omega) hn (by omega) m1 mb hz) (fun h2 l2 _ _ _ ⟨g2, D, s2, hD⟩ => ?_)
  have m2 : TbM B h2 := m1.agr g2 (fun c k a1 a2 a3 w => by omega)
  have p2 := p1.agr g2 (fun k h1 h2 w => by omega) (fun k w => by omega)
  have z2 : hv h2 (B + 149) 0 = 0 := by rw [g2.at _ _ (by omega)]; exact z1
  refine Ends.eq (b662_34 (n := n) l2 (by omega)) ?_
  have key : ∀ (c i : Nat) (q : AH), i + c = N → LX B n q → Agr (fun c _ => c = B + 241) h2 q → ShM B n q D → (∀ j, j < i → ¬ goS n r z (S (rwS o)) (fr j) (to j) (at_ j)) → Ends (ev PP (gsF gv) B d 662 36 [(2, rf (B + 149)), (0, o), (0, (i : Int))] [] q) P := by
    intro c
    induction c with
    | zero =>
      intro i q hi lq gq sq lo
      obtain rfl : i = N := by omega
      refine Ends.eq (b662_36 (n := n) (by (repeat' first | assumption | refine LX.setF _ _ ?_ (by decide +kernel) | refine LX.setS ?_ rfl | refine LX.setA ?_ (by first | assumption | omega))) (by first | assumption | omega)) ?_
      rw [gq.at _ _ (by omega), p2.1.2.2.2.2.1, show bop32 108 ((4 * i : Nat) : Int) 4 = (i : Int) from by rw [show bop32 108 ((4 * i : Nat) : Int) 4 = ((4 * i / 4 : Nat) : Int) from divNN (y := 4) (by omega) (by decide)]; omega]
      refine Ends.b3 (fun _ => Ends.sm (K _ _ (Or.inr ⟨hs, (g1.sub (fun c k w => Or.inl w)).tr (g2.tr gq (fun c k w => w)) (fun c k w => Or.inr w), by rw [gq.at _ _ (by omega)]; exact z2, Or.inr ⟨rfl, lo⟩⟩))) (fun z => by omega)
    | succ c ih =>
      intro i q hi lq gq sq lo
      have hiN : i < N := by omega
      refine Ends.eq (b662_36 (n := n) (by (repeat' first | assumption | refine LX.setF _ _ ?_ (by decide +kernel) | refine LX.setS ?_ rfl | refine LX.setA ?_ (by first | assumption | omega))) (by first | assumption | omega)) ?_
      rw [gq.at _ _ (by omega), p2.1.2.2.2.2.1, show bop32 108 ((4 * N : Nat) : Int) 4 = (N : Int) from by rw [show bop32 108 ((4 * N : Nat) : Int) 4 = ((4 * N / 4 : Nat) : Int) from divNN (y := 4) (by omega) (by decide)]; omega]
      refine Ends.b3 (fun z => by omega) (fun _ => ?_)
      have mq : TbM B q := m2.agr gq (fun c k a1 a2 a3 w => by omega)
      have pq := p2.agr gq (fun k h1 h2 w => by omega) (fun k w => by omega)
      refine Ends.ct lq (by decide +kernel) (by decide) (c_run660 (mk := false) (D := D) lq (by omega) hn hr mq pq sq hiN) (fun v h3 l3 _ _ _ ⟨g3, s3, _, v2⟩ => ?_)
      have s3' : ShM B n h3 D := s3.congr (fun k hk => by simp)
      have bc := blk_cols (r := r) (X := min (fr i) (to i)) (Y := at_ i) (far := max (fr i) (to i) - min (fr i) (to i)) (z0 := z) (S := S (rwS o)) (Q := qS n (S (rwS o)) z) (fun q y x _ _ _ => qS_iff) hD
      rw [show min (fr i) (to i) + (max (fr i) (to i) - min (fr i) (to i)) = max (fr i) (to i) by omega, ← gos_blk] at bc
      refine Ends.eq (b662_52 (n := n) (by (repeat' first | assumption | refine LX.setF _ _ ?_ (by decide +kernel) | refine LX.setS ?_ rfl | refine LX.setA ?_ (by first | assumption | omega))) (by first | assumption | omega)) ?_
      rcases v2 rfl with ⟨rfl, w⟩ | ⟨rfl, w⟩
      · refine Ends.b0 (fun z => absurd z (by decide)) (fun _ => Ends.sm (K _ _ (Or.inr ⟨hs, (g1.sub (fun c k w => Or.inl w)).tr ((g2.tr gq (fun c k w => w)).tr g3 (fun c k w => w)) (fun c k w => Or.inr w), by rw [g3.at _ _ (by omega), gq.at _ _ (by omega)]; exact z2, Or.inl ⟨i, hiN, rfl, bc.mp w, lo⟩⟩)))
      · refine Ends.b0 (fun _ => ?_) (fun z => absurd rfl z)
        rw [w_succ (by omega)]
        refine ih (i + 1) h3 (by omega) l3 (gq.tr g3 (fun c k w => w)) s3' (fun j hj => ?_)
        by_cases e : j = i
        · rw [e]; exact fun y => w (bc.mpr y)
        · exact lo j (by omega)
  exact key N 0 h2 (by omega) l2 Agr.rf s2 (fun j hj => absurd hj (by omega))
end MLF
