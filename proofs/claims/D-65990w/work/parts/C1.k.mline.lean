/-! L3: pieces of the model's lines -/
section MLN
variable {gv : Nat → Int} {B n d m p s k : Nat} {h : AH} {u : Nat → Int} {S : Nat → Nat → Bool} {T : Nat → Bool}
theorem ubS_b (hu : ∀ k, 0 ≤ u k ∧ u k < 256) : -1 ≤ ubS u m p ∧ ubS u m p ≤ 255 := by
  unfold ubS
  have := hu p
  split <;> omega
theorem tuG_0id {g : Nat} (hg : g < gN n) : tuG n 0 g 0 0 0 = (g : Int) := by
  have e := gAt_self hg
  unfold tuG tu8
  rw [if_neg (by decide), if_neg (by decide), if_neg (by decide)]
  show gAt n (((g8 n g 0 : Nat) : Int) + 8 * 0) (((g8 n g 1 : Nat) : Int) + 8 * 0) (((g8 n g 2 : Nat) : Int) + 8 * 0) = _
  rw [show ∀ x : Int, x + 8 * 0 = x from fun x => by omega, show ∀ x : Int, x + 8 * 0 = x from fun x => by omega, show ∀ x : Int, x + 8 * 0 = x from fun x => by omega]
  exact e
theorem mvG_iff {dx dy dz : Int} (hn : n ≤ 52) {x : Nat} (hx : x < gN n) : mvG n T dx dy dz x = true ↔ tuS n 0 T dx dy dz (gN n) x := by
  refine turn_moved hn (by decide) (fun g hg => ?_) hx
  constructor
  · intro e
    exact ⟨g, hg, e, tuG_0id hg⟩
  · rintro ⟨g0, h0, e, e2⟩
    rw [tuG_0id h0] at e2
    rw [← Int.ofNat.inj e2]; exact e
theorem mvG_far {dx dy dz : Int} {x : Nat} (hx : x < gN n) (far : ((n : Int) < dx ∨ dx < -(n : Int)) ∨ ((n : Int) < dy ∨ dy < -(n : Int)) ∨ (n : Int) < dz ∨ dz < -(n : Int)) : mvG n T dx dy dz x = false := by
  obtain ⟨_, g1, g2, g3, _⟩ := g_lt hx
  unfold mvG mvd
  by_cases a : 0 ≤ (gZ n x : Int) - dz ∧ (gZ n x : Int) - dz < n ∧ 0 ≤ (gY n x : Int) - dy ∧ (gY n x : Int) - dy < n
  · rw [decide_eq_true a, Bool.true_and, decide_eq_false (by omega), Bool.false_and]
  · rw [decide_eq_false a, Bool.false_and]
theorem v623_d {x : Int} (hn : n ≤ 52) : v623 n x = if decide ((n : Int) < x ∨ x < -(n : Int)) = true then 1 else 0 := by
  unfold v623
  rw [neg32 (by omega) (by omega), ct4, ct3]
  by_cases a : (n : Int) < x
  · rw [if_pos a, decide_eq_true (Or.inl a), if_pos rfl]
  · rw [if_neg a]
    by_cases b : x < -(n : Int)
    · rw [if_pos b, decide_eq_true (Or.inr b), if_pos rfl]
    · rw [if_neg b, decide_eq_false (by omega), if_neg Bool.false_ne_true]
/-- rows of the solids that are being made -/
def ld (k : Nat) : Nat := [11, 12, 17, 18].getD k 0
theorem ld_inj : ∀ i j : Fin 4, ld i = ld j → i = j := by decide +kernel
theorem ld_rng : ∀ i : Fin 4, 11 ≤ ld i ∧ ld i < 19 ∧ (ld i ≤ 12 ∨ 17 ≤ ld i) := by decide +kernel
theorem ldr {k : Nat} (hk : k < 4) : 11 ≤ ld k ∧ ld k < 19 ∧ (ld k ≤ 12 ∨ 17 ≤ ld k) := ld_rng ⟨k, hk⟩
def MlS (B n : Nat) (h : AH) (S : Nat → Nat → Bool) : Prop := ∀ k, k < 4 → hv h (B + 233) k = (ld k : Int) ∧ MB B n h (ld k) (S k)
theorem MlS.agr {W : Nat → Nat → Prop} {t : AH} (x : MlS B n h S) (g : Agr W h t) (h1 : ∀ k, ¬ W (B + 233) k) (h2 : ∀ j k, ¬ W (B + 236) (wN n * j + k)) : MlS B n t S := fun k hk =>
  ⟨by rw [g.at _ _ (h1 k)]; exact (x k hk).1, (x k hk).2.agr g (fun j _ => h2 _ j)⟩
theorem MlS.put {W : Nat → Nat → Prop} {t : AH} (x : MlS B n h S) (hk : k < 4) (g : Agr W h t) (h1 : ∀ j, ¬ W (B + 233) j) (h2 : ∀ i j, i < 19 → i ≠ ld k → (i ≤ 12 ∨ 17 ≤ i) → j < wN n → ¬ W (B + 236) (wN n * i + j)) (s : MB B n t (ld k) T) : MlS B n t (upS S k T) := fun i hi => by
  obtain ⟨a1, a2⟩ := x i hi
  refine ⟨by rw [g.at _ _ (h1 i)]; exact a1, ?_⟩
  by_cases e : i = k
  · rw [e, upS_at]; exact s
  · rw [upS_ne e]
    have r := ldr hi
    exact a2.agr g (fun j hj => h2 _ j r.2.1 (fun z => e (by have := ld_inj ⟨i, hi⟩ ⟨k, hk⟩ z; exact congrArg Fin.val this)) r.2.2 hj)
def mlnW (B n : Nat) : Nat → Nat → Prop := fun c k => (c = B + 149 ∧ (k = 4 ∨ k = 78)) ∨ c = B + 234 ∨ c = B + 198 ∨ c = B + 186 ∨ (c = B + 236 ∧ wN n * 11 ≤ k)
theorem wto_ml {t c j : Nat} (h : 11 ≤ t) (w : wto B n t (wN n) c j) : mlnW B n c j := by
  have := Nat.mul_le_mul_left (wN n) h
  exact Or.inr (Or.inr (Or.inr (Or.inr ⟨w.1, by have := w.2.1; omega⟩)))
theorem wto3_ml {t c j : Nat} (h : 11 ≤ t) (w : wto3 B n t c j) : mlnW B n c j := by
  rcases w with w | w | w
  · exact wto_ml h w
  · exact wto_ml (by omega) w
  · exact wto_ml (by omega) w
/-- the number of a solid -/
theorem c_takeSolid847 (l : LX B n h) (hd : 18 ≤ d) (T : TxR gv B h) (r : RdM B h m u p) (hu : ∀ k, 0 ≤ u k ∧ u k < 256) (x : ∀ k, k < 4 → hv h (B + 233) k = (ld k : Int)) :
    Vt 0 (cll PP (ev PP (gsF gv) B) d 847 [(2, rf (B + 149))] h) (fun v h' => Agr (atM B) h h' ∧ (((wdS u m p [35] && dgO (ubS u m (p + 1))) = true ∧ v = (ld (ubS u m (p + 1) - 48).toNat : Int) ∧ RdM B h' m u (p + 2)) ∨ ((wdS u m p [35] && dgO (ubS u m (p + 1))) = false ∧ v = -1))) := by
  have hb0 := l.2.2
  have hm := r.m8
  have hp := r.pm
  refine Vt.inq (D := 17) hd (Nat.le_of_ble_eq_true rfl) rfl (fun d hd P K => ?_)
  refine Ends.eq (b847_0 (n := n) (by (repeat' first | assumption | refine LX.setF _ _ ?_ (by decide +kernel) | refine LX.setS ?_ rfl | refine LX.setA ?_ (by first | assumption | omega))) (by first | assumption | omega)) ?_
  refine Ends.ct l (by decide +kernel) (by decide) (c_word843 l (by omega) T.1 r) (fun v q1 l1 _ _ _ ⟨g1, w⟩ => ?_)
  refine Ends.eq (b847_7 (n := n) (by (repeat' first | assumption | refine LX.setF _ _ ?_ (by decide +kernel) | refine LX.setS ?_ rfl | refine LX.setA ?_ (by first | assumption | omega))) (by first | assumption | omega)) ?_
  rcases w with ⟨w1, w2, w3⟩ | ⟨w1, w2, w3⟩
  rotate_left
  · rw [w2]
    exact Ends.b1 (fun z => absurd rfl z) (fun _ => Ends.sm (K _ _ ⟨g1, Or.inr ⟨by rw [w1, Bool.false_and], rfl⟩⟩))
  rw [w2]
  have w3 : RdM B q1 m u (p + 1) := w3
  have pm1 := w3.pm
  obtain ⟨b1, b2⟩ := w3.byte (i := p + 1) (by omega)
  have ub := ubS_b (m := m) (p := p + 1) hu
  refine Ends.b1 (fun _ => ?_) (fun z => absurd z (by decide))
  rw [w3.at_, b2]
  refine Ends.g b1 ?_
  by_cases dg : dgO (ubS u m (p + 1)) = true
  · have dc := dgO_c dg
    have pm2 := ub_in (u := u) (m := m) (p := p + 1) rfl (by omega)
    obtain ⟨o, eo⟩ : ∃ o : Nat, ubS u m (p + 1) = (o : Int) + 48 := ⟨(ubS u m (p + 1) - 48).toNat, by omega⟩
    rw [show bop32 100 (ubS u m (p + 1)) 48 = (o : Int) from by rw [eo, sub32 (by omega) (by omega)]; omega, show bop32 96 ((p + 1 : Nat) : Int) 1 = ((p + 2 : Nat) : Int) from addNN (y := 1) (by omega), tn, g1.at _ _ (by unfold atM; omega), x o (by omega)]
    refine Ends.b2 (fun z => by omega) (fun _ => Ends.b5 (fun _ => Ends.g ⟨by omega, by omega⟩ (Ends.sm (K _ _ ⟨g1.set ⟨rfl, rfl⟩, Or.inl ⟨by rw [w1, dg]; rfl, ?_, w3.to pm2⟩⟩))) (fun z => by omega))
    rw [show (ubS u m (p + 1) - 48).toNat = o by omega]
  · have dg' := Bool.eq_false_iff.mpr dg
    have bad : ∀ x1 : Int, Ends (ev PP (gsF gv) B d 847 33 [(2, rf (B + 149)), (0, x1)] [] q1) P := fun x1 => by
      refine Ends.eq (b847_33 (n := n) (by (repeat' first | assumption | refine LX.setF _ _ ?_ (by decide +kernel) | refine LX.setS ?_ rfl | refine LX.setA ?_ (by first | assumption | omega))) (by first | assumption | omega)) ?_
      exact Ends.sm (K _ _ ⟨g1, Or.inr ⟨by rw [dg', Bool.and_false], rfl⟩⟩)
    have nd : ¬ (48 ≤ ubS u m (p + 1) ∧ ubS u m (p + 1) ≤ 51) := of_decide_eq_false dg'
    rw [sub32 (x := ubS u m (p + 1)) (by omega) (by omega)]
    refine Ends.b2 (fun _ => bad _) (fun z => Ends.b5 (fun z2 => absurd (show 48 ≤ ubS u m (p + 1) ∧ ubS u m (p + 1) ≤ 51 by omega) nd) (fun _ => bad _))
/-- a line with its end -/
def LnM (B n : Nat) (h : AH) (m : Nat) (u : Nat → Int) (p : Nat) (S : Nat → Nat → Bool) (v : Int) (h' : AH) : Prop := Agr (mlnW B n) h h' ∧ ((∃ k kd o e q, lnS u m n p = some (k, kd, o, e) ∧ enS u m e = some q ∧ v = 1 ∧ RdM B h' m u q ∧ k < 4 ∧ MlS B n h' (upS S k (apS n kd (nsV u m (lnQ u m p)) o S k))) ∨ ((lnS u m n p = none ∨ ∃ k kd o e, lnS u m n p = some (k, kd, o, e) ∧ enS u m e = none) ∧ v = 0))
/-- two solids -/
theorem c_together851 {op : Nat} (l : LX B n h) (hd : 20 ≤ d) (hn : n ≤ 52) (T : TxR gv B h) (r : RdM B h m u p) (hu : ∀ k, 0 ≤ u k ∧ u k < 256) (x : MlS B n h S) (hk4 : k < 4) (ho : op ≤ 2) :
    Vt 0 (cll PP (ev PP (gsF gv) B) d 851 [(2, rf (B + 149)), (0, (ld k : Int)), (0, (op : Int))] h) (fun v h' => Agr (mlnW B n) h h' ∧ ((∃ q, (wdS u m p [35] && (dgO (ubS u m (p + 1)) && wdS u m (p + 2) [41])) = true ∧ enS u m (p + 3) = some q ∧ v = 1 ∧ RdM B h' m u q ∧ MlS B n h' (upS S k (fun g => jn (op : Int) (S k g) (S (ubS u m (p + 1) - 48).toNat g)))) ∨ (((wdS u m p [35] && (dgO (ubS u m (p + 1)) && wdS u m (p + 2) [41])) = false ∨ enS u m (p + 3) = none) ∧ v = 0))) := by
  have hb0 := l.2.2
  refine Vt.inq (D := 19) hd (Nat.le_of_ble_eq_true rfl) rfl (fun d hd P K => ?_)
  have at1 : ∀ {q1 q2 : AH}, Agr (atM B) q1 q2 → Agr (mlnW B n) q1 q2 := fun g => g.sub (fun c k w => Or.inl ⟨w.1, Or.inl w.2⟩)
  have txk : ∀ {q : AH}, Agr (atM B) h q → TxR gv B q := fun g => T.ext g.ext hb0 (fun c k hc w => by unfold atM at w; omega)
  have bad : ∀ (q : AH) (x3 : Int), Agr (mlnW B n) h q → LX B n q → ((wdS u m p [35] && (dgO (ubS u m (p + 1)) && wdS u m (p + 2) [41])) = false ∨ enS u m (p + 3) = none) → Ends (ev PP (gsF gv) B d 851 25 [(2, rf (B + 149)), (0, (ld k : Int)), (0, (op : Int)), (0, x3)] [] q) P := fun q x3 g lq w => by
    refine Ends.eq (b851_25 (n := n) (by (repeat' first | assumption | refine LX.setF _ _ ?_ (by decide +kernel) | refine LX.setS ?_ rfl | refine LX.setA ?_ (by first | assumption | omega))) (by first | assumption | omega)) ?_
    exact Ends.sm (K _ _ ⟨g, Or.inr ⟨w, rfl⟩⟩)
  refine Ends.eq (b851_0 (n := n) (by (repeat' first | assumption | refine LX.setF _ _ ?_ (by decide +kernel) | refine LX.setS ?_ rfl | refine LX.setA ?_ (by first | assumption | omega))) (by first | assumption | omega)) ?_
  refine Ends.ct l (by decide +kernel) (by decide) (c_takeSolid847 l (by omega) T r hu (fun k hk => (x k hk).1)) (fun v q1 l1 _ _ _ ⟨g1, w⟩ => ?_)
  refine Ends.eq (b851_4 (n := n) (by (repeat' first | assumption | refine LX.setF _ _ ?_ (by decide +kernel) | refine LX.setS ?_ rfl | refine LX.setA ?_ (by first | assumption | omega))) (by first | assumption | omega)) ?_
  rcases w with ⟨w1, w2, w3⟩ | ⟨w1, w2⟩
  rotate_left
  · rw [w2]
    exact Ends.b2 (fun _ => bad q1 _ (at1 g1) l1 (Or.inl (by rw [← Bool.and_assoc, w1, Bool.false_and]))) (fun z => absurd z (by decide))
  rw [w2]
  refine Ends.b2 (fun z => by omega) (fun _ => ?_)
  have dg : dgO (ubS u m (p + 1)) = true := by rw [Bool.and_eq_true] at w1; exact w1.2
  have dc := dgO_c dg
  refine Ends.ct l1 (by decide +kernel) (by decide) (c_word843 l1 (by omega) (txk g1).2.2.2.2.2.1 w3) (fun v q2 l2 _ _ _ ⟨g2, w⟩ => ?_)
  have G2 := g1.tr g2 (fun c k w => w)
  refine Ends.eq (b851_15 (n := n) (by (repeat' first | assumption | refine LX.setF _ _ ?_ (by decide +kernel) | refine LX.setS ?_ rfl | refine LX.setA ?_ (by first | assumption | omega))) (by first | assumption | omega)) ?_
  rcases w with ⟨v1, v2, v3⟩ | ⟨v1, v2, v3⟩
  rotate_left
  · rw [v2]
    exact Ends.b0 (fun _ => bad q2 _ (at1 G2) l2 (Or.inl (by rw [v1, Bool.and_false, Bool.and_false]))) (fun z => absurd rfl z)
  rw [v2]
  have v3 : RdM B q2 m u (p + 3) := v3
  refine Ends.b0 (fun z => absurd z (by decide)) (fun _ => ?_)
  refine Ends.ct l2 (by decide +kernel) (by decide) (c_end609 l2 (by omega) (txk G2).2.2.2.1 v3) (fun v q3 l3 _ _ _ ⟨g3, w⟩ => ?_)
  have G3 := G2.tr g3 (fun c k w => w)
  refine Ends.eq (b851_22 (n := n) (by (repeat' first | assumption | refine LX.setF _ _ ?_ (by decide +kernel) | refine LX.setS ?_ rfl | refine LX.setA ?_ (by first | assumption | omega))) (by first | assumption | omega)) ?_
  rcases w with ⟨e, en, ev_, r3⟩ | ⟨en, ev_⟩
  rotate_left
  · rw [ev_]
    exact Ends.b1 (fun z => absurd rfl z) (fun _ => bad q3 _ (at1 G3) l3 (Or.inr en))
  rw [ev_]
  refine Ends.b1 (fun _ => ?_) (fun z => absurd z (by decide))
  have x3 : MlS B n q3 S := x.agr G3 (fun j w => by unfold atM at w; omega) (fun i j w => by unfold atM at w; omega)
  obtain ⟨o, eo⟩ : ∃ o : Nat, (ubS u m (p + 1) - 48).toNat = o := ⟨_, rfl⟩
  rw [eo]
  have ho4 : o < 4 := by omega
  have rk := ldr hk4
  have ro := ldr ho4
  refine Ends.cv l3 (by decide +kernel) (c_combineM (s := ld k) (t := ld o) (u := ld k) l3 (by omega) hn rk.2.1 ro.2.1 rk.2.1 (x3 k hk4).2 (x3 o ho4).2 (op := (op : Int)) (by omega)) (fun q4 l4 _ _ _ ⟨g4, m4⟩ => ?_)
  refine Ends.eq (b851_35 (n := n) (by (repeat' first | assumption | refine LX.setF _ _ ?_ (by decide +kernel) | refine LX.setS ?_ rfl | refine LX.setA ?_ (by first | assumption | omega))) (by first | assumption | omega)) ?_
  refine Ends.sm (K _ _ ⟨(at1 G3).tr g4 (fun c j w => wto_ml rk.1 w), Or.inl ⟨e, ?_, en, rfl, ?_, ?_⟩⟩)
  · rw [← Bool.and_assoc, w1, v1]; rfl
  · exact r3.agr g4 (fun w => by have := w.1; omega) (fun w => by have := w.1; omega) (fun k w => by have := w.1; omega)
  · rw [eo]
    exact x3.put hk4 g4 (fun j w => by have := w.1; omega) (fun i j h1 h2 h3 h4 w => wto_row h4 (Nat.le_refl _) h2 w) m4
end MLN
