/-! L3: a text is loaded, on both sides -/
section MLOAD
variable {gv : Nat → Int} {B n d m : Nat} {h : AH} {u : Nat → Int} {is : Nat → Bool}
theorem end_no {p : Nat} (w : wdS u m p [69, 78, 68] = true) : lnS u m n p = none := by
  have e : ubS u m p = 69 := by
    unfold wdS at w
    rw [Bool.and_eq_true, decide_eq_true_eq] at w
    exact w.1
  unfold lnS
  rw [show wdS u m p [35] = false from by unfold wdS; rw [e]; rfl, Bool.false_and]
  rfl
/-- the last line -/
theorem c_isLast699 {p : Nat} (l : LX B n h) (hd : 20 ≤ d) (T : TxR gv B h) (r : RdM B h m u p) :
    Vt 0 (cll PP (ev PP (gsF gv) B) d 699 [(2, rf (B + 149))] h) (fun v h' => Agr (atM B) h h' ∧ ((∃ q, wdS u m p [69, 78, 68] = true ∧ enS u m (p + 3) = some q ∧ v = 1 ∧ RdM B h' m u q) ∨ ((wdS u m p [69, 78, 68] = false ∨ enS u m (p + 3) = none) ∧ v = 0 ∧ RdM B h' m u p))) := by
  have hb0 := l.2.2
  have hp := r.pm
  refine Vt.inq (D := 19) hd (Nat.le_of_ble_eq_true rfl) rfl (fun d hd P K => ?_)
  have bad : ∀ (q : AH), Agr (atM B) h q → LX B n q → (wdS u m p [69, 78, 68] = false ∨ enS u m (p + 3) = none) → Ends (ev PP (gsF gv) B d 699 24 [(2, rf (B + 149)), (0, (p : Int))] [] q) P := fun q g lq w => by
    refine Ends.eq (b699_24 (n := n) (by (repeat' first | assumption | refine LX.setF _ _ ?_ (by decide +kernel) | refine LX.setS ?_ rfl | refine LX.setA ?_ (by first | assumption | omega))) (by first | assumption | omega)) ?_
    exact Ends.sm (K _ _ ⟨g.set ⟨rfl, rfl⟩, Or.inr ⟨w, rfl, by rw [hv_set_ne (by omega), g.at _ _ (by unfold atM; omega)]; exact r.1, hv_set_at .., r.m8, hp, fun k hk => by rw [hv_na (by omega), g.at _ _ (by unfold atM; omega)]; exact r.2.2.2.2 k hk⟩⟩)
  refine Ends.eq (b699_0 (n := n) (by (repeat' first | assumption | refine LX.setF _ _ ?_ (by decide +kernel) | refine LX.setS ?_ rfl | refine LX.setA ?_ (by first | assumption | omega))) (by first | assumption | omega)) ?_
  rw [r.at_]
  refine Ends.ct l (by decide +kernel) (by decide) (c_word843 l (by omega) T.2.2.2.2.2.2.2 r) (fun v q1 l1 _ _ _ ⟨g1, w⟩ => ?_)
  refine Ends.eq (b699_12 (n := n) (by (repeat' first | assumption | refine LX.setF _ _ ?_ (by decide +kernel) | refine LX.setS ?_ rfl | refine LX.setA ?_ (by first | assumption | omega))) (by first | assumption | omega)) ?_
  rcases w with ⟨w1, w2, w3⟩ | ⟨w1, w2, w3⟩
  rotate_left
  · rw [w2]
    exact Ends.b0 (fun _ => bad q1 g1 l1 (Or.inl w1)) (fun z => absurd rfl z)
  rw [w2]
  have w3 : RdM B q1 m u (p + 3) := w3
  refine Ends.b0 (fun z => absurd z (by decide)) (fun _ => ?_)
  refine Ends.ct l1 (by decide +kernel) (by decide) (c_end609 l1 (by omega) (T.ext g1.ext hb0 (fun c k hc w => by unfold atM at w; omega)).2.2.2.1 w3) (fun v q2 l2 _ _ _ ⟨g2, w⟩ => ?_)
  have G2 := g1.tr g2 (fun c k w => w)
  refine Ends.eq (b699_19 (n := n) (by (repeat' first | assumption | refine LX.setF _ _ ?_ (by decide +kernel) | refine LX.setS ?_ rfl | refine LX.setA ?_ (by first | assumption | omega))) (by first | assumption | omega)) ?_
  rcases w with ⟨q, en, ev_, r2⟩ | ⟨en, ev_⟩
  · rw [ev_]
    exact Ends.b0 (fun z => absurd z (by decide)) (fun _ => Ends.sm (K _ _ ⟨G2, Or.inl ⟨q, w1, en, rfl, r2⟩⟩))
  · rw [ev_]
    exact Ends.b0 (fun _ => bad q2 G2 l2 (Or.inr en)) (fun z => absurd rfl z)
def ldW (B n : Nat) : Nat → Nat → Prop := fun c k => mlnW B n c k ∨ (c = B + 149 ∧ (k = 0 ∨ k = 2 ∨ k = 3))
/-- the lines one by one -/
theorem load_lines {P : Rs → Prop} {h0 : AH} (hd : 28 ≤ d) (hn4 : 4 ≤ n) (hn : n ≤ 52) (mt : TbM B h0) (T : TxR gv B h0) (hb0 : B + 246 ≤ hnx h0) (hu : ∀ k, 0 ≤ u k ∧ u k < 256) {r : Int × (Nat → Bool)}
    (bi : ∀ i, i < 10 → hv h0 (B + 193) i = (if is i = true then 1 else 0)) (hf : frB is 10 < 10)
    (K0 : ∀ q, Agr (mlnW B n) h0 q → r.1 < 0 → P ((0, (0, r.1)), q))
    (K1 : ∀ q, Agr (fun c k => mlnW B n c k ∨ mkW B n (frB is 10) c k) h0 q → r.1 = 0 → MB B n q (frB is 10) r.2 → hv q (B + 193) (frB is 10) = 1 → hv q (B + 149) 86 = -1 → P ((0, (0, (frB is 10 : Int))), q)) :
    ∀ (f p line : Nat) (q : AH) (S : Nat → Nat → Bool), m + 1 ≤ f + p → line ≤ p → LX B n q → Agr (mlnW B n) h0 q → RdM B q m u p → MlS B n q S → exF u m n f p line S = r → Ends (ev PP (gsF gv) B d 732 93 [(2, rf (B + 149)), (0, (line : Int))] [] q) P := by
  have at1 : ∀ {q1 q2 : AH}, Agr (atM B) q1 q2 → Agr (mlnW B n) q1 q2 := fun g => g.sub (fun c k w => Or.inl ⟨w.1, Or.inl w.2⟩)
  have xat : ∀ {q1 q2 : AH} {S : Nat → Nat → Bool}, MlS B n q1 S → Agr (atM B) q1 q2 → MlS B n q2 S := fun x g => x.agr g (fun k w => by unfold atM at w; omega) (fun i k w => by unfold atM at w; omega)
  have txk : ∀ {q : AH}, Agr (mlnW B n) h0 q → TxR gv B q := fun g => T.ext g.ext hb0 (fun c k hc w => by unfold mlnW at w; omega)
  have mk : ∀ {q : AH}, Agr (mlnW B n) h0 q → TbM B q := fun g => mt.agr g (fun c k a1 a2 a3 w => by unfold mlnW at w; omega)
  intro f
  induction f with
  | zero =>
    intro p line q S hf' hl lq gq rq xq er
    have := rq.pm
    omega
  | succ f ih =>
    intro p line q S hf' hl lq gq rq xq er
    have hm := rq.m8
    have hp := rq.pm
    have er0 : (if wdS u m p [69, 78, 68] = true then (match enS u m (p + 3) with
      | none => (-1 - (line : Int), S 0)
      | some q => if q < m then (-2 - (line : Int), S 0) else (0, S 0)) else (match lnS u m n p with
      | none => (-1 - (line : Int), S 0)
      | some (k, kd, o, e) => (match enS u m e with
        | none => (-1 - (line : Int), S 0)
        | some q => exF u m n f q (line + 1) (upS S k (apS n kd (nsV u m (lnQ u m p)) o S k))))) = r := er
    refine Ends.eq (b732_93 (n := n) (by (repeat' first | assumption | refine LX.setF _ _ ?_ (by decide +kernel) | refine LX.setS ?_ rfl | refine LX.setA ?_ (by first | assumption | omega))) (by first | assumption | omega)) ?_
    refine Ends.ct lq (by decide +kernel) (by decide) (c_isLast699 lq (by omega) (txk gq) rq) (fun v q1 l1 _ _ _ ⟨g1, w⟩ => ?_)
    have G1 := gq.tr (at1 g1) (fun c k w => w)
    have x1 := xat xq g1
    refine Ends.eq (b732_97 (n := n) (by (repeat' first | assumption | refine LX.setF _ _ ?_ (by decide +kernel) | refine LX.setS ?_ rfl | refine LX.setA ?_ (by first | assumption | omega))) (by first | assumption | omega)) ?_
    rcases w with ⟨e, w1, en, ev_, r1⟩ | ⟨w1, ev_, r1⟩
    · rw [ev_]
      rw [if_pos w1, en] at er0
      have er2 : (if e < m then (-2 - (line : Int), S 0) else (0, S 0)) = r := er0
      refine Ends.b1 (fun _ => ?_) (fun z => absurd z (by decide))
      rw [r1.at_, r1.1]
      by_cases em : e < m
      · rw [if_pos em] at er2
        refine Ends.b3 (fun z => by omega) (fun _ => ?_)
        have e1 : r.1 = -2 - (line : Int) := by rw [← er2]
        rw [show bop32 100 (-2 : Int) (line : Int) = r.1 from by rw [e1]; exact sub32 (by omega) (by omega)]
        refine Ends.eq (b732_145 (n := n) (by (repeat' first | assumption | refine LX.setF _ _ ?_ (by decide +kernel) | refine LX.setS ?_ rfl | refine LX.setA ?_ (by first | assumption | omega))) (by first | assumption | omega)) ?_
        exact Ends.sm (K0 q1 G1 (by omega))
      · rw [if_neg em] at er2
        refine Ends.b3 (fun _ => ?_) (fun z => by omega)
        rw [show Int.toNat (0 : Int) = 0 from rfl, (x1 0 (by decide)).1]
        refine Ends.ct l1 (by decide +kernel) (by decide) (c_made738 (r := ld 0) (T := r.2) l1 (by omega) hn (fun i hi => by rw [G1.at _ _ (by unfold mlnW; omega)]; exact bi i hi) hf (by decide) (by rw [← er2]; exact (x1 0 (by decide)).2)) (fun v q2 l2 _ _ _ ⟨ev2, m2, e193, e86, g2⟩ => ?_)
        rw [ev2]
        refine Ends.eq (b732_145 (n := n) (by (repeat' first | assumption | refine LX.setF _ _ ?_ (by decide +kernel) | refine LX.setS ?_ rfl | refine LX.setA ?_ (by first | assumption | omega))) (by first | assumption | omega)) ?_
        exact Ends.sm (K1 q2 ((G1.sub (fun c k w => Or.inl w)).tr g2 (fun c k w => Or.inr w)) (by rw [← er2]) m2 e193 e86)
    · rw [ev_]
      -- this line is none that ends the text
      have er1 : (match lnS u m n p with
        | none => (-1 - (line : Int), S 0)
        | some (k, kd, o, e) => (match enS u m e with
          | none => (-1 - (line : Int), S 0)
          | some q => exF u m n f q (line + 1) (upS S k (apS n kd (nsV u m (lnQ u m p)) o S k)))) = r := by
        by_cases c : wdS u m p [69, 78, 68] = true
        · rw [if_pos c] at er0
          rcases w1 with w1 | w1
          · rw [w1] at c; exact absurd c (by decide)
          · rw [w1] at er0
            rw [end_no c]
            exact er0
        · rw [if_neg c] at er0
          exact er0
      refine Ends.b1 (fun z => absurd rfl z) (fun _ => ?_)
      refine Ends.ct l1 (by decide +kernel) (by decide) (c_call562 l1 (by omega) hn4 hn (mk G1) (txk G1) r1 hu x1) (fun v q2 l2 _ _ _ ⟨g2, w⟩ => ?_)
      have G2 := G1.tr g2 (fun c k w => w)
      refine Ends.eq (b732_104 (n := n) (by (repeat' first | assumption | refine LX.setF _ _ ?_ (by decide +kernel) | refine LX.setS ?_ rfl | refine LX.setA ?_ (by first | assumption | omega))) (by first | assumption | omega)) ?_
      rcases w with ⟨k, kd, o, e, q', en, en', ev2, r2, hk4, x2⟩ | ⟨w, ev2⟩
      · rw [ev2]
        rw [en] at er1
        have er2 : (match enS u m e with
          | none => (-1 - (line : Int), S 0)
          | some q => exF u m n f q (line + 1) (upS S k (apS n kd (nsV u m (lnQ u m p)) o S k))) = r := er1
        rw [en'] at er2
        have pe := lnS_ge en
        have gt := enS_gt en'
        refine Ends.b1 (fun _ => ?_) (fun z => absurd z (by decide))
        rw [w_succ (by omega)]
        exact ih q' (line + 1) q2 _ (by omega) (by omega) l2 G2 r2 x2 er2
      · rw [ev2]
        have e1 : r.1 = -1 - (line : Int) := by
          rcases w with w | ⟨k, kd, o, e, w, w'⟩
          · rw [w] at er1; rw [← er1]
          · rw [w] at er1
            have er2 : (match enS u m e with
              | none => (-1 - (line : Int), S 0)
              | some q => exF u m n f q (line + 1) (upS S k (apS n kd (nsV u m (lnQ u m p)) o S k))) = r := er1
            rw [w'] at er2
            rw [← er2]
        refine Ends.b1 (fun z => absurd rfl z) (fun _ => ?_)
        rw [show bop32 100 (-1 : Int) (line : Int) = r.1 from by rw [e1]; exact sub32 (by omega) (by omega)]
        exact Ends.sm (K0 q2 G2 (by omega))
/-- a text is loaded -/
theorem c_load732 (l : LX B n h) (hd : 30 ≤ d) (hn4 : 4 ≤ n) (hn : n ≤ 52) (mt : TbM B h) (T : TxR gv B h) (bi : ∀ i, i < 10 → hv h (B + 193) i = (if is i = true then 1 else 0)) (hm8 : m ≤ 8192) (e2 : hv h (B + 149) 2 = (m : Int)) (bytes : ∀ k, k < m → hv h (B + 150) k = u k) (hu : ∀ k, 0 ≤ u k ∧ u k < 256) (x : ∀ k, k < 4 → hv h (B + 233) k = (ld k : Int)) :
    Vt 0 (cll PP (ev PP (gsF gv) B) d 732 [(2, rf (B + 149))] h) (fun v h' => hv h' (B + 149) 2 = 0 ∧ ((¬ frB is 10 < 10 ∧ v = 0 ∧ hv h' (B + 149) 0 = 1 ∧ Agr (ldW B n) h h') ∨ (frB is 10 < 10 ∧ hv h' (B + 149) 0 = 0 ∧ (((exR u m n).1 < 0 ∧ v = (exR u m n).1 ∧ Agr (ldW B n) h h') ∨ ((exR u m n).1 = 0 ∧ v = (frB is 10 : Int) ∧ MB B n h' (frB is 10) (exR u m n).2 ∧ hv h' (B + 193) (frB is 10) = 1 ∧ hv h' (B + 149) 86 = -1 ∧ Agr (fun c k => ldW B n c k ∨ mkW B n (frB is 10) c k) h h'))))) := by
  have hb0 := l.2.2
  refine Vt.inq (D := 29) hd (Nat.le_of_ble_eq_true rfl) rfl (fun d hd P K => ?_)
  refine Ends.eq (b732_0 (n := n) (by (repeat' first | assumption | refine LX.setF _ _ ?_ (by decide +kernel) | refine LX.setS ?_ rfl | refine LX.setA ?_ (by first | assumption | omega))) (by first | assumption | omega)) ?_
  rw [e2]
  obtain ⟨h0, eh0⟩ : ∃ q, q = hset (hset (hset h (B + 149) 3 (m : Int)) (B + 149) 2 0) (B + 149) 4 0 := ⟨_, rfl⟩
  have l0 : LX B n h0 := by rw [eh0]; exact LX.setF 149 4 (LX.setF 149 2 (LX.setF 149 3 l (by decide +kernel)) (by decide +kernel)) (by decide +kernel)
  have g0 : Agr (fun c j => c = B + 149 ∧ (j = 2 ∨ j = 3 ∨ j = 4)) h h0 := by rw [eh0]; exact ((Agr.rf.set ⟨rfl, by decide⟩).set ⟨rfl, by decide⟩).set ⟨rfl, by decide⟩
  have f2 : hv h0 (B + 149) 2 = 0 := by rw [eh0, hv_set_ne (by omega), hv_set_at]
  have f3 : hv h0 (B + 149) 3 = (m : Int) := by rw [eh0, hv_set_ne (by omega), hv_set_ne (by omega), hv_set_at]
  have f4 : hv h0 (B + 149) 4 = ((0 : Nat) : Int) := by rw [eh0]; exact hv_set_at ..
  rw [← eh0]
  clear eh0
  have bi0 : ∀ i, i < 10 → hv h0 (B + 193) i = (if is i = true then 1 else 0) := fun i hi => by rw [g0.at _ _ (by omega)]; exact bi i hi
  have L0 : Agr (ldW B n) h h0 := g0.sub (fun c k w => by unfold ldW mlnW; omega)
  refine Ends.ct l0 (by decide +kernel) (by decide) (c_free650 l0 (by omega) bi0) (fun v q1 l1 _ _ _ ⟨e1, ev_⟩ => ?_)
  subst e1
  rw [ev_]
  refine Ends.eq (b732_23 (n := n) (by (repeat' first | assumption | refine LX.setF _ _ ?_ (by decide +kernel) | refine LX.setS ?_ rfl | refine LX.setA ?_ (by first | assumption | omega))) (by first | assumption | omega)) ?_
  rw [ct3]
  by_cases hf : frB is 10 < 10
  rotate_left
  · rw [if_neg hf, if_pos (by decide)]
    refine Ends.mbad l1 (by omega) (c := 1) (by decide) rfl ?_
    have l2 : LX B n (hset q1 (B + 149) 0 ((1 : Nat) : Int)) := LX.setF 149 0 l1 (by decide +kernel)
    exact Ends.eq (b732_34 (n := n) l2 (by omega)) (Ends.b0 (fun z => absurd z (by decide)) (fun _ => Ends.sm (K _ _ ⟨by rw [hv_set_ne (by omega)]; exact f2, Or.inl ⟨hf, rfl, hv_set_at .., L0.set (Or.inr ⟨rfl, Or.inl rfl⟩)⟩⟩)))
  rw [if_pos hf, if_neg (by omega)]
  refine Ends.mok l1 (by omega) rfl ?_
  have l2 : LX B n (hset q1 (B + 149) 0 0) := LX.setF 149 0 l1 (by decide +kernel)
  have g2 : Agr (fun c j => c = B + 149 ∧ j = 0) q1 (hset q1 (B + 149) 0 0) := Agr.rf.set ⟨rfl, rfl⟩
  have z2 : hv (hset q1 (B + 149) 0 0) (B + 149) 0 = 0 := hv_set_at ..
  refine Ends.eq (b732_34 (n := n) l2 (by omega)) (Ends.b0 (fun _ => ?_) (fun z => absurd rfl z))
  generalize hset q1 (B + 149) 0 0 = h2 at *
  have G2 : Agr (ldW B n) h h2 := L0.tr g2 (fun c k w => Or.inr ⟨w.1, Or.inl w.2⟩)
  have c2 : ∀ (c j : Nat), c ≠ B + 149 → hv h2 c j = hv h c j := fun c j hc => by rw [g2.at _ _ (by omega), g0.at _ _ (by omega)]
  have nx2 : hnx h2 = hnx h := by rw [g2.nx, g0.nx]
  have k2 : ∀ c, hk h2 c = hk h c := fun c => by rw [g2.hk, g0.hk]
  have r2 : RdM B h2 m u 0 := ⟨by rw [g2.at _ _ (by omega)]; exact f3, by rw [g2.at _ _ (by omega)]; exact f4, hm8, Nat.zero_le _, fun k hk => by rw [c2 _ _ (by omega)]; exact bytes k hk⟩
  have T2 : TxR gv B h2 := T.ext G2.ext hb0 (fun c k hc w => by unfold ldW mlnW at w; omega)
  have m2 : TbM B h2 := mt.agr G2 (fun c k a1 a2 a3 w => by unfold ldW mlnW at w; omega)
  have f22 : hv h2 (B + 149) 2 = 0 := by rw [g2.at _ _ (by omega)]; exact f2
  have bi2 : ∀ i, i < 10 → hv h2 (B + 193) i = (if is i = true then 1 else 0) := fun i hi => by rw [c2 _ _ (by omega)]; exact bi i hi
  have at2 : ∀ {q : AH} (j : Nat), Agr (mlnW B n) h2 q → j ≠ 4 → j ≠ 78 → hv q (B + 149) j = hv h2 (B + 149) j := fun j g h1 h3 => g.at _ _ (by unfold mlnW; omega)
  -- how it ends
  have bad : ∀ (q : AH) (r : Int × (Nat → Bool)), Agr (mlnW B n) h2 q → exR u m n = r → r.1 < 0 → P ((0, (0, r.1)), q) := fun q r g e hr => by
    refine K _ _ ⟨by rw [at2 2 g (by decide) (by decide)]; exact f22, Or.inr ⟨hf, by rw [at2 0 g (by decide) (by decide)]; exact z2, Or.inl ⟨by rw [e]; exact hr, by rw [e], G2.tr g (fun c k w => Or.inl w)⟩⟩⟩
  have good : ∀ (q : AH) (r : Int × (Nat → Bool)), Agr (fun c k => mlnW B n c k ∨ mkW B n (frB is 10) c k) h2 q → exR u m n = r → r.1 = 0 → MB B n q (frB is 10) r.2 → hv q (B + 193) (frB is 10) = 1 → hv q (B + 149) 86 = -1 → P ((0, (0, (frB is 10 : Int))), q) := fun q r g e hr mb e1 e3 => by
    have nw : ∀ j, j ≠ 4 → j ≠ 78 → j ≠ 86 → hv q (B + 149) j = hv h2 (B + 149) j := fun j a b c => g.at _ _ (fun w => by
      rcases w with w | w | w | w
      · unfold mlnW at w; omega
      · have := w.1; omega
      · omega
      · omega)
    refine K _ _ ⟨by rw [nw 2 (by decide) (by decide) (by decide)]; exact f22, Or.inr ⟨hf, by rw [nw 0 (by decide) (by decide) (by decide)]; exact z2, Or.inr ⟨by rw [e]; exact hr, rfl, by rw [e]; exact mb, e1, e3, (G2.sub (fun c k w => Or.inl w)).tr g (fun c k w => ?_)⟩⟩⟩
    rcases w with w | w
    · exact Or.inl (Or.inl w)
    · exact Or.inr w
  have txk : ∀ {q : AH}, Agr (mlnW B n) h2 q → TxR gv B q := fun g => T2.ext g.ext (by rw [nx2]; exact hb0) (fun c k hc w => by unfold mlnW at w; omega)
  have at1 : ∀ {q1 q2 : AH}, Agr (atM B) q1 q2 → Agr (mlnW B n) q1 q2 := fun g => g.sub (fun c k w => Or.inl ⟨w.1, Or.inl w.2⟩)
  have b89 : ∀ (q : AH) (x1 : Int), LX B n q → Agr (mlnW B n) h2 q → exR u m n = (-1, fun _ => false) → Ends (ev PP (gsF gv) B d 732 89 [(2, rf (B + 149)), (0, x1)] [] q) P := fun q x1 l' g e => by
    refine Ends.eq (b732_89 (n := n) (by (repeat' first | assumption | refine LX.setF _ _ ?_ (by decide +kernel) | refine LX.setS ?_ rfl | refine LX.setA ?_ (by first | assumption | omega))) (by first | assumption | omega)) ?_
    exact Ends.sm (bad q (-1, fun _ => false) g e (by decide))
  -- the rows are cleared
  have go : ∀ (q : AH), LX B n q → Agr (mlnW B n) h2 q → RdM B q m u 0 → MlS B n q noS → Ends (aft PP 732 68 71 [(2, rf (B + 149)), (0, (0 : Int))] [] (ev PP (gsF gv) B d 732) (cll PP (ev PP (gsF gv) B) d 843 [(2, rf (B + 149)), (2, (gv 13))] q)) P := fun q lq gq rq xq => by
    refine Ends.ct lq (by decide +kernel) (by decide) (c_word843 lq (by omega) (txk gq).2.2.2.2.1 rq) (fun v q3 l3 _ _ _ ⟨g3, w⟩ => ?_)
    have G3 := gq.tr (at1 g3) (fun c k w => w)
    have x3 : MlS B n q3 noS := xq.agr g3 (fun k w => by unfold atM at w; omega) (fun i k w => by unfold atM at w; omega)
    refine Ends.eq (b732_71 (n := n) (by (repeat' first | assumption | refine LX.setF _ _ ?_ (by decide +kernel) | refine LX.setS ?_ rfl | refine LX.setA ?_ (by first | assumption | omega))) (by first | assumption | omega)) ?_
    rcases w with ⟨w1, w2, w3⟩ | ⟨w1, w2, w3⟩
    · rw [w2]
      have w3 : RdM B q3 m u 7 := w3
      have eR : exR u m n = (if nmOK u m 7 = true then (match enS u m (nmZ u m 7) with
        | none => ((-1, fun _ => false) : Int × (Nat → Bool))
        | some q => exF u m n (m + 1) q 1 noS) else (-1, fun _ => false)) := by
        unfold exR
        rw [if_pos w1]
        cases enS u m (nmZ u m 7) <;> rfl
      refine Ends.b0 (fun z => absurd z (by decide)) (fun _ => ?_)
      refine Ends.ct l3 (by decide +kernel) (by decide) (c_one844 (k := 0) l3 (by omega) w3 (by decide)) (fun v q4 l4 _ _ _ ⟨ev4, g4, r4, _⟩ => ?_)
      have G4 : Agr (mlnW B n) h2 q4 := G3.tr g4 (fun c k w => by rcases w with w | w; exact Or.inl ⟨w.1, Or.inl w.2⟩; exact Or.inr (Or.inl w.1))
      have x4 : MlS B n q4 noS := x3.agr g4 (fun k w => by omega) (fun i k w => by omega)
      rw [ev4]
      refine Ends.eq (b732_79 (n := n) (by (repeat' first | assumption | refine LX.setF _ _ ?_ (by decide +kernel) | refine LX.setS ?_ rfl | refine LX.setA ?_ (by first | assumption | omega))) (by first | assumption | omega)) ?_
      by_cases ok : nmOK u m 7 = true
      · rw [if_pos ok] at eR ⊢
        refine Ends.b0 (fun z => absurd z (by decide)) (fun _ => ?_)
        refine Ends.ct l4 (by decide +kernel) (by decide) (c_end609 l4 (by omega) (txk G4).2.2.2.1 r4) (fun v q5 l5 _ _ _ ⟨g5, w⟩ => ?_)
        have G5 := G4.tr (at1 g5) (fun c k w => w)
        have x5 : MlS B n q5 noS := x4.agr g5 (fun k w => by unfold atM at w; omega) (fun i k w => by unfold atM at w; omega)
        refine Ends.eq (b732_86 (n := n) (by (repeat' first | assumption | refine LX.setF _ _ ?_ (by decide +kernel) | refine LX.setS ?_ rfl | refine LX.setA ?_ (by first | assumption | omega))) (by first | assumption | omega)) ?_
        rcases w with ⟨e, en, ev5, r5⟩ | ⟨en, ev5⟩
        · rw [ev5]
          rw [en] at eR
          have gt := enS_gt en
          have ge := nmZ_ge (u := u) (m := m) (p := 7)
          refine Ends.b1 (fun _ => ?_) (fun z => absurd z (by decide))
          exact load_lines (by omega) hn4 hn m2 T2 (by rw [nx2]; exact hb0) hu bi2 hf (r := exF u m n (m + 1) e 1 noS) (fun q' g' hr => bad q' _ g' eR hr) (fun q' g' hr mb e1 e3 => good q' _ g' eR hr mb e1 e3) (m + 1) e 1 q5 noS (by omega) (by omega) l5 G5 r5 x5 rfl
        · rw [ev5]
          rw [en] at eR
          exact Ends.b1 (fun z => absurd rfl z) (fun _ => b89 q5 _ l5 G5 eR)
      · rw [if_neg ok] at eR ⊢
        exact Ends.b0 (fun _ => b89 q4 _ l4 G4 eR) (fun z => absurd rfl z)
    · rw [w2, w3]
      have eR : exR u m n = exF u m n (m + 1) 0 0 noS := by
        unfold exR
        rw [if_neg (by rw [w1]; decide)]
      refine Ends.b0 (fun _ => ?_) (fun z => absurd rfl z)
      exact load_lines (by omega) hn4 hn m2 T2 (by rw [nx2]; exact hb0) hu bi2 hf (r := exF u m n (m + 1) 0 0 noS) (fun q' g' hr => bad q' _ g' eR hr) (fun q' g' hr mb e1 e3 => good q' _ g' eR hr mb e1 e3) (m + 1) 0 0 q noS (by omega) (Nat.le_refl _) lq gq rq xq rfl
  have clr : ∀ (c k : Nat) (q : AH), k + c = 4 → LX B n q → Agr (mlnW B n) h2 q → RdM B q m u 0 → (∀ j, j < k → MB B n q (ld j) (noS j)) → Ends (ev PP (gsF gv) B d 732 41 [(2, rf (B + 149)), (0, (k : Int))] [] q) P := by
    intro c
    induction c with
    | zero =>
      intro k q hk lq gq rq lo
      obtain rfl : k = 4 := by omega
      refine Ends.eq (b732_41 (n := n) (by (repeat' first | assumption | refine LX.setF _ _ ?_ (by decide +kernel) | refine LX.setS ?_ rfl | refine LX.setA ?_ (by first | assumption | omega))) (by first | assumption | omega)) ?_
      exact Ends.b3 (fun _ => go q lq gq rq (fun j hj => ⟨by rw [gq.at _ _ (by unfold mlnW; omega), c2 _ _ (by omega)]; exact x j hj, lo j hj⟩)) (fun z => absurd z (by decide))
    | succ c ih =>
      intro k q hk lq gq rq lo
      have hk4 : k < 4 := by omega
      have rk := ldr hk4
      refine Ends.eq (b732_41 (n := n) (by (repeat' first | assumption | refine LX.setF _ _ ?_ (by decide +kernel) | refine LX.setS ?_ rfl | refine LX.setA ?_ (by first | assumption | omega))) (by first | assumption | omega)) ?_
      rw [tn, gq.at _ _ (show ¬ mlnW B n (B + 233) k by unfold mlnW; omega), c2 _ _ (by omega), x k hk4]
      refine Ends.b3 (fun z => by omega) (fun _ => Ends.g ⟨by omega, by omega⟩ ?_)
      refine Ends.cv lq (by decide +kernel) (c_empty (s := ld k) lq (by omega) hn rk.2.1) (fun q3 l3 _ _ _ ⟨g3, m3⟩ => ?_)
      refine Ends.eq (b732_56 (n := n) (by (repeat' first | assumption | refine LX.setF _ _ ?_ (by decide +kernel) | refine LX.setS ?_ rfl | refine LX.setA ?_ (by first | assumption | omega))) (by first | assumption | omega)) ?_
      rw [w_succ (by omega)]
      refine ih (k + 1) q3 (by omega) l3 (gq.tr g3 (fun c k w => wto_ml rk.1 w)) (rq.agr g3 (fun w => by have := w.1; omega) (fun w => by have := w.1; omega) (fun k w => by have := w.1; omega)) (fun j hj => ?_)
      by_cases e : j = k
      · rw [e]; exact m3
      · exact (lo j (by omega)).row g3 (fun z => e (by have := ld_inj ⟨j, by omega⟩ ⟨k, hk4⟩ z; exact congrArg Fin.val this))
  exact clr 4 0 h2 rfl l2 Agr.rf r2 (fun j hj => absurd hj (by omega))
end MLOAD
section DLOAD
variable {gv : Nat → Int} {B n d m st : Nat} {h : AH} {u : Nat → Int} {is : Nat → Bool} {cl : Nat → Nat} {S : Nat → Nat → Bool}
theorem exF_le : ∀ (f p line : Nat) (S : Nat → Nat → Bool), (exF u m n f p line S).1 ≤ 0
  | 0, p, line, S => by
    show -1 - (line : Int) ≤ 0
    omega
  | f + 1, p, line, S => by
    unfold exF
    split
    · split
      · show -1 - (line : Int) ≤ 0
        omega
      · split
        · show -2 - (line : Int) ≤ 0
          omega
        · exact Int.le_refl 0
    · split
      · show -1 - (line : Int) ≤ 0
        omega
      · split
        · show -1 - (line : Int) ≤ 0
          omega
        · exact exF_le f _ _ _
theorem exR_le : (exR u m n).1 ≤ 0 := by
  unfold exR
  split
  · split
    · split
      · decide
      · exact exF_le _ _ _ _
    · decide
  · exact exF_le _ _ _ _
theorem c_load56 (l : LX B n h) (hd : 34 ≤ d) (hn4 : 4 ≤ n) (hn : n ≤ 52) (mt : TbC B h) (T : TxR gv B h) (b : BdC B n h is cl S) (R : Reg B n h) (hm8 : m ≤ 8192) (et : hv h (B + 0) 15 = (m : Int)) (bytes : ∀ k, k < m → hv h (B + 26) k % 256 = u k) (hst : hv h (B + 0) 19 = (st : Int)) (hs2 : st < 1000000) :
    Opx 0 (cll PP (ev PP (gsF gv) B) d 56 [(2, rf (B + 0))] h) (fun x h' => frB is 10 < 10 ∧ ∃ h1, ScE B n (w147 B h) 5 (5 * (24 * n * n)) (hset h (B + 0) 15 0) h1 ∧ (((exR u m n).1 < 0 ∧ x = (exR u m n).1 ∧ h' = h1) ∨ ((exR u m n).1 = 0 ∧ x = (frB is 10 : Int) ∧ ∃ c, KpR B n (frB is 10) st (exR u m n).2 h1 h' c))) (fun c q => c = 28 ∧ ¬ frB is 10 < 10 ∧ q = hset h (B + 0) 15 0) := by
  have hb0 := l.2.2
  refine Opx.inq (D := 33) hd (Nat.le_of_ble_eq_true rfl) rfl (fun d hd Q K KE => ?_)
  refine Ends.eq (b56_0 (n := n) (by (repeat' first | assumption | refine LX.setF _ _ ?_ (by decide +kernel) | refine LX.setS ?_ rfl | refine LX.setA ?_ (by first | assumption | omega))) (by first | assumption | omega)) ?_
  refine Ends.ct l (by decide +kernel) (by decide) (c_read76 l (by omega)) (fun x q0 l0 _ _ _ ⟨ex, e0⟩ => ?_)
  rw [et] at ex
  rw [ex]
  have g0 : Agr (fun c j => c = B + 0 ∧ j = 15) h q0 := by rw [e0]; exact Agr.rf.set ⟨rfl, rfl⟩
  rw [← e0] at K KE
  clear e0
  have nx0 : hnx q0 = hnx h := g0.nx
  obtain ⟨R0, _⟩ := R.ext hb0 g0.ext (fun i hi w => by have := rgi hi; omega)
  have m0 : TbC B q0 := mt.ext hb0 g0.ext (fun c k h1 h2 w => by omega)
  have T0 : TxR gv B q0 := T.ext g0.ext hb0 (fun c k hc w => by omega)
  have is0 : ∀ i, i < 10 → hv q0 (B + 28) i = (if is i = true then 1 else 0) := fun i hi => by rw [g0.at _ _ (by omega)]; exact (b.1 i hi).1
  have by0 : ∀ k, k < m → hv q0 (B + 26) k % 256 = u k := fun k hk => by rw [g0.at _ _ (by omega)]; exact bytes k hk
  have st0 : hv q0 (B + 0) 19 = (st : Int) := by rw [g0.at _ _ (by omega)]; exact hst
  have w0 : ∀ c j, w147 B q0 c j ↔ w147 B h c j := fun c j => by
    have sc : Scr B q0 c ↔ Scr B h c := by
      unfold Scr
      constructor
      · rintro ⟨k, hk, e⟩; exact ⟨k, hk, by rw [g0.at _ _ (by omega)] at e; exact e⟩
      · rintro ⟨k, hk, e⟩; exact ⟨k, hk, by rw [g0.at _ _ (by omega)]; exact e⟩
    unfold w147
    rw [sc]
  refine Ends.eq (b56_4 (n := n) (by (repeat' first | assumption | refine LX.setF _ _ ?_ (by decide +kernel) | refine LX.setS ?_ rfl | refine LX.setA ?_ (by first | assumption | omega))) (by first | assumption | omega)) ?_
  refine Ends.ct l0 (by decide +kernel) (by decide) (c_free36 l0 (by omega) is0) (fun x q1 l1 _ _ _ ⟨e1, ex⟩ => ?_)
  subst e1
  rw [ex]
  refine Ends.eq (b56_9 (n := n) (by (repeat' first | assumption | refine LX.setF _ _ ?_ (by decide +kernel) | refine LX.setS ?_ rfl | refine LX.setA ?_ (by first | assumption | omega))) (by first | assumption | omega)) ?_
  refine Ends.state l1 (by omega) (kp_c (x := 0)) (fun hs => ?_) (fun hs => Ends.thn rfl (KE _ _ ⟨rfl, of_decide_eq_false hs, rfl⟩))
  have hf := of_decide_eq_true hs
  rw [if_pos hf]
  refine Ends.eq (b56_22 (n := n) (by (repeat' first | assumption | refine LX.setF _ _ ?_ (by decide +kernel) | refine LX.setS ?_ rfl | refine LX.setA ?_ (by first | assumption | omega))) (by first | assumption | omega)) ?_
  refine Ends.ct l1 (by decide +kernel) (by decide) (c_read147 l1 (by omega) hn4 hn m0 T0 R0 hm8 by0) (fun v q2 l2 _ _ _ ⟨ev_, E2, made⟩ => ?_)
  have le := exR_le (u := u) (m := m) (n := n)
  have E2' : ScE B n (w147 B h) 5 (5 * (24 * n * n)) q1 q2 := ⟨E2.1.sub (fun c j _ w => (w0 c j).1 w) (Nat.le_refl _) (Nat.le_refl _), E2.2⟩
  refine Ends.eq (b56_34 (n := n) (by (repeat' first | assumption | refine LX.setF _ _ ?_ (by decide +kernel) | refine LX.setS ?_ rfl | refine LX.setA ?_ (by first | assumption | omega))) (by first | assumption | omega)) ?_
  rw [ev_]
  refine Ends.b3 (fun z => ?_) (fun z => ?_)
  · have z0 : (exR u m n).1 = 0 := by omega
    obtain ⟨c, c1, c2, c3, c4⟩ := made (by rw [ev_]; exact z0)
    rw [show v143 B q2 = rf c from c1]
    have st2 : hv q2 (B + 0) 19 = (st : Int) := by
      rw [E2.1.at _ (by omega) (fun w => by
        unfold w147 at w
        rcases w with w | w | w | w | w | w | w | w
        · omega
        · omega
        · omega
        · omega
        · omega
        · omega
        · omega
        · have := sol_246 R0 w; omega)]
      exact st0
    refine Ends.ct l2 (by decide +kernel) (by decide) (c_keep52 l2 (by omega) hn hf (E2.2.1.body hf) c4 c3 (Or.inr c2) st2 hs2) (fun y q3 l3 _ _ _ ⟨ey, kp⟩ => ?_)
    rw [ey]
    refine Ends.eq (b56_55 (n := n) (by (repeat' first | assumption | refine LX.setF _ _ ?_ (by decide +kernel) | refine LX.setS ?_ rfl | refine LX.setA ?_ (by first | assumption | omega))) (by first | assumption | omega)) ?_
    exact Ends.sm (K _ _ ⟨hf, q2, E2', Or.inr ⟨z0, rfl, kp⟩⟩)
  · refine Ends.eq (b56_55 (n := n) (by (repeat' first | assumption | refine LX.setF _ _ ?_ (by decide +kernel) | refine LX.setS ?_ rfl | refine LX.setA ?_ (by first | assumption | omega))) (by first | assumption | omega)) ?_
    exact Ends.sm (K _ _ ⟨hf, q2, E2', Or.inl ⟨z, rfl, rfl⟩⟩)
end DLOAD
