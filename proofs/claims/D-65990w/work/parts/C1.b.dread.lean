/-! L3: words and numbers are read: the desk -/
section READC
variable {gv : Nat → Int} {B n d m p : Nat} {h : AH} {u : Nat → Int} {s : List Int} {x : Int}
/-- the desk reads: m signs u, at p -/
def RdC (B : Nat) (h : AH) (m : Nat) (u : Nat → Int) (p : Nat) : Prop := hv h (B + 143) 12 = rf (B + 26) ∧ hv h (B + 143) 13 = (m : Int) ∧ hv h (B + 143) 14 = (p : Int) ∧ m ≤ 8192 ∧ p ≤ m ∧ hk h (B + 26) = (4, 8192) ∧ ∀ k, k < m → hv h (B + 26) k % 256 = u k
theorem RdC.m8 (r : RdC B h m u p) : m ≤ 8192 := r.2.2.2.1
theorem RdC.pm (r : RdC B h m u p) : p ≤ m := r.2.2.2.2.1
theorem RdC.at_ (r : RdC B h m u p) : hv h (B + 143) 14 = (p : Int) := r.2.2.1
theorem RdC.agr {W : Nat → Nat → Prop} {t : AH} (r : RdC B h m u p) (g : Agr W h t) (h1 : ∀ k, 12 ≤ k → k ≤ 14 → ¬ W (B + 143) k) (h2 : ∀ k, ¬ W (B + 26) k) : RdC B t m u p := by
  obtain ⟨a1, a2, a3, a4, a5, a6, a7⟩ := r
  exact ⟨by rw [g.at _ _ (h1 _ (by omega) (by omega))]; exact a1, by rw [g.at _ _ (h1 _ (by omega) (by omega))]; exact a2, by rw [g.at _ _ (h1 _ (by omega) (by omega))]; exact a3, a4, a5, by rw [g.hk]; exact a6, fun k hk => by rw [g.at _ _ (h2 k)]; exact a7 k hk⟩
theorem RdC.to {q : Nat} (r : RdC B h m u p) (hq : q ≤ m) : RdC B (hset h (B + 143) 14 (q : Int)) m u q := by
  obtain ⟨a1, a2, a3, a4, a5, a6, a7⟩ := r
  exact ⟨by rw [hv_set_ne (by omega)]; exact a1, by rw [hv_set_ne (by omega)]; exact a2, hv_set_at .., a4, hq, a6, fun k hk => by rw [hv_na (by omega)]; exact a7 k hk⟩
theorem RdC.byte {i : Nat} (r : RdC B h m u p) (hi : i ≤ 20000) : q136 B h (i : Int) ∧ v136 B h (i : Int) = ubS u m i := by
  obtain ⟨a1, a2, a3, a4, a5, a6, a7⟩ := r
  unfold q136 v136 ubS
  rw [a1, a2, ad_rf, a6, ct3, ct3, tn]
  by_cases w : i < m
  · rw [if_pos (by omega), if_pos (by omega), if_pos w, and255, a7 i w]
    exact ⟨⟨rf_pos _, rfl, by omega, by show (i : Int) < ((8192 : Nat) : Int); omega⟩, rfl⟩
  · rw [if_neg (by omega), if_neg (by omega), if_neg w]
    exact ⟨trivial, rfl⟩
def rwC (B : Nat) : Nat → Nat → Prop := fun c k => (c = B + 143 ∧ k = 14) ∨ c = B + 147
def atC (B : Nat) : Nat → Nat → Prop := fun c k => c = B + 143 ∧ k = 14
/-- a word -/
theorem c_word156 (l : LX B n h) (hd : 16 ≤ d) (T : TxS gv B h x s) (r : RdC B h m u p) :
    Vt 0 (cll PP (ev PP (gsF gv) B) d 156 [(2, rf (B + 143)), (2, x)] h) (fun v h' => Agr (atC B) h h' ∧ ((wdS u m p s = true ∧ v = 1 ∧ RdC B h' m u (p + s.length)) ∨ (wdS u m p s = false ∧ v = 0 ∧ h' = h))) := by
  have hb0 := l.2.2
  have hm := r.m8
  have hp := r.pm
  refine Vt.inq (D := 15) hd (Nat.le_of_ble_eq_true rfl) rfl (fun d hd P K => ?_)
  have sl := T.1.2.2.2.2.2.2.2
  have key : ∀ (c i : Nat), i + c = s.length → wdS u m p s = wdS u m (p + i) (s.drop i) → Ends (ev PP (gsF gv) B d 156 2 [(2, rf (B + 143)), (2, x), (0, (i : Int))] [] h) P := by
    intro c
    induction c with
    | zero =>
      intro i hi e
      have hi' : i = s.length := by omega
      rw [hi', List.drop_length] at e
      have e1 : wdS u m p s = true := e
      have le := wdS_le (s := s) hp (fun i c hc => (T.1.2.2.2.2.1 i c hc).2.1) e1
      refine Ends.eq (b156_2 (n := n) (by (repeat' first | assumption | refine LX.setF _ _ ?_ (by decide +kernel) | refine LX.setS ?_ rfl | refine LX.setA ?_ (by first | assumption | omega))) (by first | assumption | omega)) ?_
      rw [T.1.v901, r.at_, show bop32 96 (p : Int) (s.length : Int) = ((p + s.length : Nat) : Int) from addNN (by omega)]
      refine Ends.g ⟨⟨T.1.1, T.1.2.1⟩, T.1.q901⟩ (Ends.b3 (fun _ => Ends.sm (K _ _ ⟨Agr.rf.set ⟨rfl, rfl⟩, Or.inl ⟨e1, rfl, r.to le⟩⟩)) (fun z => by omega))
    | succ c ih =>
      intro i hi e
      obtain ⟨ch, hc⟩ : ∃ ch, s[i]? = some ch := ⟨s[i], List.getElem?_eq_getElem (by omega)⟩
      have dr : s.drop i = ch :: s.drop (i + 1) := by
        have e1 := List.getElem?_eq_some_iff.mp hc
        obtain ⟨hl, e2⟩ := e1
        rw [List.drop_eq_getElem_cons hl, e2]
      rw [dr] at e
      have e' : wdS u m p s = (decide (ubS u m (p + i) = ch) && wdS u m (p + (i + 1)) (s.drop (i + 1))) := e
      obtain ⟨b1, b2⟩ := r.byte (i := p + i) (by omega)
      refine Ends.eq (b156_2 (n := n) (by (repeat' first | assumption | refine LX.setF _ _ ?_ (by decide +kernel) | refine LX.setS ?_ rfl | refine LX.setA ?_ (by first | assumption | omega))) (by first | assumption | omega)) ?_
      rw [T.1.v901, r.at_, show bop32 96 (p : Int) (i : Int) = ((p + i : Nat) : Int) from addNN (by omega), b2]
      refine Ends.g ⟨⟨T.1.1, T.1.2.1⟩, T.1.q901⟩ (Ends.b3 (fun z => by omega) (fun _ => Ends.g b1 (Ends.g ⟨T.1.1, T.1.2.1⟩ ?_)))
      refine Ends.ct l (by decide +kernel) (by decide) (c_charAt l (by omega) T.1 hc) (fun v q1 l1 _ _ _ ⟨ev_, e1⟩ => ?_)
      subst e1
      rw [ev_]
      refine Ends.eq (b156_25 (n := n) (by (repeat' first | assumption | refine LX.setF _ _ ?_ (by decide +kernel) | refine LX.setS ?_ rfl | refine LX.setA ?_ (by first | assumption | omega))) (by first | assumption | omega)) ?_
      by_cases eq : ubS u m (p + i) = ch
      · refine Ends.b0 (fun _ => ?_) (fun z => absurd eq z)
        rw [w_succ (by omega)]
        refine ih (i + 1) (by omega) ?_
        rw [e', decide_eq_true eq, Bool.true_and]
      · refine Ends.b0 (fun z => absurd z eq) (fun _ => Ends.sm (K _ _ ⟨Agr.rf, Or.inr ⟨?_, rfl, rfl⟩⟩))
        rw [e', decide_eq_false eq, Bool.false_and]
  refine Ends.eq (b156_0 (n := n) (by (repeat' first | assumption | refine LX.setF _ _ ?_ (by decide +kernel) | refine LX.setS ?_ rfl | refine LX.setA ?_ (by first | assumption | omega))) (by first | assumption | omega)) ?_
  exact key s.length 0 (by omega) rfl
/-- a number -/
theorem c_one146 {k : Nat} (l : LX B n h) (hd : 12 ≤ d) (r : RdC B h m u p) (hk6 : k < 6) :
    Vt 0 (cll PP (ev PP (gsF gv) B) d 146 [(2, rf (B + 143)), (0, (k : Int))] h) (fun v h' => v = (if nmOK u m p = true then 1 else 0) ∧ Agr (fun c j => (c = B + 143 ∧ j = 14) ∨ (c = B + 147 ∧ j = k)) h h' ∧ RdC B h' m u (nmZ u m p) ∧ hv h' (B + 147) k = nmV u m p) := by
  have hb0 := l.2.2
  have hm := r.m8
  have hp := r.pm
  have k5 := ndF_le (u := u) (m := m) 5 (nmD u m p)
  have eE : nmZ u m p = nmD u m p + nmK u m p := rfl
  have eK : nmK u m p = ndF u m 5 (nmD u m p) := rfl
  have dle := nmD_le (u := u) hp
  have ele := nmZ_le (u := u) hp
  refine Vt.inq (D := 11) hd (Nat.le_of_ble_eq_true rfl) rfl (fun d hd P K => ?_)
  -- behind the digits
  have fin : ∀ (q : AH), LX B n q → Agr (fun c j => (c = B + 143 ∧ j = 14) ∨ (c = B + 147 ∧ j = k)) h q → RdC B q m u (nmZ u m p) → Ends (ev PP (gsF gv) B d 146 97 [(2, rf (B + 143)), (0, (k : Int)), (0, if ubS u m p = 45 then 1 else 0), (0, ((nmD u m p : Nat) : Int)), (0, vlS u m (nmD u m p) (nmK u m p))] [] q) P := fun q lq gq rq => by
    obtain ⟨a, b⟩ := vlS_b (u := u) (m := m) (p := nmD u m p) (nmK u m p) (fun i hi => nd_at 5 _ i hi) k5
    have vb : (10 : Int) ^ nmK u m p ≤ 100000 := p10_5 k5
    refine Ends.eq (b146_97 (n := n) (by (repeat' first | assumption | refine LX.setF _ _ ?_ (by decide +kernel) | refine LX.setS ?_ rfl | refine LX.setA ?_ (by first | assumption | omega))) (by first | assumption | omega)) ?_
    rw [rq.at_, tn, show bop32 100 ((nmZ u m p : Nat) : Int) ((nmD u m p : Nat) : Int) = ((nmK u m p : Nat) : Int) from by rw [subNN (by omega) (by omega)]; omega]
    have cv : (cond (tst 5 ((nmZ u m p : Nat) : Int) ((nmD u m p : Nat) : Int)) (0 : Int) (cond (tst 3 ((nmK u m p : Nat) : Int) 5) 0 1)) = if nmOK u m p = true then 1 else 0 := by
      rw [ct5, ct3]
      unfold nmOK
      by_cases w : 0 < nmK u m p
      · rw [if_pos (by omega)]
        by_cases w2 : nmK u m p < 5
        · rw [if_pos (by omega), decide_eq_true ⟨w, w2⟩, if_pos rfl]
        · rw [if_neg (by omega), decide_eq_false (by omega), if_neg Bool.false_ne_true]
      · rw [if_neg (by omega), decide_eq_false (by omega), if_neg Bool.false_ne_true]
    have nv : anar 0 (cond (tst 0 (if ubS u m p = 45 then (1 : Int) else 0) 0) (vlS u m (nmD u m p) (nmK u m p)) (uop 0 (vlS u m (nmD u m p) (nmK u m p)))) = nmV u m p := by
      rw [an0, ct0]
      unfold nmV
      by_cases w : ubS u m p = 45
      · rw [if_pos w, if_neg (by decide), if_pos w, neg32 (by omega) (by omega)]
      · rw [if_neg w, if_pos rfl, if_neg w]
    rw [cv, nv]
    refine Ends.g ⟨by omega, by omega⟩ (Ends.sm (K _ _ ⟨rfl, gq.set (Or.inr ⟨rfl, rfl⟩), ?_, hv_set_at ..⟩))
    exact rq.agr (Agr.rf.set (W := fun c j => c = B + 147 ∧ j = k) ⟨rfl, rfl⟩) (fun k _ _ w => by omega) (fun k w => by omega)
  have key : ∀ (c j : Nat) (q : AH), j + c = nmK u m p → LX B n q → Agr (fun c j => (c = B + 143 ∧ j = 14) ∨ (c = B + 147 ∧ j = k)) h q → RdC B q m u (nmD u m p + j) → Ends (ev PP (gsF gv) B d 146 41 [(2, rf (B + 143)), (0, (k : Int)), (0, if ubS u m p = 45 then 1 else 0), (0, ((nmD u m p : Nat) : Int)), (0, vlS u m (nmD u m p) j)] [] q) P := by
    intro c
    induction c with
    | zero =>
      intro j q hj lq gq rq
      have hj' : j = nmK u m p := by omega
      subst hj'
      have rqm := rq.pm
      obtain ⟨b1, b2⟩ := rq.byte (i := nmD u m p + nmK u m p) (by omega)
      refine Ends.eq (b146_41 (n := n) (by (repeat' first | assumption | refine LX.setF _ _ ?_ (by decide +kernel) | refine LX.setS ?_ rfl | refine LX.setA ?_ (by first | assumption | omega))) (by first | assumption | omega)) ?_
      rw [rq.at_, b2, v369_is, show bop32 100 ((nmD u m p + nmK u m p : Nat) : Int) ((nmD u m p : Nat) : Int) = ((nmK u m p : Nat) : Int) from by rw [subNN (by omega) (by omega)]; omega]
      refine Ends.g b1 ?_
      rcases nd_stop (u := u) (m := m) 5 (nmD u m p) with w | w
      · have w' : nmK u m p = 5 := w
        cases isD (ubS u m (nmD u m p + nmK u m p))
        · exact Ends.b0 (fun _ => fin q lq gq rq) (fun z => absurd rfl z)
        · exact Ends.b0 (fun z => absurd z (by decide)) (fun _ => Ends.b3 (fun _ => fin q lq gq rq) (fun z => by omega))
      · have w' : isD (ubS u m (nmD u m p + nmK u m p)) = false := w
        rw [w']
        exact Ends.b0 (fun _ => fin q lq gq rq) (fun z => absurd rfl z)
    | succ c ih =>
      intro j q hj lq gq rq
      have rqm := rq.pm
      have dj : isD (ubS u m (nmD u m p + j)) = true := nd_at 5 _ j (by omega)
      have dc := dg_c dj
      have jm : nmD u m p + j < m := ub_in (u := u) rfl (by omega)
      obtain ⟨b1, b2⟩ := rq.byte (i := nmD u m p + j) (by omega)
      obtain ⟨a, b⟩ := vlS_b (u := u) (m := m) (p := nmD u m p) j (fun i hi => nd_at 5 _ i (by omega)) (by omega)
      have vb : (10 : Int) ^ j ≤ 100000 := p10_5 (by omega)
      refine Ends.eq (b146_41 (n := n) (by (repeat' first | assumption | refine LX.setF _ _ ?_ (by decide +kernel) | refine LX.setS ?_ rfl | refine LX.setA ?_ (by first | assumption | omega))) (by first | assumption | omega)) ?_
      rw [rq.at_, b2, v369_is, dj, show bop32 100 ((nmD u m p + j : Nat) : Int) ((nmD u m p : Nat) : Int) = (j : Int) from by rw [subNN (by omega) (by omega)]; omega, show bop32 96 ((nmD u m p + j : Nat) : Int) 1 = ((nmD u m p + (j + 1) : Nat) : Int) from addNN (y := 1) (by omega)]
      refine Ends.g b1 (Ends.b0 (fun z => absurd z (by decide)) (fun _ => Ends.b3 (fun z => by omega) (fun _ => ?_)))

      have ev_ : bop32 100 (bop32 96 (bop32 104 10 (vlS u m (nmD u m p) j)) (ubS u m (nmD u m p + j))) 48 = vlS u m (nmD u m p) (j + 1) := by
        rw [mul32 (by omega) (by omega), add32 (by omega) (by omega), sub32 (by omega) (by omega)]; rfl
      rw [ev_]
      exact ih (j + 1) _ (by omega) (LX.setF 143 14 lq (by decide +kernel)) (gq.set (Or.inl ⟨rfl, rfl⟩)) (rq.to (by omega))
  obtain ⟨b1, b2⟩ := r.byte (i := p) (by omega)
  refine Ends.eq (b146_0 (n := n) (by (repeat' first | assumption | refine LX.setF _ _ ?_ (by decide +kernel) | refine LX.setS ?_ rfl | refine LX.setA ?_ (by first | assumption | omega))) (by first | assumption | omega)) ?_
  have cm : (cond (tst 1 (ubS u m p) 45) (0 : Int) 1) = if ubS u m p = 45 then 1 else 0 := ct1
  rw [r.at_, b2, cm]
  refine Ends.g b1 ?_
  by_cases e : ubS u m p = 45
  · have pm := ub_in e (by decide)
    have eD : nmD u m p = p + 1 := by unfold nmD; rw [if_pos e]
    refine Ends.b0 (fun z => by rw [if_pos e] at z; exact absurd z (by decide)) (fun _ => ?_)
    rw [show bop32 96 (p : Int) 1 = ((p + 1 : Nat) : Int) from addNN (y := 1) (by omega)]
    have l1 : LX B n (hset h (B + 143) 14 ((p + 1 : Nat) : Int)) := LX.setF 143 14 l (by decide +kernel)
    refine Ends.eq (b146_33 (n := n) l1 (by omega)) ?_
    have r1 := r.to (q := p + 1) pm
    rw [r1.at_, ← eD]
    rw [← eD] at r1 l1
    exact key (nmK u m p) 0 _ (by omega) l1 (Agr.rf.set (Or.inl ⟨rfl, rfl⟩)) r1
  · have eD : nmD u m p = p := by unfold nmD; rw [if_neg e]
    refine Ends.b0 (fun _ => ?_) (fun z => by rw [if_neg e] at z; exact absurd rfl z)
    refine Ends.eq (b146_33 (n := n) l (by omega)) ?_
    rw [r.at_]
    have r1 := r
    rw [← eD] at r1
    have kk := key (nmK u m p) 0 h (by omega) l Agr.rf r1
    rw [eD] at kk
    exact kk
/-- numbers -/
theorem c_nums145 {many : Nat} (l : LX B n h) (hd : 18 ≤ d) (T15 : TxS gv B h (gv 15) [41]) (T16 : TxS gv B h (gv 16) [44]) (r : RdC B h m u p) (hm6 : many ≤ 6) :
    Vt 0 (cll PP (ev PP (gsF gv) B) d 145 [(2, rf (B + 143)), (0, (many : Int))] h) (fun v h' => Agr (rwC B) h h' ∧ ((∃ q, nuS u m p many = some q ∧ v = 1 ∧ RdC B h' m u q ∧ ∀ k, k < many → hv h' (B + 147) k = nsV u m p k) ∨ (nuS u m p many = none ∧ v = 0))) := by
  have hb0 := l.2.2
  refine Vt.inq (D := 17) hd (Nat.le_of_ble_eq_true rfl) rfl (fun d hd P K => ?_)
  have sub1 : ∀ {q1 q2 : AH}, Agr (atC B) q1 q2 → Agr (rwC B) q1 q2 := fun g => g.sub (fun c k w => Or.inl w)
  have keepT : ∀ {y : Int} {w : List Int} {q : AH}, TxS gv B h y w → Agr (rwC B) h q → TxS gv B q y w := fun t g => t.ext g.ext hb0 (fun c k hc w => by unfold rwC at w; omega)
  have key : ∀ (c k q0 : Nat) (q : AH), k + c = many → LX B n q → Agr (rwC B) h q → nsP u m p k = some q0 → RdC B q m u q0 → (∀ j, j < k → hv q (B + 147) j = nsV u m p j) → Ends (ev PP (gsF gv) B d 145 2 [(2, rf (B + 143)), (0, (many : Int)), (0, (k : Int))] [] q) P := by
    intro c
    induction c with
    | zero =>
      intro k q0 q hk lq gq en rq lo
      have hk' : k = many := by omega
      subst hk'
      refine Ends.eq (b145_2 (n := n) (by (repeat' first | assumption | refine LX.setF _ _ ?_ (by decide +kernel) | refine LX.setS ?_ rfl | refine LX.setA ?_ (by first | assumption | omega))) (by first | assumption | omega)) ?_
      refine Ends.b3 (fun _ => ?_) (fun z => by omega)
      refine Ends.ct lq (by decide +kernel) (by decide) (c_word156 lq (by omega) (keepT T15 gq) rq) (fun v q1 l1 _ _ _ ⟨g1, w⟩ => ?_)
      refine Ends.eq (b145_42 (n := n) (by (repeat' first | assumption | refine LX.setF _ _ ?_ (by decide +kernel) | refine LX.setS ?_ rfl | refine LX.setA ?_ (by first | assumption | omega))) (by first | assumption | omega)) ?_
      rcases w with ⟨w1, w2, w3⟩ | ⟨w1, w2, w3⟩
      · refine Ends.g (Or.inr w2) (Ends.sm (K _ _ ⟨gq.tr (sub1 g1) (fun c k w => w), Or.inl ⟨q0 + 1, ?_, w2, w3, fun j hj => ?_⟩⟩))
        · unfold nuS; rw [en]; show (if wdS u m q0 [41] = true then some (q0 + 1) else none) = _; rw [if_pos w1]
        · rw [g1.at _ _ (by unfold atC; omega)]; exact lo j hj
      · refine Ends.g (Or.inl w2) (Ends.sm (K _ _ ⟨gq.tr (sub1 g1) (fun c k w => w), Or.inr ⟨?_, w2⟩⟩))
        unfold nuS; rw [en]; show (if wdS u m q0 [41] = true then some (q0 + 1) else none) = _; rw [w1]; rfl
    | succ c ih =>
      intro k q0 q hk lq gq en rq lo
      have stp : nsP u m p (k + 1) = (if (decide (k = 0) || wdS u m q0 [44]) = true then (if nmOK u m (if k = 0 then q0 else q0 + 1) = true then some (nmZ u m (if k = 0 then q0 else q0 + 1)) else none) else none) := by
        have : nsP u m p (k + 1) = (match nsP u m p k with | none => none | some q => if (decide (k = 0) || wdS u m q [44]) = true then (if nmOK u m (if k = 0 then q else q + 1) = true then some (nmZ u m (if k = 0 then q else q + 1)) else none) else none) := rfl
        rw [this, en]
      have bad : ∀ q' : AH, Agr (rwC B) h q' → nsP u m p (k + 1) = none → LX B n q' → Ends (ev PP (gsF gv) B d 145 28 [(2, rf (B + 143)), (0, (many : Int)), (0, (k : Int))] [] q') P := fun q' g' e l' => by
        refine Ends.eq (b145_28 (n := n) (by (repeat' first | assumption | refine LX.setF _ _ ?_ (by decide +kernel) | refine LX.setS ?_ rfl | refine LX.setA ?_ (by first | assumption | omega))) (by first | assumption | omega)) ?_
        refine Ends.sm (K _ _ ⟨g', Or.inr ⟨?_, rfl⟩⟩)
        unfold nuS; rw [nsP_none many (by omega) e]
      -- the number itself
      have num : ∀ (q' : AH), LX B n q' → Agr (rwC B) h q' → (decide (k = 0) || wdS u m q0 [44]) = true → RdC B q' m u (if k = 0 then q0 else q0 + 1) → (∀ j, j < k → hv q' (B + 147) j = nsV u m p j) → Ends (ev PP (gsF gv) B d 145 20 [(2, rf (B + 143)), (0, (many : Int)), (0, (k : Int))] [] q') P := fun q' l' g' c1 r' lo' => by
        rw [if_pos c1] at stp
        refine Ends.eq (b145_20 (n := n) (by (repeat' first | assumption | refine LX.setF _ _ ?_ (by decide +kernel) | refine LX.setS ?_ rfl | refine LX.setA ?_ (by first | assumption | omega))) (by first | assumption | omega)) ?_
        refine Ends.ct l' (by decide +kernel) (by decide) (c_one146 l' (by omega) r' (by omega)) (fun v q1 l1 _ _ _ ⟨ev_, g1, r1, v1⟩ => ?_)
        have G1 : Agr (rwC B) h q1 := g'.tr g1 (fun c j w => by unfold rwC; omega)
        rw [ev_]
        refine Ends.eq (b145_25 (n := n) (by (repeat' first | assumption | refine LX.setF _ _ ?_ (by decide +kernel) | refine LX.setS ?_ rfl | refine LX.setA ?_ (by first | assumption | omega))) (by first | assumption | omega)) ?_
        by_cases c2 : nmOK u m (if k = 0 then q0 else q0 + 1) = true
        · rw [if_pos c2] at stp ⊢
          refine Ends.b1 (fun _ => ?_) (fun z => absurd z (by decide))
          rw [w_succ (by omega)]
          refine ih (k + 1) _ q1 (by omega) l1 G1 stp r1 (fun j hj => ?_)
          by_cases e : j = k
          · rw [e, v1]
            unfold nsV
            rw [en]
          · rw [g1.at _ _ (by omega)]; exact lo' j (by omega)
        · rw [if_neg c2] at stp ⊢
          exact Ends.b1 (fun z => absurd rfl z) (fun _ => bad q1 G1 stp l1)
      refine Ends.eq (b145_2 (n := n) (by (repeat' first | assumption | refine LX.setF _ _ ?_ (by decide +kernel) | refine LX.setS ?_ rfl | refine LX.setA ?_ (by first | assumption | omega))) (by first | assumption | omega)) ?_
      refine Ends.b3 (fun z => by omega) (fun _ => ?_)
      by_cases k0 : k = 0
      · refine Ends.b5 (fun _ => num q lq gq (by rw [decide_eq_true k0]; rfl) (by rw [if_pos k0]; exact rq) lo) (fun z => by omega)
      · refine Ends.b5 (fun z => by omega) (fun _ => ?_)
        refine Ends.ct lq (by decide +kernel) (by decide) (c_word156 lq (by omega) (keepT T16 gq) rq) (fun v q1 l1 _ _ _ ⟨g1, w⟩ => ?_)
        have G1 : Agr (rwC B) h q1 := gq.tr (sub1 g1) (fun c k w => w)
        refine Ends.eq (b145_17 (n := n) (by (repeat' first | assumption | refine LX.setF _ _ ?_ (by decide +kernel) | refine LX.setS ?_ rfl | refine LX.setA ?_ (by first | assumption | omega))) (by first | assumption | omega)) ?_
        rcases w with ⟨w1, w2, w3⟩ | ⟨w1, w2, w3⟩
        · rw [w2]
          refine Ends.b0 (fun z => absurd z (by decide)) (fun _ => num q1 l1 G1 (by rw [w1, Bool.or_true]) (by rw [if_neg k0]; exact w3) (fun j hj => by rw [g1.at _ _ (by unfold atC; omega)]; exact lo j hj))
        · rw [w2]
          exact Ends.b0 (fun _ => bad q1 G1 (by rw [stp, decide_eq_false k0, w1]; rfl) l1) (fun z => absurd rfl z)
  refine Ends.eq (b145_0 (n := n) (by (repeat' first | assumption | refine LX.setF _ _ ?_ (by decide +kernel) | refine LX.setS ?_ rfl | refine LX.setA ?_ (by first | assumption | omega))) (by first | assumption | omega)) ?_
  exact key many 0 p h (by omega) l Agr.rf rfl r (fun j hj => absurd hj (by omega))
/-- a line's end -/
theorem c_end138 (l : LX B n h) (hd : 18 ≤ d) (T : TxS gv B h (gv 12) [59]) (r : RdC B h m u p) {ln : Nat} (hln : hv h (B + 143) 15 = (ln : Int)) (hl : ln ≤ 100000) :
    Vt 0 (cll PP (ev PP (gsF gv) B) d 138 [(2, rf (B + 143))] h) (fun v h' => Agr (fun c k => c = B + 143 ∧ (k = 14 ∨ k = 15)) h h' ∧ ((∃ q, enS u m p = some q ∧ v = 1 ∧ RdC B h' m u q ∧ hv h' (B + 143) 15 = ((ln + 1 : Nat) : Int)) ∨ (enS u m p = none ∧ v = 0 ∧ hv h' (B + 143) 15 = (ln : Int)))) := by
  have hb0 := l.2.2
  have hm := r.m8
  have hp := r.pm
  refine Vt.inq (D := 17) hd (Nat.le_of_ble_eq_true rfl) rfl (fun d hd P K => ?_)
  refine Ends.eq (b138_0 (n := n) (by (repeat' first | assumption | refine LX.setF _ _ ?_ (by decide +kernel) | refine LX.setS ?_ rfl | refine LX.setA ?_ (by first | assumption | omega))) (by first | assumption | omega)) ?_
  refine Ends.ct l (by decide +kernel) (by decide) (c_word156 l (by omega) T r) (fun v q1 l1 _ _ _ ⟨g1, w⟩ => ?_)
  refine Ends.eq (b138_6 (n := n) (by (repeat' first | assumption | refine LX.setF _ _ ?_ (by decide +kernel) | refine LX.setS ?_ rfl | refine LX.setA ?_ (by first | assumption | omega))) (by first | assumption | omega)) ?_
  rcases w with ⟨w1, w2, w3⟩ | ⟨w1, w2, w3⟩
  · rw [w2]
    refine Ends.b1 (fun _ => ?_) (fun z => absurd z (by decide))
    have pm := w3.pm
    have pm : p + 1 ≤ m := pm
    obtain ⟨b1, b2⟩ := w3.byte (i := p + 1) (by omega)
    rw [w3.at_, show ((p + ([59] : List Int).length : Nat) : Int) = ((p + 1 : Nat) : Int) from rfl, b2, show bop32 96 ((p + 1 : Nat) : Int) 1 = ((p + 2 : Nat) : Int) from addNN (y := 1) (by omega)]
    refine Ends.g b1 ?_
    by_cases e : ubS u m (p + 1) = 10
    · have pm2 := ub_in e (by decide)
      refine Ends.b1 (fun z => absurd e z) (fun _ => ?_)
      have l2 : LX B n (hset q1 (B + 143) 14 ((p + 2 : Nat) : Int)) := LX.setF 143 14 l1 (by decide +kernel)
      refine Ends.eq (b138_34 (n := n) l2 (by omega)) ?_
      rw [hv_set_ne (by omega), g1.at _ _ (by unfold atC; omega), hln, show bop32 96 (ln : Int) 1 = ((ln + 1 : Nat) : Int) from addNN (y := 1) (by omega)]
      refine Ends.sm (K _ _ ⟨((g1.sub (fun c k w => ⟨w.1, Or.inl w.2⟩)).set ⟨rfl, Or.inl rfl⟩).set ⟨rfl, Or.inr rfl⟩, Or.inl ⟨p + 2, ?_, rfl, ?_, hv_set_at ..⟩⟩)
      · unfold enS; rw [if_pos w1, if_pos e]
      · exact (w3.to pm2).agr (Agr.rf.set (W := fun c k => c = B + 143 ∧ k = 15) ⟨rfl, rfl⟩) (fun k _ _ w => by omega) (fun k w => by omega)
    · refine Ends.b1 (fun _ => ?_) (fun z => absurd z e)
      refine Ends.eq (b138_34 (n := n) l1 (by omega)) ?_
      rw [g1.at _ _ (by unfold atC; omega), hln, show bop32 96 (ln : Int) 1 = ((ln + 1 : Nat) : Int) from addNN (y := 1) (by omega)]
      refine Ends.sm (K _ _ ⟨(g1.sub (fun c k w => ⟨w.1, Or.inl w.2⟩)).set ⟨rfl, Or.inr rfl⟩, Or.inl ⟨p + 1, ?_, rfl, ?_, hv_set_at ..⟩⟩)
      · unfold enS; rw [if_pos w1, if_neg e]
      · exact w3.agr (Agr.rf.set (W := fun c k => c = B + 143 ∧ k = 15) ⟨rfl, rfl⟩) (fun k _ _ w => by omega) (fun k w => by omega)
  · rw [w2]
    refine Ends.b1 (fun z => absurd rfl z) (fun _ => Ends.sm (K _ _ ⟨g1.sub (fun c k w => ⟨w.1, Or.inl w.2⟩), Or.inr ⟨?_, rfl, by rw [w3]; exact hln⟩⟩))
    unfold enS; rw [w1]; rfl
end READC
