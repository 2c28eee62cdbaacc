/-! L3: the desk reads a text -/
section EXF
variable {u : Nat → Int} {m n p q k : Nat}
/-- what a text makes from p on: how it ends, and solid 0 -/
noncomputable def exF (u : Nat → Int) (m n : Nat) : Nat → Nat → Nat → (Nat → Nat → Bool) → Int × (Nat → Bool)
  | 0, _, line, S => (-1 - (line : Int), S 0)
  | f + 1, p, line, S => if wdS u m p [69, 78, 68] = true then (match enS u m (p + 3) with
      | none => (-1 - (line : Int), S 0)
      | some q => if q < m then (-2 - (line : Int), S 0) else (0, S 0)) else (match lnS u m n p with
      | none => (-1 - (line : Int), S 0)
      | some (k, kd, o, e) => (match enS u m e with
        | none => (-1 - (line : Int), S 0)
        | some q => exF u m n f q (line + 1) (upS S k (apS n kd (nsV u m (lnQ u m p)) o S k))))
def noS : Nat → Nat → Bool := fun _ _ => false
noncomputable def exR (u : Nat → Int) (m n : Nat) : Int × (Nat → Bool) := if wdS u m 0 sGr = true then (if nmOK u m 7 = true then (match enS u m (nmZ u m 7) with
    | none => (-1, fun _ => false)
    | some q => exF u m n (m + 1) q 1 noS) else (-1, fun _ => false)) else exF u m n (m + 1) 0 0 noS
theorem nmZ_ge : p ≤ nmZ u m p := by
  unfold nmZ nmD
  split <;> omega
theorem nsP_ge : ∀ k q, nsP u m p k = some q → p ≤ q
  | 0, q, e => by
    have : p = q := Option.some.inj e
    omega
  | k + 1, q, e => by
    cases e1 : nsP u m p k with
    | none => rw [nsP_none (k + 1) (by omega) e1] at e; exact absurd e (by simp)
    | some r =>
      have hr := nsP_ge k r e1
      have e' : (if (decide (k = 0) || wdS u m r [44]) = true then (if nmOK u m (if k = 0 then r else r + 1) = true then some (nmZ u m (if k = 0 then r else r + 1)) else none) else none) = some q := by
        have : nsP u m p (k + 1) = (match nsP u m p k with | none => none | some q => if (decide (k = 0) || wdS u m q [44]) = true then (if nmOK u m (if k = 0 then q else q + 1) = true then some (nmZ u m (if k = 0 then q else q + 1)) else none) else none) := rfl
        rw [e1] at this
        exact this.symm.trans e
      by_cases c1 : (decide (k = 0) || wdS u m r [44]) = true
      · rw [if_pos c1] at e'
        by_cases c2 : nmOK u m (if k = 0 then r else r + 1) = true
        · rw [if_pos c2] at e'
          have e3 : nmZ u m (if k = 0 then r else r + 1) = q := Option.some.inj e'
          rw [← e3]
          refine Nat.le_trans ?_ nmZ_ge
          split <;> omega
        · rw [if_neg c2] at e'; exact absurd e' (by simp)
      · rw [if_neg c1] at e'; exact absurd e' (by simp)
theorem enS_gt (e : enS u m p = some q) : p < q := by
  unfold enS at e
  by_cases w : wdS u m p [59] = true
  · rw [if_pos w] at e
    have := Option.some.inj e
    split at this <;> omega
  · rw [if_neg w] at e; exact absurd e (by simp)
theorem lnS_ge {kd o e : Nat} (h : lnS u m n p = some (k, kd, o, e)) : p < e := by
  unfold lnS at h
  by_cases w : (wdS u m p [35] && (dgO (ubS u m (p + 1)) && wdS u m (p + 2) [61])) = true
  · rw [if_pos w] at h
    have q3 : p + 3 ≤ lnQ u m p := Nat.le_add_right _ _
    unfold lnR at h
    by_cases w1 : kwI u m (p + 3) = 10
    · rw [if_pos w1] at h; exact absurd h (by simp)
    rw [if_neg w1] at h
    by_cases w2 : 3 ≤ kwI u m (p + 3) ∧ kwI u m (p + 3) ≤ 5
    · rw [if_pos w2] at h
      by_cases w3 : (wdS u m (lnQ u m p) [35] && (dgO (ubS u m (lnQ u m p + 1)) && wdS u m (lnQ u m p + 2) [41])) = true
      · rw [if_pos w3] at h
        have := Option.some.inj h
        have e4 : lnQ u m p + 3 = e := by
          have := congrArg (fun x => x.2.2.2) this
          exact this
        omega
      · rw [if_neg w3] at h; exact absurd h (by simp)
    · rw [if_neg w2] at h
      cases e1 : nuS u m (lnQ u m p) (argN (kwI u m (p + 3))) with
      | none => rw [e1] at h; exact absurd h (by simp)
      | some e2 =>
        rw [e1] at h
        have h' : (if bdS n (kwI u m (p + 3)) (nsV u m (lnQ u m p)) = true then some ((ubS u m (p + 1) - 48).toNat, kwI u m (p + 3), 0, e2) else none) = some (k, kd, o, e) := h
        by_cases w3 : bdS n (kwI u m (p + 3)) (nsV u m (lnQ u m p)) = true
        · rw [if_pos w3] at h'
          have e4 : e2 = e := congrArg (fun x => x.2.2.2) (Option.some.inj h')
          unfold nuS at e1
          cases e5 : nsP u m (lnQ u m p) (argN (kwI u m (p + 3))) with
          | none => rw [e5] at e1; exact absurd e1 (by simp)
          | some r =>
            rw [e5] at e1
            have e1' : (if wdS u m r [41] = true then some (r + 1) else none) = some e2 := e1
            have g := nsP_ge _ _ e5
            by_cases w4 : wdS u m r [41] = true
            · rw [if_pos w4] at e1'
              have := Option.some.inj e1'
              omega
            · rw [if_neg w4] at e1'; exact absurd e1' (by simp)
        · rw [if_neg w3] at h'; exact absurd h' (by simp)
  · rw [if_neg w] at h; exact absurd h (by simp)
end EXF
section DREAD
variable {gv : Nat → Int} {B n d m : Nat} {h : AH} {u : Nat → Int}
def w147 (B : Nat) (h : AH) : Nat → Nat → Prop := fun c j => (c = B + 143 ∧ (j = 9 ∨ (12 ≤ j ∧ j ≤ 15))) ∨ (c = B + 53 ∧ j < 6) ∨ (B + 146 ≤ c ∧ c ≤ B + 148) ∨ c = B + 52 ∨ c = B + 54 ∨ c = B + 55 ∨ (B + 106 ≤ c ∧ c ≤ B + 108) ∨ Scr B h c
/-- the cells got so far -/
def HdI (B n : Nat) (h0 q : AH) (k : Nat) (hc : Nat → Nat) : Prop := Reg B n q ∧ hus q + lzy B n q = hus h0 + lzy B n h0 ∧ Ext (fun c j => (c = B + 53 ∧ 2 ≤ j ∧ j < 2 + k) ∨ c = B + 146 ∨ Scr B h0 c) k (k * (24 * n * n)) h0 q ∧ ∀ j, j < k → hv q (B + 146) j = rf (hc j) ∧ hv q (B + 53) (2 + j) = rf (hc j) ∧ B + 246 ≤ hc j ∧ hc j < hnx q ∧ SG n q (hc j) (fun _ => false) ∧ (hc j < hnx h0 → Scr B h0 (hc j))
theorem Reg.ne2 {i j a b : Nat} {q : AH} (R : Reg B n q) (hi : i < 6) (hj : j < 6) (hij : i ≠ j) (e1 : hv q (B + 53) i = rf a) (e2 : hv q (B + 53) j = rf b) : a ≠ b := fun e => by
  have := R.2 (10 + i) (10 + j) (by omega) (by omega) (by omega) (by rw [rgV_s hi, rgV_s hj, e1, e2, e])
  rw [rgV_s hi, e1] at this
  have := rf_pos a
  omega
theorem held_all {x1 : Int} {P : Rs → Prop} (hd : 13 ≤ d) (hn0 : 0 < n) (hn : n ≤ 52) {h0 : AH} (hb0 : B + 246 ≤ hnx h0) (R0 : Reg B n h0)
    (K : ∀ q hc, LX B n q → HdI B n h0 q 4 hc → Ends (aft PP 147 68 71 [(2, rf (B + 143)), (2, x1), (0, (m : Int)), (0, (4 : Int))] [(2, rf (B + 143))] (ev PP (gsF gv) B d 147) (cll PP (ev PP (gsF gv) B) d 354 [(2, rf (B + 51)), (0, (0 : Int))] q)) P) :
    ∀ (c k : Nat) (q : AH) (hc : Nat → Nat), k + c = 4 → LX B n q → HdI B n h0 q k hc → Ends (ev PP (gsF gv) B d 147 22 [(2, rf (B + 143)), (2, x1), (0, (m : Int)), (0, (k : Int))] [] q) P := by
  intro c
  induction c with
  | zero =>
    intro k q hc hkk lq I
    obtain rfl : k = 4 := by omega
    refine Ends.eq (b147_22 (n := n) (by (repeat' first | assumption | refine LX.setF _ _ ?_ (by decide +kernel) | refine LX.setS ?_ rfl | refine LX.setA ?_ (by first | assumption | omega))) (by first | assumption | omega)) ?_
    exact Ends.b3 (fun _ => K q hc lq I) (fun z => absurd z (by decide))
  | succ c ih =>
    intro k q hc hkk lq I
    have hk4 : k < 4 := by omega
    obtain ⟨R, us, X, cs⟩ := I
    have nx := X.2.2.1
    refine Ends.eq (b147_22 (n := n) (by (repeat' first | assumption | refine LX.setF _ _ ?_ (by decide +kernel) | refine LX.setS ?_ rfl | refine LX.setA ?_ (by first | assumption | omega))) (by first | assumption | omega)) ?_
    rw [show bop32 96 (2 : Int) (k : Int) = ((2 + k : Nat) : Int) from addNN (x := 2) (by omega)]
    refine Ends.b3 (fun z => by omega) (fun _ => ?_)
    refine Ends.ct lq (by decide +kernel) (by decide) (c_shR (k := 2 + k) lq (by omega) hn (by omega) R) (fun v q1 l1 _ _ _ ⟨s, evv, a1, a2, a3, a4, a5, a6, a7, a8, a9⟩ => ?_)
    have nx1 := a8.2.2.1
    have k146 : hk q1 (B + 146) = (7, 4) := l1.1 146 _ rfl
    rw [evv]
    refine Ends.eq (b147_42 (n := n) (by (repeat' first | assumption | refine LX.setF _ _ ?_ (by decide +kernel) | refine LX.setS ?_ rfl | refine LX.setA ?_ (by first | assumption | omega))) (by first | assumption | omega)) ?_
    rw [ad_rf, ad_rf, k146, a4, tn]
    refine Ends.g ⟨rf_pos _, rfl, by omega, by omega, by omega, Or.inr ⟨rf_pos _, rfl⟩⟩ ?_
    have l2 : LX B n (hset q1 (B + 146) k (rf s)) := LX.setS l1 rfl
    have g2 : Agr (fun c j => c = B + 146 ∧ j = k) q1 (hset q1 (B + 146) k (rf s)) := Agr.rf.set ⟨rfl, rfl⟩
    have v2 : hv (hset q1 (B + 146) k (rf s)) (B + 146) k = rf s := hv_set_at ..
    generalize hset q1 (B + 146) k (rf s) = q2 at *
    refine Ends.eq (b147_43 (n := n) (by (repeat' first | assumption | refine LX.setF _ _ ?_ (by decide +kernel) | refine LX.setS ?_ rfl | refine LX.setA ?_ (by first | assumption | omega))) (by first | assumption | omega)) ?_
    rw [tn, v2]
    refine Ends.g ⟨by omega, by omega⟩ ?_
    refine Ends.cv l2 (by decide +kernel) (c_clear (a := s) l2 (by omega) hn (by rw [g2.hk]; exact a4) (by omega)) (fun q3 l3 _ _ _ ⟨f3, s3⟩ => ?_)
    have g3 := f3.fr.agr
    refine Ends.eq (b147_56 (n := n) (by (repeat' first | assumption | refine LX.setF _ _ ?_ (by decide +kernel) | refine LX.setS ?_ rfl | refine LX.setA ?_ (by first | assumption | omega))) (by first | assumption | omega)) ?_
    rw [w_succ (by omega)]
    have h1 := lq.2.2
    obtain ⟨R2, L2⟩ := a5.ext l1.2.2 g2.ext (fun i hi w => by have := rgi hi; omega)
    obtain ⟨R3, L3⟩ := R2.ext l2.2.2 g3.ext (fun i hi w => by have := rgi hi; omega)
    have scr : s < hnx h0 → Scr B h0 s := fun w => ⟨2 + k, by omega, by
      have := a9 (by omega)
      rw [X.at _ (by omega) (fun z => by
        rcases z with z | z | z
        · omega
        · omega
        · have := sol_246 R0 z; omega)] at this
      exact this⟩
    refine ih (k + 1) q3 (fun j => if j = k then s else hc j) (by omega) l3 ⟨R3, ?_, ?_, fun j hj => ?_⟩
    · rw [g3.us, g2.us]; omega
    · have E0 : Ext (fun c j => (c = B + 53 ∧ 2 ≤ j ∧ j < 2 + (k + 1)) ∨ c = B + 146 ∨ Scr B h0 c) k (k * (24 * n * n)) h0 q := X.sub (fun c j _ w => by
        rcases w with w | w | w
        · exact Or.inl ⟨w.1, w.2.1, by omega⟩
        · exact Or.inr (Or.inl w)
        · exact Or.inr (Or.inr w)) (Nat.le_refl _) (Nat.le_refl _)
      have E1 := E0.tr a8 (fun c j _ w => Or.inl ⟨w.1, by omega, by omega⟩)
      have E2 := E1.tr (c' := 0) (s' := 0) g2.ext (fun c j _ w => Or.inr (Or.inl w.1))
      have E3 := E2.tr (c' := 0) (s' := 0) g3.ext (fun c j hc' w => Or.inr (Or.inr (by rw [show c = s from w]; exact scr (by have : c = s := w; omega))))
      exact E3.sub (fun c j _ w => w) (by omega) (Nat.le_of_eq (show _ = (k + 1) * (24 * n * n) from (Nat.succ_mul k (24 * n * n)).symm))
    · show hv q3 (B + 146) j = rf (if j = k then s else hc j) ∧ hv q3 (B + 53) (2 + j) = rf (if j = k then s else hc j) ∧ B + 246 ≤ (if j = k then s else hc j) ∧ (if j = k then s else hc j) < hnx q3 ∧ SG n q3 (if j = k then s else hc j) (fun _ => false) ∧ ((if j = k then s else hc j) < hnx h0 → Scr B h0 (if j = k then s else hc j))
      by_cases e : j = k
      · rw [if_pos e, e]
        refine ⟨?_, ?_, a2, ?_, SG.of hn0 s3 (fun _ _ _ _ _ _ _ _ => rfl), scr⟩
        · rw [g3.at _ _ (show ¬ B + 146 = s by omega)]; exact v2
        · rw [g3.at _ _ (show ¬ B + 53 = s by omega), g2.at _ _ (by omega)]; exact a1
        · rw [g3.nx, g2.nx]; exact a3
      · rw [if_neg e]
        obtain ⟨c1, c2, c3, c4, c5, c6⟩ := cs j (by omega)
        have k1 : hv q1 (B + 53) (2 + j) = rf (hc j) := by rw [a8.at _ (by omega) (by omega)]; exact c2
        have ne : hc j ≠ s := a5.ne2 (i := 2 + j) (j := 2 + k) (by omega) (by omega) (by omega) k1 a1
        refine ⟨?_, ?_, c3, ?_, ?_, c6⟩
        · rw [g3.at _ _ (show ¬ B + 146 = s by omega), g2.at _ _ (by omega), a8.at _ (by omega) (by omega)]; exact c1
        · rw [g3.at _ _ (show ¬ B + 53 = s by omega), g2.at _ _ (by omega)]; exact k1
        · rw [g3.nx, g2.nx]; omega
        · exact ((c5.ext a8 c4 (fun _ w => by omega)).agr g2 (fun _ w => by omega)).agr g3 (fun _ w => ne w)
/-- the lines one by one -/
theorem read_lines {hc : Nat → Nat} {sp : Nat} {x1 x3 : Int} {P : Rs → Prop} {h0 : AH} (hd : 28 ≤ d) (hn4 : 4 ≤ n) (hn : n ≤ 52) (mt : TbC B h0) (T : TxR gv B h0) (hb0 : B + 246 ≤ hnx h0) {S0 : Nat → Nat → Bool} (x0 : ExS B n h0 hc sp S0) {r : Int × (Nat → Bool)}
    (K : ∀ q, LX B n q → Agr (exL B sp hc) h0 q → (r.1 = 0 → ∃ S, ExS B n q hc sp S ∧ S 0 = r.2) → P ((0, (0, r.1)), q)) :
    ∀ (f p line : Nat) (q : AH) (S : Nat → Nat → Bool), m + 1 ≤ f + p → line ≤ p → LX B n q → Agr (exL B sp hc) h0 q → RdC B q m u p → ExS B n q hc sp S → hv q (B + 143) 15 = (line : Int) → exF u m n f p line S = r → Ends (ev PP (gsF gv) B d 147 100 [(2, rf (B + 143)), (2, x1), (0, (m : Int)), (0, x3)] [] q) P := by
  have end1 : ∀ {q1 q2 : AH}, Agr (fun c k => c = B + 143 ∧ (k = 14 ∨ k = 15)) q1 q2 → Agr (exL B sp hc) q1 q2 := fun g => g.sub (fun c k w => by rcases w with ⟨w1, w2 | w2⟩; exact Or.inl (Or.inl ⟨w1, w2⟩); exact Or.inr ⟨w1, w2⟩)
  have at1 : ∀ {q1 q2 : AH}, Agr (atC B) q1 q2 → Agr (exL B sp hc) q1 q2 := fun g => g.sub (fun c k w => Or.inl (Or.inl w))
  have xat : ∀ {q1 q2 : AH} {S : Nat → Nat → Bool}, ExS B n q1 hc sp S → Agr (fun c k => c = B + 143 ∧ (k = 14 ∨ k = 15)) q1 q2 → ExS B n q2 hc sp S := fun x g => x.agr g (fun k w => by omega) (fun w => by omega) (fun c k hc w => by omega)
  intro f
  induction f with
  | zero =>
    intro p line q S hf hl lq gq rq xq el er
    have := rq.pm
    omega
  | succ f ih =>
    intro p line q S hf hl lq gq rq xq el er
    have hm := rq.m8
    have hp := rq.pm
    have l100 : line ≤ 100000 := by omega
    have Tq := ext_tx2 T hb0 x0 gq
    have mq := ext_tb2 mt hb0 x0 gq
    have neg : ∀ x : Int, -100000 ≤ x → x ≤ 100000 → bop32 100 (-1 : Int) x = -1 - x := fun x h1 h2 => sub32 (by omega) (by omega)
    -- a wrong line
    have bad : ∀ (q' : AH) (ln : Nat), LX B n q' → Agr (exL B sp hc) h0 q' → hv q' (B + 143) 15 = (ln : Int) → ln ≤ 100000 → r.1 = -1 - (ln : Int) → P ((0, (0, bop32 100 (-1 : Int) (hv q' (B + 143) 15))), q') := fun q' ln l' g' e' h1 er' => by
      rw [e', neg _ (by omega) (by omega), ← er']
      exact K q' l' g' (fun z => by omega)
    refine Ends.eq (b147_100 (n := n) (by (repeat' first | assumption | refine LX.setF _ _ ?_ (by decide +kernel) | refine LX.setS ?_ rfl | refine LX.setA ?_ (by first | assumption | omega))) (by first | assumption | omega)) ?_
    refine Ends.ct lq (by decide +kernel) (by decide) (c_word156 lq (by omega) Tq.2.2.2.2.2.2.2 rq) (fun v q1 l1 _ _ _ ⟨g1, w⟩ => ?_)
    have G1 := gq.tr (at1 g1) (fun c k w => w)
    have e1l : hv q1 (B + 143) 15 = (line : Int) := by rw [g1.at _ _ (by unfold atC; omega)]; exact el
    have x1' := xat xq (g1.sub (fun c k w => ⟨w.1, Or.inl w.2⟩))
    refine Ends.eq (b147_106 (n := n) (by (repeat' first | assumption | refine LX.setF _ _ ?_ (by decide +kernel) | refine LX.setS ?_ rfl | refine LX.setA ?_ (by first | assumption | omega))) (by first | assumption | omega)) ?_
    rcases w with ⟨w1, w2, w3⟩ | ⟨w1, w2, w3⟩
    · rw [w2]
      have w3 : RdC B q1 m u (p + 3) := w3
      have er1 : (match enS u m (p + 3) with
        | none => (-1 - (line : Int), S 0)
        | some q => if q < m then (-2 - (line : Int), S 0) else (0, S 0)) = r := by
        rw [← er]
        show _ = (if wdS u m p [69, 78, 68] = true then _ else _)
        rw [if_pos w1]
      refine Ends.b1 (fun _ => ?_) (fun z => absurd z (by decide))
      refine Ends.ct l1 (by decide +kernel) (by decide) (c_end138 l1 (by omega) (ext_tx2 T hb0 x0 G1).2.2.2.1 w3 e1l l100) (fun v q2 l2 _ _ _ ⟨g2, w⟩ => ?_)
      have G2 := G1.tr (end1 g2) (fun c k w => w)
      refine Ends.eq (b147_134 (n := n) (by (repeat' first | assumption | refine LX.setF _ _ ?_ (by decide +kernel) | refine LX.setS ?_ rfl | refine LX.setA ?_ (by first | assumption | omega))) (by first | assumption | omega)) ?_
      rcases w with ⟨e, en, ev_, r2, ln2⟩ | ⟨en, ev_, ln2⟩
      · rw [ev_]
        rw [en] at er1
        have er2 : (if e < m then (-2 - (line : Int), S 0) else (0, S 0)) = r := er1
        refine Ends.b1 (fun _ => ?_) (fun z => absurd z (by decide))
        rw [r2.at_, r2.2.1, ct3, ln2]
        by_cases em : e < m
        · rw [if_pos em] at er2
          rw [if_pos (by omega), neg _ (by omega) (by omega), show (-1 : Int) - ((line + 1 : Nat) : Int) = r.1 from by rw [← er2]; show _ = -2 - (line : Int); omega]
          exact Ends.sm (K q2 l2 G2 (fun z => by rw [← er2] at z; have z : -2 - (line : Int) = 0 := z; omega))
        · rw [if_neg em] at er2
          rw [if_neg (by omega), show (0 : Int) = r.1 from by rw [← er2]]
          exact Ends.sm (K q2 l2 G2 (fun _ => ⟨S, xat x1' g2, by rw [← er2]⟩))
      · rw [ev_]
        rw [en] at er1
        refine Ends.b1 (fun z => absurd rfl z) (fun _ => Ends.sm (bad q2 line l2 G2 ln2 l100 (by rw [← er1])))
    · rw [w2]
      have er1 : (match lnS u m n p with
        | none => (-1 - (line : Int), S 0)
        | some (k, kd, o, e) => (match enS u m e with
          | none => (-1 - (line : Int), S 0)
          | some q => exF u m n f q (line + 1) (upS S k (apS n kd (nsV u m (lnQ u m p)) o S k)))) = r := by
        rw [← er]
        show _ = (if wdS u m p [69, 78, 68] = true then _ else _)
        rw [if_neg (by rw [w1]; decide)]
      rw [w3]
      refine Ends.b1 (fun z => absurd rfl z) (fun _ => ?_)
      refine Ends.ct lq (by decide +kernel) (by decide) (c_call137 lq (by omega) hn4 hn mq Tq rq xq) (fun v q2 l2 _ _ _ ⟨g2, w⟩ => ?_)
      have G2 := gq.tr g2 (fun c k w => Or.inl w)
      refine Ends.eq (b147_113 (n := n) (by (repeat' first | assumption | refine LX.setF _ _ ?_ (by decide +kernel) | refine LX.setS ?_ rfl | refine LX.setA ?_ (by first | assumption | omega))) (by first | assumption | omega)) ?_
      rcases w with ⟨k, kd, o, e, en, ev_, r2, hk4, x2⟩ | ⟨en, ev_⟩
      · rw [ev_]
        rw [en] at er1
        have er2 : (match enS u m e with
          | none => (-1 - (line : Int), S 0)
          | some q => exF u m n f q (line + 1) (upS S k (apS n kd (nsV u m (lnQ u m p)) o S k))) = r := er1
        have pe := lnS_ge en
        have e2l : hv q2 (B + 143) 15 = (line : Int) := by rw [g2.at _ _ (exH_15 xq)]; exact el
        refine Ends.b0 (fun z => absurd z (by decide)) (fun _ => ?_)
        refine Ends.ct l2 (by decide +kernel) (by decide) (c_end138 l2 (by omega) (ext_tx2 T hb0 x0 G2).2.2.2.1 r2 e2l l100) (fun v q3 l3 _ _ _ ⟨g3, w⟩ => ?_)
        have G3 := G2.tr (end1 g3) (fun c k w => w)
        refine Ends.eq (b147_120 (n := n) (by (repeat' first | assumption | refine LX.setF _ _ ?_ (by decide +kernel) | refine LX.setS ?_ rfl | refine LX.setA ?_ (by first | assumption | omega))) (by first | assumption | omega)) ?_
        rcases w with ⟨e', en', ev', r3, ln3⟩ | ⟨en', ev', ln3⟩
        · rw [ev']
          rw [en'] at er2
          have gt := enS_gt en'
          exact Ends.b1 (fun _ => ih e' (line + 1) q3 _ (by omega) (by omega) l3 G3 r3 (xat x2 g3) ln3 er2) (fun z => absurd z (by decide))
        · rw [ev']
          rw [en'] at er2
          refine Ends.b1 (fun z => absurd rfl z) (fun _ => ?_)
          refine Ends.eq (b147_123 (n := n) (by (repeat' first | assumption | refine LX.setF _ _ ?_ (by decide +kernel) | refine LX.setS ?_ rfl | refine LX.setA ?_ (by first | assumption | omega))) (by first | assumption | omega)) ?_
          exact Ends.sm (bad q3 line l3 G3 ln3 l100 (by rw [← er2]))
      · rw [ev_]
        rw [en] at er1
        refine Ends.b0 (fun _ => ?_) (fun z => absurd rfl z)
        refine Ends.eq (b147_123 (n := n) (by (repeat' first | assumption | refine LX.setF _ _ ?_ (by decide +kernel) | refine LX.setS ?_ rfl | refine LX.setA ?_ (by first | assumption | omega))) (by first | assumption | omega)) ?_
        have e2l : hv q2 (B + 143) 15 = (line : Int) := by rw [g2.at _ _ (exH_15 xq)]; exact el
        exact Ends.sm (bad q2 line l2 G2 e2l l100 (by rw [← er1]))
/-- a text is read -/
theorem c_read147 (l : LX B n h) (hd : 30 ≤ d) (hn4 : 4 ≤ n) (hn : n ≤ 52) (mt : TbC B h) (T : TxR gv B h) (R : Reg B n h) (hm8 : m ≤ 8192) (bytes : ∀ k, k < m → hv h (B + 26) k % 256 = u k) :
    Vt 0 (cll PP (ev PP (gsF gv) B) d 147 [(2, rf (B + 143)), (2, rf (B + 26)), (0, (m : Int))] h) (fun v h' => v = (exR u m n).1 ∧ ScE B n (w147 B h) 5 (5 * (24 * n * n)) h h' ∧ (v = 0 → ∃ c, hv h' (B + 146) 0 = rf c ∧ B + 246 ≤ c ∧ c < hnx h' ∧ SG n h' c (exR u m n).2)) := by
  have hb0 := l.2.2
  have hn0 : 0 < n := by omega
  refine Vt.inq (D := 29) hd (Nat.le_of_ble_eq_true rfl) rfl (fun d hd P K => ?_)
  refine Ends.eq (b147_0 (n := n) (by (repeat' first | assumption | refine LX.setF _ _ ?_ (by decide +kernel) | refine LX.setS ?_ rfl | refine LX.setA ?_ (by first | assumption | omega))) (by first | assumption | omega)) ?_
  have k26 : hk h (B + 26) = (4, 8192) := l.1 26 _ rfl
  obtain ⟨h0, eh0⟩ : ∃ q, q = hset (hset (hset (hset h (B + 143) 12 (rf (B + 26))) (B + 143) 13 (m : Int)) (B + 143) 14 0) (B + 143) 15 0 := ⟨_, rfl⟩
  have l0 : LX B n h0 := by rw [eh0]; exact LX.setF 143 15 (LX.setF 143 14 (LX.setF 143 13 (LX.setF 143 12 l (by decide +kernel)) (by decide +kernel)) (by decide +kernel)) (by decide +kernel)
  have g0 : Agr (fun c j => c = B + 143 ∧ 12 ≤ j ∧ j ≤ 15) h h0 := by rw [eh0]; exact (((Agr.rf.set ⟨rfl, by decide, by decide⟩).set ⟨rfl, by decide, by decide⟩).set ⟨rfl, by decide, by decide⟩).set ⟨rfl, by decide, by decide⟩
  have f12 : hv h0 (B + 143) 12 = rf (B + 26) := by rw [eh0, hv_set_ne (by omega), hv_set_ne (by omega), hv_set_ne (by omega), hv_set_at]
  have f13 : hv h0 (B + 143) 13 = (m : Int) := by rw [eh0, hv_set_ne (by omega), hv_set_ne (by omega), hv_set_at]
  have f14 : hv h0 (B + 143) 14 = ((0 : Nat) : Int) := by rw [eh0, hv_set_ne (by omega), hv_set_at]; rfl
  have f15 : hv h0 (B + 143) 15 = ((0 : Nat) : Int) := by rw [eh0]; exact hv_set_at ..
  rw [← eh0]
  clear eh0
  obtain ⟨R0, L0⟩ := R.ext hb0 g0.ext (fun i hi w => by have := rgi hi; omega)
  have nx0 : hnx h0 = hnx h := g0.nx
  have sc0 : ∀ {c : Nat}, Scr B h0 c → Scr B h c := fun ⟨k, hk, e⟩ => ⟨k, hk, by rw [g0.at _ _ (by omega)] at e; exact e⟩
  refine held_all (m := m) (by omega) hn0 hn (by omega) R0 (fun q hc lq I => ?_) 4 0 h0 (fun _ => 0) rfl l0 ⟨R0, rfl, Ext.rf.sub (fun c k _ w => w) (Nat.le_refl _) (Nat.zero_le _), fun j hj => absurd hj (by omega)⟩
  obtain ⟨Rq, us, X, cs⟩ := I
  have nxq := X.2.2.1
  refine Ends.ct lq (by decide +kernel) (by decide) (c_shR (k := 0) lq (by omega) hn (by decide) Rq) (fun v q1 l1 _ _ _ ⟨sp, evv, a1, a2, a3, a4, a5, a6, a7, a8, a9⟩ => ?_)
  have nx1 := a8.2.2.1
  rw [evv]
  refine Ends.eq (b147_71 (n := n) (by (repeat' first | assumption | refine LX.setF _ _ ?_ (by decide +kernel) | refine LX.setS ?_ rfl | refine LX.setA ?_ (by first | assumption | omega))) (by first | assumption | omega)) ?_
  have l2 : LX B n (hset q1 (B + 143) 9 (rf sp)) := LX.setF 143 9 l1 (by decide +kernel)
  have g2 : Agr (fun c j => c = B + 143 ∧ j = 9) q1 (hset q1 (B + 143) 9 (rf sp)) := Agr.rf.set ⟨rfl, rfl⟩
  have v2 : hv (hset q1 (B + 143) 9 (rf sp)) (B + 143) 9 = rf sp := hv_set_at ..
  generalize hset q1 (B + 143) 9 (rf sp) = q2 at *
  have xat : ∀ c j, c < B + 246 → c ≠ B + 53 → c ≠ B + 146 → hv q1 c j = hv h0 c j := fun c j h1 h3 h4 => by
    rw [a8.at _ (by omega) (by omega), X.at _ (by omega) (fun z => by rcases z with z | z | z; omega; omega; have := sol_246 R0 z; omega)]
  have q2at : ∀ j, 12 ≤ j → j ≤ 15 → hv q2 (B + 143) j = hv h0 (B + 143) j := fun j h1 h2 => by rw [g2.at _ _ (by omega)]; exact xat _ _ (by omega) (by omega) (by omega)
  have r2 : RdC B q2 m u 0 := ⟨by rw [q2at 12 (by decide) (by decide)]; exact f12, by rw [q2at 13 (by decide) (by decide)]; exact f13, by rw [q2at 14 (by decide) (by decide)]; exact f14, hm8, Nat.zero_le _, l2.1 26 _ rfl, fun k hk => by rw [g2.at _ _ (by omega), xat _ _ (by omega) (by omega) (by omega), g0.at _ _ (by omega)]; exact bytes k hk⟩
  have e15 : hv q2 (B + 143) 15 = ((0 : Nat) : Int) := by rw [q2at 15 (by decide) (by decide)]; exact f15
  have hc1 : ∀ k, k < 4 → hv q1 (B + 53) (2 + k) = rf (hc k) := fun k hk => by rw [a8.at _ (by omega) (by omega)]; exact (cs k hk).2.1
  have x2 : ExS B n q2 hc sp noS := by
    refine ⟨fun k hk => ?_, v2, a2, by rw [g2.nx]; exact a3, by rw [g2.hk]; exact a4⟩
    obtain ⟨c1, c2, c3, c4, c5, c6⟩ := cs k hk
    refine ⟨?_, c3, by rw [g2.nx]; omega, a5.ne2 (i := 2 + k) (j := 0) (by omega) (by decide) (by omega) (hc1 k hk) a1, ?_, fun j hj hjk => a5.ne2 (i := 2 + j) (j := 2 + k) (by omega) (by omega) (by omega) (hc1 j hj) (hc1 k hk)⟩
    · rw [g2.at _ _ (by omega), a8.at _ (by omega) (by omega)]; exact c1
    · exact (c5.ext a8 c4 (fun _ w => by omega)).agr g2 (fun _ w => by omega)
  have spS : sp < hnx h → Scr B h sp := fun w => ⟨0, by decide, by
    have := a9 (by omega)
    rw [X.at _ (by omega) (fun z => by rcases z with z | z | z; omega; omega; have := sol_246 R0 z; omega), g0.at _ _ (by omega)] at this
    exact this⟩
  have E2 : Ext (w147 B h) 5 (5 * (24 * n * n)) h q2 := by
    have F0 : Ext (w147 B h) 0 0 h h0 := g0.ext.sub (fun c j _ w => Or.inl ⟨w.1, Or.inr w.2⟩) (Nat.le_refl _) (Nat.le_refl _)
    have F1 := F0.tr X (fun c j _ w => by
      rcases w with w | w | w
      · exact Or.inr (Or.inl ⟨w.1, by omega⟩)
      · exact Or.inr (Or.inr (Or.inl ⟨by omega, by omega⟩))
      · exact Or.inr (Or.inr (Or.inr (Or.inr (Or.inr (Or.inr (Or.inr (sc0 w))))))))
    have F2 := F1.tr a8 (fun c j _ w => Or.inr (Or.inl ⟨w.1, by omega⟩))
    have F3 := F2.tr (c' := 0) (s' := 0) g2.ext (fun c j _ w => Or.inl ⟨w.1, Or.inl w.2⟩)
    exact F3.sub (fun c j _ w => w) (by omega) (by omega)
  have T2 : TxR gv B q2 := T.ext E2 hb0 (fun c k hc' w => by unfold w147 at w; rcases w with w | w | w | w | w | w | w | w <;> first | omega | (have := sol_246 R w; omega))
  have m2 : TbC B q2 := mt.ext hb0 E2 (fun c k h1 h2 w => by unfold w147 at w; rcases w with w | w | w | w | w | w | w | w <;> first | omega | (have := sol_246 R w; omega))
  have hb2 := l2.2.2
  -- how it ends
  have fin : ∀ (q' : AH) (r : Int × (Nat → Bool)), Agr (exL B sp hc) q2 q' → exR u m n = r → (r.1 = 0 → ∃ S, ExS B n q' hc sp S ∧ S 0 = r.2) → P ((0, (0, r.1)), q') := fun q' r g e w => by
    refine K _ _ ⟨by rw [e], ⟨?_, ?_, ?_⟩, fun z => ?_⟩
    · have := E2.tr (c' := 0) (s' := 0) g.ext (fun c j hc' w => by
        unfold exL exH at w
        unfold w147
        rcases w with (w | w | w | w | w | w | w | w | w | w | ⟨j', hj, w⟩) | w
        · exact Or.inl ⟨w.1, by omega⟩
        · exact Or.inr (Or.inr (Or.inl (by omega)))
        · exact Or.inr (Or.inr (Or.inl (by omega)))
        · exact Or.inr (Or.inr (Or.inr (Or.inl w)))
        · exact Or.inr (Or.inr (Or.inr (Or.inr (Or.inl w))))
        · exact Or.inr (Or.inr (Or.inr (Or.inr (Or.inr (Or.inl w)))))
        · exact Or.inr (Or.inr (Or.inr (Or.inr (Or.inr (Or.inr (Or.inl (by omega)))))))
        · exact Or.inr (Or.inr (Or.inr (Or.inr (Or.inr (Or.inr (Or.inl (by omega)))))))
        · exact Or.inr (Or.inr (Or.inr (Or.inr (Or.inr (Or.inr (Or.inl (by omega)))))))
        · exact Or.inr (Or.inr (Or.inr (Or.inr (Or.inr (Or.inr (Or.inr (by rw [w]; exact spS (by omega))))))))
        · exact Or.inr (Or.inr (Or.inr (Or.inr (Or.inr (Or.inr (Or.inr (by rw [w]; exact sc0 ((cs j' hj).2.2.2.2.2 (by omega)))))))))
        · exact Or.inl ⟨w.1, by omega⟩)
      exact this.sub (fun c j _ w => w) (by omega) (by omega)
    · obtain ⟨Ra, La⟩ := a5.ext l1.2.2 g2.ext (fun i hi w => by have := rgi hi; omega)
      obtain ⟨Rb, Lb⟩ := Ra.ext hb2 g.ext (fun i hi w => by
        have := rgi hi
        unfold exL exH at w
        rcases w with (w | w | w | w | w | w | w | w | w | w | ⟨j', hj, w⟩) | w <;> first | omega | (have := (cs j' hj).2.2.1; omega))
      exact Rb
    · obtain ⟨Ra, La⟩ := a5.ext l1.2.2 g2.ext (fun i hi w => by have := rgi hi; omega)
      obtain ⟨Rb, Lb⟩ := Ra.ext hb2 g.ext (fun i hi w => by
        have := rgi hi
        unfold exL exH at w
        rcases w with (w | w | w | w | w | w | w | w | w | w | ⟨j', hj, w⟩) | w <;> first | omega | (have := (cs j' hj).2.2.1; omega))
      rw [Lb, La, g.us, g2.us]
      have := g0.us
      omega
    · obtain ⟨S, xs, es⟩ := w z
      obtain ⟨z1, z2, z3, z4, z5, z6⟩ := xs.1 0 (by decide)
      refine ⟨hc 0, z1, z2, z3, ?_⟩
      rw [e, ← es]
      exact z5
  have b98 : ∀ (q' : AH), LX B n q' → Agr (exL B sp hc) q2 q' → exR u m n = (-1, fun _ => false) → Ends (ev PP (gsF gv) B d 147 98 [(2, rf (B + 143)), (2, rf (B + 26)), (0, (m : Int)), (0, (4 : Int))] [] q') P := fun q' l' g' e => by
    refine Ends.eq (b147_98 (n := n) (by (repeat' first | assumption | refine LX.setF _ _ ?_ (by decide +kernel) | refine LX.setS ?_ rfl | refine LX.setA ?_ (by first | assumption | omega))) (by first | assumption | omega)) ?_
    exact Ends.sm (fin q' (-1, fun _ => false) g' e (fun z => absurd z (by decide)))
  refine Ends.ct l2 (by decide +kernel) (by decide) (c_word156 l2 (by omega) T2.2.2.2.2.1 r2) (fun v q3 l3 _ _ _ ⟨g3, w⟩ => ?_)
  have at1 : ∀ {q1 q2 : AH}, Agr (atC B) q1 q2 → Agr (exL B sp hc) q1 q2 := fun g => g.sub (fun c k w => Or.inl (Or.inl w))
  refine Ends.eq (b147_80 (n := n) (by (repeat' first | assumption | refine LX.setF _ _ ?_ (by decide +kernel) | refine LX.setS ?_ rfl | refine LX.setA ?_ (by first | assumption | omega))) (by first | assumption | omega)) ?_
  rcases w with ⟨w1, w2, w3⟩ | ⟨w1, w2, w3⟩
  · rw [w2]
    have w3 : RdC B q3 m u 7 := w3
    have eR : exR u m n = (if nmOK u m 7 = true then (match enS u m (nmZ u m 7) with
      | none => ((-1, fun _ => false) : Int × (Nat → Bool))
      | some q => exF u m n (m + 1) q 1 noS) else (-1, fun _ => false)) := by
      unfold exR
      rw [if_pos w1]
    have x3 : ExS B n q3 hc sp noS := x2.agr g3 (fun k w => by unfold atC at w; omega) (fun w => by unfold atC at w; omega) (fun c k hc w => by unfold atC at w; omega)
    refine Ends.b0 (fun z => absurd z (by decide)) (fun _ => ?_)
    refine Ends.ct l3 (by decide +kernel) (by decide) (c_one146 (k := 0) l3 (by omega) w3 (by decide)) (fun v q4 l4 _ _ _ ⟨ev4, g4, r4, _⟩ => ?_)
    have G4 : Agr (exL B sp hc) q2 q4 := (at1 g3).tr g4 (fun c k w => by rcases w with w | w; exact Or.inl (Or.inl w); exact Or.inl (Or.inr (Or.inl w.1)))
    have x4 : ExS B n q4 hc sp noS := x3.agr g4 (fun k w => by omega) (fun w => by omega) (fun c k hc w => by omega)
    rw [ev4]
    refine Ends.eq (b147_88 (n := n) (by (repeat' first | assumption | refine LX.setF _ _ ?_ (by decide +kernel) | refine LX.setS ?_ rfl | refine LX.setA ?_ (by first | assumption | omega))) (by first | assumption | omega)) ?_
    by_cases ok : nmOK u m 7 = true
    · rw [if_pos ok] at eR ⊢
      refine Ends.b0 (fun z => absurd z (by decide)) (fun _ => ?_)
      refine Ends.ct l4 (by decide +kernel) (by decide) (c_end138 l4 (by omega) (ext_tx2 T2 hb2 x2 G4).2.2.2.1 r4 (ln := 0) (by rw [g4.at _ _ (by omega), g3.at _ _ (by unfold atC; omega)]; exact e15) (by decide)) (fun v q5 l5 _ _ _ ⟨g5, w⟩ => ?_)
      have G5 : Agr (exL B sp hc) q2 q5 := G4.tr g5 (fun c k w => by rcases w with ⟨w1, w2 | w2⟩; exact Or.inl (Or.inl ⟨w1, w2⟩); exact Or.inr ⟨w1, w2⟩)
      have x5 : ExS B n q5 hc sp noS := x4.agr g5 (fun k w => by omega) (fun w => by omega) (fun c k hc w => by omega)
      refine Ends.eq (b147_95 (n := n) (by (repeat' first | assumption | refine LX.setF _ _ ?_ (by decide +kernel) | refine LX.setS ?_ rfl | refine LX.setA ?_ (by first | assumption | omega))) (by first | assumption | omega)) ?_
      rcases w with ⟨e, en, ev_, r5, ln5⟩ | ⟨en, ev_, ln5⟩
      · rw [ev_]
        rw [en] at eR
        have gt := enS_gt en
        have ge := nmZ_ge (u := u) (m := m) (p := 7)
        refine Ends.b1 (fun _ => ?_) (fun z => absurd z (by decide))
        exact read_lines (by omega) hn4 hn m2 T2 hb2 x2 (r := exF u m n (m + 1) e 1 noS) (fun q' l' g' w => fin q' _ g' eR w) (m + 1) e 1 q5 noS (by omega) (by omega) l5 G5 r5 x5 ln5 rfl
      · rw [ev_]
        rw [en] at eR
        exact Ends.b1 (fun z => absurd rfl z) (fun _ => b98 q5 l5 G5 eR)
    · rw [if_neg ok] at eR ⊢
      exact Ends.b0 (fun _ => b98 q4 l4 G4 eR) (fun z => absurd rfl z)
  · rw [w2, w3]
    have eR : exR u m n = exF u m n (m + 1) 0 0 noS := by
      unfold exR
      rw [if_neg (by rw [w1]; decide)]
    refine Ends.b0 (fun _ => ?_) (fun z => absurd rfl z)
    exact read_lines (by omega) hn4 hn m2 T2 hb2 x2 (r := exF u m n (m + 1) 0 0 noS) (fun q' l' g' w => fin q' _ g' eR w) (m + 1) 0 0 q2 noS (by omega) (Nat.le_refl _) l2 Agr.rf r2 x2 e15 rfl
end DREAD
