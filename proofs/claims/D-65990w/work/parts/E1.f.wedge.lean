/-! L3: tools (desk): wedges and sinks -/
section WEDGE
variable {gv : Nat → Int} {B n d a so cl ax mth w : Nat} {h : AH} {S : Nat → Bool} {nb : Nat → Int} {P : Int → Int → Int → Bool} {l1 h1 l2 h2 lo hi : Int}
/-- one of three -/
def c3 (x y z : Int) (k : Nat) : Int := if k = 0 then x else if k = 1 then y else z
theorem bw0 {z v : Int} : cond (tst 1 ((ax : Nat) : Int) 0) z v = if ax = 0 then v else z := by
  rw [ct1]; by_cases e : ax = 0
  · rw [if_pos e, if_pos (by omega)]
  · rw [if_neg e, if_neg (by omega)]
theorem bw1 {z v : Int} : cond (tst 1 ((ax : Nat) : Int) 1) z v = if ax = 1 then v else z := by
  rw [ct1]; by_cases e : ax = 1
  · rw [if_pos e, if_pos (by omega)]
  · rw [if_neg e, if_neg (by omega)]
theorem bw2 {z v : Int} : cond (tst 1 ((ax : Nat) : Int) 2) z v = if ax = 2 then v else z := by
  rw [ct1]; by_cases e : ax = 2
  · rw [if_pos e, if_pos (by omega)]
  · rw [if_neg e, if_neg (by omega)]
theorem bwA : cond (tst 1 ((ax : Nat) : Int) 0) (0 : Int) 1 = ((fA ax : Nat) : Int) := by
  rw [bw0]; unfold fA; split <;> rfl
theorem bwS : cond (tst 1 ((ax : Nat) : Int) 2) (2 : Int) 1 = ((sA ax : Nat) : Int) := by
  rw [bw2]; unfold sA; split <;> rfl
theorem c3A {x y z : Int} : cond (tst 1 ((ax : Nat) : Int) 0) x y = c3 x y z (fA ax) := by
  rw [bw0]; unfold fA c3; by_cases e : ax = 0
  · rw [if_pos e, if_pos e]; rfl
  · rw [if_neg e, if_neg e]; rfl
theorem c3S {x y z : Int} : cond (tst 1 ((ax : Nat) : Int) 2) z y = c3 x y z (sA ax) := by
  rw [bw2]; unfold sA c3; by_cases e : ax = 2
  · rw [if_pos e, if_pos e]; rfl
  · rw [if_neg e, if_neg e]; rfl
theorem c3W {x y z : Int} : cond (tst 1 ((ax : Nat) : Int) 0) (cond (tst 1 ((ax : Nat) : Int) 1) z y) x = c3 x y z ax := by
  rw [bw0, bw1]; rfl
theorem c3_b {x y z : Int} {k : Nat} {u v : Int} (hx : u ≤ x ∧ x ≤ v) (hy : u ≤ y ∧ y ≤ v) (hz : u ≤ z ∧ z ≤ v) : u ≤ c3 x y z k ∧ c3 x y z k ≤ v := by
  unfold c3; split
  · exact hx
  · split
    · exact hy
    · exact hz
/-- between two walls across an axis -/
def btG (n ax : Nat) (lo hi : Int) (g : Nat) : Bool := decide (lo ≤ ((gC n g ax : Nat) : Int) ∧ ((gC n g ax : Nat) : Int) < hi)
theorem bx_bt {g : Nat} (hg : g < gN n) (hax : ax < 3) : bxG n (if ax = 0 then lo else 0) (if ax = 1 then lo else 0) (if ax = 2 then lo else 0) (if ax = 0 then hi else (n : Int)) (if ax = 1 then hi else (n : Int)) (if ax = 2 then hi else (n : Int)) g = btG n ax lo hi g := by
  obtain ⟨-, x, y, z, -⟩ := g_lt hg
  unfold bxG btG gC
  rw [decide_eq_decide]
  rcases (by omega : ax = 0 ∨ ax = 1 ∨ ax = 2) with rfl | rfl | rfl
  · simp; omega
  · simp; omega
  · simp; omega
theorem c_between318 (l : LX B n h) (hd : 14 ≤ d) (hn0 : 0 < n) (hn : n ≤ 52) (m : TbC B h) (kso : hk h so = (1, cl)) (hp : pVt PP 475 cl = mth) (hm : mth ≠ 0) (hu : pVt PP 365 cl = 365) (sa : SG n h a S) (ha : B + 246 ≤ a) (hax : ax < 3) (bl : -1000 ≤ lo ∧ lo ≤ 1000)
    (HS : ∀ q d, 10 ≤ d → LX B n q → Agr (fun c _ => c = a) h q → ∀ x y z : Nat, x < 8 * n → y < 8 * n → z < 8 * n → cll PP (ev PP (gsF gv) B) d mth [(2, rf so), (0, (x : Int)), (0, (y : Int)), (0, (z : Int))] q = some ((0, (0, if P x y z = true then 1 else 0)), q)) :
    Vd (cll PP (ev PP (gsF gv) B) d 318 [(2, rf (B + 92)), (2, rf so), (2, rf a), (0, (ax : Int)), (0, lo), (0, hi)] h) (fun h' => Agr (fun c _ => c = a) h h' ∧ SG n h' a (fun g => S g || (btG n ax lo hi g && P (g8 n g 0 : Nat) (g8 n g 1 : Nat) (g8 n g 2 : Nat)))) := by
  refine Vd.inq (D := 13) hd (Nat.le_of_ble_eq_true rfl) rfl (fun d hd Q K => ?_)
  refine Ends.eq (b318_0 l (by omega)) ?_
  rw [ad_rf, kso, bw0, bw1, bw2, bw0, bw1, bw2]
  show Ends (gdC (_ ∧ _ ∧ pVt PP 365 cl ≠ 0) (aft PP 318 79 82 _ _ _ (cll PP _ d (pVt PP 365 cl) _ h))) Q
  rw [hu]
  refine Ends.g ⟨rf_pos so, rfl, by decide⟩ ?_
  refine Ends.cv l (by decide +kernel) (c_unite365 l (by omega) hn0 hn m kso hp hm sa ha (by split <;> omega) (by split <;> omega) (by split <;> omega) HS) (fun q lq _ _ _ ⟨gq, sq⟩ => ?_)
  refine Ends.eq (b318_82 lq (by omega)) ?_
  exact Ends.sm (K _ ⟨gq, SG.congr hn0 sq (fun g hg => by
    show (S g || _) = (S g || _)
    rw [bx_bt hg hax])⟩)
/-- in a wedge: ax its axis, m which edges -/
def wdP (ax m : Nat) (l1 h1 l2 h2 x y z : Int) : Bool := decide ((if decide (m % 2 = 1) = true then 8 * h1 - c3 x y z (fA ax) else c3 x y z (fA ax) - 8 * l1) + (if decide (m / 2 % 2 = 1) = true then 8 * h2 - c3 x y z (sA ax) else c3 x y z (sA ax) - 8 * l2) ≤ 8 * (h1 - l1))
theorem wd_core {u v : Int} {b1 b2 : Bool} (bu : 0 ≤ u ∧ u ≤ 1000) (bv : 0 ≤ v ∧ v ≤ 1000) (q1 : -1000 ≤ l1 ∧ l1 ≤ 1000) (q2 : -1000 ≤ h1 ∧ h1 ≤ 1000) (q3 : -1000 ≤ l2 ∧ l2 ≤ 1000) (q4 : -1000 ≤ h2 ∧ h2 ≤ 1000) : cond (tst 4 (bop32 96 (cond (tst 0 (if b1 = true then (1 : Int) else 0) 0) (bop32 100 u (bop32 104 8 l1)) (bop32 100 (bop32 104 8 h1) u)) (cond (tst 0 (if b2 = true then (1 : Int) else 0) 0) (bop32 100 v (bop32 104 8 l2)) (bop32 100 (bop32 104 8 h2) v))) (bop32 104 8 (h1 - l1))) (0 : Int) 1 = if decide ((if b1 = true then 8 * h1 - u else u - 8 * l1) + (if b2 = true then 8 * h2 - v else v - 8 * l2) ≤ 8 * (h1 - l1)) = true then 1 else 0 := by
  have e1 : ∀ (b : Bool) (p q : Int), cond (tst 0 (if b = true then (1 : Int) else 0) 0) p q = if b = true then q else p := fun b p q => by cases b <;> rfl
  rw [show bop32 104 8 l1 = 8 * l1 from mul32 (by omega) (by omega), show bop32 104 8 h1 = 8 * h1 from mul32 (by omega) (by omega), show bop32 104 8 l2 = 8 * l2 from mul32 (by omega) (by omega), show bop32 104 8 h2 = 8 * h2 from mul32 (by omega) (by omega), show bop32 104 8 (h1 - l1) = 8 * (h1 - l1) from mul32 (by omega) (by omega), show bop32 100 u (8 * l1) = u - 8 * l1 from sub32 (by omega) (by omega), show bop32 100 (8 * h1) u = 8 * h1 - u from sub32 (by omega) (by omega), show bop32 100 v (8 * l2) = v - 8 * l2 from sub32 (by omega) (by omega), show bop32 100 (8 * h2) v = 8 * h2 - v from sub32 (by omega) (by omega), e1, e1]
  generalize ep : (if b1 = true then 8 * h1 - u else u - 8 * l1) = p
  generalize eq : (if b2 = true then 8 * h2 - v else v - 8 * l2) = q
  have bp : -10000 ≤ p ∧ p ≤ 10000 := by rw [← ep]; split <;> omega
  have bq : -10000 ≤ q ∧ q ≤ 10000 := by rw [← eq]; split <;> omega
  clear e1 ep eq
  rw [show bop32 96 p q = p + q from add32 (by omega) (by omega), ct4]
  by_cases w : 8 * (h1 - l1) < p + q
  · rw [if_pos w, if_neg (fun z => by have := of_decide_eq_true z; omega)]
  · rw [if_neg w, if_pos (decide_eq_true (by omega))]
/-- what a wedge keeps -/
def WdF (B : Nat) (h : AH) (ax m : Nat) (l1 h1 l2 h2 : Int) : Prop := hv h (B + 102) 0 = (ax : Int) ∧ hv h (B + 102) 1 = l1 ∧ hv h (B + 102) 2 = h1 ∧ hv h (B + 102) 3 = l2 ∧ hv h (B + 102) 7 = h2 ∧ hv h (B + 102) 5 = (if decide (m % 2 = 1) = true then 1 else 0) ∧ hv h (B + 102) 6 = (if decide (m / 2 % 2 = 1) = true then 1 else 0) ∧ hv h (B + 102) 4 = h1 - l1
theorem v475_is {m : Nat} {x y z : Int} (f : WdF B h ax m l1 h1 l2 h2) (hx : 0 ≤ x ∧ x ≤ 1000) (hy : 0 ≤ y ∧ y ≤ 1000) (hz : 0 ≤ z ∧ z ≤ 1000) (q1 : -1000 ≤ l1 ∧ l1 ≤ 1000) (q2 : -1000 ≤ h1 ∧ h1 ≤ 1000) (q3 : -1000 ≤ l2 ∧ l2 ≤ 1000) (q4 : -1000 ≤ h2 ∧ h2 ≤ 1000) : v475 B h x y z = if wdP ax m l1 h1 l2 h2 x y z = true then 1 else 0 := by
  obtain ⟨f0, f1, f2, f3, f7, f5, f6, f4⟩ := f
  unfold v475
  rw [f0, f1, f2, f3, f7, f5, f6, f4, c3A (z := z), c3S (x := x)]
  exact wd_core (c3_b hx hy hz) (c3_b hx hy hz) q1 q2 q3 q4
theorem wd_bits : ∀ m : Fin 4, cond (tst 0 (bop32 126 ((m : Nat) : Int) 1) 0) (0 : Int) 1 = (if decide ((m : Nat) % 2 = 1) = true then 1 else 0) ∧ cond (tst 0 (bop32 126 ((m : Nat) : Int) 2) 0) (0 : Int) 1 = (if decide ((m : Nat) / 2 % 2 = 1) = true then 1 else 0) := by decide +kernel
theorem c_set476 {m : Nat} (l : LX B n h) (hd : 10 ≤ d) (hm : m < 4) (q1 : -1000 ≤ l1 ∧ l1 ≤ 1000) (q2 : -1000 ≤ h1 ∧ h1 ≤ 1000) : Vd (cll PP (ev PP (gsF gv) B) d 476 [(2, rf (B + 102)), (0, (ax : Int)), (0, l1), (0, h1), (0, l2), (0, h2), (0, (m : Int))] h) (fun h' => Agr (fun c _ => c = B + 102) h h' ∧ WdF B h' ax m l1 h1 l2 h2) := by
  refine Vd.inq (D := 9) hd (Nat.le_of_ble_eq_true rfl) rfl (fun d hd Q K => ?_)
  refine Ends.eq (b476_0 l (by omega)) ?_
  obtain ⟨e1, e2⟩ := wd_bits ⟨m, hm⟩
  simp only at e1 e2
  rw [e1, e2, show bop32 100 h1 l1 = h1 - l1 from sub32 (by omega) (by omega)]
  have g1 : Agr (fun c _ => c = B + 102) h h := Agr.rf
  refine Ends.sm (K _ ⟨(((((((g1.set (a := B + 102) rfl).set (a := B + 102) rfl).set (a := B + 102) rfl).set (a := B + 102) rfl).set (a := B + 102) rfl).set (a := B + 102) rfl).set (a := B + 102) rfl).set (a := B + 102) rfl, ?_, ?_, ?_, ?_, ?_, ?_, ?_, ?_⟩) <;> (repeat rw [hv_set_ne (by omega)]) <;> exact hv_set_at ..
/-- both edges of a wedge are alike -/
def wdE (w : Nat) (nb : Nat → Int) : Bool := decide (nb (3 + fA (w / 4)) - nb (fA (w / 4)) = nb (3 + sA (w / 4)) - nb (sA (w / 4)))
def wdG (n w : Nat) (nb : Nat → Int) (g : Nat) : Bool := wdE w nb && (bxG n (nb 0) (nb 1) (nb 2) (nb 3) (nb 4) (nb 5) g && wdP (w / 4) (w % 4) (nb (fA (w / 4))) (nb (3 + fA (w / 4))) (nb (sA (w / 4))) (nb (3 + sA (w / 4))) (g8 n g 0 : Nat) (g8 n g 1 : Nat) (g8 n g 2 : Nat))
theorem fA_2 : fA ax ≤ 1 := by unfold fA; split <;> omega
theorem sA_2 : 1 ≤ sA ax ∧ sA ax ≤ 2 := by unfold sA; split <;> omega
theorem c_wedge320 (l : LX B n h) (hd : 14 ≤ d) (hn0 : 0 < n) (hn : n ≤ 52) (m : TbC B h) (pv : PvC B h 7 nb) (nbb : ∀ k, k < 6 → -200 ≤ nb k ∧ nb k ≤ 200) (e6 : nb 6 = (w : Int)) (hw : w < 12) (sa : SG n h a S) (ha : B + 246 ≤ a) :
    Vd (cll PP (ev PP (gsF gv) B) d 320 [(2, rf (B + 92)), (2, rf a)] h) (fun h' => Agr (fun c _ => c = B + 102 ∨ c = a) h h' ∧ SG n h' a (fun g => S g || wdG n w nb g)) := by
  refine Vd.inq (D := 13) hd (Nat.le_of_ble_eq_true rfl) rfl (fun d hd Q K => ?_)
  have hf := fA_2 (ax := w / 4)
  have hs := sA_2 (ax := w / 4)
  refine Ends.eq (b320_0 l (by omega)) ?_
  rw [show Int.toNat 6 = 6 from rfl, pv 6 (by decide), e6, show bop32 108 (w : Int) 4 = ((w / 4 : Nat) : Int) from divNN (y := 4) (by omega) (by decide), show bop32 112 (w : Int) 4 = ((w % 4 : Nat) : Int) from modNN (y := 4) (by decide) (by decide), bwA, bwS, show bop32 96 (3 : Int) ((fA (w / 4) : Nat) : Int) = ((3 + fA (w / 4) : Nat) : Int) from addNN (x := 3) (by omega), show bop32 96 (3 : Int) ((sA (w / 4) : Nat) : Int) = ((3 + sA (w / 4) : Nat) : Int) from addNN (x := 3) (by omega), tn, tn, tn, tn, pv (fA (w / 4)) (by omega), pv (sA (w / 4)) (by omega), pv (3 + fA (w / 4)) (by omega), pv (3 + sA (w / 4)) (by omega)]
  have n1 := nbb (fA (w / 4)) (by omega)
  have n2 := nbb (sA (w / 4)) (by omega)
  have n3 := nbb (3 + fA (w / 4)) (by omega)
  have n4 := nbb (3 + sA (w / 4)) (by omega)
  rw [show bop32 100 (nb (3 + fA (w / 4))) (nb (fA (w / 4))) = nb (3 + fA (w / 4)) - nb (fA (w / 4)) from sub32 (by omega) (by omega), show bop32 100 (nb (3 + sA (w / 4))) (nb (sA (w / 4))) = nb (3 + sA (w / 4)) - nb (sA (w / 4)) from sub32 (by omega) (by omega)]
  refine Ends.g ⟨by omega, by omega⟩ (Ends.g ⟨by omega, by omega⟩ (Ends.g ⟨by omega, by omega⟩ (Ends.g ⟨by omega, by omega⟩ (Ends.b0 (fun e => ?_) (fun e => ?_)))))
  · refine Ends.cv l (by decide +kernel) (c_set476 l (by omega) (by omega) (by omega) (by omega)) (fun q lq _ _ _ ⟨gq, fq⟩ => ?_)
    have mq : TbC B q := m.ext l.2.2 gq.ext (fun c k h1 h2 w => by omega)
    have pq := pv.agr gq (fun k w => by omega)
    have n0 := nbb 0 (by decide)
    have n1' := nbb 1 (by decide)
    have n2' := nbb 2 (by decide)
    refine Ends.eq (b320_115 lq (by omega)) ?_
    rw [show Int.toNat 0 = 0 from rfl, show Int.toNat 1 = 1 from rfl, show Int.toNat 2 = 2 from rfl, show Int.toNat 3 = 3 from rfl, show Int.toNat 4 = 4 from rfl, show Int.toNat 5 = 5 from rfl, pq 0 (by decide), pq 1 (by decide), pq 2 (by decide), pq 3 (by decide), pq 4 (by decide), pq 5 (by decide)]
    refine Ends.cv lq (by decide +kernel) (c_unite365 (P := wdP (w / 4) (w % 4) (nb (fA (w / 4))) (nb (3 + fA (w / 4))) (nb (sA (w / 4))) (nb (3 + sA (w / 4)))) (mth := 475) lq (by omega) hn0 hn mq (lk_102 lq) (by decide +kernel) (by decide) (sa.agr gq (fun _ z => by omega)) ha (by omega) (by omega) (by omega) (fun q2 d hd l2 g2 x y z hx hy hz => ?_)) (fun q2 l2 _ _ _ ⟨g2, s2⟩ => ?_)
    · rw [r475 l2 (by omega), v475_is (m := w % 4) (ax := w / 4) (l1 := nb (fA (w / 4))) (h1 := nb (3 + fA (w / 4))) (l2 := nb (sA (w / 4))) (h2 := nb (3 + sA (w / 4))) ?_ (by omega) (by omega) (by omega) (by omega) (by omega) (by omega) (by omega)]
      obtain ⟨f0, f1, f2, f3, f7, f5, f6, f4⟩ := fq
      have at' : ∀ k, hv q2 (B + 102) k = hv q (B + 102) k := fun k => g2.at _ _ (by omega)
      exact ⟨by rw [at', f0], by rw [at', f1], by rw [at', f2], by rw [at', f3], by rw [at', f7], by rw [at', f5], by rw [at', f6], by rw [at', f4]⟩
    refine Ends.eq (b320_163 l2 (by omega)) ?_
    exact Ends.sm (K _ ⟨(gq.sub (fun c k z => Or.inl z)).tr g2 (fun c k z => Or.inr z), SG.congr hn0 s2 (fun g hg => by
      show (S g || _) = (S g || wdG n w nb g)
      unfold wdG wdE
      rw [decide_eq_true e, Bool.true_and])⟩)
  · exact Ends.sm (K _ ⟨Agr.rf, SG.congr hn0 sa (fun g hg => by
      show S g = (S g || wdG n w nb g)
      unfold wdG wdE
      rw [decide_eq_false e, Bool.false_and, Bool.or_false])⟩)
/-- in a sink -/
def skP (ax : Nat) (u v fr hf : Int) (up : Bool) (x y z : Int) : Bool := decide ((c3 x y z (fA ax) - 8 * u ≤ 8 * hf - (if up = true then c3 x y z ax - 8 * fr else 8 * fr - c3 x y z ax) ∧ 8 * u - c3 x y z (fA ax) ≤ 8 * hf - (if up = true then c3 x y z ax - 8 * fr else 8 * fr - c3 x y z ax)) ∧ c3 x y z (sA ax) - 8 * v ≤ 8 * hf - (if up = true then c3 x y z ax - 8 * fr else 8 * fr - c3 x y z ax) ∧ 8 * v - c3 x y z (sA ax) ≤ 8 * hf - (if up = true then c3 x y z ax - 8 * fr else 8 * fr - c3 x y z ax))
theorem sk_core {a b hh u v hf : Int} (ba : 0 ≤ a ∧ a ≤ 1000) (bb : 0 ≤ b ∧ b ≤ 1000) (bh : -20000 ≤ hh ∧ hh ≤ 20000) (q1 : -1000 ≤ u ∧ u ≤ 1000) (q2 : -1000 ≤ v ∧ v ≤ 1000) (q3 : -1000 ≤ hf ∧ hf ≤ 1000) : cond (tst 4 (v886 (bop32 100 a (bop32 104 8 u))) (bop32 100 (bop32 104 8 hf) hh)) (0 : Int) (cond (tst 4 (v886 (bop32 100 b (bop32 104 8 v))) (bop32 100 (bop32 104 8 hf) hh)) 0 1) = if decide ((a - 8 * u ≤ 8 * hf - hh ∧ 8 * u - a ≤ 8 * hf - hh) ∧ b - 8 * v ≤ 8 * hf - hh ∧ 8 * v - b ≤ 8 * hf - hh) = true then 1 else 0 := by
  rw [show bop32 104 8 u = 8 * u from mul32 (by omega) (by omega), show bop32 104 8 v = 8 * v from mul32 (by omega) (by omega), show bop32 104 8 hf = 8 * hf from mul32 (by omega) (by omega), show bop32 100 a (8 * u) = a - 8 * u from sub32 (by omega) (by omega), show bop32 100 b (8 * v) = b - 8 * v from sub32 (by omega) (by omega), show bop32 100 (8 * hf) hh = 8 * hf - hh from sub32 (by omega) (by omega), v886_is (x := a - 8 * u) (by omega) (by omega), v886_is (x := b - 8 * v) (by omega) (by omega), ct4, ct4]
  simp only [decide_eq_true_eq]
  by_cases w1 : a - 8 * u < 0 <;> by_cases w2 : b - 8 * v < 0
  · rw [if_pos w1, if_pos w2]; split
    · rw [if_neg (by omega)]
    · split
      · rw [if_neg (by omega)]
      · rw [if_pos (by omega)]
  · rw [if_pos w1, if_neg w2]; split
    · rw [if_neg (by omega)]
    · split
      · rw [if_neg (by omega)]
      · rw [if_pos (by omega)]
  · rw [if_neg w1, if_pos w2]; split
    · rw [if_neg (by omega)]
    · split
      · rw [if_neg (by omega)]
      · rw [if_pos (by omega)]
  · rw [if_neg w1, if_neg w2]; split
    · rw [if_neg (by omega)]
    · split
      · rw [if_neg (by omega)]
      · rw [if_pos (by omega)]
def SkF (B : Nat) (h : AH) (ax : Nat) (u v fr hf : Int) (up : Bool) : Prop := hv h (B + 103) 0 = (ax : Int) ∧ hv h (B + 103) 1 = u ∧ hv h (B + 103) 2 = v ∧ hv h (B + 103) 3 = fr ∧ hv h (B + 103) 5 = (if up = true then 1 else 0) ∧ hv h (B + 103) 4 = hf
theorem v378_is {x y z u v fr hf : Int} {up : Bool} (f : SkF B h ax u v fr hf up) (hx : 0 ≤ x ∧ x ≤ 1000) (hy : 0 ≤ y ∧ y ≤ 1000) (hz : 0 ≤ z ∧ z ≤ 1000) (q1 : -1000 ≤ u ∧ u ≤ 1000) (q2 : -1000 ≤ v ∧ v ≤ 1000) (q3 : -1000 ≤ fr ∧ fr ≤ 1000) (q4 : -1000 ≤ hf ∧ hf ≤ 1000) : v378 B h x y z = if skP ax u v fr hf up x y z = true then 1 else 0 := by
  obtain ⟨f0, f1, f2, f3, f5, f4⟩ := f
  have bw := c3_b (k := ax) hx hy hz
  unfold v378
  rw [f0, f1, f2, f3, f5, f4, c3A (z := z), c3S (x := x), c3W, show bop32 104 8 fr = 8 * fr from mul32 (by omega) (by omega), show bop32 100 (8 * fr) (c3 x y z ax) = 8 * fr - c3 x y z ax from sub32 (by omega) (by omega), show bop32 100 (c3 x y z ax) (8 * fr) = c3 x y z ax - 8 * fr from sub32 (by omega) (by omega), show cond (tst 0 (if up = true then (1 : Int) else 0) 0) (8 * fr - c3 x y z ax) (c3 x y z ax - 8 * fr) = (if up = true then c3 x y z ax - 8 * fr else 8 * fr - c3 x y z ax) by cases up <;> rfl]
  exact sk_core (c3_b hx hy hz) (c3_b hx hy hz) (by split <;> omega) q1 q2 q4
theorem c_set379 {u v fr hf : Int} {up : Bool} (l : LX B n h) (hd : 10 ≤ d) : Vd (cll PP (ev PP (gsF gv) B) d 379 [(2, rf (B + 103)), (0, (ax : Int)), (0, u), (0, v), (0, fr), (0, (if up = true then (1 : Int) else 0)), (0, hf)] h) (fun h' => Agr (fun c _ => c = B + 103) h h' ∧ SkF B h' ax u v fr hf up) := by
  refine Vd.inq (D := 9) hd (Nat.le_of_ble_eq_true rfl) rfl (fun d hd Q K => ?_)
  refine Ends.eq (b379_0 l (by omega)) (Ends.g (by cases up <;> decide) ?_)
  have g1 : Agr (fun c _ => c = B + 103) h h := Agr.rf
  refine Ends.sm (K _ ⟨(((((g1.set (a := B + 103) rfl).set (a := B + 103) rfl).set (a := B + 103) rfl).set (a := B + 103) rfl).set (a := B + 103) rfl).set (a := B + 103) rfl, ?_, ?_, ?_, ?_, ?_, ?_⟩) <;> (repeat rw [hv_set_ne (by omega)]) <;> exact hv_set_at ..
def skG (n ax : Nat) (nb : Nat → Int) (g : Nat) : Bool := btG n ax (if nb 3 < nb 2 then nb 3 else nb 2) (if nb 3 < nb 2 then nb 2 else nb 3) g && skP ax (nb 0) (nb 1) (nb 2) (nb 4) (decide (nb 2 < nb 3)) (g8 n g 0 : Nat) (g8 n g 1 : Nat) (g8 n g 2 : Nat)
theorem max_I {x y : Int} : v891 x y = if y < x then x else y := by
  unfold v891; rw [ct2]; by_cases e : y < x
  · rw [if_pos e, if_neg (by omega)]
  · rw [if_neg e]; split <;> omega
theorem c_sink309 (l : LX B n h) (hd : 15 ≤ d) (hn0 : 0 < n) (hn : n ≤ 52) (m : TbC B h) (pv : PvC B h 5 nb) (nbb : ∀ k, k < 5 → -200 ≤ nb k ∧ nb k ≤ 200) (hax : ax < 3) (sa : SG n h a S) (ha : B + 246 ≤ a) :
    Vd (cll PP (ev PP (gsF gv) B) d 309 [(2, rf (B + 92)), (0, (ax : Int)), (2, rf a)] h) (fun h' => Agr (fun c _ => c = B + 103 ∨ c = a) h h' ∧ SG n h' a (fun g => S g || skG n ax nb g)) := by
  refine Vd.inq (D := 14) hd (Nat.le_of_ble_eq_true rfl) rfl (fun d hd Q K => ?_)
  have n0 := nbb 0 (by decide)
  have n1 := nbb 1 (by decide)
  have n2 := nbb 2 (by decide)
  have n3 := nbb 3 (by decide)
  have n4 := nbb 4 (by decide)
  refine Ends.eq (b309_0 l (by omega)) ?_
  rw [show Int.toNat 0 = 0 from rfl, show Int.toNat 1 = 1 from rfl, show Int.toNat 2 = 2 from rfl, show Int.toNat 3 = 3 from rfl, show Int.toNat 4 = 4 from rfl, pv 0 (by decide), pv 1 (by decide), pv 2 (by decide), pv 3 (by decide), pv 4 (by decide), show cond (tst 5 (nb 3) (nb 2)) (0 : Int) 1 = (if decide (nb 2 < nb 3) = true then 1 else 0) by
    rw [ct5]; by_cases e : nb 2 < nb 3
    · rw [if_pos e, if_pos (decide_eq_true e)]
    · rw [if_neg e, if_neg (fun z => e (of_decide_eq_true z))]]
  refine Ends.cv l (by decide +kernel) (c_set379 l (by omega)) (fun q lq _ _ _ ⟨gq, fq⟩ => ?_)
  have mq : TbC B q := m.ext l.2.2 gq.ext (fun c k h1 h2 w => by omega)
  have pq := pv.agr gq (fun k w => by omega)
  refine Ends.eq (b309_52 lq (by omega)) ?_
  rw [show Int.toNat 2 = 2 from rfl, show Int.toNat 3 = 3 from rfl, pq 2 (by decide), pq 3 (by decide), minI, max_I, show (if nb 3 < nb 2 then nb 2 else nb 3) = (if nb 3 < nb 2 then nb 2 else nb 3) from rfl]
  refine Ends.cv lq (by decide +kernel) (c_between318 (P := skP ax (nb 0) (nb 1) (nb 2) (nb 4) (decide (nb 2 < nb 3))) (mth := 378) lq (by omega) hn0 hn mq (lk_103 lq) (by decide +kernel) (by decide) (by decide +kernel) (sa.agr gq (fun _ z => by omega)) ha hax (by split <;> omega) (fun q2 d hd l2 g2 x y z hx hy hz => ?_)) (fun q2 l2 _ _ _ ⟨g2, s2⟩ => ?_)
  · rw [r378 l2 (by omega), v378_is (ax := ax) (u := nb 0) (v := nb 1) (fr := nb 2) (hf := nb 4) (up := decide (nb 2 < nb 3)) ?_ (by omega) (by omega) (by omega) (by omega) (by omega) (by omega) (by omega)]
    obtain ⟨f0, f1, f2, f3, f5, f4⟩ := fq
    have at' : ∀ k, hv q2 (B + 103) k = hv q (B + 103) k := fun k => g2.at _ _ (by omega)
    exact ⟨by rw [at', f0], by rw [at', f1], by rw [at', f2], by rw [at', f3], by rw [at', f5], by rw [at', f4]⟩
  refine Ends.eq (b309_92 l2 (by omega)) ?_
  exact Ends.sm (K _ ⟨(gq.sub (fun c k z => Or.inl z)).tr g2 (fun c k z => Or.inr z), s2⟩)
end WEDGE
