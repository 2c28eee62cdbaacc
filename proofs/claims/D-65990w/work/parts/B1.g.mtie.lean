/-! L3: the model ties -/
section MTIE
variable {gv : Nat → Int} {B n d : Nat} {h : AH} {pl jn : Nat} {ja jb jx : Nat → Nat} {js : Nat → Int} {ou : Nat → Bool} {a : Nat}
/-- joints of the model -/
def AsM (B : Nat) (h : AH) (pl jn : Nat) (ja jb jx : Nat → Nat) (js : Nat → Int) : Prop := hv h (B + 149) 120 = (pl : Int) ∧ hv h (B + 149) 121 = (jn : Int) ∧ pl ≤ 12 ∧ jn ≤ 24 ∧ ∀ k, k < jn → hv h (B + 210) k = (if jb k = 12 then -1 else (ja k : Int)) ∧ hv h (B + 211) k = (if jb k = 12 then (ja k : Int) else (jb k : Int)) ∧ hv h (B + 212) k = (jx k : Int) ∧ hv h (B + 213) k = js k ∧ ja k < pl ∧ (jb k < pl ∨ jb k = 12) ∧ jx k ≤ 3 ∧ -1000 ≤ js k ∧ js k ≤ 1000 ∧ (jb k = 12 → jx k < 3)
theorem AsM.agr {W : Nat → Nat → Prop} {q : AH} (J : AsM B h pl jn ja jb jx js) (g : Agr W h q) (h1 : ¬ W (B + 149) 120) (h2 : ¬ W (B + 149) 121) (h3 : ∀ c k, B + 210 ≤ c → c ≤ B + 213 → ¬ W c k) : AsM B q pl jn ja jb jx js := by
  obtain ⟨j1, j2, j3, j4, j5⟩ := J
  refine ⟨by rw [g.at _ _ h1]; exact j1, by rw [g.at _ _ h2]; exact j2, j3, j4, fun k hk => ?_⟩
  rw [g.at _ _ (h3 _ _ (by omega) (by omega)), g.at _ _ (h3 _ _ (by omega) (by omega)), g.at _ _ (h3 _ _ (by omega) (by omega)), g.at _ _ (h3 _ _ (by omega) (by omega))]
  exact j5 k hk
def TuH (B : Nat) (h : AH) (pl : Nat) (τ : Nat → Nat) (β : Nat → Int) (st : Nat → Bool) (sa : Nat → Int) : Prop := ∀ x, x < pl → hv h (B + 214) x = (τ x : Int) ∧ hv h (B + 215) x = β x ∧ hv h (B + 216) x = (if st x = true then 1 else 0) ∧ (st x = true → hv h (B + 217) x = sa x)
def utW (B : Nat) : Nat → Nat → Prop := fun c _ => B + 214 ≤ c ∧ c ≤ B + 217
theorem UfI.bd {A : Nat → Prop} {m : Nat} {τ : Nat → Nat} {β : Nat → Int} {st : Nat → Bool} {sa : Nat → Int} (u : UfI pl jn ja jb js A m τ β st sa) (hp : pl ≤ 12) {x : Nat} (hx : x < pl) : -12000 ≤ β x ∧ β x ≤ 12000 ∧ (st (τ x) = true → -24000 ≤ sa (τ x) ∧ sa (τ x) ≤ 24000) ∧ τ x < pl := by
  obtain ⟨u1, u2, u3, u4, u5, u6, u7⟩ := u
  have s1 := szU_le (pl := pl) (τ := τ) (r := τ x)
  have l1 := (u1 x hx).1
  have a1 := u6 x (τ x) hx (by omega) (u1 x hx).2.1.symm
  have a2 := u6 (τ x) x (by omega) hx (u1 x hx).2.1
  rw [(u1 x hx).2.2.2] at a1 a2
  rw [(u1 x hx).2.1] at a2
  exact ⟨by omega, by omega, fun e => by have := u7 x hx e; omega, by omega⟩
theorem c_join724 {x y : Nat} {b : Int} {τ : Nat → Nat} {β : Nat → Int} {st : Nat → Bool} {sa : Nat → Int} (l : LX B n h) (hd : 10 ≤ d) (e120 : hv h (B + 149) 120 = (pl : Int)) (hp : pl ≤ 12) (hx : x < pl) (hy : y < pl) (hxy : x ≠ y) (t : TuH B h pl τ β st sa) (hb : -100000 ≤ b ∧ b ≤ 100000) (bb : ∀ z, z < pl → -100000 ≤ β z ∧ β z ≤ 100000) (bs : ∀ z, z < pl → (z = x ∨ z = y) → st z = true → -100000 ≤ sa z ∧ sa z ≤ 100000) (tl : ∀ z, z < pl → τ z < pl) :
    Vt 0 (cll PP (ev PP (gsF gv) B) d 724 [(2, rf (B + 149)), (0, (x : Int)), (0, (y : Int)), (0, b)] h) (fun v h' => Agr (utW B) h h' ∧ ((v = 0 ∧ st (ldU x y) = true ∧ st (otU x y) = true ∧ sa (otU x y) ≠ sa (ldU x y) + faU x y b) ∨ (v = 1 ∧ (st (ldU x y) = true → st (otU x y) = true → sa (otU x y) = sa (ldU x y) + faU x y b) ∧ TuH B h' pl (fun z => if τ z = otU x y then ldU x y else τ z) (fun z => if τ z = otU x y then β z + faU x y b else β z) (fun r => st r || (decide (r = ldU x y) && st (otU x y))) (fun r => if r = ldU x y ∧ st (otU x y) = true ∧ st (ldU x y) = false then sa (otU x y) - faU x y b else sa r)))) := by
  refine Vt.inq (D := 9) hd (Nat.le_of_ble_eq_true rfl) rfl (fun d hd Q K => ?_)
  obtain ⟨L, O, f, eL, eO, ef, hLp, hOp, hLO, fb, Lxy, Oxy⟩ : ∃ L O f, ldU x y = L ∧ otU x y = O ∧ faU x y b = f ∧ L < pl ∧ O < pl ∧ L < O ∧ (-100000 ≤ f ∧ f ≤ 100000) ∧ (L = x ∨ L = y) ∧ (O = x ∨ O = y) := by
    refine ⟨_, _, _, rfl, rfl, rfl, ?_, ?_, ?_, ?_, ?_, ?_⟩
    · unfold ldU; split <;> omega
    · unfold otU; split <;> omega
    · unfold ldU otU; split <;> omega
    · unfold faU; split <;> omega
    · unfold ldU; split <;> omega
    · unfold otU; split <;> omega
  have v1 : cond (tst 3 (x : Int) (y : Int)) (y : Int) (x : Int) = (L : Int) := by
    rw [← eL, tst3]; unfold ldU
    by_cases e : x < y
    · rw [if_pos e, decide_eq_true (by omega)]; rfl
    · rw [if_neg e, decide_eq_false (by omega)]; rfl
  have v2 : cond (tst 3 (x : Int) (y : Int)) (x : Int) (y : Int) = (O : Int) := by
    rw [← eO, tst3]; unfold otU
    by_cases e : x < y
    · rw [if_pos e, decide_eq_true (by omega)]; rfl
    · rw [if_neg e, decide_eq_false (by omega)]; rfl
  have v3 : cond (tst 3 (x : Int) (y : Int)) (uop 0 b) b = f := by
    rw [← ef, tst3]; unfold faU
    by_cases e : x < y
    · rw [if_pos e, decide_eq_true (by omega)]; rfl
    · rw [if_neg e, decide_eq_false (by omega)]; exact neg32 (by omega) (by omega)
  rw [eL, eO, ef] at K
  obtain ⟨tL1, tL2, tL3, tL4⟩ := t L hLp
  obtain ⟨tO1, tO2, tO3, tO4⟩ := t O hOp
  -- the loop over the places
  have lpp : ∀ (st' : Nat → Bool) (sa' : Nat → Int) (q0 : AH) (u7 : AV), LX B n q0 → Agr (utW B) h q0 → TuH B q0 pl τ β st' sa' → (∀ q, Agr (utW B) h q → TuH B q pl (fun z => if τ z = O then L else τ z) (fun z => if τ z = O then β z + f else β z) st' sa' → Q ((0, (0, 1)), q)) → Ends (ev PP (gsF gv) B d 724 124 [(2, rf (B + 149)), (0, (x : Int)), (0, (y : Int)), (0, b), (0, (L : Int)), (0, (O : Int)), (0, f), u7] [] q0) Q := by
    intro st' sa' q0 u7 l0 g0 t0 K'
    have key : ∀ (r i : Nat) (q : AH), i + r = pl → LX B n q → Agr (utW B) h q → TuH B q pl (fun z => if τ z = O ∧ z < i then L else τ z) (fun z => if τ z = O ∧ z < i then β z + f else β z) st' sa' → Ends (ev PP (gsF gv) B d 724 127 [(2, rf (B + 149)), (0, (x : Int)), (0, (y : Int)), (0, b), (0, (L : Int)), (0, (O : Int)), (0, f), (0, (i : Int))] [] q) Q := by
      intro r
      induction r with
      | zero =>
        intro i q hi lq gq tq
        have e1 : hv q (B + 149) 120 = (pl : Int) := by rw [gq.at _ _ (by unfold utW; omega)]; exact e120
        refine Ends.eq (b724_127 (n := n) (by (repeat' first | assumption | refine LX.setF _ _ ?_ (by decide +kernel) | refine LX.setS ?_ rfl | refine LX.setA ?_ (by first | assumption | omega))) (by first | assumption | omega)) ?_
        rw [e1]
        refine Ends.b3 (fun _ => Ends.sm (K' _ gq (fun z hz => ?_))) (fun z => by omega)
        obtain ⟨q1, q2, q3, q4⟩ := tq z hz
        have : (τ z = O ∧ z < i) = (τ z = O) := by
          have : z < i := by omega
          simp [this]
        simp only [this] at q1 q2
        exact ⟨q1, q2, q3, q4⟩
      | succ r ih =>
        intro i q hi lq gq tq
        have hip : i < pl := by omega
        have e1 : hv q (B + 149) 120 = (pl : Int) := by rw [gq.at _ _ (by unfold utW; omega)]; exact e120
        have ni : ¬ (τ i = O ∧ i < i) := by omega
        obtain ⟨q1, q2, q3, q4⟩ := tq i hip
        simp only [ni, if_false] at q1 q2
        have bi := bb i hip
        have nx : ∀ q2, LX B n q2 → Agr (utW B) h q2 → TuH B q2 pl (fun z => if τ z = O ∧ z < i + 1 then L else τ z) (fun z => if τ z = O ∧ z < i + 1 then β z + f else β z) st' sa' → Ends (ev PP (gsF gv) B d 724 172 [(2, rf (B + 149)), (0, (x : Int)), (0, (y : Int)), (0, b), (0, (L : Int)), (0, (O : Int)), (0, f), (0, (i : Int))] [] q2) Q := fun q2 l2 g2 t2 => by
          refine Ends.eq (b724_172 (n := n) (by (repeat' first | assumption | refine LX.setF _ _ ?_ (by decide +kernel) | refine LX.setS ?_ rfl | refine LX.setA ?_ (by first | assumption | omega))) (by first | assumption | omega)) ?_
          rw [w_succ (by omega)]
          exact ih (i + 1) q2 (by omega) l2 g2 t2
        refine Ends.eq (b724_127 (n := n) (by (repeat' first | assumption | refine LX.setF _ _ ?_ (by decide +kernel) | refine LX.setS ?_ rfl | refine LX.setA ?_ (by first | assumption | omega))) (by first | assumption | omega)) ?_
        rw [e1, tn, q1]
        refine Ends.b3 (fun z => by omega) (fun _ => Ends.g ⟨by omega, by omega⟩ ?_)
        by_cases e : τ i = O
        · refine Ends.b0 (fun _ => ?_) (fun z => absurd (by omega) z)
          rw [q2, add32 (by omega) (by omega), an0, an0]
          refine nx _ (LX.setS (LX.setS lq rfl) rfl) ((gq.set (by unfold utW; omega)).set (by unfold utW; omega)) (fun z hz => ?_)
          obtain ⟨p1, p2, p3, p4⟩ := tq z hz
          rw [hv_na (show B + 216 ≠ B + 215 by omega), hv_na (show B + 216 ≠ B + 214 by omega), hv_na (show B + 217 ≠ B + 215 by omega), hv_na (show B + 217 ≠ B + 214 by omega), hv_na (show B + 214 ≠ B + 215 by omega)]
          by_cases y2 : z = i
          · rw [y2, hv_set_at, hv_set_at]
            have : τ i = O ∧ i < i + 1 := ⟨e, by omega⟩
            simp only [this, and_self, if_true]
            rw [y2] at p3 p4
            exact ⟨trivial, trivial, p3, p4⟩
          · rw [hv_set_ne (by omega), hv_set_ne (by omega), hv_na (show B + 215 ≠ B + 214 by omega)]
            have : (τ z = O ∧ z < i + 1) = (τ z = O ∧ z < i) := by
              have : (z < i + 1) = (z < i) := by rw [eq_iff_iff]; omega
              rw [this]
            simp only [this]
            exact ⟨p1, p2, p3, p4⟩
        · refine Ends.b0 (fun z => absurd (by omega) e) (fun _ => nx q lq gq (fun z hz => ?_))
          obtain ⟨p1, p2, p3, p4⟩ := tq z hz
          have : (τ z = O ∧ z < i + 1) = (τ z = O ∧ z < i) := by
            rw [eq_iff_iff]
            constructor
            · rintro ⟨w1, w2⟩
              have : z ≠ i := fun w => by rw [w] at w1; exact e w1
              exact ⟨w1, by omega⟩
            · rintro ⟨w1, w2⟩; exact ⟨w1, by omega⟩
          simp only [this]
          exact ⟨p1, p2, p3, p4⟩
    refine Ends.eq (b724_124 (n := n) (by (repeat' first | assumption | refine LX.setF _ _ ?_ (by decide +kernel) | refine LX.setS ?_ rfl | refine LX.setA ?_ (by first | assumption | omega))) (by first | assumption | omega)) ?_
    refine key pl 0 q0 (by omega) l0 g0 (fun z hz => ?_)
    have : ¬ (τ z = O ∧ z < 0) := by omega
    simp only [this, if_false]
    exact t0 z hz
  have mid : ∀ u7 : AV, (st L = true → st O = true → sa O = sa L + f) → Ends (ev PP (gsF gv) B d 724 79 [(2, rf (B + 149)), (0, (x : Int)), (0, (y : Int)), (0, b), (0, (L : Int)), (0, (O : Int)), (0, f), u7] [] h) Q := fun u7 ok => by
    refine Ends.eq (b724_79 (n := n) (by (repeat' first | assumption | refine LX.setF _ _ ?_ (by decide +kernel) | refine LX.setS ?_ rfl | refine LX.setA ?_ (by first | assumption | omega))) (by first | assumption | omega)) ?_
    rw [tn, tn, tL3, tO3]
    refine Ends.g ⟨by omega, by omega⟩ ?_
    have fin : ∀ q st' sa', st' = (fun r => st r || (decide (r = L) && st O)) → sa' = (fun r => if r = L ∧ st O = true ∧ st L = false then sa O - f else sa r) → Agr (utW B) h q → TuH B q pl (fun z => if τ z = O then L else τ z) (fun z => if τ z = O then β z + f else β z) st' sa' → Q ((0, (0, 1)), q) := fun q st' sa' e1 e2 gq tq => K _ _ ⟨gq, Or.inr ⟨rfl, ok, by rw [← e1, ← e2]; exact tq⟩⟩
    cases sO : st O
    · refine Ends.b0 (fun _ => ?_) (fun z => absurd rfl z)
      refine lpp st sa h _ l Agr.rf t (fun q gq tq => fin q st sa ?_ ?_ gq tq)
      · funext r; rw [sO, Bool.and_false, Bool.or_false]
      · funext r; rw [sO, if_neg (fun z => Bool.false_ne_true z.2.1)]
    · refine Ends.b0 (fun z => absurd z (by decide)) (fun _ => Ends.g ⟨by omega, by omega⟩ ?_)
      cases sL : st L
      · refine Ends.b1 (fun z => absurd rfl z) (fun _ => ?_)
        have bo := bs O hOp Oxy sO
        rw [tO4 sO, sub32 (by omega) (by omega), an0]
        refine lpp (fun r => st r || (decide (r = L) && st O)) (fun r => if r = L ∧ st O = true ∧ st L = false then sa O - f else sa r) _ _ (LX.setS (LX.setS l rfl) rfl) ((Agr.rf.set (by unfold utW; omega)).set (by unfold utW; omega)) (fun z hz => ?_) (fun q gq tq => fin q _ _ rfl rfl gq tq)
        obtain ⟨p1, p2, p3, p4⟩ := t z hz
        rw [hv_na (show B + 214 ≠ B + 217 by omega), hv_na (show B + 214 ≠ B + 216 by omega), hv_na (show B + 215 ≠ B + 217 by omega), hv_na (show B + 215 ≠ B + 216 by omega), hv_na (show B + 216 ≠ B + 217 by omega)]
        refine ⟨p1, p2, ?_, fun w => ?_⟩
        · by_cases y2 : z = L
          · rw [y2, hv_set_at, sO]; simp; rfl
          · rw [hv_set_ne (by omega), p3]; simp [y2]
        · by_cases y2 : z = L
          · rw [y2, hv_set_at]
            exact (if_pos ⟨rfl, sO, sL⟩).symm
          · rw [hv_set_ne (by omega), hv_na (show B + 217 ≠ B + 216 by omega)]
            refine Eq.trans ?_ (if_neg (fun w => y2 w.1)).symm
            simp [y2] at w
            exact p4 w
      · refine Ends.b1 (fun _ => ?_) (fun z => absurd z (by decide))
        refine lpp st sa h _ l Agr.rf t (fun q gq tq => fin q st sa ?_ ?_ gq tq)
        · funext r
          by_cases y2 : r = L
          · rw [y2, sL]; rfl
          · simp [y2]
        · funext r; rw [sL, if_neg (fun z => Bool.false_ne_true z.2.2.symm)]
  refine Ends.eq (b724_0 (n := n) (by (repeat' first | assumption | refine LX.setF _ _ ?_ (by decide +kernel) | refine LX.setS ?_ rfl | refine LX.setA ?_ (by first | assumption | omega))) (by first | assumption | omega)) ?_
  rw [v1, v2, v3, tn, tn, tL3, tO3]
  refine Ends.g ⟨by omega, by omega⟩ ?_
  cases sL : st L
  · exact Ends.b0 (fun _ => mid _ (fun z => absurd z (by rw [sL]; decide))) (fun z => absurd rfl z)
  refine Ends.b0 (fun z => absurd z (by decide)) (fun _ => Ends.g ⟨by omega, by omega⟩ ?_)
  cases sO : st O
  · exact Ends.b0 (fun _ => mid _ (fun _ z => absurd z (by rw [sO]; decide))) (fun z => absurd rfl z)
  refine Ends.b0 (fun z => absurd z (by decide)) (fun _ => ?_)
  have bo := bs O hOp Oxy sO
  have bl := bs L hLp Lxy sL
  rw [tO4 sO, tL4 sL, add32 (by omega) (by omega)]
  by_cases e : sa O = sa L + f
  · exact Ends.b0 (fun _ => mid _ (fun _ _ => e)) (fun z => absurd e z)
  · exact Ends.b0 (fun z => absurd z e) (fun _ => Ends.sm (K _ _ ⟨Agr.rf, Or.inl ⟨rfl, sL, sO, e⟩⟩))
end MTIE
