/-! L3: the model's edits of sketches: drop -/
noncomputable section MED4
variable {gv : Nat → Int} {B n d s w : Nat} {h h2 : AH} {Q : Nat → Nat} {al dn tt : Nat} {x1 x2 x3 x4 : Int}
theorem v761_is {q : Nat} {x y : Int} : v761 q h x y = if (x < 0 ∨ hv h q 3 ≤ x) ∨ y < 0 ∨ hv h (q + (8 + 14 * Int.toNat x)) 3 ≤ y ∨ hv h (q + (8 + 14 * Int.toNat x) + 5) y.toNat = 0 then 1 else 0 := by
  unfold v761
  rw [v764_is, ct1, ct2, ct3, ct1]
  by_cases z : x < 0 ∨ hv h q 3 ≤ x
  · rw [if_pos z, if_neg (by decide), if_pos (Or.inl z)]
  · rw [if_neg z, if_pos rfl]
    by_cases y1 : y < 0
    · rw [if_pos y1, if_pos (Or.inr (Or.inl y1))]
    · rw [if_neg y1]
      by_cases y2 : y < hv h (q + (8 + 14 * Int.toNat x)) 3
      · rw [if_pos y2]
        by_cases y3 : hv h (q + (8 + 14 * Int.toNat x) + 5) y.toNat = 0
        · rw [if_pos y3, if_pos (Or.inr (Or.inr (Or.inr y3)))]
        · rw [if_neg y3, if_neg (show ¬ ((x < 0 ∨ hv h q 3 ≤ x) ∨ y < 0 ∨ hv h (q + (8 + 14 * Int.toNat x)) 3 ≤ y ∨ hv h (q + (8 + 14 * Int.toNat x) + 5) y.toNat = 0) by omega)]
      · rw [if_neg y2, if_pos (Or.inr (Or.inr (Or.inl (by omega))))]
theorem q761_ok {q : Nat} {x y : Int} (n6 : hv h q 3 ≤ 6) (n24 : ¬ (x < 0 ∨ hv h q 3 ≤ x) → hv h (q + (8 + 14 * Int.toNat x)) 3 ≤ 24) : q761 q h x y := by
  unfold q761
  rw [v764_is, ct1, ct2, ct3]
  by_cases z : x < 0 ∨ hv h q 3 ≤ x
  · rw [if_pos z, if_neg (by decide)]; exact True.intro
  · have := n24 z
    rw [if_neg z, if_pos rfl]
    by_cases y1 : y < 0
    · rw [if_pos y1]; exact True.intro
    · rw [if_neg y1]
      refine ⟨⟨by omega, by omega⟩, ?_⟩
      by_cases y2 : y < hv h (q + (8 + 14 * Int.toNat x)) 3
      · rw [if_pos y2]; exact ⟨by omega, by omega⟩
      · rw [if_neg y2]; exact True.intro
/-- the counts of the sketches are within their rooms -/
def SkB (h : AH) (q : Nat) : Prop := ∀ s : Nat, (s : Int) < hv h q 3 → (0 ≤ hv h (q + (8 + 14 * s)) 2 ∧ hv h (q + (8 + 14 * s)) 2 ≤ 12) ∧ (0 ≤ hv h (q + (8 + 14 * s)) 3 ∧ hv h (q + (8 + 14 * s)) 3 ≤ 24) ∧ (0 ≤ hv h (q + (8 + 14 * s)) 4 ∧ hv h (q + (8 + 14 * s)) 4 ≤ 6) ∧ 0 ≤ hv h (q + (8 + 14 * s)) 5 ∧ hv h (q + (8 + 14 * s)) 5 ≤ 32
/-- no constraint below j holds the line u -/
def nhM (h : AH) (w : Nat) (u : Int) (j : Nat) : Prop := ∀ i, i < j → ¬ (hv h (w + 12) i ≠ 0 ∧ 17 ≤ hv h (w + 8) i ∧ (hv h (w + 9) i = u ∨ hv h (w + 10) i = u))
/-- what can be dropped -/
def drP (h : AH) (w : Nat) (x2 u : Int) : Prop := 0 ≤ u ∧ ((x2 = 0 ∧ (u < hv h w 3 ∧ hv h (w + 5) u.toNat ≠ 0) ∧ nhM h w u (hv h w 5).toNat) ∨ (x2 = 1 ∧ u < hv h w 4 ∧ hv h (w + 7) u.toNat ≠ 0) ∨ (x2 = 2 ∧ u < hv h w 5 ∧ hv h (w + 12) u.toNat ≠ 0))
def drE (ns s x2 : Int) : Int := if s < 0 ∨ ns ≤ s then 1 else if x2 < 0 ∨ 2 < x2 then 2 else 0
set_option maxHeartbeats 1000000 in
theorem c_drop598 (l : LX B n h) (hd : 20 ≤ d) (M : MRg B h Q al dn tt) (hdn : dn < 99) (hp : SkB h (Q dn)) :
    Vt 0 (cll PP (ev PP (gsF gv) B) d 598 [(2, rf (B + 149)), (0, x1), (0, x2), (0, x3)] h) (fun x h' => AnM B h (drE (hv h (Q dn) 3) x1 x2) x h' ((¬ drP h (Q dn + (8 + 14 * x1.toNat)) x2 x3 ∧ x = 0 ∧ h' = hset h (B + 149) 0 0) ∨ (drP h (Q dn + (8 + 14 * x1.toNat)) x2 x3 ∧ x = 1 ∧ EdSk B h Q al dn x1.toNat h' (fun h3 w => h' = hset h3 (w + (if x2 = 0 then 5 else if x2 = 1 then 7 else 12)) x3.toNat 0)))) := by
  have m4 := M.2.2.2.2.2.2.2.1 dn (by have := M.2.2.2.2.1; have := M.2.2.2.2.2.1; omega)
  have D := m4.2.1
  have T := m4.2.2.1
  have hq := M.2.2.2.1
  have n6 := T.2.2.2.2
  have lo := D.lo
  refine Vt.inq (D := 19) hd (Nat.le_of_ble_eq_true rfl) rfl (fun d hd R KR => ?_)
  obtain ⟨e, ee⟩ : ∃ e, e = drE (hv h (Q dn) 3) x1 x2 := ⟨_, rfl⟩
  rw [← ee] at KR
  have code : cond (tst 0 (v764 (Q dn) h x1) 0) (cond (tst 2 x2 0) (2 : Int) (cond (tst 5 x2 2) (0 : Int) 2)) 1 = e := by
    rw [ee, v764_is, ct0, ct2, ct5]
    unfold drE
    by_cases z : x1 < 0 ∨ hv h (Q dn) 3 ≤ x1
    · rw [if_pos z, if_pos z, if_neg (by decide)]
    · rw [if_neg z, if_neg z, if_pos rfl]
      by_cases y1 : x2 < 0
      · rw [if_pos y1, if_pos (Or.inl y1)]
      · rw [if_neg y1]
        by_cases y2 : 2 < x2
        · rw [if_pos y2, if_pos (Or.inr y2)]
        · rw [if_neg y2, if_neg (show ¬ (x2 < 0 ∨ 2 < x2) by omega)]
  have ce : e = 0 ∨ 0 < e := by rw [ee]; unfold drE; split; omega; split <;> omega
  refine Ends.eq (b598_0 l (by omega) hq D) ?_
  rw [code]
  refine Ends.ct l (by decide +kernel) (by decide) (c_fails l (by omega) (x := e)) (fun y h2 l2 _ _ _ ⟨ey, e2⟩ => ?_)
  rcases ce with z | z
  · rw [z, if_neg (by decide)] at ey
    rw [ey]
    have ok : ¬ (x1 < 0 ∨ hv h (Q dn) 3 ≤ x1) ∧ ¬ (x2 < 0 ∨ 2 < x2) := by
      rw [ee] at z
      unfold drE at z
      by_cases y0 : x1 < 0 ∨ hv h (Q dn) 3 ≤ x1
      · rw [if_pos y0] at z; omega
      · rw [if_neg y0] at z
        by_cases y1 : x2 < 0 ∨ 2 < x2
        · rw [if_pos y1] at z; omega
        · exact ⟨y0, y1⟩
    obtain ⟨s, es⟩ : ∃ s : Nat, x1 = (s : Int) := ⟨x1.toNat, by omega⟩
    subst es
    rw [tn] at KR
    have hs : s < 6 := by omega
    obtain ⟨-, p3, p4, p5⟩ := hp s (by omega)
    have e2' : h2 = hset h (B + 149) 0 0 := by rw [e2, z]
    obtain ⟨M2, g2⟩ := f0_edit l M h2 e2'
    have hq2 := M2.2.2.2.1
    have m42 := M2.2.2.2.2.2.2.2.1 dn (by have := M.2.2.2.2.1; have := M.2.2.2.2.2.1; omega)
    have D2 := m42.2.1
    have rd : ∀ c k, B + 246 ≤ c → hv h2 c k = hv h c k := fun c k hc => g2.at _ _ (by omega)
    have S2 : YS B (Q dn + (8 + 14 * s)) h2 := by
      have := (D2.sk (i := (s : Int)) ⟨by omega, by omega⟩).1
      rw [tn] at this
      exact this
    have n62 : hv h2 (Q dn) 3 ≤ 6 := by rw [rd _ _ lo]; exact n6
    refine Ends.eq (b598_30 l2 (by omega) hq2 D2) (Ends.b0 (fun _ => ?_) (fun y => absurd rfl y))
    refine Ends.g ⟨by omega, by omega⟩ (Ends.g ?_ ?_)
    · rw [ct1, ct1, ct2, ct3, ct2, ct3, tn, rd _ _ (by omega), rd _ _ (by omega)]
      have q1 := q761_ok (h := h2) (q := Q dn) (x := (s : Int)) (y := x3) n62 (fun _ => by rw [rd _ _ (by omega), tn]; exact p3.2)
      by_cases y0 : x2 = 0
      · rw [if_pos y0]; exact q1
      · rw [if_neg y0]
        by_cases y1 : x2 = 1
        · rw [if_pos y1]
          by_cases u0 : x3 < 0
          · rw [if_pos u0]; exact True.intro
          · rw [if_neg u0]
            by_cases u1 : x3 < hv h (Q dn + (8 + 14 * s)) 4
            · rw [if_pos u1]; exact ⟨by omega, by omega⟩
            · rw [if_neg u1]; exact True.intro
        · rw [if_neg y1]
          by_cases u0 : x3 < 0
          · rw [if_pos u0]; exact True.intro
          · rw [if_neg u0]
            by_cases u1 : x3 < hv h (Q dn + (8 + 14 * s)) 5
            · rw [if_pos u1]; exact ⟨by omega, by omega⟩
            · rw [if_neg u1]; exact True.intro
    rw [tn, v761_is, tn]
    obtain ⟨w, ew⟩ : ∃ w, w = Q dn + (8 + 14 * s) := ⟨_, rfl⟩
    rw [← ew] at S2 KR p3 p4 p5 ⊢
    have low : B + 246 ≤ w := by omega
    obtain ⟨nk, enk⟩ : ∃ nk : Nat, hv h w 5 = (nk : Int) := ⟨(hv h w 5).toNat, by omega⟩
    -- behind the loop
    have fin : ∀ x5 x6 : Int, (x5 = 1 ∧ drP h w x2 x3) ∨ (x5 = 0 ∧ ¬ drP h w x2 x3) → Ends (ev PP (gsF gv) B d 598 216 [(2, rf (B + 149)), (0, (s : Int)), (0, x2), (0, x3), (2, rf w), (0, x5), (0, x6)] [] h2) R := fun x5 x6 hx => by
      refine Ends.eq (b598_216 l2 (by omega)) ?_
      rcases hx with ⟨y5, can⟩ | ⟨y5, can⟩
      · refine Ends.b1 (fun _ => ?_) (fun y => absurd y (by omega))
        refine Ends.ct l2 (by decide +kernel) (by decide) (c_edB l2 (by omega) M l e2' hdn hs (by omega)) (fun x h3 l3 _ _ _ ⟨w', ex, Sw, _, ts, fin⟩ => ?_)
        rw [ex]
        obtain ⟨c0, c1⟩ := id can
        refine Ends.eq (b598_228 l3 (by omega) Sw) ?_
        rcases c1 with ⟨c1, c2, _⟩ | ⟨c1, c2, c3⟩ | ⟨c1, c2, c3⟩
        · refine Ends.b1 (fun y => absurd c1 y) (fun _ => Ends.g ⟨by omega, by omega⟩ ?_)
          rw [an3 (Or.inl rfl)]
          refine Ends.eq (b598_269 (l3.setA (t := 3) (by rw [Sw.k5])) (by omega)) (Ends.sm (KR _ _ (Or.inr ⟨z, Or.inr ⟨can, rfl, fin _ _ (Agr.rf.set (Or.inr ⟨by omega, by omega⟩)) (ts.st (Or.inr (Or.inl ⟨Or.inl rfl, Or.inl rfl⟩))) ?_⟩⟩)))
          rw [if_pos c1]
        · refine Ends.b1 (fun _ => Ends.b1 (fun y => absurd c1 y) (fun _ => Ends.g ⟨⟨by omega, by omega⟩, Or.inl rfl⟩ ?_)) (fun y => absurd y (by omega))
          refine Ends.eq (b598_258 (l3.setA (t := 6) (by rw [Sw.k7])) (by omega)) (Ends.eq (b598_269 (l3.setA (t := 6) (by rw [Sw.k7])) (by omega)) (Ends.sm (KR _ _ (Or.inr ⟨z, Or.inr ⟨can, rfl, fin _ _ (Agr.rf.set (Or.inr ⟨by omega, by omega⟩)) (ts.st (Or.inr (Or.inr ⟨Or.inl rfl, Or.inl rfl⟩))) ?_⟩⟩))))
          rw [if_neg (by omega), if_pos c1]
        · refine Ends.b1 (fun _ => Ends.b1 (fun _ => Ends.g ⟨by omega, by omega⟩ ?_) (fun y => absurd y (by omega))) (fun y => absurd y (by omega))
          rw [an3 (Or.inl rfl)]
          refine Ends.eq (b598_269 (l3.setA (t := 3) (by rw [Sw.k12])) (by omega)) (Ends.sm (KR _ _ (Or.inr ⟨z, Or.inr ⟨can, rfl, fin _ _ (Agr.rf.set (Or.inr ⟨by omega, by omega⟩)) (ts.st (Or.inr (Or.inl ⟨Or.inr rfl, Or.inl rfl⟩))) ?_⟩⟩)))
          rw [if_neg (by omega), if_neg (by omega)]
      · exact Ends.b1 (fun y => absurd y5 y) (fun _ => Ends.sm (KR _ _ (Or.inr ⟨z, Or.inl ⟨can, rfl, e2'⟩⟩)))
    have key : x2 = 0 → ∀ (r j : Nat) (x5 : Int), j + r = nk → (x5 = 1 ∧ (0 ≤ x3 ∧ x3 < hv h w 3 ∧ hv h (w + 5) x3.toNat ≠ 0) ∧ nhM h w x3 j) ∨ (x5 = 0 ∧ ¬ ((0 ≤ x3 ∧ x3 < hv h w 3 ∧ hv h (w + 5) x3.toNat ≠ 0) ∧ nhM h w x3 j)) → Ends (ev PP (gsF gv) B d 598 136 [(2, rf (B + 149)), (0, (s : Int)), (0, x2), (0, x3), (2, rf w), (0, x5), (0, (j : Int))] [] h2) R := fun x20 r => by
      induction r with
      | zero =>
        intro j x5 ej hx
        obtain rfl : j = nk := by omega
        refine Ends.eq (b598_136 l2 (by omega) S2) ?_
        rw [rd _ _ low, enk]
        refine Ends.b3 (fun _ => fin _ _ ?_) (fun y => absurd y (Int.lt_irrefl _))
        rcases hx with ⟨y5, b1, b2⟩ | ⟨y5, b⟩
        · refine Or.inl ⟨y5, b1.1, Or.inl ⟨x20, b1.2, ?_⟩⟩
          rw [enk, tn]; exact b2
        · refine Or.inr ⟨y5, fun ⟨c0, c1⟩ => ?_⟩
          rcases c1 with ⟨_, c2, c3⟩ | ⟨c1, _⟩ | ⟨c1, _⟩
          · rw [enk, tn] at c3
            exact b ⟨⟨c0, c2⟩, c3⟩
          · omega
          · omega
      | succ r ih =>
        intro j x5 ej hx
        refine Ends.eq (b598_136 l2 (by omega) S2) ?_
        rw [rd _ _ low, enk, tn, ct0, ct0, rd _ _ (by omega), ct0, ct2, rd _ _ (by omega), ct0, rd _ _ (by omega), ct0, rd _ _ (by omega), w_succ (i := j) (by omega)]
        refine Ends.b3 (fun y => absurd y (by omega)) (fun _ => Ends.b1 (fun y => absurd x20 y) (fun _ => Ends.g ?_ (ih (j + 1) _ (by omega) ?_)))
        · split
          · exact True.intro
          · exact ⟨by omega, by omega⟩
        · have nx : nhM h w x3 (j + 1) ↔ nhM h w x3 j ∧ ¬ (hv h (w + 12) j ≠ 0 ∧ 17 ≤ hv h (w + 8) j ∧ (hv h (w + 9) j = x3 ∨ hv h (w + 10) j = x3)) := by
            constructor
            · intro y
              exact ⟨fun i hi => y i (by omega), y j (by omega)⟩
            · rintro ⟨y1, y2⟩ i hi
              rcases (by omega : i < j ∨ i = j) with c | c
              · exact y1 i c
              · rw [c]; exact y2
          rw [nx]
          rcases hx with ⟨y5, b1, b2⟩ | ⟨y5, b⟩
          · rw [if_neg (by omega)]
            by_cases c1 : hv h (w + 12) j = 0
            · rw [if_pos c1]; exact Or.inl ⟨rfl, b1, b2, fun y => y.1 c1⟩
            · rw [if_neg c1]
              by_cases c2 : hv h (w + 8) j < 17
              · rw [if_pos c2]; exact Or.inl ⟨rfl, b1, b2, fun y => by omega⟩
              · rw [if_neg c2]
                by_cases c3 : hv h (w + 9) j = x3
                · rw [if_pos c3]; exact Or.inr ⟨rfl, fun y => y.2.2 ⟨c1, by omega, Or.inl c3⟩⟩
                · rw [if_neg c3]
                  by_cases c4 : hv h (w + 10) j = x3
                  · rw [if_pos c4]; exact Or.inr ⟨rfl, fun y => y.2.2 ⟨c1, by omega, Or.inr c4⟩⟩
                  · rw [if_neg c4]; exact Or.inl ⟨rfl, b1, b2, fun y => y.2.2.elim c3 c4⟩
          · rw [if_pos y5]
            exact Or.inr ⟨rfl, fun y => b ⟨y.1, y.2.1⟩⟩
    have out : x2 ≠ 0 → ∀ x5 : Int, (x5 = 1 ∧ drP h w x2 x3) ∨ (x5 = 0 ∧ ¬ drP h w x2 x3) → Ends (ev PP (gsF gv) B d 598 136 [(2, rf (B + 149)), (0, (s : Int)), (0, x2), (0, x3), (2, rf w), (0, x5), (0, 0)] [] h2) R := fun x20 x5 hx => by
      refine Ends.eq (b598_136 l2 (by omega) S2) ?_
      exact Ends.b3 (fun _ => fin _ _ hx) (fun _ => Ends.b1 (fun _ => fin _ _ hx) (fun y => absurd y x20))
    rw [ct1, ct1, ct2, ct3, ct0, ct2, ct3, ct0, ct1, rd w _ low, rd w _ low, rd (w + 12) _ (by omega), rd (w + 7) _ (by omega), rd w _ low, rd (w + 5) _ (by omega), rd (Q dn) _ lo]
    by_cases y0 : x2 = 0
    · rw [if_pos y0]
      by_cases bad : ((s : Int) < 0 ∨ hv h (Q dn) 3 ≤ s) ∨ x3 < 0 ∨ hv h w 3 ≤ x3 ∨ hv h (w + 5) x3.toNat = 0
      · rw [if_pos bad, if_neg (by decide)]
        exact key y0 nk 0 0 (by omega) (Or.inr ⟨rfl, fun y => by omega⟩)
      · rw [if_neg bad, if_pos rfl]
        exact key y0 nk 0 1 (by omega) (Or.inl ⟨rfl, by omega, fun i hi => absurd hi (Nat.not_lt_zero i)⟩)
    · rw [if_neg y0]
      refine out y0 _ ?_
      by_cases y1 : x2 = 1
      · rw [if_pos y1]
        by_cases u0 : x3 < 0
        · rw [if_pos u0]; exact Or.inr ⟨rfl, fun y => by have := y.1; omega⟩
        · rw [if_neg u0]
          by_cases u1 : x3 < hv h w 4
          · rw [if_pos u1]
            by_cases u2 : hv h (w + 7) x3.toNat = 0
            · rw [if_pos u2]
              exact Or.inr ⟨rfl, fun ⟨_, y⟩ => by rcases y with ⟨a, _⟩ | ⟨_, _, a⟩ | ⟨a, _⟩ <;> omega⟩
            · rw [if_neg u2]
              exact Or.inl ⟨rfl, by omega, Or.inr (Or.inl ⟨y1, u1, u2⟩)⟩
          · rw [if_neg u1]
            exact Or.inr ⟨rfl, fun ⟨_, y⟩ => by rcases y with ⟨a, _⟩ | ⟨_, a, _⟩ | ⟨a, _⟩ <;> omega⟩
      · rw [if_neg y1]
        by_cases u0 : x3 < 0
        · rw [if_pos u0]; exact Or.inr ⟨rfl, fun y => by have := y.1; omega⟩
        · rw [if_neg u0]
          by_cases u1 : x3 < hv h w 5
          · rw [if_pos u1]
            by_cases u2 : hv h (w + 12) x3.toNat = 0
            · rw [if_pos u2]
              exact Or.inr ⟨rfl, fun ⟨_, y⟩ => by rcases y with ⟨a, _⟩ | ⟨a, _⟩ | ⟨_, _, a⟩ <;> omega⟩
            · rw [if_neg u2]
              exact Or.inl ⟨rfl, by omega, Or.inr (Or.inr ⟨by omega, u1, u2⟩)⟩
          · rw [if_neg u1]
            exact Or.inr ⟨rfl, fun ⟨_, y⟩ => by rcases y with ⟨a, _⟩ | ⟨a, _⟩ | ⟨_, a, _⟩ <;> omega⟩
  · rw [if_pos z] at ey
    rw [ey]
    refine Ends.eq (b598_30 l2 (by omega) (by rw [e2, hv_set_ne (by omega)]; exact hq) (D.agr (W := fun c k => c = B + 149 ∧ k = 0) (by rw [e2]; exact Agr.rf.set ⟨rfl, rfl⟩) (fun c k p z => by rcases p with p | p | p | ⟨s', hs', p, p2⟩ | ⟨s', hs', p, _⟩ <;> omega))) ?_
    exact Ends.b0 (fun y => absurd y (by decide)) (fun _ => Ends.sm (KR _ _ (Or.inl ⟨by omega, rfl, e2⟩)))
end MED4
