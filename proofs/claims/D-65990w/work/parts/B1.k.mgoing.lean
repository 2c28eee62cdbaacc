/-! L3: who goes along, on the model's side -/
section MGO
variable {gv : Nat → Int} {B n d : Nat} {h : AH} {pl jn : Nat} {ja jb jx : Nat → Nat} {js : Nat → Int} {a i : Nat}
/-- those that go with place i along an axis (none if it is tied to nothing else) -/
def GoG (pl jn : Nat) (ja jb jx : Nat → Nat) (a i : Nat) (G : Nat → Bool) : Prop := ∀ x, x < pl → (G x = true ↔ ¬ TCon jn ja jb (aC' jx none0 a) i 12 ∧ TCon jn ja jb (aC' jx none0 a) i x)
theorem GoG.uniq {G F : Nat → Bool} (g : GoG pl jn ja jb jx a i G) (f : GoG pl jn ja jb jx a i F) : ∀ x, x < pl → G x = F x := fun x hx => by
  rw [Bool.eq_iff_iff, g x hx, f x hx]
/-- the desk's words -/
theorem TieR.go {A : Nat → Prop} {es : Nat → Int} {ρ : Nat → Nat} {α : Nat → Int} {w : Bool} (t : TieR pl jn ja jb es A ρ α w) (hp : pl ≤ 12) (hi : i < pl) {x : Nat} (hx : x < pl) : (decide (ρ i ≠ 12) && decide (ρ x = ρ i)) = true ↔ ¬ TCon jn ja jb A i 12 ∧ TCon jn ja jb A i x := by
  rw [Bool.and_eq_true, decide_eq_true_eq, decide_eq_true_eq]
  have e1 := t.gr hi
  have e2 := t.same hp hx hi
  constructor
  · rintro ⟨u, v⟩
    exact ⟨fun z => u (e1.mpr z), (e2.mp v).sym⟩
  · rintro ⟨u, v⟩
    exact ⟨fun z => u (e1.mp z), e2.mpr v.sym⟩
def moW (B : Nat) : Nat → Nat → Prop := fun c _ => c = B + 219
/-- a set that is closed along joints between places, and reached from i -/
theorem go_fin (hb : ∀ k, k < jn → ja k < pl ∧ (jb k < pl ∨ jb k = 12)) (hp : pl ≤ 12) {A : Nat → Prop} {G : Nat → Bool} (gi : G i = true) (gs : ∀ x, x < pl → G x = true → TCon jn ja jb A i x) (hi : i < pl) (cl : ∀ k, k < jn → A k → jb k ≠ 12 → G (ja k) = G (jb k)) (ng : ∀ k, k < jn → A k → jb k = 12 → G (ja k) = false) :
    ¬ TCon jn ja jb A i 12 ∧ ∀ x, x < pl → (G x = true ↔ TCon jn ja jb A i x) := by
  have P : ∀ y, TCon jn ja jb A i y → y ≠ 12 ∧ G y = true := fun y z => z (fun x => x ≠ 12 ∧ G x = true) ⟨by omega, gi⟩ (fun k hk ha => by
    have b := hb k hk
    by_cases e : jb k = 12
    · rw [e]
      constructor
      · rintro ⟨_, z⟩
        rw [ng k hk ha e] at z
        exact absurd z Bool.false_ne_true
      · rintro ⟨z, _⟩
        exact absurd rfl z
    · rw [cl k hk ha e]
      constructor
      · rintro ⟨_, z⟩
        exact ⟨e, z⟩
      · rintro ⟨_, z⟩
        exact ⟨by omega, z⟩)
  exact ⟨fun z => (P 12 z).1 rfl, fun x hx => ⟨gs x hx, fun z => (P x z).2⟩⟩
theorem c_going661 (l : LX B n h) (hd : 10 ≤ d) (J : AsM B h pl jn ja jb jx js) (hi : i < pl) (ha : a < 3) :
    Vt 0 (cll PP (ev PP (gsF gv) B) d 661 [(2, rf (B + 149)), (0, (i : Int)), (0, (a : Int))] h) (fun v h' => Agr (moW B) h h' ∧ ∃ G, GoG pl jn ja jb jx a i G ∧ v = ((cntN G pl : Nat) : Int) ∧ (v ≠ 0 → ∀ k, k < pl → hv h' (B + 219) k = if G k = true then 1 else 0)) := by
  have pl12 := J.2.2.1
  have jn24 := J.2.2.2.1
  have hb := J.hb
  refine Vt.inq (D := 9) hd (Nat.le_of_ble_eq_true rfl) rfl (fun d hd Q K => ?_)
  have Jm : ∀ q, Agr (moW B) h q → AsM B q pl jn ja jb jx js := fun q g => J.agr g (by unfold moW; omega) (by unfold moW; omega) (fun c k h1 h2 => by unfold moW; omega)
  -- the number
  have num : ∀ (G : Nat → Bool), GoG pl jn ja jb jx a i G → ∀ (r x : Nat) (q : AH), x + r = pl → LX B n q → Agr (moW B) h q → (∀ k, k < pl → hv q (B + 219) k = if G k = true then 1 else 0) → Ends (ev PP (gsF gv) B d 661 213 [(2, rf (B + 149)), (0, (i : Int)), (0, (a : Int)), (0, 0), (0, ((cntN G x : Nat) : Int)), (0, (x : Int))] [] q) Q := by
    intro G gg r
    induction r with
    | zero =>
      intro x q hx lq gq vq
      obtain rfl : x = pl := by omega
      refine Ends.eq (b661_213 (n := n) (by (repeat' first | assumption | refine LX.setF _ _ ?_ (by decide +kernel) | refine LX.setS ?_ rfl | refine LX.setA ?_ (by first | assumption | omega))) (by first | assumption | omega)) ?_
      rw [(Jm q gq).1]
      exact Ends.b3 (fun _ => Ends.sm (K _ _ ⟨gq, G, gg, rfl, fun _ => vq⟩)) (fun z => by omega)
    | succ r ih =>
      intro x q hx lq gq vq
      have cl := cntN_le G x
      refine Ends.eq (b661_213 (n := n) (by (repeat' first | assumption | refine LX.setF _ _ ?_ (by decide +kernel) | refine LX.setS ?_ rfl | refine LX.setA ?_ (by first | assumption | omega))) (by first | assumption | omega)) ?_
      rw [(Jm q gq).1, tn, vq x (by omega)]
      refine Ends.b3 (fun z => by omega) (fun _ => Ends.g ⟨by omega, by omega⟩ ?_)
      have e2 : bop32 96 ((cntN G x : Nat) : Int) (cond (tst 0 (if G x = true then (1 : Int) else 0) 0) 0 1) = ((cntN G (x + 1) : Nat) : Int) := by
        rw [cntN_s]
        cases G x
        · show bop32 96 _ 0 = _
          rw [add32 (by omega) (by omega)]
          simp
        · exact b96_1 (by omega)
      rw [e2, w_succ (by omega)]
      exact ih (x + 1) q (by omega) lq gq vq
  -- whether one is tied to nothing else
  have grd : ∀ (G : Nat → Bool) (q : AH) (u5 : AV), LX B n q → Agr (moW B) h q → (∀ k, k < pl → hv q (B + 219) k = if G k = true then 1 else 0) → G i = true → (∀ x, x < pl → G x = true → TCon jn ja jb (aC' jx none0 a) i x) → (∀ k, k < jn → aC' jx none0 a k → jb k ≠ 12 → G (ja k) = G (jb k)) → ∀ (r k : Nat), k + r = jn → (∀ j, j < k → aC' jx none0 a j → jb j = 12 → G (ja j) = false) → Ends (ev PP (gsF gv) B d 661 154 [(2, rf (B + 149)), (0, (i : Int)), (0, (a : Int)), (0, 0), (0, (k : Int)), u5] [] q) Q := by
    intro G q u5 lq gq vq gi gs cl r
    induction r with
    | zero =>
      intro k hk ng
      obtain rfl : k = jn := by omega
      have f := go_fin hb pl12 gi gs hi cl ng
      refine Ends.eq (b661_154 (n := n) (by (repeat' first | assumption | refine LX.setF _ _ ?_ (by decide +kernel) | refine LX.setS ?_ rfl | refine LX.setA ?_ (by first | assumption | omega))) (by first | assumption | omega)) ?_
      rw [(Jm q gq).2.1]
      refine Ends.b3 (fun _ => ?_) (fun z => by omega)
      exact num G (fun x hx => by rw [f.2 x hx]; exact ⟨fun z => ⟨f.1, z⟩, fun z => z.2⟩) pl 0 q (by omega) lq gq vq
    | succ r ih =>
      intro k hk ng
      have jk := (Jm q gq).2.2.2.2 k (by omega)
      have nx : (aC' jx none0 a k → jb k = 12 → G (ja k) = false) → Ends (ev PP (gsF gv) B d 661 201 [(2, rf (B + 149)), (0, (i : Int)), (0, (a : Int)), (0, 0), (0, (k : Int)), u5] [] q) Q := fun z => by
        refine Ends.eq (b661_201 (n := n) (by (repeat' first | assumption | refine LX.setF _ _ ?_ (by decide +kernel) | refine LX.setS ?_ rfl | refine LX.setA ?_ (by first | assumption | omega))) (by first | assumption | omega)) ?_
        rw [w_succ (by omega)]
        refine ih (k + 1) (by omega) (fun j hj aj ej => ?_)
        by_cases y : j = k
        · rw [y] at aj ej ⊢; exact z aj ej
        · exact ng j (by omega) aj ej
      refine Ends.eq (b661_154 (n := n) (by (repeat' first | assumption | refine LX.setF _ _ ?_ (by decide +kernel) | refine LX.setS ?_ rfl | refine LX.setA ?_ (by first | assumption | omega))) (by first | assumption | omega)) ?_
      rw [(Jm q gq).2.1, tn, jk.1, jk.2.1, jk.2.2.1]
      refine Ends.b3 (fun z => by omega) (fun _ => Ends.g ⟨by omega, by omega⟩ ?_)
      by_cases e : jb k = 12
      · rw [if_pos e, if_pos e, tn, vq _ jk.2.2.2.2.1]
        refine Ends.b3 (fun z => absurd z (by decide)) (fun _ => Ends.b1 (fun z => nx (fun aj _ => ?_)) (fun z => Ends.g ⟨by omega, by omega⟩ (Ends.b0 (fun y => nx (fun _ _ => ?_)) (fun y => ?_))))
        · exfalso
          rcases aj.2 with w | w <;> omega
        · cases g : G (ja k)
          · rfl
          · rw [g] at y; exact absurd y (by decide)
        · refine Ends.sm (K _ _ ⟨gq, fun _ => false, fun x hx => ⟨fun z => absurd z Bool.false_ne_true, fun z => absurd ?_ z.1⟩, ?_, fun z => absurd rfl z⟩)
          · have gj : G (ja k) = true := by
              cases g : G (ja k)
              · rw [g] at y; exact absurd rfl y
              · rfl
            have c := TCon.e1 (ja := ja) (jb := jb) (A := aC' jx none0 a) (show k < jn by omega) ⟨rfl, Or.inr (by omega)⟩
            rw [e] at c
            exact (gs _ jk.2.2.2.2.1 gj).tr c
          · rw [cntN_none pl (fun _ _ => rfl)]; rfl
      · rw [if_neg e]
        exact Ends.b3 (fun _ => nx (fun _ z => absurd z e)) (fun z => by omega)
  -- rounds
  have rnd : ∀ (m : Nat) (q : AH) (G : Nat → Bool) (u4 u5 : AV), pl < m + cntN G pl → LX B n q → Agr (moW B) h q → (∀ k, k < pl → hv q (B + 219) k = if G k = true then 1 else 0) → G i = true → (∀ x, x < pl → G x = true → TCon jn ja jb (aC' jx none0 a) i x) → Ends (ev PP (gsF gv) B d 661 34 [(2, rf (B + 149)), (0, (i : Int)), (0, (a : Int)), (0, 1), u4, u5] [] q) Q := by
    intro m
    induction m with
    | zero =>
      intro q G u4 u5 hm
      have := cntN_le G pl
      omega
    | succ m ihm =>
      intro q G u4 u5 hm lq gq vq gi gs
      have pass : ∀ (r k : Nat) (q2 : AH) (G2 : Nat → Bool) (mo : Bool), k + r = jn → (mo = true → pl < m + cntN G2 pl) → LX B n q2 → Agr (moW B) h q2 → (∀ k, k < pl → hv q2 (B + 219) k = if G2 k = true then 1 else 0) → G2 i = true → (∀ x, x < pl → G2 x = true → TCon jn ja jb (aC' jx none0 a) i x) → pl < m + 1 + cntN G2 pl → (mo = false → ∀ j, j < k → aC' jx none0 a j → jb j ≠ 12 → G2 (ja j) = G2 (jb j)) → Ends (ev PP (gsF gv) B d 661 43 [(2, rf (B + 149)), (0, (i : Int)), (0, (a : Int)), (0, if mo = true then 1 else 0), (0, (k : Int)), u5] [] q2) Q := by
        intro r
        induction r with
        | zero =>
          intro k q2 G2 mo hk hmo l2 g2 v2 gi2 gs2 hm2 cl2
          obtain rfl : k = jn := by omega
          refine Ends.eq (b661_43 (n := n) (by (repeat' first | assumption | refine LX.setF _ _ ?_ (by decide +kernel) | refine LX.setS ?_ rfl | refine LX.setA ?_ (by first | assumption | omega))) (by first | assumption | omega)) ?_
          rw [(Jm q2 g2).2.1]
          refine Ends.b3 (fun _ => ?_) (fun z => by omega)
          cases mo
          · refine Ends.eq (b661_34 (n := n) (by (repeat' first | assumption | refine LX.setF _ _ ?_ (by decide +kernel) | refine LX.setS ?_ rfl | refine LX.setA ?_ (by first | assumption | omega))) (by first | assumption | omega)) ?_
            refine Ends.b0 (fun _ => ?_) (fun z => absurd rfl z)
            exact grd G2 q2 _ l2 g2 v2 gi2 gs2 (fun j hj aj ej => cl2 rfl j hj aj ej) k 0 (by omega) (fun j hj => absurd hj (by omega))
          · exact ihm q2 G2 _ _ (hmo rfl) l2 g2 v2 gi2 gs2
        | succ r ih =>
          intro k q2 G2 mo hk hmo l2 g2 v2 gi2 gs2 hm2 cl2
          have jk := (Jm q2 g2).2.2.2.2 k (by omega)
          have nx : ∀ (q3 : AH) (G3 : Nat → Bool) (mo3 : Bool), (mo3 = true → pl < m + cntN G3 pl) → LX B n q3 → Agr (moW B) h q3 → (∀ k, k < pl → hv q3 (B + 219) k = if G3 k = true then 1 else 0) → G3 i = true → (∀ x, x < pl → G3 x = true → TCon jn ja jb (aC' jx none0 a) i x) → pl < m + 1 + cntN G3 pl → (mo3 = false → ∀ j, j < k + 1 → aC' jx none0 a j → jb j ≠ 12 → G3 (ja j) = G3 (jb j)) → Ends (ev PP (gsF gv) B d 661 142 [(2, rf (B + 149)), (0, (i : Int)), (0, (a : Int)), (0, if mo3 = true then 1 else 0), (0, (k : Int)), u5] [] q3) Q := fun q3 G3 mo3 a1 a2 a3 a4 a5 a6 a7 a8 => by
            refine Ends.eq (b661_142 (n := n) (by (repeat' first | assumption | refine LX.setF _ _ ?_ (by decide +kernel) | refine LX.setS ?_ rfl | refine LX.setA ?_ (by first | assumption | omega))) (by first | assumption | omega)) ?_
            rw [w_succ (by omega)]
            exact ih (k + 1) q3 G3 mo3 (by omega) a1 a2 a3 a4 a5 a6 a7 a8
          have same : (aC' jx none0 a k → jb k ≠ 12 → G2 (ja k) = G2 (jb k)) → Ends (ev PP (gsF gv) B d 661 142 [(2, rf (B + 149)), (0, (i : Int)), (0, (a : Int)), (0, if mo = true then 1 else 0), (0, (k : Int)), u5] [] q2) Q := fun z => nx q2 G2 mo hmo l2 g2 v2 gi2 gs2 hm2 (fun em j hj aj ej => by
            by_cases y : j = k
            · rw [y] at aj ej ⊢; exact z aj ej
            · exact cl2 em j (by omega) aj ej)
          refine Ends.eq (b661_43 (n := n) (by (repeat' first | assumption | refine LX.setF _ _ ?_ (by decide +kernel) | refine LX.setS ?_ rfl | refine LX.setA ?_ (by first | assumption | omega))) (by first | assumption | omega)) ?_
          rw [(Jm q2 g2).2.1, tn, jk.1, jk.2.2.1]
          refine Ends.b3 (fun z => by omega) (fun _ => Ends.g ⟨by omega, by omega⟩ ?_)
          by_cases e : jb k = 12
          · rw [if_pos e]
            exact Ends.b2 (fun _ => same (fun _ z => absurd e z)) (fun z => absurd z (by decide))
          rw [if_neg e]
          have jbp : jb k < pl := by have := jk.2.2.2.2.2.1; omega
          have go : aC' jx none0 a k → Ends (ev PP (gsF gv) B d 661 84 [(2, rf (B + 149)), (0, (i : Int)), (0, (a : Int)), (0, if mo = true then 1 else 0), (0, (k : Int)), u5] [] q2) Q := fun ak => by
            refine Ends.eq (b661_84 (n := n) (by (repeat' first | assumption | refine LX.setF _ _ ?_ (by decide +kernel) | refine LX.setS ?_ rfl | refine LX.setA ?_ (by first | assumption | omega))) (by first | assumption | omega)) ?_
            rw [tn, jk.1, jk.2.1, if_neg e, if_neg e, tn, tn, v2 _ jk.2.2.2.2.1, v2 _ jbp]
            refine Ends.g ⟨by omega, by omega⟩ (Ends.g ⟨by omega, by omega⟩ (Ends.g ⟨by omega, by omega⟩ (Ends.b1 (fun z => ?_) (fun z => same (fun _ _ => ?_)))))
            · have c1 := TCon.e1 (ja := ja) (jb := jb) (A := aC' jx none0 a) (show k < jn by omega) ak
              have c2 := TCon.e2 (ja := ja) (jb := jb) (A := aC' jx none0 a) (show k < jn by omega) ak
              -- one more goes along
              have one : ∀ (u v : Nat), ((u = ja k ∧ v = jb k) ∨ (u = jb k ∧ v = ja k)) → G2 u = true → G2 v = false → Ends (ev PP (gsF gv) B d 661 142 [(2, rf (B + 149)), (0, (i : Int)), (0, (a : Int)), (0, 1), (0, (k : Int)), u5] [] (hset (hset q2 (B + 219) (ja k) (anar 3 1)) (B + 219) (jb k) (anar 3 1))) Q := fun u v huv hu hv2 => by
                have vp : v < pl := by rcases huv with ⟨rfl, rfl⟩ | ⟨rfl, rfl⟩; exact jbp; exact jk.2.2.2.2.1
                have up : u < pl := by rcases huv with ⟨rfl, rfl⟩ | ⟨rfl, rfl⟩; exact jk.2.2.2.2.1; exact jbp
                have cu : cntN (fun x => G2 x || decide (x = v)) pl = cntN G2 pl + 1 := by rw [cntN_set hv2, if_pos vp]
                refine nx _ (fun x => G2 x || decide (x = v)) true (fun _ => by omega) (LX.setS (LX.setS l2 rfl) rfl) ((g2.set rfl).set rfl) (fun x hx => ?_) (by rw [gi2]; rfl) (fun x hx gx => ?_) (by omega) (fun z => absurd z (by decide))
                · by_cases y1 : x = jb k
                  · rw [y1, hv_set_at]
                    have : (G2 (jb k) || decide (jb k = v)) = true := by
                      rcases huv with ⟨_, w⟩ | ⟨w, _⟩
                      · rw [w]; simp
                      · rw [← w, hu]; rfl
                    rw [if_pos this]; rfl
                  · rw [hv_set_ne (by omega)]
                    by_cases y2 : x = ja k
                    · rw [y2, hv_set_at]
                      have : (G2 (ja k) || decide (ja k = v)) = true := by
                        rcases huv with ⟨w, _⟩ | ⟨_, w⟩
                        · rw [← w, hu]; rfl
                        · rw [w]; simp
                      rw [if_pos this]; rfl
                    · rw [hv_set_ne (by omega), v2 x hx]
                      have : decide (x = v) = false := decide_eq_false (by rcases huv with ⟨_, w⟩ | ⟨_, w⟩ <;> omega)
                      rw [this, Bool.or_false]
                · by_cases y : x = v
                  · rw [y]
                    rcases huv with ⟨w1, w2⟩ | ⟨w1, w2⟩
                    · rw [w2]; rw [w1] at hu
                      exact (gs2 _ jk.2.2.2.2.1 hu).tr c1
                    · rw [w2]; rw [w1] at hu
                      exact (gs2 _ jbp hu).tr c2
                  · refine gs2 x hx ?_
                    rw [decide_eq_false y, Bool.or_false] at gx
                    exact gx
              cases e1 : G2 (ja k) <;> cases e2 : G2 (jb k)
              · rw [e1, e2] at z; exact absurd rfl z
              · exact one (jb k) (ja k) (Or.inr ⟨rfl, rfl⟩) e2 e1
              · exact one (ja k) (jb k) (Or.inl ⟨rfl, rfl⟩) e1 e2
              · rw [e1, e2] at z; exact absurd rfl z
            · cases e1 : G2 (ja k) <;> cases e2 : G2 (jb k)
              · rfl
              · rw [e1, e2] at z; exact absurd z (by decide)
              · rw [e1, e2] at z; exact absurd z (by decide)
              · rfl
          refine Ends.b2 (fun z => by omega) (fun _ => Ends.b0 (fun z => go ⟨rfl, Or.inl (by omega)⟩) (fun z3 => Ends.b1 (fun z => same (fun aj _ => ?_)) (fun z => go ⟨rfl, Or.inr (by omega)⟩)))
          exfalso
          rcases aj.2 with w | w <;> omega
      refine Ends.eq (b661_34 (n := n) (by (repeat' first | assumption | refine LX.setF _ _ ?_ (by decide +kernel) | refine LX.setS ?_ rfl | refine LX.setA ?_ (by first | assumption | omega))) (by first | assumption | omega)) ?_
      refine Ends.b0 (fun z => absurd z (by decide)) (fun _ => ?_)
      exact pass jn 0 q G false (by omega) (fun z => absurd z (by decide)) lq gq vq gi gs hm (fun _ j hj => absurd hj (by omega))
  -- only place i
  have ini : ∀ (r x : Nat) (q : AH) (u4 u5 : AV), x + r = pl → LX B n q → Agr (moW B) h q → (∀ k, k < x → hv q (B + 219) k = if decide (k = i) = true then 1 else 0) → Ends (ev PP (gsF gv) B d 661 2 [(2, rf (B + 149)), (0, (i : Int)), (0, (a : Int)), (0, (x : Int)), u4, u5] [] q) Q := by
    intro r
    induction r with
    | zero =>
      intro x q u4 u5 hx lq gq vq
      obtain rfl : x = pl := by omega
      refine Ends.eq (b661_2 (n := n) (by (repeat' first | assumption | refine LX.setF _ _ ?_ (by decide +kernel) | refine LX.setS ?_ rfl | refine LX.setA ?_ (by first | assumption | omega))) (by first | assumption | omega)) ?_
      rw [(Jm q gq).1]
      refine Ends.b3 (fun _ => ?_) (fun z => by omega)
      refine rnd (x + 1) q (fun k => decide (k = i)) _ _ (by omega) lq gq vq (decide_eq_true rfl) (fun x hx gx => ?_)
      rw [of_decide_eq_true gx]
      exact TCon.rf
    | succ r ih =>
      intro x q u4 u5 hx lq gq vq
      refine Ends.eq (b661_2 (n := n) (by (repeat' first | assumption | refine LX.setF _ _ ?_ (by decide +kernel) | refine LX.setS ?_ rfl | refine LX.setA ?_ (by first | assumption | omega))) (by first | assumption | omega)) ?_
      rw [(Jm q gq).1, tn]
      refine Ends.b3 (fun z => by omega) (fun _ => Ends.g ⟨by omega, by omega⟩ ?_)
      rw [w_succ (by omega)]
      refine ih (x + 1) _ _ _ (by omega) (LX.setS lq rfl) (gq.set rfl) (fun k hk => ?_)
      by_cases z : k = x
      · rw [z, hv_set_at, tst1]
        by_cases y : x = i
        · rw [y, decide_eq_true rfl, decide_eq_true rfl, if_pos rfl]; rfl
        · rw [decide_eq_false y, decide_eq_false (show ¬ ((x : Nat) : Int) = ((i : Nat) : Int) by omega), if_neg Bool.false_ne_true]; rfl
      · rw [hv_set_ne (by omega)]; exact vq k (by omega)
  refine Ends.eq (b661_0 (n := n) (by (repeat' first | assumption | refine LX.setF _ _ ?_ (by decide +kernel) | refine LX.setS ?_ rfl | refine LX.setA ?_ (by first | assumption | omega))) (by first | assumption | omega)) ?_
  exact ini pl 0 h _ _ (by omega) l Agr.rf (fun k hk => absurd hk (by omega))
/-- slide: what comes of it -/
def SlM (B : Nat) (h' : AH) (pl : Nat) (old : Nat → Nat → Int) (a : Nat) (y : Int) (G : Nat → Bool) : Prop := ∀ x b, x < pl → b < 3 → hv h' (B + 207) (3 * x + b) = if b = a ∧ G x = true then old b x + y else old b x
def mslW (B : Nat) : Nat → Nat → Prop := fun c k => moW B c k ∨ c = B + 207 ∨ (c = B + 149 ∧ k = 0)
theorem v762_is {B : Nat} {h : AH} {pl : Nat} (e : hv h (B + 149) 120 = (pl : Int)) {x : Int} : v762 B h x = if 0 ≤ x ∧ x < (pl : Int) then 0 else 1 := by
  unfold v762
  rw [e]
  by_cases h1 : x < 0
  · rw [if_neg (by omega)]; simp [tst0, tst1, tst2, tst3, tst4, tst5, h1]
  · by_cases h2 : ¬ x < (pl : Int)
    · rw [if_neg (by omega)]; simp [tst0, tst1, tst2, tst3, tst4, tst5, h1, h2]
    · have h2 := Classical.not_not.mp h2
      rw [if_pos (by omega)]; simp [tst0, tst1, tst2, tst3, tst4, tst5, h1, h2]
theorem c_slide834 {y : Int} {old : Nat → Nat → Int} (l : LX B n h) (hd : 12 ≤ d) (J : AsM B h pl jn ja jb jx js) (hi : i < pl) (ha : a < 3) (hs : ∀ x b, x < pl → b < 3 → hv h (B + 207) (3 * x + b) = old b x ∧ -1000000 ≤ old b x ∧ old b x ≤ 1000000) (hy : -500 ≤ y ∧ y ≤ 500) :
    Vt 0 (cll PP (ev PP (gsF gv) B) d 834 [(2, rf (B + 149)), (0, (i : Int)), (0, (a : Int)), (0, y)] h) (fun v h' => Agr (mslW B) h h' ∧ hv h' (B + 149) 0 = 0 ∧ ∃ G, GoG pl jn ja jb jx a i G ∧ v = ((cntN G pl : Nat) : Int) ∧ SlM B h' pl old a y G) := by
  have pl12 := J.2.2.1
  refine Vt.inq (D := 11) hd (Nat.le_of_ble_eq_true rfl) rfl (fun d hd Q K => ?_)
  refine Ends.eq (b834_0 (n := n) (by (repeat' first | assumption | refine LX.setF _ _ ?_ (by decide +kernel) | refine LX.setS ?_ rfl | refine LX.setA ?_ (by first | assumption | omega))) (by first | assumption | omega)) ?_
  refine Ends.mok l (by omega) ?_ ?_
  · rw [v762_is J.1, if_pos (by omega)]
    have e1 : ¬ ((a : Nat) : Int) < 0 := by omega
    have e2 : ¬ 2 < ((a : Nat) : Int) := by omega
    have e3 : ¬ y < -500 := by omega
    have e4 : ¬ 500 < y := by omega
    simp [tst0, tst1, tst2, tst3, tst4, tst5, e1, e2, e3, e4]
  have l0 : LX B n (hset h (B + 149) 0 0) := LX.setF 149 0 l (by decide +kernel)
  have G0 : Agr (mslW B) h (hset h (B + 149) 0 0) := Agr.rf.set (Or.inr (Or.inr ⟨rfl, rfl⟩))
  have t0 : hv (hset h (B + 149) 0 0) (B + 149) 0 = 0 := hv_set_at ..
  have Jq : ∀ q, Agr (mslW B) h q → AsM B q pl jn ja jb jx js := fun q g => J.agr g (by unfold mslW moW; omega) (by unfold mslW moW; omega) (fun c k h1 h2 => by unfold mslW moW; omega)
  refine Ends.eq (b834_44 (n := n) (by (repeat' first | assumption | refine LX.setF _ _ ?_ (by decide +kernel) | refine LX.setS ?_ rfl | refine LX.setA ?_ (by first | assumption | omega))) (by first | assumption | omega)) ?_
  refine Ends.b0 (fun _ => ?_) (fun z => absurd rfl z)
  refine Ends.ct l0 (by decide +kernel) (by decide) (c_going661 (a := a) (i := i) l0 (by omega) (Jq _ G0) hi ha) (fun v h1 l1 _ _ _ ⟨g1, G, gg, evv, vg⟩ => ?_)
  have G1 : Agr (mslW B) h h1 := G0.tr g1 (fun c k z => Or.inl z)
  have t1 : hv h1 (B + 149) 0 = 0 := by rw [g1.at _ _ (by unfold moW; omega)]; exact t0
  have sh1 : ∀ x b, x < pl → b < 3 → hv h1 (B + 207) (3 * x + b) = old b x := fun x b hx hb => by
    rw [g1.at _ _ (by unfold moW; omega), hv_na (by omega)]; exact (hs x b hx hb).1
  refine Ends.eq (b834_55 (n := n) (by (repeat' first | assumption | refine LX.setF _ _ ?_ (by decide +kernel) | refine LX.setS ?_ rfl | refine LX.setA ?_ (by first | assumption | omega))) (by first | assumption | omega)) ?_
  have fin : ∀ (q : AH) (x5 : Int), LX B n q → Agr (mslW B) h q → hv q (B + 149) 0 = 0 → SlM B q pl old a y G → Ends (ev PP (gsF gv) B d 834 105 [(2, rf (B + 149)), (0, (i : Int)), (0, (a : Int)), (0, y), (0, v), (0, x5)] [] q) Q := fun q x5 lq gq tq sq => by
    refine Ends.eq (b834_105 (n := n) (by (repeat' first | assumption | refine LX.setF _ _ ?_ (by decide +kernel) | refine LX.setS ?_ rfl | refine LX.setA ?_ (by first | assumption | omega))) (by first | assumption | omega)) ?_
    exact Ends.sm (K _ _ ⟨gq, tq, G, gg, evv, sq⟩)
  by_cases v0 : v = 0
  · have nG : ∀ x, x < pl → G x = false := cntN_zero pl (by omega)
    have nn : SlM B h1 pl old a y G := fun x b hx hb => by rw [if_neg (fun z => by rw [nG x hx] at z; exact absurd z.2 Bool.false_ne_true)]; exact sh1 x b hx hb
    refine Ends.eq (b834_60 (n := n) (by (repeat' first | assumption | refine LX.setF _ _ ?_ (by decide +kernel) | refine LX.setS ?_ rfl | refine LX.setA ?_ (by first | assumption | omega))) (by first | assumption | omega)) ?_
    exact Ends.b3 (fun _ => fin h1 _ l1 G1 t1 nn) (fun _ => Ends.b5 (fun z => fin h1 _ l1 G1 t1 nn) (fun z => by omega))
  have vp : 0 < v := by omega
  have vg := vg v0
  have key : ∀ (r x : Nat) (q : AH), x + r = pl → LX B n q → Agr (fun c _ => c = B + 207) h1 q → (∀ k b, k < pl → b < 3 → hv q (B + 207) (3 * k + b) = if b = a ∧ G k = true ∧ k < x then old b k + y else old b k) → Ends (ev PP (gsF gv) B d 834 60 [(2, rf (B + 149)), (0, (i : Int)), (0, (a : Int)), (0, y), (0, v), (0, (x : Int))] [] q) Q := by
    intro r
    induction r with
    | zero =>
      intro x q hx lq gq lo
      have Gq := G1.tr gq (fun c k z => Or.inr (Or.inl z))
      refine Ends.eq (b834_60 (n := n) (by (repeat' first | assumption | refine LX.setF _ _ ?_ (by decide +kernel) | refine LX.setS ?_ rfl | refine LX.setA ?_ (by first | assumption | omega))) (by first | assumption | omega)) ?_
      rw [(Jq _ Gq).1]
      refine Ends.b3 (fun _ => fin q _ lq Gq (by rw [gq.at _ _ (by omega)]; exact t1) (fun k b hk hb => ?_)) (fun z => by omega)
      rw [lo k b hk hb]
      by_cases z : b = a ∧ G k = true
      · rw [if_pos ⟨z.1, z.2, by omega⟩, if_pos z]
      · rw [if_neg (fun y => z ⟨y.1, y.2.1⟩), if_neg z]
    | succ r ih =>
      intro x q hx lq gq lo
      have hxp : x < pl := by omega
      have Gq := G1.tr gq (fun c k z => Or.inr (Or.inl z))
      have eg : hv q (B + 219) x = if G x = true then 1 else 0 := by rw [gq.at _ _ (by omega)]; exact vg x hxp
      have nx : ∀ q4, LX B n q4 → Agr (fun c _ => c = B + 207) h1 q4 → (∀ k b, k < pl → b < 3 → hv q4 (B + 207) (3 * k + b) = if b = a ∧ G k = true ∧ k < x + 1 then old b k + y else old b k) → Ends (ev PP (gsF gv) B d 834 99 [(2, rf (B + 149)), (0, (i : Int)), (0, (a : Int)), (0, y), (0, v), (0, (x : Int))] [] q4) Q := fun q4 l4 g4 lo4 => by
        refine Ends.eq (b834_99 (n := n) (by (repeat' first | assumption | refine LX.setF _ _ ?_ (by decide +kernel) | refine LX.setS ?_ rfl | refine LX.setA ?_ (by first | assumption | omega))) (by first | assumption | omega)) ?_
        rw [w_succ (by omega)]
        exact ih (x + 1) q4 (by omega) l4 g4 lo4
      refine Ends.eq (b834_60 (n := n) (by (repeat' first | assumption | refine LX.setF _ _ ?_ (by decide +kernel) | refine LX.setS ?_ rfl | refine LX.setA ?_ (by first | assumption | omega))) (by first | assumption | omega)) ?_
      rw [(Jq _ Gq).1, tn, eg]
      refine Ends.b3 (fun z => by omega) (fun _ => Ends.b5 (fun z => by omega) (fun _ => Ends.g ⟨by omega, by omega⟩ ?_))
      cases hr : G x
      · refine Ends.b0 (fun _ => nx q lq gq (fun k b hk hb => ?_)) (fun z => absurd rfl z)
        rw [lo k b hk hb]
        by_cases z2 : b = a ∧ G k = true ∧ k < x
        · rw [if_pos z2, if_pos ⟨z2.1, z2.2.1, by omega⟩]
        · rw [if_neg z2, if_neg (fun z3 => z2 ⟨z3.1, z3.2.1, by
            by_cases y2 : k = x
            · rw [y2, hr] at z3; exact absurd z3.2.1 Bool.false_ne_true
            · have := z3.2.2; omega⟩)]
      · refine Ends.b0 (fun z => absurd z (by decide)) (fun _ => ?_)
        rw [show bop32 96 (bop32 104 3 (x : Int)) (a : Int) = ((3 * x + a : Nat) : Int) from by rw [show bop32 104 (3 : Int) (x : Int) = ((3 * x : Nat) : Int) from mulNN (x := 3) (by omega), addNN (by omega)], tn, an0, lo x a hxp ha, if_neg (by omega)]
        have ob := (hs x a hxp ha).2
        rw [add32 (by omega) (by omega)]
        refine Ends.g ⟨by omega, by omega⟩ (nx _ (LX.setS lq rfl) (gq.set rfl) (fun k b hk hb => ?_))
        by_cases z : k = x ∧ b = a
        · rw [z.1, z.2, hv_set_at, if_pos ⟨rfl, hr, by omega⟩]
        · rw [hv_set_ne (by omega), lo k b hk hb]
          by_cases z2 : b = a ∧ G k = true ∧ k < x
          · rw [if_pos z2, if_pos ⟨z2.1, z2.2.1, by omega⟩]
          · rw [if_neg z2, if_neg (fun z3 => z2 ⟨z3.1, z3.2.1, by have := z3.2.2; have := z3.1; omega⟩)]
  exact key pl 0 h1 (by omega) l1 Agr.rf (fun k b hk hb => by rw [if_neg (by omega)]; exact sh1 k b hk hb)
end MGO
