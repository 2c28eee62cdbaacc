/-! L3: the model ties: all joints; can they hold -/
section MTIE2
variable {gv : Nat → Int} {B n d : Nat} {h : AH} {pl jn : Nat} {ja jb jx : Nat → Nat} {js : Nat → Int} {ou : Nat → Bool} {a : Nat} {inr : Int}
/-- who is asked for: nobody is out, or as 'stays' says -/
def InM (B : Nat) (h : AH) (jn : Nat) (inr : Int) (ou : Nat → Bool) : Prop := (inr = 0 ∧ ∀ k, ou k = false) ∨ (inr = rf (B + 218) ∧ ∀ k, k < jn → hv h (B + 218) k = if ou k = true then 0 else 1)
theorem InM.agr {W : Nat → Nat → Prop} {q : AH} (I : InM B h jn inr ou) (g : Agr W h q) (h1 : ∀ k, ¬ W (B + 218) k) : InM B q jn inr ou := by
  rcases I with z | ⟨z1, z2⟩
  · exact Or.inl z
  · exact Or.inr ⟨z1, fun k hk => by rw [g.at _ _ (h1 k)]; exact z2 k hk⟩
theorem c_tie850 (l : LX B n h) (hd : 12 ≤ d) (J : AsM B h pl jn ja jb jx js) (I : InM B h jn inr ou) (ha : a < 3) :
    Vt 0 (cll PP (ev PP (gsF gv) B) d 850 [(2, rf (B + 149)), (0, (a : Int)), (2, inr)] h) (fun v h' => Agr (utW B) h h' ∧ ((v = 1 ∧ ∃ τ β st sa, UfI pl jn ja jb js (aC' jx ou a) jn τ β st sa ∧ TuH B h' pl τ β st sa) ∨ (v = 0 ∧ ¬ TiSat jn ja jb (eS jb js) (aC' jx ou a)))) := by
  have pl12 := J.2.2.1
  have jn24 := J.2.2.2.1
  have J5 := J.2.2.2.2
  refine Vt.inq (D := 11) hd (Nat.le_of_ble_eq_true rfl) rfl (fun d hd Q K => ?_)
  have Jq : ∀ q, Agr (utW B) h q → AsM B q pl jn ja jb jx js := fun q g => J.agr g (by unfold utW; omega) (by unfold utW; omega) (fun c k h1 h2 => by unfold utW; omega)
  have Iq : ∀ q, Agr (utW B) h q → InM B q jn inr ou := fun q g => I.agr g (fun k => by unfold utW; omega)
  have jnt : ∀ (r k : Nat) (q : AH) (τ : Nat → Nat) (β : Nat → Int) (st : Nat → Bool) (sa : Nat → Int) (u4 u5 u6 u7 u8 : AV), k + r = jn → LX B n q → Agr (utW B) h q → UfI pl jn ja jb js (aC' jx ou a) k τ β st sa → TuH B q pl τ β st sa → Ends (ev PP (gsF gv) B d 850 39 [(2, rf (B + 149)), (0, (a : Int)), (2, inr), (0, (k : Int)), u4, u5, u6, u7, u8] [] q) Q := by
    intro r
    induction r with
    | zero =>
      intro k q τ β st sa u4 u5 u6 u7 u8 hk lq gq uq tq
      obtain rfl : k = jn := by omega
      refine Ends.eq (b850_39 (n := n) (by (repeat' first | assumption | refine LX.setF _ _ ?_ (by decide +kernel) | refine LX.setS ?_ rfl | refine LX.setA ?_ (by first | assumption | omega))) (by first | assumption | omega)) ?_
      rw [(Jq q gq).2.1]
      exact Ends.b3 (fun _ => Ends.sm (K _ _ ⟨gq, Or.inl ⟨rfl, τ, β, st, sa, uq, tq⟩⟩)) (fun z => by omega)
    | succ r ih =>
      intro k q τ β st sa u4 u5 u6 u7 u8 hk lq gq uq tq
      have hkj : k < jn := by omega
      obtain ⟨j1, j2, j3, j4, j5, j6, j7, j8, j9, j10⟩ := (Jq q gq).2.2.2.2 k hkj
      have nx : ∀ (q2 : AH) (τ : Nat → Nat) (β : Nat → Int) (st : Nat → Bool) (sa : Nat → Int) (u4 u5 u6 u7 u8 : AV), LX B n q2 → Agr (utW B) h q2 → UfI pl jn ja jb js (aC' jx ou a) (k + 1) τ β st sa → TuH B q2 pl τ β st sa → Ends (ev PP (gsF gv) B d 850 241 [(2, rf (B + 149)), (0, (a : Int)), (2, inr), (0, (k : Int)), u4, u5, u6, u7, u8] [] q2) Q := fun q2 τ β st sa u4 u5 u6 u7 u8 l2 g2 u2 t2 => by
        refine Ends.eq (b850_241 (n := n) (by (repeat' first | assumption | refine LX.setF _ _ ?_ (by decide +kernel) | refine LX.setS ?_ rfl | refine LX.setA ?_ (by first | assumption | omega))) (by first | assumption | omega)) ?_
        rw [w_succ (by omega)]
        exact ih (k + 1) q2 τ β st sa _ _ _ _ _ (by omega) l2 g2 u2 t2
      have skip : ¬ aC' jx ou a k → ∀ u4 u5 u6 u7 u8 : AV, Ends (ev PP (gsF gv) B d 850 241 [(2, rf (B + 149)), (0, (a : Int)), (2, inr), (0, (k : Int)), u4, u5, u6, u7, u8] [] q) Q := fun na u4 u5 u6 u7 u8 => nx q τ β st sa u4 u5 u6 u7 u8 lq gq (uq.skip na) tq
      -- the joint itself
      have act : aC' jx ou a k → ∀ u4 u5 u6 u7 u8 : AV, Ends (ev PP (gsF gv) B d 850 80 [(2, rf (B + 149)), (0, (a : Int)), (2, inr), (0, (k : Int)), u4, u5, u6, u7, u8] [] q) Q := by
        intro ac u4 u5 u6 u7 u8
        have ta := tq (ja k) j5
        have ba := uq.bd pl12 j5
        by_cases gb : jb k = 12
        · rw [if_pos gb] at j1 j2
          have tt := tq (τ (ja k)) ba.2.2.2
          refine Ends.eq (b850_80 (n := n) (by (repeat' first | assumption | refine LX.setF _ _ ?_ (by decide +kernel) | refine LX.setS ?_ rfl | refine LX.setA ?_ (by first | assumption | omega))) (by first | assumption | omega)) ?_
          rw [tn, j1, j2, j4, tn, ta.1, tn, tt.2.2.1, ta.2.1, sub32 (x := js k) (y := β (ja k)) (by omega) (by omega)]
          refine Ends.g ⟨by omega, by omega⟩ (Ends.b3 (fun z => absurd z (by decide)) (fun _ => Ends.g ⟨by omega, by omega⟩ (Ends.g ⟨by have := ba.2.2.2; omega, by have := ba.2.2.2; omega⟩ ?_)))
          have fixd : (st (τ (ja k)) = true → sa (τ (ja k)) = js k - β (ja k)) → ∀ u8 : AV, Ends (ev PP (gsF gv) B d 850 150 [(2, rf (B + 149)), (0, (a : Int)), (2, inr), (0, (k : Int)), (0, (ja k : Int)), (0, -1), (0, (τ (ja k) : Int)), (0, js k - β (ja k)), u8] [] q) Q := fun ok u8 => by
            have u2 := uq.fix hkj ac gb j5 ⟨j8, j9⟩ ok
            refine Ends.eq (b850_150 (n := n) (by (repeat' first | assumption | refine LX.setF _ _ ?_ (by decide +kernel) | refine LX.setS ?_ rfl | refine LX.setA ?_ (by first | assumption | omega))) (by first | assumption | omega)) ?_
            rw [tn, an0]
            refine Ends.g ⟨by omega, by have := ba.2.2.2; omega⟩ ?_
            refine nx _ _ _ _ _ _ _ _ _ _ (LX.setS (LX.setS lq rfl) rfl) ((gq.set (by unfold utW; omega)).set (by unfold utW; omega)) u2 (fun z hz => ?_)
            obtain ⟨p1, p2, p3, p4⟩ := tq z hz
            rw [hv_na (show B + 214 ≠ B + 217 by omega), hv_na (show B + 214 ≠ B + 216 by omega), hv_na (show B + 215 ≠ B + 217 by omega), hv_na (show B + 215 ≠ B + 216 by omega), hv_na (show B + 216 ≠ B + 217 by omega)]
            refine ⟨p1, p2, ?_, fun w => ?_⟩
            · by_cases y2 : z = τ (ja k)
              · rw [y2, hv_set_at]; simp; rfl
              · rw [hv_set_ne (by omega), p3]; simp [y2]
            · by_cases y2 : z = τ (ja k)
              · rw [y2, hv_set_at, if_pos rfl]
              · rw [hv_set_ne (by omega), hv_na (show B + 217 ≠ B + 216 by omega), if_neg y2]
                simp [y2] at w
                exact p4 w
          cases es : st (τ (ja k))
          · exact Ends.b0 (fun _ => fixd (fun z => absurd z (by rw [es]; decide)) _) (fun z => absurd rfl z)
          · refine Ends.b0 (fun z => absurd z (by decide)) (fun _ => ?_)
            rw [tt.2.2.2 es]
            by_cases e : sa (τ (ja k)) = js k - β (ja k)
            · exact Ends.b0 (fun _ => fixd (fun _ => e) _) (fun z => absurd e z)
            · exact Ends.b0 (fun z => absurd z e) (fun _ => Ends.sm (K _ _ ⟨gq, Or.inr ⟨rfl, uq.clash hkj ac gb j5 es e⟩⟩))
        · rw [if_neg gb] at j1 j2
          have jbp : jb k < pl := by rcases j6 with z | z; exact z; exact absurd z gb
          have tb := tq (jb k) jbp
          have bb := uq.bd pl12 jbp
          refine Ends.eq (b850_80 (n := n) (by (repeat' first | assumption | refine LX.setF _ _ ?_ (by decide +kernel) | refine LX.setS ?_ rfl | refine LX.setA ?_ (by first | assumption | omega))) (by first | assumption | omega)) ?_
          rw [tn, j1, j2, j4, tn, tn, ta.1, tb.1, ta.2.1, tb.2.1, add32 (by omega) (by omega), sub32 (by omega) (by omega)]
          refine Ends.g ⟨by omega, by omega⟩ (Ends.b3 (fun _ => Ends.g ⟨by omega, by omega⟩ (Ends.g ⟨by omega, by omega⟩ ?_)) (fun z => by omega))
          by_cases e : τ (ja k) = τ (jb k)
          · refine Ends.b1 (fun z => absurd (by omega) z) (fun _ => ?_)
            by_cases e2 : β (ja k) + js k - β (jb k) = 0
            · exact Ends.b0 (fun _ => nx q τ β st sa _ _ _ _ _ lq gq (uq.same gb e e2) tq) (fun z => absurd e2 z)
            · exact Ends.b0 (fun z => absurd z e2) (fun _ => Ends.sm (K _ _ ⟨gq, Or.inr ⟨rfl, uq.split hkj ac gb j5 jbp e e2⟩⟩))
          · refine Ends.b1 (fun _ => ?_) (fun z => absurd (by omega) e)
            have i1 := (uq.1 _ j5).2.1
            have i2 := (uq.1 _ jbp).2.1
            refine Ends.ct lq (by decide +kernel) (by decide) (c_join724 lq (by omega) (Jq q gq).1 pl12 ba.2.2.2 bb.2.2.2 e tq (by omega) (fun z hz => by have := uq.bd pl12 hz; omega) (fun z hz hxy sz => ?_) (fun z hz => (uq.bd pl12 hz).2.2.2)) (fun v q2 l2 _ _ _ ⟨g2, r2⟩ => ?_)
            · rcases hxy with hxy | hxy
              · rw [hxy] at sz ⊢
                have := ba.2.2.1 sz
                omega
              · rw [hxy] at sz ⊢
                have := bb.2.2.1 sz
                omega
            have G2 := gq.tr g2 (fun c k z => z)
            refine Ends.eq (b850_236 (n := n) (by (repeat' first | assumption | refine LX.setF _ _ ?_ (by decide +kernel) | refine LX.setS ?_ rfl | refine LX.setA ?_ (by first | assumption | omega))) (by first | assumption | omega)) ?_
            rcases r2 with ⟨rfl, s1, s2, ne⟩ | ⟨rfl, ok, t2⟩
            · refine Ends.b1 (fun z => absurd rfl z) (fun _ => Ends.sm (K _ _ ⟨G2, Or.inr ⟨rfl, uq.tear hkj ac gb j5 jbp ?_ ?_ ne⟩⟩))
              · by_cases z : τ (ja k) < τ (jb k)
                · unfold ldU at s1; rw [if_pos z] at s1; exact s1
                · unfold otU at s2; rw [if_neg z] at s2; exact s2
              · by_cases z : τ (ja k) < τ (jb k)
                · unfold otU at s2; rw [if_pos z] at s2; exact s2
                · unfold ldU at s1; rw [if_neg z] at s1; exact s1
            · refine Ends.b1 (fun _ => ?_) (fun z => absurd z (by decide))
              refine nx q2 _ _ _ _ _ _ _ _ _ l2 G2 (uq.join hkj ac gb j5 jbp ⟨j8, j9⟩ e (ldU (τ (ja k)) (τ (jb k))) (otU (τ (ja k)) (τ (jb k))) (faU (τ (ja k)) (τ (jb k)) (β (ja k) + js k - β (jb k))) ?_ ?_ ok) t2
              · unfold ldU otU faU
                split
                · exact Or.inl ⟨rfl, rfl, rfl⟩
                · exact Or.inr ⟨rfl, rfl, rfl⟩
              · unfold ldU otU; split <;> omega
      have ax : ou k = false → ∀ u4 u5 u6 u7 u8 : AV, Ends (ev PP (gsF gv) B d 850 57 [(2, rf (B + 149)), (0, (a : Int)), (2, inr), (0, (k : Int)), u4, u5, u6, u7, u8] [] q) Q := fun o u4 u5 u6 u7 u8 => by
        refine Ends.eq (b850_57 (n := n) (by (repeat' first | assumption | refine LX.setF _ _ ?_ (by decide +kernel) | refine LX.setS ?_ rfl | refine LX.setA ?_ (by first | assumption | omega))) (by first | assumption | omega)) ?_
        rw [tn, j3]
        refine Ends.g ⟨by omega, by omega⟩ (Ends.b0 (fun z => act ⟨o, Or.inl (by omega)⟩ _ _ _ _ _) (fun z1 => Ends.b0 (fun z => act ⟨o, Or.inr (by omega)⟩ _ _ _ _ _) (fun z2 => skip (fun y => by rcases y.2 with y | y <;> omega) _ _ _ _ _)))
      refine Ends.eq (b850_39 (n := n) (by (repeat' first | assumption | refine LX.setF _ _ ?_ (by decide +kernel) | refine LX.setS ?_ rfl | refine LX.setA ?_ (by first | assumption | omega))) (by first | assumption | omega)) ?_
      rw [(Jq q gq).2.1]
      refine Ends.b3 (fun z => by omega) (fun _ => ?_)
      rcases Iq q gq with ⟨rfl, z2⟩ | ⟨rfl, z2⟩
      · exact Ends.b0 (fun _ => ax (z2 k) _ _ _ _ _) (fun z => absurd rfl z)
      · refine Ends.b0 (fun z => by have := rf_pos (B + 218); omega) (fun _ => ?_)
        have k218 := lq.1 218 (5, 24) rfl
        rw [ad_rf, k218, tn, z2 k (by omega)]
        refine Ends.g ⟨rf_pos _, rfl, by omega, by omega⟩ ?_
        cases eo : ou k
        · exact Ends.b0 (fun z => absurd z (by decide)) (fun _ => ax eo _ _ _ _ _)
        · exact Ends.b0 (fun _ => skip (fun y => by rw [y.1] at eo; exact absurd eo (by decide)) _ _ _ _ _) (fun z => absurd rfl z)
  have ini : ∀ (r i : Nat) (q : AH) (u4 u5 u6 u7 u8 : AV), i + r = pl → LX B n q → Agr (utW B) h q → (∀ x, x < i → hv q (B + 214) x = (x : Int) ∧ hv q (B + 215) x = 0 ∧ hv q (B + 216) x = 0) → Ends (ev PP (gsF gv) B d 850 2 [(2, rf (B + 149)), (0, (a : Int)), (2, inr), (0, (i : Int)), u4, u5, u6, u7, u8] [] q) Q := by
    intro r
    induction r with
    | zero =>
      intro i q u4 u5 u6 u7 u8 hi lq gq lo
      refine Ends.eq (b850_2 (n := n) (by (repeat' first | assumption | refine LX.setF _ _ ?_ (by decide +kernel) | refine LX.setS ?_ rfl | refine LX.setA ?_ (by first | assumption | omega))) (by first | assumption | omega)) ?_
      rw [(Jq q gq).1]
      refine Ends.b3 (fun _ => ?_) (fun z => by omega)
      exact jnt jn 0 q (fun x => x) (fun _ => 0) (fun _ => false) (fun _ => 0) _ _ _ _ _ (by omega) lq gq UfI.start (fun x hx => by obtain ⟨e1, e2, e3⟩ := lo x (by omega); exact ⟨e1, e2, e3, fun z => absurd z Bool.false_ne_true⟩)
    | succ r ih =>
      intro i q u4 u5 u6 u7 u8 hi lq gq lo
      refine Ends.eq (b850_2 (n := n) (by (repeat' first | assumption | refine LX.setF _ _ ?_ (by decide +kernel) | refine LX.setS ?_ rfl | refine LX.setA ?_ (by first | assumption | omega))) (by first | assumption | omega)) ?_
      rw [(Jq q gq).1]
      refine Ends.b3 (fun z => by omega) (fun _ => Ends.g ⟨by omega, by omega⟩ ?_)
      rw [tn, an0, an0, w_succ (by omega)]
      refine ih (i + 1) _ _ _ _ _ _ (by omega) (LX.setS (LX.setS (LX.setS lq rfl) rfl) rfl) (((gq.set (by unfold utW; omega)).set (by unfold utW; omega)).set (by unfold utW; omega)) (fun x hx => ?_)
      rw [hv_na (show B + 214 ≠ B + 216 by omega), hv_na (show B + 214 ≠ B + 215 by omega), hv_na (show B + 215 ≠ B + 216 by omega)]
      by_cases z : x = i
      · rw [z, hv_set_at, hv_set_at, hv_set_at]; exact ⟨rfl, rfl, rfl⟩
      · repeat rw [hv_set_ne (by omega)]
        exact lo x (by omega)
  refine Ends.eq (b850_0 (n := n) (by (repeat' first | assumption | refine LX.setF _ _ ?_ (by decide +kernel) | refine LX.setS ?_ rfl | refine LX.setA ?_ (by first | assumption | omega))) (by first | assumption | omega)) ?_
  exact ini pl 0 h _ _ _ _ _ (by omega) l Agr.rf (fun x hx => absurd hx (by omega))
theorem UfI.sat {A : Nat → Prop} {τ : Nat → Nat} {β : Nat → Int} {st : Nat → Bool} {sa : Nat → Int} (u : UfI pl jn ja jb js A jn τ β st sa) (hpl : pl ≤ 12) (hb : ∀ k, k < jn → ja k < pl ∧ (jb k < pl ∨ jb k = 12)) : TiSat jn ja jb (eS jb js) A := (u.fin hpl hb).2.2.2.2.1.mp rfl
theorem AsM.hb (J : AsM B h pl jn ja jb jx js) : ∀ k, k < jn → ja k < pl ∧ (jb k < pl ∨ jb k = 12) := fun k hk => by obtain ⟨_, _, _, _, j5, j6, _⟩ := J.2.2.2.2 k hk; exact ⟨j5, j6⟩
theorem c_canHold566 (l : LX B n h) (hd : 14 ≤ d) (J : AsM B h pl jn ja jb jx js) (I : InM B h jn inr ou) :
    Vt 0 (cll PP (ev PP (gsF gv) B) d 566 [(2, rf (B + 149)), (2, inr)] h) (fun v h' => Agr (utW B) h h' ∧ ((v = 1 ∧ TiAll jn ja jb jx js ou) ∨ (v = 0 ∧ ¬ TiAll jn ja jb jx js ou))) := by
  refine Vt.inq (D := 13) hd (Nat.le_of_ble_eq_true rfl) rfl (fun d hd Q K => ?_)
  have Jq : ∀ q, Agr (utW B) h q → AsM B q pl jn ja jb jx js := fun q g => J.agr g (by unfold utW; omega) (by unfold utW; omega) (fun c k h1 h2 => by unfold utW; omega)
  have Iq : ∀ q, Agr (utW B) h q → InM B q jn inr ou := fun q g => I.agr g (fun k => by unfold utW; omega)
  have pl12 := J.2.2.1
  have out : ∀ q, LX B n q → Agr (utW B) h q → ¬ TiAll jn ja jb jx js ou → Ends (ev PP (gsF gv) B d 566 31 [(2, rf (B + 149)), (2, inr)] [] q) Q := fun q lq gq z => by
    refine Ends.eq (b566_31 (n := n) (by (repeat' first | assumption | refine LX.setF _ _ ?_ (by decide +kernel) | refine LX.setS ?_ rfl | refine LX.setA ?_ (by first | assumption | omega))) (by first | assumption | omega)) ?_
    refine Ends.eq (b566_32 (n := n) (by (repeat' first | assumption | refine LX.setF _ _ ?_ (by decide +kernel) | refine LX.setS ?_ rfl | refine LX.setA ?_ (by first | assumption | omega))) (by first | assumption | omega)) ?_
    exact Ends.g (Or.inl rfl) (Ends.sm (K _ _ ⟨gq, Or.inr ⟨rfl, z⟩⟩))
  refine Ends.eq (b566_0 (n := n) (by (repeat' first | assumption | refine LX.setF _ _ ?_ (by decide +kernel) | refine LX.setS ?_ rfl | refine LX.setA ?_ (by first | assumption | omega))) (by first | assumption | omega)) ?_
  refine Ends.ct l (by decide +kernel) (by decide) (c_tie850 (a := 0) l (by omega) J I (by decide)) (fun v h1 l1 _ _ _ ⟨g1, r1⟩ => ?_)
  refine Ends.eq (b566_6 (n := n) (by (repeat' first | assumption | refine LX.setF _ _ ?_ (by decide +kernel) | refine LX.setS ?_ rfl | refine LX.setA ?_ (by first | assumption | omega))) (by first | assumption | omega)) ?_
  rcases r1 with ⟨rfl, τ, β, st, sa, u1, _⟩ | ⟨rfl, s1⟩
  rotate_left
  · exact Ends.b0 (fun _ => out _ l1 g1 (fun z => s1 (z 0 (by decide)))) (fun z => absurd rfl z)
  refine Ends.b0 (fun z => absurd z (by decide)) (fun _ => ?_)
  refine Ends.ct l1 (by decide +kernel) (by decide) (c_tie850 (a := 1) l1 (by omega) (Jq _ g1) (Iq _ g1) (by decide)) (fun v h2 l2 _ _ _ ⟨g2, r2⟩ => ?_)
  have G2 := g1.tr g2 (fun c k z => z)
  refine Ends.eq (b566_15 (n := n) (by (repeat' first | assumption | refine LX.setF _ _ ?_ (by decide +kernel) | refine LX.setS ?_ rfl | refine LX.setA ?_ (by first | assumption | omega))) (by first | assumption | omega)) ?_
  rcases r2 with ⟨rfl, τ2, β2, st2, sa2, u2, _⟩ | ⟨rfl, s2⟩
  rotate_left
  · exact Ends.b0 (fun _ => out _ l2 G2 (fun z => s2 (z 1 (by decide)))) (fun z => absurd rfl z)
  refine Ends.b0 (fun z => absurd z (by decide)) (fun _ => ?_)
  refine Ends.ct l2 (by decide +kernel) (by decide) (c_tie850 (a := 2) l2 (by omega) (Jq _ G2) (Iq _ G2) (by decide)) (fun v h3 l3 _ _ _ ⟨g3, r3⟩ => ?_)
  have G3 := G2.tr g3 (fun c k z => z)
  refine Ends.eq (b566_24 (n := n) (by (repeat' first | assumption | refine LX.setF _ _ ?_ (by decide +kernel) | refine LX.setS ?_ rfl | refine LX.setA ?_ (by first | assumption | omega))) (by first | assumption | omega)) ?_
  rcases r3 with ⟨rfl, τ3, β3, st3, sa3, u3, _⟩ | ⟨rfl, s3⟩
  · refine Ends.sm (K _ _ ⟨G3, Or.inl ⟨rfl, fun b hb => ?_⟩⟩)
    have : b = 0 ∨ b = 1 ∨ b = 2 := by omega
    rcases this with rfl | rfl | rfl
    · exact u1.sat pl12 J.hb
    · exact u2.sat pl12 J.hb
    · exact u3.sat pl12 J.hb
  · exact Ends.sm (K _ _ ⟨G3, Or.inr ⟨rfl, fun z => s3 (z 2 (by decide))⟩⟩)
end MTIE2
