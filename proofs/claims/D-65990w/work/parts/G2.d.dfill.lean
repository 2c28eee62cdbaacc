/-! L3: fills (desk) -/
noncomputable section FILD
variable {gv : Nat → Int} {B n d ax a s : Nat} {h : AH} {c : Nat → Int} {Pt : Nat → Bool} {R : Nat → Nat → Nat → Bool} {o : Int} {dn : Bool}
/-- the columns ahead of one -/
def flAh (n ax : Nat) (o : Int) (dn : Bool) (Pt : Nat → Bool) (R : Nat → Nat → Nat → Bool) (p v u g : Nat) : Bool := aheadB p v u (quT ax (gSo g)) (gC n g (sA ax)) (gC n g (fA ax)) && flG n ax o dn Pt R g
theorem and_dec {s : Bool} {p q : Prop} {ip : Decidable p} {iq : Decidable q} (h : p ↔ q) : (@decide p ip && s) = (@decide q iq && s) := by
  by_cases z : p
  · rw [@decide_eq_true p ip z, @decide_eq_true q iq (h.mp z)]
  · rw [@decide_eq_false p ip z, @decide_eq_false q iq (fun w => z (h.mpr w))]
set_option maxHeartbeats 2000000 in
theorem c_fillGood {Q : Rs → Prop} (l : LX B n h) (hd : 14 ≤ d) (hn0 : 0 < n) (hn : n ≤ 52) (m : TbC B h) (hs : s < 6) (hc : ∀ z, z < 37368 → hv h (B + 2) z = c z) (eax : c (skA s) = (ax : Int)) (eo : c (skA s + 1) = o) (hax : ax < 3) (ob : 0 ≤ o ∧ o ≤ n) (ed : cond (tst 1 (hv h (B + 97) 0) 0) (0 : Int) 1 = if dn = true then 0 else 1) (sp : SG n h (B + 117) Pt) (sa : SG n h a (fun _ => false)) (ha : B + 246 ≤ a) (qq : Qua n h (B + 114) R)
    (K : ∀ h', Agr (fun c _ => c = a) h h' → SG n h' a (flG n ax o dn Pt R) → Q ((0, (0, 1)), h')) (u3 u4 u5 u6 u7 : AV) :
    Ends (ev PP (gsF gv) B d 270 24 [(2, rf (B + 92)), (0, (s : Int)), (2, rf a), u3, u4, u5, u6, u7] [] h) Q := by
  have sk0 : skA s < 23000 := by unfold skA; omega
  have hfA : fA ax < 3 := by have := fA_2 (ax := ax); omega
  have hsA : sA ax < 3 := by have := sA_2 (ax := ax); omega
  obtain ⟨a1, a2⟩ := cell_is (i := skA s) hc (by omega)
  obtain ⟨b1, b2⟩ := cell_is (i := skA s + 1) hc (by omega)
  have e1 : bop32 96 (v391 (s : Int)) 1 = ((skA s + 1 : Nat) : Int) := by
    rw [v391_is hs]; exact addK (k := 1) (by omega)
  have v4 : v424 B h (s : Int) = o := by unfold v424; rw [e1, b2, eo]
  have v3 : v387 B h (s : Int) = (ax : Int) := by unfold v387; rw [v391_is hs, a2, eax]
  have q4 : q424 B h (s : Int) := by unfold q424; rw [e1]; exact b1
  have q3 : q387 B h (s : Int) := by unfold q387; rw [v391_is hs]; exact a1
  have quas : ∀ (k p : Nat) (q : AH) (u6 u7 : AV), p + k = 4 → LX B n q → Agr (fun c _ => c = a) h q → SG n q a (flAh n ax o dn Pt R p 0 0) → Ends (ev PP (gsF gv) B d 270 46 [(2, rf (B + 92)), (0, (s : Int)), (2, rf a), (0, (ax : Int)), (0, o), (0, (p : Int)), u6, u7] [] q) Q := by
    intro k
    induction k with
    | zero =>
      intro p q u6 u7 ep lq g sq
      obtain rfl : p = 4 := by omega
      refine Ends.eq (b270_46 lq (by omega)) (Ends.b3 (fun _ => Ends.sm (K q g (sq.congr hn0 (fun g hg => ?_)))) (fun z => absurd z (by decide)))
      have := qz_ax ⟨ax, hax⟩ ⟨gSo g, (g_lt hg).2.2.2.2⟩
      simp only at this
      unfold flAh aheadB
      rw [decide_eq_true (Or.inl this), Bool.true_and]
    | succ k ihp =>
      intro p q u6 u7 ep lq g sq
      have hp : p < 4 := by omega
      have pn : p * n ≤ 156 := by
        have := Nat.mul_le_mul (show p ≤ 3 by omega) hn
        omega
      have rows : ∀ (k v : Nat) (q : AH) (u7 : AV), v + k = n → LX B n q → Agr (fun c _ => c = a) h q → SG n q a (flAh n ax o dn Pt R p v 0) → Ends (ev PP (gsF gv) B d 270 55 [(2, rf (B + 92)), (0, (s : Int)), (2, rf a), (0, (ax : Int)), (0, o), (0, (p : Int)), (0, (v : Int)), u7] [] q) Q := by
        intro k
        induction k with
        | zero =>
          intro v q u7 ev_ lq g sq
          refine Ends.eq (b270_55 lq (by omega)) (Ends.b3 (fun _ => ?_) (fun z => absurd z (by omega)))
          rw [w_succ (by omega)]
          refine ihp (p + 1) q _ _ (by omega) lq g (sq.congr hn0 (fun g hg => ?_))
          have := gC_lt (a := sA ax) hg
          unfold flAh aheadB
          refine and_dec ?_
          omega
        | succ k ihv =>
          intro v q u7 ev_ lq g sq
          have vn : v < n := by omega
          have cols : ∀ (k u : Nat) (q : AH), u + k = n → LX B n q → Agr (fun c _ => c = a) h q → SG n q a (flAh n ax o dn Pt R p v u) → Ends (ev PP (gsF gv) B d 270 67 [(2, rf (B + 92)), (0, (s : Int)), (2, rf a), (0, (ax : Int)), (0, o), (0, (p : Int)), (0, (v : Int)), (0, (u : Int))] [] q) Q := by
            intro k
            induction k with
            | zero =>
              intro u q eu lq g sq
              refine Ends.eq (b270_67 lq (by omega)) (Ends.b3 (fun _ => ?_) (fun z => absurd z (by omega)))
              rw [w_succ (by omega)]
              refine ihv (v + 1) q _ (by omega) lq g (sq.congr hn0 (fun g hg => ?_))
              have := gC_lt (a := fA ax) hg
              unfold flAh aheadB
              refine and_dec ?_
              omega
            | succ k ihu =>
              intro u q eu lq g sq
              have un : u < n := by omega
              have ql := q_lt (n := n) hp vn
              have ix : ∀ _ : Unit, bop32 96 (bop32 104 (p : Int) (n : Int)) (v : Int) = ((p * n + v : Nat) : Int) := fun _ => by
                rw [show bop32 104 (p : Int) (n : Int) = ((p * n : Nat) : Int) from mulNN (by omega)]
                exact addNN (by omega)
              have bit : bop64 127 (sop64 123 (hv q (B + 114) (p * n + v)) (u : Int)) 1 = if R p v u = true then 1 else 0 := by
                have := (qq.2 p v hp vn).2 u (by omega)
                rw [decide_eq_true un, Bool.true_and] at this
                rw [g.at _ _ (by omega), bit_is _ (by omega), this]
              have next : ∀ q2 : AH, LX B n q2 → Agr (fun c _ => c = a) h q2 → SG n q2 a (flAh n ax o dn Pt R p v (u + 1)) → Ends (ev PP (gsF gv) B d 270 129 [(2, rf (B + 92)), (0, (s : Int)), (2, rf a), (0, (ax : Int)), (0, o), (0, (p : Int)), (0, (v : Int)), (0, (u : Int))] [] q2) Q := fun q2 l2 g2 s2 => by
                refine Ends.eq (b270_129 l2 (by omega)) ?_
                rw [w_succ (by omega)]
                exact ihu (u + 1) q2 (by omega) l2 g2 s2
              have ah : ∀ g, aheadB p v (u + 1) (quT ax (gSo g)) (gC n g (sA ax)) (gC n g (fA ax)) = (aheadB p v u (quT ax (gSo g)) (gC n g (sA ax)) (gC n g (fA ax)) || decide (quT ax (gSo g) = p ∧ gC n g (sA ax) = v ∧ gC n g (fA ax) = u)) := fun g => by
                unfold aheadB
                rw [← Bool.decide_or, decide_eq_decide]
                omega
              refine Ends.eq (b270_67 lq (by omega)) ?_
              rw [ix (), tn, bit, show hv q (B + 97) (Int.toNat 0) = hv h (B + 97) 0 from g.at (B + 97) 0 (by omega), ed]
              refine Ends.b3 (fun z => absurd z (by omega)) (fun _ => Ends.g ⟨by omega, by omega⟩ ?_)
              cases er : R p v u
              · rw [if_neg Bool.false_ne_true]
                refine Ends.b1 (fun _ => next q lq g (sq.congr hn0 (fun g hg => ?_))) (fun z => absurd (cmp64_z.mp z) (by decide))
                unfold flAh
                rw [ah g]
                by_cases e : quT ax (gSo g) = p ∧ gC n g (sA ax) = v ∧ gC n g (fA ax) = u
                · have : flG n ax o dn Pt R g = false := by
                    unfold flG
                    rw [e.1, e.2.1, e.2.2, er, Bool.and_false]
                  rw [this, Bool.and_false, Bool.and_false]
                · rw [decide_eq_false e, Bool.or_false]
              · rw [if_pos rfl]
                refine Ends.b1 (fun z => absurd (cmp64_z.mpr rfl) z) (fun _ => ?_)
                have mq : TbC B q := m.ext l.2.2 g.ext (fun c k h1 h2 w => by omega)
                refine Ends.cv lq (by decide +kernel) (c_column258 (q := p) (u := u) (v := v) (Pt := Pt) lq (by omega) hn0 hn mq hax hp un vn ob (sp.agr g (fun _ z => by omega)) sq ha) (fun q2 l2 _ _ _ ⟨g2, s2⟩ => ?_)
                refine next q2 l2 (g.tr g2 (fun _ _ z => z)) (s2.congr hn0 (fun g hg => ?_))
                show (flAh n ax o dn Pt R p v u g || _) = flAh n ax o dn Pt R p v (u + 1) g
                unfold flAh
                rw [ah g]
                by_cases e : quT ax (gSo g) = p ∧ gC n g (sA ax) = v ∧ gC n g (fA ax) = u
                · rw [decide_eq_true e, Bool.or_true, Bool.true_and]
                  by_cases f : flP n ax o dn Pt g
                  · rw [flG_t f, e.1, e.2.1, e.2.2, er, @decide_eq_true _ (Classical.propDecidable _) ⟨⟨hg, e.1, e.2.2, e.2.1⟩, f⟩, Bool.or_true]
                  · rw [flG_f f, @decide_eq_false _ (Classical.propDecidable _) (fun y => f y.2), Bool.and_false]
                    rfl
                · rw [decide_eq_false e, Bool.or_false, @decide_eq_false _ (Classical.propDecidable _) (fun y => e ⟨y.1.2.1, y.1.2.2.2, y.1.2.2.1⟩), Bool.or_false]
          refine Ends.eq (b270_55 lq (by omega)) (Ends.b3 (fun z => absurd z (by omega)) (fun _ => cols n 0 q (by omega) lq g sq))
      refine Ends.eq (b270_46 lq (by omega)) (Ends.b3 (fun z => absurd z (by omega)) (fun _ => rows n 0 q _ (by omega) lq g sq))
  refine Ends.eq (b270_24 l (by omega)) ?_
  rw [v4, v3]
  refine Ends.g q3 (Ends.g q4 ?_)
  refine quas 4 0 h _ _ rfl l Agr.rf (sa.congr hn0 (fun g hg => ?_))
  unfold flAh aheadB
  rw [decide_eq_false (by omega)]
  rfl
end FILD
