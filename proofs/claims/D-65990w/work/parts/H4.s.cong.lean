/-! L3: profiles and regions depend on the points that are there alone; one answer on both sides -/
noncomputable section CGP
variable {n np nd nk ax kd : Nat} {ab ab' be be' dw nb : Nat → Int} {lv dlv dgk : Nat → Bool} {fr to_ dc : Nat → Nat} {x x' r1 r1' r2 r2' o : Int} {wall str : Bool} {cs : Nat → Cst} {w dr : Nat → Int} {isC gk : Nat → Bool} {T T' : Nat → Bool}
/-- the same numbers at the points that are there -/
def PtE (np : Nat) (ab ab' : Nat → Int) : Prop := ∀ j, j < 2 * np → ab j = ab' j
/-- lines and discs are of such points -/
def LdP (np nd : Nat) (lv : Nat → Bool) (fr to_ : Nat → Nat) (dlv : Nat → Bool) (dc : Nat → Nat) : Prop := (∀ k, lv k = true → fr k < np ∧ to_ k < np) ∧ ∀ k, k < nd → dlv k = true → dc k < np
theorem PtE.sym (e : PtE np ab ab') : PtE np ab' ab := fun j hj => (e j hj).symm
theorem PtE.u {p : Nat} (e : PtE np ab ab') (hp : p < np) : ab (2 * p) = ab' (2 * p) ∧ ab (2 * p + 1) = ab' (2 * p + 1) := ⟨e _ (by omega), e _ (by omega)⟩
theorem ln_cg {k : Nat} (e : PtE np ab ab') (P : LdP np nd lv fr to_ dlv dc) (lk : lv k = true) : lU0 ab fr k = lU0 ab' fr k ∧ lV0 ab fr k = lV0 ab' fr k ∧ lU0 ab to_ k = lU0 ab' to_ k ∧ lV0 ab to_ k = lV0 ab' to_ k ∧ lDU ab fr to_ k = lDU ab' fr to_ k ∧ lDV ab fr to_ k = lDV ab' fr to_ k ∧ lSZ ab fr to_ k = lSZ ab' fr to_ k := by
  obtain ⟨h1, h2⟩ := P.1 k lk
  have a1 : lU0 ab fr k = lU0 ab' fr k := (e.u h1).1
  have a2 : lV0 ab fr k = lV0 ab' fr k := (e.u h1).2
  have a3 : lU0 ab to_ k = lU0 ab' to_ k := (e.u h2).1
  have a4 : lV0 ab to_ k = lV0 ab' to_ k := (e.u h2).2
  refine ⟨a1, a2, a3, a4, ?_, ?_, ?_⟩
  · unfold lDU; rw [a1, a3]
  · unfold lDV; rw [a2, a4]
  · unfold lSZ; rw [a1, a2, a3, a4]
theorem whB_cg {p : Nat} (e : PtE np ab ab') (e2 : PtE np be be') (hp : p < np) : whB n ab be p = whB n ab' be' p := by
  unfold whB
  rw [(e.u hp).1, (e.u hp).2, (e2.u hp).1, (e2.u hp).2]
theorem pA2_cg (e : PtE np ab ab') (e2 : PtE np be be') (P : LdP np nd lv fr to_ dlv dc) : pA2 n ab be lv fr to_ nd dlv dc → pA2 n ab' be' lv fr to_ nd dlv dc := by
  rintro (⟨k, h1, h2, h3⟩ | ⟨k, h1, h2, h3⟩)
  · obtain ⟨p1, p2⟩ := P.1 k h2
    exact Or.inl ⟨k, h1, h2, by rw [← whB_cg e e2 p1, ← whB_cg e e2 p2]; exact h3⟩
  · exact Or.inr ⟨k, h1, h2, by rw [← whB_cg e e2 (P.2 k h1 h2)]; exact h3⟩
theorem pA3_cg (e : PtE np ab ab') (P : LdP np nd lv fr to_ dlv dc) : pA3 ab lv fr to_ → pA3 ab' lv fr to_ := by
  rintro ⟨k, h1, h2, h3⟩
  obtain ⟨a1, a2, a3, a4, -⟩ := ln_cg e P h2
  exact ⟨k, h1, h2, by rw [← a1, ← a2, ← a3, ← a4]; exact h3⟩
theorem enF_cg {u v : Int} (e : PtE np ab ab') (P : LdP np nd lv fr to_ dlv dc) : enF lv (lU0 ab fr) (lV0 ab fr) (lU0 ab to_) (lV0 ab to_) u v = enF lv (lU0 ab' fr) (lV0 ab' fr) (lU0 ab' to_) (lV0 ab' to_) u v := funext fun k => by
  unfold enF
  by_cases lk : lv k = true
  · obtain ⟨a1, a2, a3, a4, -⟩ := ln_cg e P lk
    rw [a1, a2, a3, a4]
  · rw [if_neg lk, if_neg lk]
theorem pA5_cg (e : PtE np ab ab') (P : LdP np nd lv fr to_ dlv dc) : pA5 ab lv fr to_ → pA5 ab' lv fr to_ := by
  rintro ⟨k, h1, h2, h3⟩
  obtain ⟨a1, a2, a3, a4, -⟩ := ln_cg e P h2
  exact ⟨k, h1, h2, by rw [← enF_cg e P, ← enF_cg e P, ← a1, ← a2, ← a3, ← a4]; exact h3⟩
theorem pA6_cg (e : PtE np ab ab') (P : LdP np nd lv fr to_ dlv dc) : pA6 ab lv fr to_ → pA6 ab' lv fr to_ := by
  rintro ⟨k, m, h1, h2, h3, h4, h5⟩
  obtain ⟨a1, a2, a3, a4, a5, a6, a7⟩ := ln_cg e P h3
  obtain ⟨b1, b2, b3, b4, b5, b6, b7⟩ := ln_cg e P h4
  refine ⟨k, m, h1, h2, h3, h4, ?_⟩
  unfold MtSk at h5 ⊢
  rw [← a1, ← a2, ← a5, ← a6, ← a7, ← b1, ← b2, ← b5, ← b6, ← b7]
  exact h5
theorem pr_cg (e : PtE np ab ab') (e2 : PtE np be be') (P : LdP np nd lv fr to_ dlv dc) (r : PrR n wall ab be lv fr to_ nd dlv dc dgk dw x) : PrR n wall ab' be' lv fr to_ nd dlv dc dgk dw x := by
  have q2 : pA2 n ab be lv fr to_ nd dlv dc ↔ pA2 n ab' be' lv fr to_ nd dlv dc := ⟨pA2_cg e e2 P, pA2_cg e.sym e2.sym P⟩
  have q3 : pA3 ab lv fr to_ ↔ pA3 ab' lv fr to_ := ⟨pA3_cg e P, pA3_cg e.sym P⟩
  have q5 : pA5 ab lv fr to_ ↔ pA5 ab' lv fr to_ := ⟨pA5_cg e P, pA5_cg e.sym P⟩
  have q6 : pA6 ab lv fr to_ ↔ pA6 ab' lv fr to_ := ⟨pA6_cg e P, pA6_cg e.sym P⟩
  unfold PrR at r ⊢
  rw [← q2, ← q3, ← q5, ← q6]
  exact r
theorem PrR.uniq (a : PrR n wall ab be lv fr to_ nd dlv dc dgk dw x) (b : PrR n wall ab be lv fr to_ nd dlv dc dgk dw x') : x = x' := by
  rcases a with ⟨p, a⟩ | ⟨p, ⟨q, a⟩ | ⟨q, ⟨s, a⟩ | ⟨s, ⟨t, a⟩ | ⟨t, ⟨u, a⟩ | ⟨u, ⟨v, a⟩ | ⟨v, a⟩⟩⟩⟩⟩⟩
  all_goals
    rcases b with ⟨p', b⟩ | ⟨p', ⟨q', b⟩ | ⟨q', ⟨s', b⟩ | ⟨s', ⟨t', b⟩ | ⟨t', ⟨u', b⟩ | ⟨u', ⟨v', b⟩ | ⟨v', b⟩⟩⟩⟩⟩⟩
  all_goals first
    | (rw [a, b]; done)
    | (exact absurd p p')
    | (exact absurd p' p)
    | (exact absurd q q')
    | (exact absurd q' q)
    | (rw [s] at s'; exact absurd s' (by decide))
    | (exact absurd t t')
    | (exact absurd t' t)
    | (exact absurd u u')
    | (exact absurd u' u)
    | (exact absurd v v')
    | (exact absurd v' v)
theorem st_cg {m : Nat} (e : PtE np ab ab') (P : LdP np nd lv fr to_ dlv dc) : strP lv (lU0 ab fr) (lV0 ab fr) (lU0 ab to_) (lV0 ab to_) m → strP lv (lU0 ab' fr) (lV0 ab' fr) (lU0 ab' to_) (lV0 ab' to_) m := fun ⟨h1, h2⟩ => ⟨fun k hk lk => by
  obtain ⟨a1, a2, a3, a4, -⟩ := ln_cg e P lk
  rw [← a1, ← a2, ← a3, ← a4]
  exact h1 k hk lk, h2⟩
theorem ps_cg (e : PtE np ab ab') (e2 : PtE np be be') (P : LdP np nd lv fr to_ dlv dc) (r : PrS str n wall ab be lv fr to_ nd dlv dc dgk dw x) : PrS str n wall ab' be' lv fr to_ nd dlv dc dgk dw x := by
  rcases r with ⟨h1, h2⟩ | ⟨h2, ⟨h3, h4, h5⟩ | ⟨h3, h5⟩⟩
  · exact Or.inl ⟨h1, pr_cg e e2 P h2⟩
  · exact Or.inr ⟨pr_cg e e2 P h2, Or.inl ⟨h3, fun z => h4 (st_cg e.sym P z), h5⟩⟩
  · exact Or.inr ⟨pr_cg e e2 P h2, Or.inr ⟨fun z => st_cg e P (h3 z), h5⟩⟩
theorem PrS.uniq (a : PrS str n wall ab be lv fr to_ nd dlv dc dgk dw x) (b : PrS str n wall ab be lv fr to_ nd dlv dc dgk dw x') : x = x' := by
  rcases a with ⟨h1, h2⟩ | ⟨h2, ⟨h3, h4, h5⟩ | ⟨h3, h5⟩⟩
  · rcases b with ⟨g1, g2⟩ | ⟨g2, -⟩
    · exact h2.uniq g2
    · exact absurd (h2.uniq g2) h1
  · rcases b with ⟨g1, g2⟩ | ⟨g2, ⟨g3, g4, g5⟩ | ⟨g3, g5⟩⟩
    · exact absurd (g2.uniq h2) g1
    · rw [h5, g5]
    · exact absurd (g3 h3) h4
  · rcases b with ⟨g1, g2⟩ | ⟨g2, ⟨g3, g4, g5⟩ | ⟨g3, g5⟩⟩
    · exact absurd (g2.uniq h2) g1
    · exact absurd (h3 g3) g4
    · rw [h5, g5]
/-- regions -/
theorem dCU_cg {i : Nat} (e : PtE np ab ab') (P : LdP np nd lv fr to_ dlv dc) (hi : i < cntN dlv nd) : dCU ab dlv dc i = dCU ab' dlv dc i ∧ dCV ab dlv dc i = dCV ab' dlv dc i := by
  obtain ⟨k, h1, h2, h3⟩ := cnt_at nd i hi
  have ek : kAt dlv i = k := by rw [← h3]; exact kAt_is h2
  unfold dCU dCV
  rw [ek]
  exact e.u (P.2 k h1 h2)
theorem rg_cg {CR : Nat → Nat} {u v : Int} (e : PtE np ab ab') (P : LdP np nd lv fr to_ dlv dc) : rgB lv (lU0 ab fr) (lV0 ab fr) (lV0 ab to_) (lDU ab fr to_) (lDV ab fr to_) (cntN dlv nd) (dCU ab dlv dc) (dCV ab dlv dc) CR u v = rgB lv (lU0 ab' fr) (lV0 ab' fr) (lV0 ab' to_) (lDU ab' fr to_) (lDV ab' fr to_) (cntN dlv nd) (dCU ab' dlv dc) (dCV ab' dlv dc) CR u v := by
  have e1 : lcB lv (lU0 ab fr) (lV0 ab fr) (lV0 ab to_) (lDU ab fr to_) (lDV ab fr to_) u v = lcB lv (lU0 ab' fr) (lV0 ab' fr) (lV0 ab' to_) (lDU ab' fr to_) (lDV ab' fr to_) u v := funext fun k => by
    unfold lcB
    cases lk : lv k
    · rfl
    · obtain ⟨a1, a2, a3, a4, a5, a6, a7⟩ := ln_cg e P lk
      rw [Bool.true_and, Bool.true_and, Bool.eq_iff_iff, cxB_t, cxB_t]
      unfold cxP
      rw [a1, a2, a4, a5, a6]
  have e2 : cntN (dcB (dCU ab dlv dc) (dCV ab dlv dc) CR u v) (cntN dlv nd) = cntN (dcB (dCU ab' dlv dc) (dCV ab' dlv dc) CR u v) (cntN dlv nd) := cntN_congr _ (fun i hi => by
    unfold dcB
    rw [(dCU_cg e P hi).1, (dCU_cg e P hi).2])
  unfold rgB
  rw [e1, e2]
theorem rgnF_cg (e : PtE np ab ab') (P : LdP np nd lv fr to_ dlv dc) : rgnF ab dw lv fr to_ nd dlv dc = rgnF ab' dw lv fr to_ nd dlv dc := by
  funext q v u
  unfold rgnF rgQ
  exact rg_cg e P
theorem sqS_cg (e : PtE np ab ab') (P : LdP np nd lv fr to_ dlv dc) : sqS ab dw lv fr to_ nd dlv dc = sqS ab' dw lv fr to_ nd dlv dc := by
  funext v u
  unfold sqS sqR
  rw [rg_cg e P]
theorem nrF_cg {r : Int} (e : PtE np ab ab') (P : LdP np nd lv fr to_ dlv dc) : nrF ab lv fr to_ r = nrF ab' lv fr to_ r := by
  funext q v u
  unfold nrF nrQ
  have key : ∀ {ab ab' : Nat → Int} {y z t : Int}, PtE np ab ab' → nrP lv (lU0 ab fr) (lV0 ab fr) (lU0 ab to_) (lV0 ab to_) y z t → nrP lv (lU0 ab' fr) (lV0 ab' fr) (lU0 ab' to_) (lV0 ab' to_) y z t := fun e ⟨k, lk, h⟩ => by
    obtain ⟨a1, a2, a3, a4, -⟩ := ln_cg e P lk
    exact ⟨k, lk, by rw [← a1, ← a2, ← a3, ← a4]; exact h⟩
  by_cases z : nrP lv (lU0 ab fr) (lV0 ab fr) (lU0 ab to_) (lV0 ab to_) (8 * (u : Int) + sU q) (8 * (v : Int) + sV q) (8 * r)
  · rw [nrB_t z, nrB_t (key e z)]
  · rw [nrB_f z, nrB_f (fun y => z (key e.sym y))]
theorem skT_cg {g : Nat} (e : PtE np ab ab') (P : LdP np nd lv fr to_ dlv dc) : skT n kd ax o nb ab dw lv fr to_ nd dlv dc g = skT n kd ax o nb ab' dw lv fr to_ nd dlv dc g := by
  unfold skT
  rw [rgnF_cg e P, nrF_cg e P, sqS_cg e P]
theorem flT_cg {g : Nat} {dn : Bool} {Pt : Nat → Bool} (e : PtE np ab ab') (P : LdP np nd lv fr to_ dlv dc) : flT n ax o dn Pt dw lv fr to_ nd dlv dc ab g = flT n ax o dn Pt dw lv fr to_ nd dlv dc ab' g := by
  unfold flT
  rw [rgnF_cg e P]
/-- the tool on a sketch is one -/
theorem SkP.uniq {Tf Tf' : (Nat → Int) → Nat → Bool} (P : LdP np nd lv fr to_ dlv dc) (a : SkP n nk np cs w dr isC gk lv fr to_ nd dlv dc dgk dw kd Tf x r1 r2 T) (b : SkP n nk np cs w dr isC gk lv fr to_ nd dlv dc dgk dw kd Tf' x' r1' r2' T') (hT : ∀ ab ab' : Nat → Int, PtE np ab ab' → ∀ g, g < gN n → Tf ab g = Tf' ab' g) : SmO n x x' r1 r1' r2 r2' T T' := by
  have pt : ∀ {X X' : Nat → Int} {t t' : Int}, Sln (EqE nk isC cs w) (2 * np) dr X t → Sln (EqE nk isC cs w) (2 * np) dr X' t' → PtE np (fun j => mN (X j) t) (fun j => mN (X' j) t') ∧ PtE np (fun j => mD (X j) t) (fun j => mD (X' j) t') := fun p p' => ⟨fun j hj => (fr_uniq p p' hj).1, fun j hj => (fr_uniq p p' hj).2⟩
  rcases a with ⟨a1, a2, a3⟩ | ⟨a1, a2, X, t, a3, a4, a5⟩
  · rcases b with ⟨b1, b2, b3⟩ | ⟨b1, b2, X', t', b3, b4, b5⟩
    · refine ⟨by rw [a1, b1], fun _ => ⟨by rw [a2, b2], ?_⟩, fun z => by omega⟩
      rcases a3 with ⟨a3, a4⟩ | ⟨a3, a4, X, t, a5, a6⟩
      · rcases b3 with ⟨b3, b4⟩ | ⟨b3, -⟩
        · rw [a4, b4]
        · omega
      · rcases b3 with ⟨b3, -⟩ | ⟨b3, b4, X', t', b5, b6⟩
        · omega
        · exact (ps_cg (pt a5 b5).1 (pt a5 b5).2 P a6).uniq b6
    · exfalso
      rcases a3 with ⟨a3, a4⟩ | ⟨a3, a4, X, t, a5, a6⟩
      · omega
      · exact a4 ((ps_cg (pt a5 b3).1 (pt a5 b3).2 P a6).uniq b4)
  · rcases b with ⟨b1, b2, b3⟩ | ⟨b1, b2, X', t', b3, b4, b5⟩
    · exfalso
      rcases b3 with ⟨b3, b4⟩ | ⟨b3, b4, X', t', b5, b6⟩
      · omega
      · exact b4 ((ps_cg (pt b5 a3).1 (pt b5 a3).2 P b6).uniq a4)
    · exact ⟨by rw [a1, b1], fun z => by omega, fun _ g hg => by rw [a5 g hg, b5 g hg, hT _ _ (pt a3 b3).1 g hg]⟩
/-- placing is one -/
theorem pcsU_cg {S : Nat → Bool} (e : PtE np ab ab') : ∀ k, k < np → pcsU n ax ab S k = pcsU n ax ab' S k
  | 0, _ => rfl
  | k + 1, h => by
    funext g
    show (pcsU n ax ab S k g || pcsM n ax (ab (2 * (k + 1)) - ab 0) (ab (2 * (k + 1) + 1) - ab 1) S g) = (pcsU n ax ab' S k g || pcsM n ax (ab' (2 * (k + 1)) - ab' 0) (ab' (2 * (k + 1) + 1) - ab' 1) S g)
    rw [pcsU_cg e k (by omega), e (2 * (k + 1)) (by omega), e 0 (by omega), e (2 * (k + 1) + 1) (by omega), e 1 (by omega)]
theorem PlP.uniq {S : Nat → Bool} (a : PlP n nk np cs w dr isC gk ax S T x r1 r2) (b : PlP n nk np cs w dr isC gk ax S T' x' r1' r2') : SmO n x x' r1 r1' r2 r2' T T' := by
  rcases a with ⟨a1, a2, a3, a4⟩ | ⟨a1, X, t, a2, a3⟩
  · rcases b with ⟨b1, b2, b3, b4⟩ | ⟨b1, -⟩
    · exact ⟨by rw [a2, b2], fun _ => ⟨by rw [a3, b3], by rw [a4, b4]⟩, fun z => by omega⟩
    · omega
  · rcases b with ⟨b1, -⟩ | ⟨b1, X', t', b2, b3⟩
    · omega
    · rcases a3 with ⟨⟨j, hj, a3⟩, a4, a5, a6⟩ | ⟨a3, a4, a5⟩
      · rcases b3 with ⟨-, b4, b5, b6⟩ | ⟨b3, -⟩
        · exact ⟨by rw [a4, b4], fun _ => ⟨by rw [a5, b5], by rw [a6, b6]⟩, fun z => by omega⟩
        · exact absurd ((fr_uniq a2 b2 hj).2.trans (b3 j hj)) a3
      · rcases b3 with ⟨⟨j, hj, b3⟩, -⟩ | ⟨b3, b4, b5⟩
        · exact absurd ((fr_uniq a2 b2 hj).2.symm.trans (a3 j hj)) b3
        · refine ⟨by rw [a4, b4], fun z => by omega, fun _ g hg => ?_⟩
          rw [a5 g hg, b5 g hg]
          rcases Nat.eq_zero_or_pos np with z | z
          · subst z; rfl
          · rw [pcsU_cg (ab := fun j => mN (X j) t) (ab' := fun j => mN (X' j) t') (np := np) (fun j hj => (fr_uniq a2 b2 hj).1) (np - 1) (by omega)]
end CGP
