/-! L3: what the model ties: leaders joined, one joint at a time: the picture -/
section UF
variable {pl jn : Nat} {ja jb : Nat → Nat} {js : Nat → Int} {A : Nat → Prop}
def szU (pl : Nat) (τ : Nat → Nat) (r : Nat) : Nat := cntN (fun z => decide (τ z = r)) pl
/-- the first m joints are tied: τ who leads, β how far behind, st and sa: what is fixed, and where -/
def UfI (pl jn : Nat) (ja jb : Nat → Nat) (js : Nat → Int) (A : Nat → Prop) (m : Nat) (τ : Nat → Nat) (β : Nat → Int) (st : Nat → Bool) (sa : Nat → Int) : Prop :=
  (∀ x, x < pl → τ x ≤ x ∧ τ (τ x) = τ x ∧ TCon jn ja jb A x (τ x) ∧ β (τ x) = 0) ∧ (∀ k, k < m → A k → jb k ≠ 12 → τ (ja k) = τ (jb k) ∧ β (jb k) = β (ja k) + js k) ∧ (∀ k, k < m → A k → jb k = 12 → st (τ (ja k)) = true ∧ sa (τ (ja k)) + β (ja k) = js k) ∧ (∀ pos, TiS jn ja jb (eS jb js) A pos → ∀ x, x < pl → β x = pos x - pos (τ x) ∧ (st (τ x) = true → sa (τ x) = pos (τ x))) ∧ (∀ x, x < pl → st (τ x) = true → TCon jn ja jb A x 12) ∧ (∀ x y, x < pl → y < pl → τ x = τ y → β x - β y ≤ 1000 * ((szU pl τ (τ x) : Int) - 1)) ∧ ∀ x, x < pl → st (τ x) = true → -(1000 * (szU pl τ (τ x) : Int)) ≤ sa (τ x) + β x ∧ sa (τ x) + β x ≤ 1000 * (szU pl τ (τ x) : Int)
variable {m : Nat} {τ : Nat → Nat} {β : Nat → Int} {st : Nat → Bool} {sa : Nat → Int}
theorem szU_le {r : Nat} : szU pl τ r ≤ pl := cntN_le _ _
theorem szU_pos {x : Nat} (hx : x < pl) : 1 ≤ szU pl τ (τ x) := by
  by_cases z : szU pl τ (τ x) = 0
  · have := cntN_zero pl z x hx
    simp at this
  · omega
theorem UfI.start : UfI pl jn ja jb js A 0 (fun x => x) (fun _ => 0) (fun _ => false) (fun _ => 0) :=
  ⟨fun x _ => ⟨Nat.le_refl _, rfl, TCon.rf, rfl⟩, fun k hk => absurd hk (by omega), fun k hk => absurd hk (by omega), fun pos _ x _ => ⟨by show (0 : Int) = pos x - pos x; omega, fun z => absurd z Bool.false_ne_true⟩, fun x _ z => absurd z Bool.false_ne_true, fun x y hx hy e => by
    have := szU_pos (τ := fun x => x) hx
    show (0 : Int) - 0 ≤ 1000 * ((szU pl (fun x => x) x : Int) - 1)
    omega, fun x _ z => absurd z Bool.false_ne_true⟩
/-- a joint that isn't asked for -/
theorem UfI.skip (u : UfI pl jn ja jb js A m τ β st sa) (h : ¬ A m) : UfI pl jn ja jb js A (m + 1) τ β st sa := by
  obtain ⟨u1, u2, u3, u4⟩ := u
  refine ⟨u1, fun k hk ha => ?_, fun k hk ha => ?_, u4⟩
  · by_cases e : k = m
    · rw [e] at ha; exact absurd ha h
    · exact u2 k (by omega) ha
  · by_cases e : k = m
    · rw [e] at ha; exact absurd ha h
    · exact u3 k (by omega) ha
/-- what a solution says of joint m -/
theorem sol_m {pos : Nat → Int} (hp : TiS jn ja jb (eS jb js) A pos) (hm : m < jn) (ha : A m) : if jb m = 12 then pos (ja m) = js m else pos (jb m) = pos (ja m) + js m := by
  have := hp.2 m hm ha
  unfold eS at this
  split
  · next e => rw [e, if_pos rfl, hp.1] at this; omega
  · next e => rw [if_neg e] at this; exact this
/-- a joint to nothing: not as it is fixed -/
theorem UfI.clash (u : UfI pl jn ja jb js A m τ β st sa) (hm : m < jn) (ha : A m) (hb : jb m = 12) (hj : ja m < pl) (s : st (τ (ja m)) = true) (ne : sa (τ (ja m)) ≠ js m - β (ja m)) : ¬ TiSat jn ja jb (eS jb js) A := by
  rintro ⟨pos, hp⟩
  obtain ⟨_, _, _, u4, _⟩ := u
  obtain ⟨e1, e2⟩ := u4 pos hp _ hj
  have e3 := sol_m hp hm ha
  rw [if_pos hb] at e3
  have := e2 s
  omega
/-- a joint to nothing: fixed now -/
theorem UfI.fix (u : UfI pl jn ja jb js A m τ β st sa) (hm : m < jn) (ha : A m) (hb : jb m = 12) (hj : ja m < pl) (hjs : -1000 ≤ js m ∧ js m ≤ 1000) (s : st (τ (ja m)) = true → sa (τ (ja m)) = js m - β (ja m)) : UfI pl jn ja jb js A (m + 1) τ β (fun r => st r || decide (r = τ (ja m))) (fun r => if r = τ (ja m) then js m - β (ja m) else sa r) := by
  obtain ⟨u1, u2, u3, u4, u5, u6, u7⟩ := u
  refine ⟨u1, fun k hk hak hkb => ?_, fun k hk hak hkb => ?_, fun pos hp x hx => ⟨(u4 pos hp x hx).1, fun z => ?_⟩, fun x hx z => ?_, u6, fun x hx z => ?_⟩
  · by_cases e : k = m
    · rw [e] at hkb; exact absurd hb hkb
    · exact u2 k (by omega) hak hkb
  · by_cases e : k = m
    · rw [e]; simp
    · obtain ⟨q1, q2⟩ := u3 k (by omega) hak hkb
      refine ⟨by simp [q1], ?_⟩
      by_cases y : τ (ja k) = τ (ja m)
      · simp only [y, if_true]
        rw [y] at q1 q2
        have := s q1
        omega
      · simp only [y, if_false]; exact q2
  · by_cases y : τ x = τ (ja m)
    · simp only [y, if_true]
      have e3 := sol_m hp hm ha
      rw [if_pos hb] at e3
      have := (u4 pos hp _ hj).1
      omega
    · simp only [y, if_false]; simp [y] at z; exact (u4 pos hp x hx).2 z
  · by_cases y : τ x = τ (ja m)
    · have c1 := (u1 x hx).2.2.1
      rw [y] at c1
      have c2 := TCon.e1 (jn := jn) (ja := ja) (jb := jb) (A := A) hm ha
      rw [hb] at c2
      exact (c1.tr (u1 _ hj).2.2.1.sym).tr c2
    · simp [y] at z; exact u5 x hx z
  · by_cases y : τ x = τ (ja m)
    · simp only [y, if_true]
      have a1 := u6 x (ja m) hx hj y
      have a2 := u6 (ja m) x hj hx y.symm
      rw [y] at a1
      omega
    · simp only [y, if_false]; simp [y] at z; exact u7 x hx z
theorem UfI.same (u : UfI pl jn ja jb js A m τ β st sa) (hb : jb m ≠ 12) (e : τ (ja m) = τ (jb m)) (e2 : β (ja m) + js m - β (jb m) = 0) : UfI pl jn ja jb js A (m + 1) τ β st sa := by
  obtain ⟨u1, u2, u3, u4⟩ := u
  refine ⟨u1, fun k hk ha hkb => ?_, fun k hk ha hkb => ?_, u4⟩
  · by_cases z : k = m
    · rw [z]; exact ⟨e, by omega⟩
    · exact u2 k (by omega) ha hkb
  · by_cases z : k = m
    · rw [z] at hkb; exact absurd hkb hb
    · exact u3 k (by omega) ha hkb
theorem UfI.split (u : UfI pl jn ja jb js A m τ β st sa) (hm : m < jn) (ha : A m) (hb : jb m ≠ 12) (hj : ja m < pl) (hj2 : jb m < pl) (e : τ (ja m) = τ (jb m)) (e2 : β (ja m) + js m - β (jb m) ≠ 0) : ¬ TiSat jn ja jb (eS jb js) A := by
  rintro ⟨pos, hp⟩
  obtain ⟨_, _, _, u4, _⟩ := u
  have a1 := (u4 pos hp _ hj).1
  have a2 := (u4 pos hp _ hj2).1
  have e3 := sol_m hp hm ha
  rw [if_neg hb] at e3
  rw [← e] at a2
  omega
/-- joining: who leads then (the lesser), the other one, how far that is behind -/
def ldU (x y : Nat) : Nat := if x < y then x else y
def otU (x y : Nat) : Nat := if x < y then y else x
def faU (x y : Nat) (b : Int) : Int := if x < y then b else -b
theorem UfI.tear (u : UfI pl jn ja jb js A m τ β st sa) (hm : m < jn) (ha : A m) (hb : jb m ≠ 12) (hj : ja m < pl) (hj2 : jb m < pl) (s1 : st (τ (ja m)) = true) (s2 : st (τ (jb m)) = true) (ne : sa (otU (τ (ja m)) (τ (jb m))) ≠ sa (ldU (τ (ja m)) (τ (jb m))) + faU (τ (ja m)) (τ (jb m)) (β (ja m) + js m - β (jb m))) : ¬ TiSat jn ja jb (eS jb js) A := by
  rintro ⟨pos, hp⟩
  obtain ⟨_, _, _, u4, _⟩ := u
  obtain ⟨a1, a2⟩ := u4 pos hp _ hj
  obtain ⟨b1, b2⟩ := u4 pos hp _ hj2
  have e3 := sol_m hp hm ha
  rw [if_neg hb] at e3
  have a3 := a2 s1
  have b3 := b2 s2
  unfold otU ldU faU at ne
  split at ne <;> omega
/-- two are joined -/
theorem UfI.join (u : UfI pl jn ja jb js A m τ β st sa) (hm : m < jn) (ha : A m) (hb : jb m ≠ 12) (hj : ja m < pl) (hj2 : jb m < pl) (hjs : -1000 ≤ js m ∧ js m ≤ 1000) (ne : τ (ja m) ≠ τ (jb m)) (L O : Nat) (f : Int) (hLO : (L = τ (ja m) ∧ O = τ (jb m) ∧ f = β (ja m) + js m - β (jb m)) ∨ (L = τ (jb m) ∧ O = τ (ja m) ∧ f = -(β (ja m) + js m - β (jb m)))) (lt : L < O) (ok : st L = true → st O = true → sa O = sa L + f) :
    UfI pl jn ja jb js A (m + 1) (fun x => if τ x = O then L else τ x) (fun x => if τ x = O then β x + f else β x) (fun r => st r || (decide (r = L) && st O)) (fun r => if r = L ∧ st O = true ∧ st L = false then sa O - f else sa r) := by
  obtain ⟨u1, u2, u3, u4, u5, u6, u7⟩ := u
  -- who stands at the two ends
  obtain ⟨p, q, hp, hq, tp, tq, ep, cn⟩ : ∃ p q, p < pl ∧ q < pl ∧ τ p = L ∧ τ q = O ∧ (∃ c : Int, -1000 ≤ c ∧ c ≤ 1000 ∧ f = β p + c - β q ∧ ∀ pos, TiS jn ja jb (eS jb js) A pos → pos q = pos p + c) ∧ TCon jn ja jb A p q := by
    rcases hLO with ⟨e1, e2, e3⟩ | ⟨e1, e2, e3⟩
    · refine ⟨ja m, jb m, hj, hj2, e1.symm, e2.symm, ⟨js m, hjs.1, hjs.2, e3, fun pos hp => ?_⟩, TCon.e1 hm ha⟩
      have := sol_m hp hm ha
      rw [if_neg hb] at this
      exact this
    · refine ⟨jb m, ja m, hj2, hj, e1.symm, e2.symm, ⟨-(js m), by omega, by omega, by omega, fun pos hp => ?_⟩, TCon.e2 hm ha⟩
      have := sol_m hp hm ha
      rw [if_neg hb] at this
      omega
  obtain ⟨c, hc1, hc2, hf, hpos⟩ := ep
  have tL : τ L = L := by have := (u1 p hp).2.1; rw [tp] at this; exact this
  have tO : τ O = O := by have := (u1 q hq).2.1; rw [tq] at this; exact this
  have bL : β L = 0 := by have := (u1 p hp).2.2.2; rw [tp] at this; exact this
  have bO : β O = 0 := by have := (u1 q hq).2.2.2; rw [tq] at this; exact this
  have LO : L ≠ O := by omega
  have Lp : L < pl := by have := (u1 p hp).1; omega
  have Op : O < pl := by have := (u1 q hq).1; omega
  have cLO : TCon jn ja jb A O L := by
    have c1 := (u1 p hp).2.2.1
    have c2 := (u1 q hq).2.2.1
    rw [tp] at c1
    rw [tq] at c2
    exact (c2.sym.tr cn.sym).tr c1
  -- how many go with L then
  have sz : szU pl (fun x => if τ x = O then L else τ x) L = szU pl τ L + szU pl τ O := by
    unfold szU
    rw [← cntN_or (S := fun z => decide (τ z = L)) (M := fun z => decide (τ z = O)) pl (fun i _ e => by simp at e ⊢; omega)]
    refine cntN_congr pl (fun i _ => ?_)
    by_cases e : τ i = O
    · simp [e]
    · simp [e]
  have szo : ∀ r, r ≠ L → r ≠ O → szU pl (fun x => if τ x = O then L else τ x) r = szU pl τ r := fun r h1 h2 => by
    unfold szU
    refine cntN_congr pl (fun i _ => ?_)
    by_cases e : τ i = O
    · have : ¬ L = r := fun z => h1 z.symm
      have h3 : ¬ O = r := fun z => h2 z.symm
      simp [e, this, h3]
    · simp [e]
  have sp := szU_pos (τ := τ) hp
  have sq := szU_pos (τ := τ) hq
  rw [tp] at sp
  rw [tq] at sq
  -- differences within L's, within O's
  have dL : ∀ x y, x < pl → y < pl → τ x = L → τ y = L → β x - β y ≤ 1000 * ((szU pl τ L : Int) - 1) := fun x y hx hy e1 e2 => by have := u6 x y hx hy (by rw [e1, e2]); rw [e1] at this; exact this
  have dO : ∀ x y, x < pl → y < pl → τ x = O → τ y = O → β x - β y ≤ 1000 * ((szU pl τ O : Int) - 1) := fun x y hx hy e1 e2 => by have := u6 x y hx hy (by rw [e1, e2]); rw [e1] at this; exact this
  refine ⟨fun x hx => ?_, fun k hk hak hkb => ?_, fun k hk hak hkb => ?_, fun pos hps x hx => ?_, fun x hx z => ?_, fun x y hx hy e => ?_, fun x hx z => ?_⟩
  · by_cases e : τ x = O
    · have := (u1 x hx).1
      have c1 := (u1 x hx).2.2.1
      rw [e] at c1
      simp only [e, if_true, tL, LO, if_false]
      exact ⟨by omega, trivial, c1.tr cLO, bL⟩
    · simp only [e, if_false, (u1 x hx).2.1]
      exact ⟨(u1 x hx).1, trivial, (u1 x hx).2.2.1, (u1 x hx).2.2.2⟩
  · by_cases e : k = m
    · rw [e]
      rcases hLO with ⟨e1, e2, e3⟩ | ⟨e1, e2, e3⟩
      · have h1 : ¬ τ (ja m) = O := by omega
        simp only [h1, ← e2, if_true, if_false]
        exact ⟨e1.symm, by omega⟩
      · have h1 : ¬ τ (jb m) = O := by omega
        simp only [h1, ← e2, if_true, if_false]
        exact ⟨e1, by omega⟩
    · obtain ⟨q1, q2⟩ := u2 k (by omega) hak hkb
      by_cases y : τ (ja k) = O
      · have y2 : τ (jb k) = O := by omega
        simp only [y, y2, if_true]
        exact ⟨trivial, by omega⟩
      · have y2 : ¬ τ (jb k) = O := by omega
        simp only [y, y2, if_false]
        exact ⟨q1, q2⟩
  · have hkm : k ≠ m := fun e => by rw [e] at hkb; exact hb hkb
    obtain ⟨q1, q2⟩ := u3 k (by omega) hak hkb
    by_cases y : τ (ja k) = O
    · rw [y] at q1 q2
      simp only [y, if_true]
      refine ⟨by simp [q1], ?_⟩
      by_cases sL : st L = true
      · rw [if_neg (fun z => by rw [sL] at z; exact absurd z.2.2 (by decide))]
        have := ok sL q1
        omega
      · rw [if_pos ⟨trivial, q1, Bool.eq_false_iff.mpr sL⟩]
        omega
    · simp only [y, if_false]
      refine ⟨by simp [q1], ?_⟩
      rw [if_neg (fun z => by rw [← z.1, q1] at z; exact absurd z.2.2 (by decide))]
      exact q2
  · have a1 := (u4 pos hps p hp).1
    have a2 := (u4 pos hps q hq).1
    have a3 := hpos pos hps
    rw [tp] at a1
    rw [tq] at a2
    have fo : pos O = pos L + f := by omega
    by_cases y : τ x = O
    · have b1 := (u4 pos hps x hx).1
      rw [y] at b1
      simp only [y, if_true]
      refine ⟨by omega, fun z => ?_⟩
      by_cases sL : st L = true
      · rw [if_neg (fun z => by rw [sL] at z; exact absurd z.2.2 (by decide))]
        have := (u4 pos hps p hp).2
        rw [tp] at this
        exact this sL
      · have sO : st O = true := by simpa [sL] using z
        rw [if_pos ⟨by trivial, sO, Bool.eq_false_iff.mpr sL⟩]
        have := (u4 pos hps q hq).2
        rw [tq] at this
        have := this sO
        omega
    · simp only [y, if_false]
      refine ⟨(u4 pos hps x hx).1, fun z => ?_⟩
      by_cases yL : τ x = L
      · rw [yL] at z ⊢
        by_cases sL : st L = true
        · rw [if_neg (fun z => by rw [sL] at z; exact absurd z.2.2 (by decide))]
          have := (u4 pos hps p hp).2
          rw [tp] at this
          exact this sL
        · have sO : st O = true := by simpa [sL] using z
          rw [if_pos ⟨by trivial, sO, Bool.eq_false_iff.mpr sL⟩]
          have := (u4 pos hps q hq).2
          rw [tq] at this
          have := this sO
          omega
      · rw [if_neg (fun w => yL w.1)]
        simp [yL] at z
        exact (u4 pos hps x hx).2 z
  · by_cases y : τ x = O
    · simp only [y, if_true] at z
      have c1 := (u1 x hx).2.2.1
      rw [y] at c1
      by_cases sO : st O = true
      · exact u5 x hx (by rw [y]; exact sO)
      · have sL : st L = true := by simpa [sO] using z
        have := u5 p hp (by rw [tp]; exact sL)
        have c2 := (u1 p hp).2.2.1
        rw [tp] at c2
        exact ((c1.tr cLO).tr c2.sym).tr this
    · simp only [y, if_false] at z
      by_cases yL : τ x = L
      · rw [yL] at z
        by_cases sL : st L = true
        · exact u5 x hx (by rw [yL]; exact sL)
        · have sO : st O = true := by simpa [sL] using z
          have := u5 q hq (by rw [tq]; exact sO)
          have c1 := (u1 x hx).2.2.1
          rw [yL] at c1
          have c2 := (u1 q hq).2.2.1
          rw [tq] at c2
          exact ((c1.tr cLO.sym).tr c2.sym).tr this
      · simp [yL] at z
        exact u5 x hx z
  · by_cases y1 : τ x = O
    · by_cases y2 : τ y = O
      · simp only [y1, y2, if_true]
        rw [sz]
        have := dO x y hx hy y1 y2
        omega
      · simp only [y1, y2, if_true, if_false] at e ⊢
        rw [sz]
        have := dO x q hx hq y1 tq
        have := dL p y hp hy tp e.symm
        omega
    · by_cases y2 : τ y = O
      · simp only [y1, y2, if_true, if_false] at e ⊢
        rw [e, sz]
        have := dL x p hx hp e tp
        have := dO q y hq hy tq y2
        omega
      · simp only [y1, y2, if_false] at e ⊢
        by_cases yL : τ x = L
        · rw [yL, sz]
          have := dL x y hx hy yL (by omega)
          omega
        · rw [szo _ yL y1]
          exact u6 x y hx hy e
  · have wL : st L = true → ∀ x, x < pl → τ x = L → -(1000 * (szU pl τ L : Int)) ≤ sa L + β x ∧ sa L + β x ≤ 1000 * (szU pl τ L : Int) := fun s x hx e => by have := u7 x hx (by rw [e]; exact s); rw [e] at this; exact this
    have wO : st O = true → ∀ x, x < pl → τ x = O → -(1000 * (szU pl τ O : Int)) ≤ sa O + β x ∧ sa O + β x ≤ 1000 * (szU pl τ O : Int) := fun s x hx e => by have := u7 x hx (by rw [e]; exact s); rw [e] at this; exact this
    by_cases y : τ x = O
    · simp only [y, if_true] at z ⊢
      rw [sz]
      have d1 := dO x q hx hq y tq
      have d2 := dO q x hq hx tq y
      by_cases sL : st L = true
      · rw [if_neg (fun w => by rw [sL] at w; exact absurd w.2.2 (by decide))]
        have := wL sL p hp tp
        omega
      · have sO : st O = true := by simpa [sL] using z
        rw [if_pos ⟨by trivial, sO, Bool.eq_false_iff.mpr sL⟩]
        have := wO sO x hx y
        omega
    · simp only [y, if_false] at z ⊢
      by_cases yL : τ x = L
      · rw [yL] at z ⊢
        rw [sz]
        have d1 := dL x p hx hp yL tp
        have d2 := dL p x hp hx tp yL
        by_cases sL : st L = true
        · rw [if_neg (fun w => by rw [sL] at w; exact absurd w.2.2 (by decide))]
          have := wL sL x hx yL
          omega
        · have sO : st O = true := by simpa [sL] using z
          rw [if_pos ⟨by trivial, sO, Bool.eq_false_iff.mpr sL⟩]
          have := wO sO q hq tq
          omega
      · rw [if_neg (fun w => yL w.1), szo _ yL y]
        simp [yL] at z
        exact u7 x hx z
/-- all joints are tied: the same outcome as the desk's -/
theorem UfI.fin (u : UfI pl jn ja jb js A jn τ β st sa) (hpl : pl ≤ 12) (hb : ∀ k, k < jn → ja k < pl ∧ (jb k < pl ∨ jb k = 12)) : TieR pl jn ja jb (eS jb js) A (fun x => if st (τ x) = true then 12 else τ x) (fun x => if st (τ x) = true then sa (τ x) + β x else β x) false := by
  obtain ⟨u1, u2, u3, u4, u5, u6, u7⟩ := u
  have gr : ∀ x, x < pl → TCon jn ja jb A x 12 → st (τ x) = true := fun x hx c => by
    have := c.sym (fun z => z = 12 ∨ st (τ z) = true) (Or.inl rfl) (fun k hk ha => by
      have h1 := (hb k hk).1
      by_cases e : jb k = 12
      · exact ⟨fun _ => Or.inl e, fun _ => Or.inr (u3 k hk ha e).1⟩
      · have e2 := (u2 k hk ha e).1
        constructor
        · rintro (z | z)
          · omega
          · right; rw [← e2]; exact z
        · rintro (z | z)
          · exact absurd z e
          · right; rw [e2]; exact z)
    rcases this with z | z
    · omega
    · exact z
  refine ⟨fun x hx => ?_, fun x hx => ?_, fun x hx c => if_pos (gr x hx c), fun x y hx hy c => ?_, ?_, fun pos hp x hx => ?_, fun x hx => ?_⟩
  · by_cases e : st (τ x) = true
    · exact Or.inl (if_pos e)
    · dsimp only
      rw [if_neg e]
      have := (u1 x hx).1
      exact Or.inr (by omega)
  · by_cases e : st (τ x) = true
    · dsimp only
      rw [if_pos e]; exact u5 x hx e
    · dsimp only
      rw [if_neg e]; exact (u1 x hx).2.2.1
  · let ρ : Nat → Nat := fun z => if z = 12 then 12 else if st (τ z) = true then 12 else τ z
    have key : ρ x = ρ y := c (fun z => ρ x = ρ z) rfl (fun k hk ha => by
      have h1 := (hb k hk).1
      have n1 : ja k ≠ 12 := by omega
      have : ρ (ja k) = ρ (jb k) := by
        by_cases e : jb k = 12
        · simp only [ρ, e, if_true, n1, if_false, (u3 k hk ha e).1]
        · simp only [ρ, e, n1, if_false, (u2 k hk ha e).1]
      rw [this])
    have nx : x ≠ 12 := by omega
    have ny : y ≠ 12 := by omega
    simp only [ρ, nx, ny, if_false] at key
    refine ⟨key, ?_⟩
    by_cases e : st (τ x) = true
    · exact Or.inl (if_pos e)
    · dsimp only
      rw [if_neg e]
      rw [if_neg e] at key
      right
      by_cases e2 : st (τ y) = true
      · rw [if_pos e2] at key
        have := (u1 x hx).1
        omega
      · rw [if_neg e2] at key
        have := (u1 y hy).1
        omega
  · refine ⟨fun _ => ⟨fun z => if z = 12 then 0 else if st (τ z) = true then sa (τ z) + β z else β z, if_pos rfl, fun k hk ha => ?_⟩, fun _ => rfl⟩
    have h1 := (hb k hk).1
    have n1 : ja k ≠ 12 := by omega
    unfold eS
    by_cases e : jb k = 12
    · obtain ⟨q1, q2⟩ := u3 k hk ha e
      simp only [e, n1, q1, if_true, if_false]
      omega
    · obtain ⟨q1, q2⟩ := u2 k hk ha e
      simp only [e, n1, if_false]
      rw [← q1]
      split <;> omega
  · obtain ⟨a1, a2⟩ := u4 pos hp x hx
    by_cases e : st (τ x) = true
    · dsimp only
      rw [if_pos e, if_pos e, hp.1]
      have := a2 e
      omega
    · dsimp only
      rw [if_neg e, if_neg e]; exact a1
  · have s1 := szU_le (pl := pl) (τ := τ) (r := τ x)
    by_cases e : st (τ x) = true
    · dsimp only
      rw [if_pos e]
      have := u7 x hx e
      omega
    · dsimp only
      rw [if_neg e]
      have l1 := (u1 x hx).1
      have a1 := u6 x (τ x) hx (by omega) (u1 x hx).2.1.symm
      have a2 := u6 (τ x) x (by omega) hx (u1 x hx).2.1
      rw [(u1 x hx).2.2.2] at a1 a2
      rw [(u1 x hx).2.1] at a2
      omega
end UF
