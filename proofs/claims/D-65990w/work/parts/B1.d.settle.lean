/-! L3: the desk settles, tells the least that can't hold, slides -/
/-- which are out when the last r of J were tried, the last one first: those without which it can hold all the same stay out -/
def Fil (sat : (Nat → Bool) → Prop) (J : Nat) : Nat → (Nat → Bool) → Prop
  | 0, K => ∀ k, K k = false
  | r + 1, K => ∃ K0, Fil sat J r K0 ∧ ((sat (fun k => K0 k || decide (k = J - 1 - r)) ∧ ∀ k, K k = K0 k) ∨ (¬ sat (fun k => K0 k || decide (k = J - 1 - r)) ∧ ∀ k, K k = (K0 k || decide (k = J - 1 - r))))
theorem Fil.uniq {sat : (Nat → Bool) → Prop} {J : Nat} : ∀ {r : Nat} {K L : Nat → Bool}, Fil sat J r K → Fil sat J r L → ∀ k, K k = L k
  | 0, K, L, a, b, k => by rw [a k, b k]
  | r + 1, K, L, ⟨K0, a0, a1⟩, ⟨L0, b0, b1⟩, k => by
    have e : K0 = L0 := funext (Fil.uniq a0 b0)
    subst e
    rcases a1 with ⟨a2, a3⟩ | ⟨a2, a3⟩ <;> rcases b1 with ⟨b2, b3⟩ | ⟨b2, b3⟩
    · rw [a3, b3]
    · exact absurd a2 b2
    · exact absurd b2 a2
    · rw [a3, b3]
/-- the k-th of the first J that isn't out; -1 -/
def NthF (K : Nat → Bool) (J : Nat) (k : Int) (x : Int) : Prop := (∃ i : Nat, i < J ∧ K i = false ∧ x = (i : Int) ∧ ((cntN (fun j => !K j) i : Nat) : Int) = k) ∨ (x = -1 ∧ ((cntN (fun j => !K j) J : Nat) : Int) ≤ k)
theorem cntN_mono {S : Nat → Bool} {i : Nat} : ∀ j, i ≤ j → cntN S i ≤ cntN S j
  | 0, h => by rw [Nat.le_zero.mp h]; exact Nat.le_refl _
  | j + 1, h => by
    by_cases e : i = j + 1
    · rw [e]; exact Nat.le_refl _
    · have := cntN_mono (S := S) (i := i) j (by omega)
      rw [cntN_s]; omega
theorem NthF.uniq {K : Nat → Bool} {J : Nat} {k x y : Int} (a : NthF K J k x) (b : NthF K J k y) : x = y := by
  have step : ∀ i j : Nat, i < j → K i = false → cntN (fun j => !K j) i < cntN (fun j => !K j) j := fun i j h e => by
    have := cntN_mono (S := fun j => !K j) (i := i + 1) j h
    rw [cntN_s, e] at this
    simp at this
    omega
  rcases a with ⟨i, a1, a2, a3, a4⟩ | ⟨a1, a2⟩ <;> rcases b with ⟨j, b1, b2, b3, b4⟩ | ⟨b1, b2⟩
  · rcases Nat.lt_trichotomy i j with z | z | z
    · have := step i j z a2; omega
    · omega
    · have := step j i z b2; omega
  · have := step i J a1 a2; omega
  · have := step j J b1 b2; omega
  · omega
section SETTLE
variable {gv : Nat → Int} {B n d : Nat} {h : AH} {pl jn : Nat} {ja jb jx : Nat → Nat} {js : Nat → Int} {a i : Nat}
def none0 : Nat → Bool := fun _ => false
/-- where the places are when all has settled -/
def stN (ρ : Nat → Nat → Nat) (α : Nat → Nat → Int) (old : Nat → Nat → Int) (b x : Nat) : Int := if ρ b x = 12 then α b x else old b (ρ b x) + α b x
def stW (B : Nat) : Nat → Nat → Prop := fun c k => spW B c k ∨ c = B + 130 ∨ c = B + 120
theorem TieR.idem {A : Nat → Prop} {es : Nat → Int} {ρ : Nat → Nat} {α : Nat → Int} (t : TieR pl jn ja jb es A ρ α false) {x : Nat} (hx : x < pl) (h12 : ρ x ≠ 12) : ρ x < pl ∧ ρ x ≤ x ∧ ρ (ρ x) = ρ x ∧ α (ρ x) = 0 := by
  have r : ρ x < pl := by rcases t.1 x hx with z | z; exact absurd z h12; exact z
  have e := (t.2.2.2.1 x (ρ x) hx r (t.2.1 x hx)).1.symm
  obtain ⟨pos, hp⟩ := t.2.2.2.2.1.mp rfl
  have := t.2.2.2.2.2.1 pos hp (ρ x) r
  rw [e] at this
  refine ⟨r, ?_, e, by omega⟩
  rcases (t.2.2.2.1 x x hx hx TCon.rf).2 with z | z
  · exact absurd z h12
  · exact z
theorem c_settle119 (l : LX B n h) (hd : 16 ≤ d) (J : AsJ B h pl jn ja jb jx js) {old : Nat → Nat → Int} (hs : ∀ x b, x < pl → b < 3 → hv h (B + 120) (3 * x + b) = old b x ∧ -1000000 ≤ old b x ∧ old b x ≤ 1000000) :
    Vt 0 (cll PP (ev PP (gsF gv) B) d 119 [(2, rf (B + 118))] h) (fun v h' => Agr (stW B) h h' ∧ ((v = 2 ∧ ¬ TiAll jn ja jb jx js none0 ∧ ∀ k, hv h' (B + 120) k = hv h (B + 120) k) ∨ ∃ ρ α, (∀ b, b < 3 → TieR pl jn ja jb (eS jb js) (aC' jx none0 b) (ρ b) (α b) false) ∧ (∀ x b, x < pl → b < 3 → hv h' (B + 120) (3 * x + b) = stN ρ α old b x) ∧ ((v = 0 ∧ ∀ x b, x < pl → b < 3 → ρ b x = 12) ∨ (v = 1 ∧ ∃ x b, x < pl ∧ b < 3 ∧ ρ b x ≠ 12)))) := by
  have pl12 := J.2.2.1
  refine Vt.inq (D := 15) hd (Nat.le_of_ble_eq_true rfl) rfl (fun d hd Q K => ?_)
  refine Ends.eq (b119_0 (n := n) (by (repeat' first | assumption | refine LX.setF _ _ ?_ (by decide +kernel) | refine LX.setS ?_ rfl | refine LX.setA ?_ (by first | assumption | omega))) (by first | assumption | omega)) ?_
  refine Ends.cv l (by decide +kernel) (c_allIn106 l (by omega)) (fun h1 l1 _ _ _ ⟨g1, o1⟩ => ?_)
  refine Ends.eq (b119_4 (n := n) (by (repeat' first | assumption | refine LX.setF _ _ ?_ (by decide +kernel) | refine LX.setS ?_ rfl | refine LX.setA ?_ (by first | assumption | omega))) (by first | assumption | omega)) ?_
  have J1 : AsJ B h1 pl jn ja jb jx js := J.agr g1 (by omega) (by omega) (fun c k h1 h2 => by omega)
  refine Ends.ct l1 (by decide +kernel) (by decide) (c_canHold108 (ou := none0) l1 (by omega) J1 (fun k hk => o1 k hk)) (fun x h2 l2 _ _ _ ⟨g2, ex⟩ => ?_)
  have G2 : Agr (stW B) h h2 := (g1.sub (fun c k z => Or.inr (Or.inl z))).tr g2 (fun c k z => Or.inl z)
  have s2 : ∀ k, hv h2 (B + 120) k = hv h (B + 120) k := fun k => by rw [g2.at _ _ (by unfold spW; omega), g1.at _ _ (by omega)]
  refine Ends.eq (b119_8 (n := n) (by (repeat' first | assumption | refine LX.setF _ _ ?_ (by decide +kernel) | refine LX.setS ?_ rfl | refine LX.setA ?_ (by first | assumption | omega))) (by first | assumption | omega)) ?_
  rcases ex with ⟨rfl, sat⟩ | ⟨rfl, sat⟩
  rotate_left
  · exact Ends.b1 (fun z => absurd rfl z) (fun _ => Ends.sm (K _ _ ⟨G2, Or.inl ⟨rfl, sat, s2⟩⟩))
  refine Ends.b1 (fun _ => ?_) (fun z => absurd z (by decide))
  -- the axes, one by one
  have ax : ∀ (r a : Nat) (q : AH) (hw : Bool) (ρ : Nat → Nat → Nat) (α : Nat → Nat → Int) (u3 : AV), a + r = 3 → LX B n q → Agr (stW B) h q → (∀ k, k < 24 → hv q (B + 130) k = 0) → (∀ b, b < a → TieR pl jn ja jb (eS jb js) (aC' jx none0 b) (ρ b) (α b) false) → (∀ x b, x < pl → b < 3 → hv q (B + 120) (3 * x + b) = if b < a then stN ρ α old b x else old b x) → (hw = true ↔ ∃ x b, x < pl ∧ b < a ∧ ρ b x ≠ 12) → Ends (ev PP (gsF gv) B d 119 17 [(2, rf (B + 118)), (0, if hw = true then 1 else 0), (0, (a : Int)), u3] [] q) Q := by
    intro r
    induction r with
    | zero =>
      intro a q hw ρ α u3 ha lq gq o t sh hww
      obtain rfl : a = 3 := by omega
      refine Ends.eq (b119_17 (n := n) (by (repeat' first | assumption | refine LX.setF _ _ ?_ (by decide +kernel) | refine LX.setS ?_ rfl | refine LX.setA ?_ (by first | assumption | omega))) (by first | assumption | omega)) ?_
      refine Ends.b3 (fun _ => Ends.sm (K _ _ ⟨gq, Or.inr ⟨ρ, α, t, fun x b hx hb => by rw [sh x b hx hb, if_pos hb], ?_⟩⟩)) (fun z => absurd z (by decide))
      cases e : hw
      · refine Or.inl ⟨rfl, fun x b hx hb => Classical.byContradiction (fun z => ?_)⟩
        rw [hww.mpr ⟨x, b, hx, hb, z⟩] at e
        exact absurd e (by decide)
      · exact Or.inr ⟨rfl, hww.mp e⟩
    | succ r ih =>
      intro a q hw ρ α u3 ha lq gq o t sh hww
      have Jq : AsJ B q pl jn ja jb jx js := J.agr gq (by unfold stW spW; omega) (by unfold stW spW; omega) (fun c k h1 h2 => by unfold stW spW; omega)
      refine Ends.eq (b119_17 (n := n) (by (repeat' first | assumption | refine LX.setF _ _ ?_ (by decide +kernel) | refine LX.setS ?_ rfl | refine LX.setA ?_ (by first | assumption | omega))) (by first | assumption | omega)) ?_
      refine Ends.b3 (fun z => by omega) (fun _ => ?_)
      refine Ends.cv lq (by decide +kernel) (c_tie123 (a := a) (ou := none0) lq (by omega) Jq (fun k hk => o k hk) (by omega)) (fun q2 l2 _ _ _ ⟨g2, ρa, αa, w, ta, va, e18⟩ => ?_)
      have hw0 : w = false := ta.2.2.2.2.1.mpr (sat a (by omega))
      rw [hw0] at ta
      refine Ends.eq (b119_27 (n := n) (by (repeat' first | assumption | refine LX.setF _ _ ?_ (by decide +kernel) | refine LX.setS ?_ rfl | refine LX.setA ?_ (by first | assumption | omega))) (by first | assumption | omega)) ?_
      let ρ' : Nat → Nat → Nat := fun b => if b = a then ρa else ρ b
      let α' : Nat → Nat → Int := fun b => if b = a then αa else α b
      have ra : ρ' a = ρa := if_pos rfl
      have aa : α' a = αa := if_pos rfl
      have G2 := gq.tr g2 (fun c k z => Or.inl z)
      have sh2 : ∀ x b, x < pl → b < 3 → hv q2 (B + 120) (3 * x + b) = if b < a then stN ρ' α' old b x else old b x := fun x b hx hb => by
        rw [g2.at _ _ (by unfold spW; omega), sh x b hx hb]
        by_cases z : b < a
        · rw [if_pos z, if_pos z]
          have : b ≠ a := by omega
          simp only [stN, ρ', α', this, if_false]
        · rw [if_neg z, if_neg z]
      have o2 : ∀ k, k < 24 → hv q2 (B + 130) k = 0 := fun k hk => by rw [g2.at _ _ (by unfold spW; omega)]; exact o k hk
      have t2 : ∀ b, b < a + 1 → TieR pl jn ja jb (eS jb js) (aC' jx none0 b) (ρ' b) (α' b) false := fun b hb => by
        by_cases z : b = a
        · rw [z, ra, aa]; exact ta
        · simp only [ρ', α', z, if_false]; exact t b (by omega)
      have hww2 : hw = true ↔ ∃ x b, x < pl ∧ b < a ∧ ρ' b x ≠ 12 := by
        rw [hww]
        constructor
        · rintro ⟨x, b, hx, hb, e⟩
          refine ⟨x, b, hx, hb, ?_⟩
          have : b ≠ a := by omega
          simp only [ρ', this, if_false]; exact e
        · rintro ⟨x, b, hx, hb, e⟩
          refine ⟨x, b, hx, hb, ?_⟩
          have : b ≠ a := by omega
          simp only [ρ', this, if_false] at e; exact e
      have pls : ∀ (r i : Nat) (q3 : AH) (hw3 : Bool), i + r = pl → LX B n q3 → Agr (fun c _ => c = B + 120) q2 q3 → (∀ x b, x < pl → b < 3 → hv q3 (B + 120) (3 * x + b) = if b < a ∨ (b = a ∧ x < i) then stN ρ' α' old b x else old b x) → (hw3 = true ↔ (hw = true ∨ ∃ x, x < i ∧ ρa x ≠ 12)) → Ends (ev PP (gsF gv) B d 119 29 [(2, rf (B + 118)), (0, if hw3 = true then 1 else 0), (0, (a : Int)), (0, (i : Int))] [] q3) Q := by
        intro r
        induction r with
        | zero =>
          intro i q3 hw3 hi l3 g3 sh3 hw3'
          have e3 : hv q3 (B + 118) 3 = (pl : Int) := by rw [g3.at _ _ (by omega), G2.at _ _ (by unfold stW spW; omega)]; exact J.1
          refine Ends.eq (b119_29 (n := n) (by (repeat' first | assumption | refine LX.setF _ _ ?_ (by decide +kernel) | refine LX.setS ?_ rfl | refine LX.setA ?_ (by first | assumption | omega))) (by first | assumption | omega)) ?_
          rw [e3]
          refine Ends.b3 (fun _ => ?_) (fun z => by omega)
          rw [w_succ (by omega)]
          refine ih (a + 1) q3 hw3 ρ' α' _ (by omega) l3 (G2.tr g3 (fun c k z => Or.inr (Or.inr z))) (fun k hk => by rw [g3.at _ _ (by omega)]; exact o2 k hk) t2 (fun x b hx hb => ?_) ?_
          · rw [sh3 x b hx hb]
            by_cases z : b < a + 1
            · rw [if_pos (by omega), if_pos z]
            · rw [if_neg (by omega), if_neg z]
          · rw [hw3', hww2]
            constructor
            · rintro (⟨x, b, hx, hb, e⟩ | ⟨x, hx, e⟩)
              · exact ⟨x, b, hx, by omega, e⟩
              · exact ⟨x, a, by omega, by omega, by rw [ra]; exact e⟩
            · rintro ⟨x, b, hx, hb, e⟩
              by_cases z : b = a
              · rw [z, ra] at e
                exact Or.inr ⟨x, by omega, e⟩
              · exact Or.inl ⟨x, b, hx, by omega, e⟩
        | succ r ihp =>
          intro i q3 hw3 hi l3 g3 sh3 hw3'
          have hip : i < pl := by omega
          have e3 : hv q3 (B + 118) 3 = (pl : Int) := by rw [g3.at _ _ (by omega), G2.at _ _ (by unfold stW spW; omega)]; exact J.1
          have e128 : hv q3 (B + 128) i = (ρa i : Int) := by rw [g3.at _ _ (by omega)]; exact (va i hip).1
          have e129 : hv q3 (B + 129) i = αa i := by rw [g3.at _ _ (by omega)]; exact (va i hip).2
          have ab := ta.2.2.2.2.2.2 i hip
          have ix : ∀ x : Nat, x < 13 → bop32 96 (bop32 104 3 (x : Int)) (a : Int) = ((3 * x + a : Nat) : Int) := fun x hx => by
            rw [show bop32 104 (3 : Int) (x : Int) = ((3 * x : Nat) : Int) from mulNN (x := 3) (by omega), addNN (by omega)]
          have nx : ∀ (q4 : AH) (hw4 : Bool), LX B n q4 → Agr (fun c _ => c = B + 120) q2 q4 → (∀ x b, x < pl → b < 3 → hv q4 (B + 120) (3 * x + b) = if b < a ∨ (b = a ∧ x < i + 1) then stN ρ' α' old b x else old b x) → (hw4 = true ↔ (hw = true ∨ ∃ x, x < i + 1 ∧ ρa x ≠ 12)) → Ends (ev PP (gsF gv) B d 119 111 [(2, rf (B + 118)), (0, if hw4 = true then 1 else 0), (0, (a : Int)), (0, (i : Int))] [] q4) Q := fun q4 hw4 l4 g4 sh4 hw4' => by
            refine Ends.eq (b119_111 (n := n) (by (repeat' first | assumption | refine LX.setF _ _ ?_ (by decide +kernel) | refine LX.setS ?_ rfl | refine LX.setA ?_ (by first | assumption | omega))) (by first | assumption | omega)) ?_
            rw [w_succ (by omega)]
            exact ihp (i + 1) q4 hw4 (by omega) l4 g4 sh4 hw4'
          have put : ∀ v, v = stN ρ' α' old a i → ∀ x b, x < pl → b < 3 → hv (hset q3 (B + 120) (3 * i + a) v) (B + 120) (3 * x + b) = if b < a ∨ (b = a ∧ x < i + 1) then stN ρ' α' old b x else old b x := fun v ev x b hx hb => by
            by_cases z : x = i ∧ b = a
            · rw [z.1, z.2, hv_set_at, if_pos (by omega), ev]
            · rw [hv_set_ne (by omega), sh3 x b hx hb]
              by_cases y : b < a ∨ (b = a ∧ x < i)
              · rw [if_pos y, if_pos (by omega)]
              · rw [if_neg y, if_neg (by omega)]
          refine Ends.eq (b119_29 (n := n) (by (repeat' first | assumption | refine LX.setF _ _ ?_ (by decide +kernel) | refine LX.setS ?_ rfl | refine LX.setA ?_ (by first | assumption | omega))) (by first | assumption | omega)) ?_
          rw [e3, tn, e128]
          refine Ends.b3 (fun z => by omega) (fun _ => Ends.g ⟨by omega, by omega⟩ ?_)
          by_cases g12 : ρa i = 12
          · refine Ends.b1 (fun z => by omega) (fun _ => ?_)
            rw [ix i (by omega), e129, tn, an0]
            refine Ends.g ⟨by omega, by omega⟩ ?_
            refine nx _ hw3 (LX.setS l3 rfl) (g3.set rfl) (put _ (by unfold stN; rw [ra, aa, if_pos g12])) (hw3'.trans ⟨fun z => ?_, fun z => ?_⟩)
            · rcases z with z | ⟨x, hx, e⟩
              · exact Or.inl z
              · exact Or.inr ⟨x, by omega, e⟩
            · rcases z with z | ⟨x, hx, e⟩
              · exact Or.inl z
              · by_cases y : x = i
                · rw [y] at e; exact absurd g12 e
                · exact Or.inr ⟨x, by omega, e⟩
          · obtain ⟨d1, d2, d3, d4⟩ := ta.idem hip g12
            have one : (true = true) ↔ (hw = true ∨ ∃ x, x < i + 1 ∧ ρa x ≠ 12) := ⟨fun _ => Or.inr ⟨i, by omega, g12⟩, fun _ => rfl⟩
            refine Ends.b1 (fun _ => ?_) (fun z => by omega)
            by_cases gi : ρa i = i
            · refine Ends.b0 (fun _ => ?_) (fun z => by omega)
              have := nx q3 true l3 g3 (fun x b hx hb => ?_) one
              · exact this
              · rw [sh3 x b hx hb]
                by_cases y : x = i ∧ b = a
                · rw [y.1, y.2, if_neg (by omega), if_pos (by omega)]
                  unfold stN
                  rw [ra, aa, if_neg g12, gi]
                  rw [gi] at d4
                  omega
                · by_cases y2 : b < a ∨ (b = a ∧ x < i)
                  · rw [if_pos y2, if_pos (by omega)]
                  · rw [if_neg y2, if_neg (by omega)]
            · refine Ends.b0 (fun z => by omega) (fun _ => ?_)
              rw [ix (ρa i) (by omega), ix i (by omega), e129, tn, tn, an0, sh3 (ρa i) a d1 (by omega), if_pos (by omega)]
              have v1 : stN ρ' α' old a (ρa i) = old a (ρa i) := by
                unfold stN
                rw [ra, aa, d3, if_neg g12, d4]
                omega
              have ob := hs (ρa i) a d1 (by omega)
              rw [v1, add32 (by omega) (by omega)]
              refine Ends.g ⟨by omega, by omega⟩ (Ends.g ⟨by omega, by omega⟩ ?_)
              exact nx _ true (LX.setS l3 rfl) (g3.set rfl) (put _ (by unfold stN; rw [ra, aa, if_neg g12])) one
      refine pls pl 0 q2 hw (by omega) l2 Agr.rf (fun x b hx hb => ?_) ⟨Or.inl, fun z => ?_⟩
      · rw [sh2 x b hx hb]
        by_cases y : b < a
        · rw [if_pos y, if_pos (by omega)]
        · rw [if_neg y, if_neg (by omega)]
      · rcases z with z | ⟨x, hx, _⟩
        · exact z
        · omega
  exact ax 3 0 h2 false (fun _ _ => 0) (fun _ _ => 0) _ rfl l2 G2 (fun k hk => by rw [g2.at _ _ (by unfold spW; omega)]; exact o1 k hk) (fun b hb => absurd hb (by omega)) (fun x b hx hb => by rw [if_neg (by omega), s2]; exact (hs x b hx hb).1) ⟨fun z => absurd z (by decide), fun ⟨_, b, _, hb, _⟩ => absurd hb (by omega)⟩
end SETTLE
