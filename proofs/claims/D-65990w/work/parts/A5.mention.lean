/-! L3: the model's mention: what a formula names comes to the pile -/
def noN : Nat → Bool := fun _ => false
def cnS (S : Nat → Bool) : Nat := (List.range 40).countP S
theorem cnt_upd {S T : Nat → Bool} {v : Nat} (hS : S v = false) (hT : ∀ w, T w = (S w || decide (w = v))) : ∀ n, (List.range n).countP T = (List.range n).countP S + if v < n then 1 else 0
  | 0 => by rw [if_neg (by omega)]; rfl
  | n + 1 => by
    rw [List.range_succ, List.countP_append, List.countP_append, cnt_upd hS hT n]
    by_cases e : v = n
    · subst e
      rw [if_neg (by omega), if_pos (by omega)]
      have e1 : List.countP T [v] = 1 := by simp [hT]
      have e2 : List.countP S [v] = 0 := by simp [hS]
      omega
    · have e1 : List.countP T [n] = List.countP S [n] := by
        have : T n = S n := by rw [hT, decide_eq_false (fun z => e z.symm), Bool.or_false]
        simp [this]
      by_cases h : v < n
      · rw [if_pos h, if_pos (by omega)]; omega
      · rw [if_neg h, if_neg (by omega)]; omega
theorem cnS_le {S : Nat → Bool} : cnS S ≤ 40 := by
  have h : (List.range 40).countP S ≤ (List.range 40).length := List.countP_le_length
  rw [List.length_range] at h; exact h
/-- a formula or none; what it names -/
def AstO (B g : Nat) (h : AH) (x : Int) (N : Nat → Bool) : Prop := (x = 0 ∧ N = noN) ∨ ∃ D, AstI (B + 246) g h x D N
theorem AstO.node {B g : Nat} {h : AH} {x : Int} {N : Nat → Bool} (A : AstO B (g + 1) h x N) : (x = 0 ∧ N = noN) ∨ ∃ a N4 N5 N6, x = rf a ∧ B + 246 ≤ a ∧ a < hnx h ∧ hk h a = (1, 24) ∧ AstO B g h (hv h a 4) N4 ∧ AstO B g h (hv h a 5) N5 ∧ AstO B g h (hv h a 6) N6 ∧ ((hv h a 0 ≠ 1 ∧ N = orN N4 (orN N5 N6)) ∨ (hv h a 0 = 1 ∧ N4 = noN ∧ N5 = noN ∧ N6 = noN ∧ ∃ v : Nat, v < 40 ∧ hv h a 1 = (v : Int) ∧ N = fun w => decide (w = v))) := by
  rcases A with A | ⟨D, A⟩
  · exact Or.inl A
  unfold AstI at A
  obtain ⟨a, ex, la, ha, ka, A⟩ := A
  have z : ∀ {y : Int}, y = 0 → AstO B g h y noN := fun e => Or.inl ⟨e, rfl⟩
  have on : ∀ N : Nat → Bool, orN N noN = N := fun N => funext (fun w => Bool.or_false _)
  refine Or.inr ?_
  rcases A with ⟨A0, A1, A2, A3, _, _, _, _, eN⟩ | ⟨A0, A1, A2, A3, v, v1, v2, _, eN⟩ | ⟨A1, D1, N1, D2, N2, D3, N3, b1, b2, b3, b4, b5⟩ | ⟨A1, A2, A3, D1, b1, b2⟩ | ⟨A1, f, A2, A3, A4⟩ | ⟨A1, A2, s, op, D1, N1, D2, N2, b1, b2, b3, b4, b5, b6⟩
  · exact ⟨a, noN, noN, noN, ex, la, ha, ka, z A1, z A2, z A3, Or.inl ⟨by omega, eN⟩⟩
  · exact ⟨a, noN, noN, noN, ex, la, ha, ka, z A1, z A2, z A3, Or.inr ⟨A0, rfl, rfl, rfl, v, v1, v2, eN⟩⟩
  · exact ⟨a, N1, N2, N3, ex, la, ha, ka, Or.inr ⟨_, b1⟩, Or.inr ⟨_, b2⟩, Or.inr ⟨_, b3⟩, Or.inl ⟨by omega, b5⟩⟩
  · exact ⟨a, N, noN, noN, ex, la, ha, ka, Or.inr ⟨_, b1⟩, z A2, z A3, Or.inl ⟨by omega, by rw [on, on]⟩⟩
  · rcases A4 with ⟨c1, c2, c3, D1, b1, b2⟩ | ⟨c1, c2, D1, N1, D2, N2, b1, b2, b3, b4⟩ | ⟨c1, D1, N1, D2, N2, D3, N3, b1, b2, b3, b4, b5⟩
    · exact ⟨a, N, noN, noN, ex, la, ha, ka, Or.inr ⟨_, b1⟩, z c2, z c3, Or.inl ⟨by omega, by rw [on, on]⟩⟩
    · exact ⟨a, N1, N2, noN, ex, la, ha, ka, Or.inr ⟨_, b1⟩, Or.inr ⟨_, b2⟩, z c2, Or.inl ⟨by omega, by rw [on]; exact b4⟩⟩
    · exact ⟨a, N1, N2, N3, ex, la, ha, ka, Or.inr ⟨_, b1⟩, Or.inr ⟨_, b2⟩, Or.inr ⟨_, b3⟩, Or.inl ⟨by omega, b5⟩⟩
  · exact ⟨a, N1, N2, noN, ex, la, ha, ka, Or.inr ⟨_, b3⟩, Or.inr ⟨_, b4⟩, z A2, Or.inl ⟨by omega, by rw [on]; exact b6⟩⟩
theorem lw_mw {B : Nat} {h t : AH} (g : Agr (LW B) h t) : Ext (MW B) 0 0 h t := g.ext.sub (fun c k _ w => by unfold LW at w; unfold MW; omega) (Nat.le_refl _) (Nat.le_refl _)
theorem AstO.lw {B n g : Nat} {h t : AH} {x : Int} {N : Nat → Bool} (A : AstO B g h x N) (l : LX B n h) (e : Agr (LW B) h t) : AstO B g t x N := A.imp id (fun ⟨D, A⟩ => ⟨D, A.mw l (lw_mw e) (Nat.le_refl _)⟩)
section MENT
variable {gv : Nat → Int} {B n d : Nat} {h : AH}
/-- the pile of VALUES to look at, what was seen -/
def MeS (B : Nat) (h : AH) (S : Nat → Bool) (pm : Nat) : Prop := (∀ w, w < 40 → hv h (B + 152) w = b2i (S w)) ∧ hv h (B + 149) 22 = (pm : Int) ∧ pm ≤ cnS S
def MeP (B : Nat) (h h' : AH) (S N : Nat → Bool) (pm pm' : Nat) : Prop := Agr (LW B) h h' ∧ MeS B h' (orN S N) pm' ∧ pm ≤ pm' ∧ pm' + cnS S = pm + cnS (orN S N) ∧ (∀ i, i < pm → hv h' (B + 153) i = hv h (B + 153) i) ∧ (∀ i, pm ≤ i → i < pm' → ∃ w : Nat, w < 40 ∧ hv h' (B + 153) i = (w : Int) ∧ N w = true) ∧ ∀ w, N w = true → S w = false → ∃ i, pm ≤ i ∧ i < pm' ∧ hv h' (B + 153) i = (w : Int)
theorem MeP.no {S : Nat → Bool} {pm : Nat} (M : MeS B h S pm) : MeP B h h S noN pm pm := by
  have e : orN S noN = S := funext (fun w => Bool.or_false _)
  refine ⟨Agr.rf, by rw [e]; exact M, Nat.le_refl _, by rw [e], fun _ _ => rfl, fun i h1 h2 => by omega, fun w hw => by cases hw⟩
theorem MeP.tr {h1 h2 : AH} {S N1 N2 : Nat → Bool} {p0 p1 p2 : Nat} (a : MeP B h h1 S N1 p0 p1) (b : MeP B h1 h2 (orN S N1) N2 p1 p2) : MeP B h h2 S (orN N1 N2) p0 p2 := by
  obtain ⟨a1, a2, a3, a4, a5, a6, a7⟩ := a
  obtain ⟨b1, b2, b3, b4, b5, b6, b7⟩ := b
  have e : orN (orN S N1) N2 = orN S (orN N1 N2) := funext (fun w => Bool.or_assoc _ _ _)
  rw [e] at b2 b4
  refine ⟨a1.tr b1 (fun _ _ z => z), b2, by omega, by omega, fun i hi => by rw [b5 i (by omega)]; exact a5 i hi, fun i h1 h2 => ?_, fun w hw hs => ?_⟩
  · by_cases hi : i < p1
    · obtain ⟨w, w1, w2, w3⟩ := a6 i h1 hi
      exact ⟨w, w1, by rw [b5 i hi]; exact w2, by unfold orN; rw [w3]; rfl⟩
    · obtain ⟨w, w1, w2, w3⟩ := b6 i (by omega) h2
      exact ⟨w, w1, w2, by unfold orN; rw [w3, Bool.or_true]⟩
  · cases h1 : N1 w with
    | true =>
      obtain ⟨i, i1, i2, i3⟩ := a7 w h1 hs
      exact ⟨i, i1, by omega, by rw [b5 i i2]; exact i3⟩
    | false =>
      have h2 : N2 w = true := by unfold orN at hw; rw [h1] at hw; exact hw
      obtain ⟨i, i1, i2, i3⟩ := b7 w h2 (by unfold orN; rw [hs, h1]; rfl)
      exact ⟨i, by omega, i2, i3⟩
theorem c_mention : ∀ (g d : Nat) (h : AH) (x : Int) (N S : Nat → Bool) (pm : Nat), LX B n h → AstO B g h x N → MeS B h S pm → g + 10 ≤ d →
    Vd (cll PP (ev PP (gsF gv) B) d 750 [(2, rf (B + 149)), (2, x)] h) (fun h' => ∃ pm', MeP B h h' S N pm pm')
  | 0, d, h, x, N, S, pm, l, A, M, hd => by
    have z : x = 0 ∧ N = noN := by
      rcases A with A | ⟨D, A⟩
      · exact A
      · unfold AstI at A; exact A.elim
    obtain ⟨rfl, rfl⟩ := z
    refine Vd.into (D := 9) (by omega) (Nat.le_of_ble_eq_true rfl) rfl (fun d hd => ?_)
    refine Ends.eq (b750_0 (n := n) (by (repeat' first | assumption | refine LX.setF _ _ ?_ (by decide +kernel) | refine LX.setS ?_ rfl | refine LX.setA ?_ (by first | assumption | omega))) (by first | assumption | omega)) ?_
    exact Ends.b0 (fun _ => Ends.sm ⟨_, rfl, _, MeP.no M⟩) (fun z => absurd rfl z)
  | g + 1, d, h, x, N, S, pm, l, A, M, hd => by
    have hb := l.2.2
    refine Vd.into (D := g + 10) (by omega) (Nat.le_of_ble_eq_true rfl) rfl (fun d hd => ?_)
    rcases A.node with ⟨rfl, rfl⟩ | ⟨a, N4, N5, N6, rfl, la, ha, ka, A4, A5, A6, F⟩
    · refine Ends.eq (b750_0 (n := n) (by (repeat' first | assumption | refine LX.setF _ _ ?_ (by decide +kernel) | refine LX.setS ?_ rfl | refine LX.setA ?_ (by first | assumption | omega))) (by first | assumption | omega)) ?_
      exact Ends.b0 (fun _ => Ends.sm ⟨_, rfl, _, MeP.no M⟩) (fun z => absurd rfl z)
    have far : ∀ k, ¬ LW B a k := fun k w => by unfold LW at w; omega
    have e58 : ∀ (h1 : AH) (S1 : Nat → Bool) (p1 : Nat), LX B n h1 → Agr (LW B) h h1 → MeS B h1 S1 p1 → Ends (ev PP (gsF gv) B d 750 58 [(2, rf (B + 149)), (2, rf a)] [] h1) (fun r => ∃ h', r = ((0, (9, 0)), h') ∧ ∃ pm', MeP B h1 h' S1 (orN N4 (orN N5 N6)) p1 pm') := by
      intro h1 S1 p1 l1 g1 M1
      refine Ends.eq (b750_58 (n := n) (by (repeat' first | assumption | refine LX.setF _ _ ?_ (by decide +kernel) | refine LX.setS ?_ rfl | refine LX.setA ?_ (by first | assumption | omega))) (by first | assumption | omega)) ?_
      rw [ad_rf]
      refine Ends.g ⟨rf_pos _, by rw [g1.hk]; exact ka⟩ ?_
      rw [g1.at _ _ (far 4)]
      refine Ends.cv l1 (by decide +kernel) (c_mention g d h1 _ N4 S1 p1 l1 (A4.lw l g1) M1 (by omega)) (fun h2 l2 _ _ _ ⟨p2, P2⟩ => ?_)
      have g2 := g1.tr P2.1 (fun _ _ z => z)
      refine Ends.eq (b750_66 (n := n) (by (repeat' first | assumption | refine LX.setF _ _ ?_ (by decide +kernel) | refine LX.setS ?_ rfl | refine LX.setA ?_ (by first | assumption | omega))) (by first | assumption | omega)) ?_
      rw [ad_rf]
      refine Ends.g ⟨rf_pos _, by rw [g2.hk]; exact ka⟩ ?_
      rw [g2.at _ _ (far 5)]
      refine Ends.cv l2 (by decide +kernel) (c_mention g d h2 _ N5 _ p2 l2 (A5.lw l g2) P2.2.1 (by omega)) (fun h3 l3 _ _ _ ⟨p3, P3⟩ => ?_)
      have g3 := g2.tr P3.1 (fun _ _ z => z)
      refine Ends.eq (b750_74 (n := n) (by (repeat' first | assumption | refine LX.setF _ _ ?_ (by decide +kernel) | refine LX.setS ?_ rfl | refine LX.setA ?_ (by first | assumption | omega))) (by first | assumption | omega)) ?_
      rw [ad_rf]
      refine Ends.g ⟨rf_pos _, by rw [g3.hk]; exact ka⟩ ?_
      rw [g3.at _ _ (far 6)]
      refine Ends.cv l3 (by decide +kernel) (c_mention g d h3 _ N6 _ p3 l3 (A6.lw l g3) P3.2.1 (by omega)) (fun h4 l4 _ _ _ ⟨p4, P4⟩ => ?_)
      refine Ends.eq (b750_82 (n := n) (by (repeat' first | assumption | refine LX.setF _ _ ?_ (by decide +kernel) | refine LX.setS ?_ rfl | refine LX.setA ?_ (by first | assumption | omega))) (by first | assumption | omega)) ?_
      refine Ends.sm ⟨_, rfl, p4, ?_⟩
      have P4' : MeP B h3 h4 (orN S1 (orN N4 N5)) N6 p3 p4 := by
        rw [show orN S1 (orN N4 N5) = orN (orN S1 N4) N5 from funext (fun w => (Bool.or_assoc _ _ _).symm)]; exact P4
      have := (P2.tr P3).tr P4'
      rw [show orN (orN N4 N5) N6 = orN N4 (orN N5 N6) from funext (fun w => Bool.or_assoc _ _ _)] at this
      exact this
    refine Ends.eq (b750_0 (n := n) (by (repeat' first | assumption | refine LX.setF _ _ ?_ (by decide +kernel) | refine LX.setS ?_ rfl | refine LX.setA ?_ (by first | assumption | omega))) (by first | assumption | omega)) ?_
    rw [ad_rf]
    refine Ends.b0 (fun z => absurd z (rf_ne a)) (fun _ => Ends.g ⟨rf_pos _, ka⟩ ?_)
    rcases F with ⟨f0, eN⟩ | ⟨f0, rfl, rfl, rfl, v, v1, v2, rfl⟩
    · rw [eN]
      exact Ends.b1 (fun _ => e58 h S pm l Agr.rf M) (fun z => absurd z f0)
    · obtain ⟨M1, M2, M3⟩ := M
      have en : orN noN (orN noN noN) = noN := rfl
      refine Ends.b1 (fun z => absurd f0 z) (fun _ => ?_)
      rw [v2, tn, M1 v v1]
      refine Ends.g ⟨by omega, by omega⟩ (Ends.b1 (fun z => ?_) (fun z => ?_))
      · have hs : S v = true := by
          cases hS : S v with
          | true => rfl
          | false => rw [hS] at z; exact absurd rfl z
        have eo : orN S (fun w => decide (w = v)) = S := funext (fun w => by
          show (S w || decide (w = v)) = S w
          by_cases e : w = v
          · rw [e, hs]; rfl
          · rw [decide_eq_false e, Bool.or_false])
        obtain ⟨r, er, h', e1, pm', P⟩ := e58 h S pm l Agr.rf ⟨M1, M2, M3⟩
        refine ⟨r, er, h', e1, pm', ?_⟩
        rw [en] at P
        obtain ⟨P1, P2, P3, P4, P5, P6, P7⟩ := P
        rw [show orN S noN = S from funext (fun w => Bool.or_false _)] at P2 P4
        have epm : pm' = pm := by omega
        subst epm
        exact ⟨P1, by rw [eo]; exact P2, P3, by rw [eo], P5, fun i h1 h2 => by omega, fun w hw hf => by rw [of_decide_eq_true hw, hs] at hf; cases hf⟩
      · have hs : S v = false := by
          cases hS : S v with
          | false => rfl
          | true => rw [hS] at z; exact absurd z (by decide)
        have c40 := cnS_le (S := orN S (fun w => decide (w = v)))
        have cup : cnS (orN S (fun w => decide (w = v))) = cnS S + 1 := by
          have := cnt_upd (T := orN S (fun w => decide (w = v))) hs (fun w => rfl) 40
          rw [if_pos v1] at this
          exact this
        rw [M2, tn, hv_na (a := B + 152) (by omega), v2, show anar 0 (v : Int) = (v : Int) from an0 _, show bop32 96 (pm : Int) 1 = ((pm + 1 : Nat) : Int) from b96_1 (by omega), show anar 3 1 = 1 from rfl]
        refine Ends.g ⟨by omega, by omega⟩ ?_
        generalize eh : hset (hset (hset h (B + 152) v 1) (B + 153) pm (v : Int)) (B + 149) 22 ((pm + 1 : Nat) : Int) = h1
        have l1 : LX B n h1 := by rw [← eh]; exact (by (repeat' first | assumption | refine LX.setF _ _ ?_ (by decide +kernel) | refine LX.setS ?_ rfl | refine LX.setA ?_ (by assumption)))
        have g1 : Agr (LW B) h h1 := by
          rw [← eh]
          exact ((Agr.rf.set (Or.inr (Or.inl rfl))).set (Or.inr (Or.inr rfl))).set (Or.inl ⟨rfl, rfl⟩)
        have s1 : MeS B h1 (orN S (fun w => decide (w = v))) (pm + 1) := by
          rw [← eh]
          refine ⟨fun w hw => ?_, hv_set_at .., by omega⟩
          rw [hv_set_ne (by omega), hv_set_ne (by omega)]
          show _ = b2i (S w || decide (w = v))
          by_cases e : w = v
          · rw [e, hv_set_at, decide_eq_true rfl, Bool.or_true]; rfl
          · rw [hv_set_ne (by omega), M1 w hw, decide_eq_false e, Bool.or_false]
        have q1 : ∀ i, i < pm → hv h1 (B + 153) i = hv h (B + 153) i := fun i hi => by rw [← eh, hv_set_ne (by omega), hv_set_ne (by omega), hv_na (by omega)]
        have q2 : hv h1 (B + 153) pm = (v : Int) := by rw [← eh, hv_set_ne (by omega)]; exact hv_set_at ..
        obtain ⟨r, er, h', e1, pm', P⟩ := e58 h1 _ (pm + 1) l1 g1 s1
        refine ⟨r, er, h', e1, pm', ?_⟩
        have F1 : MeP B h h1 S (fun w => decide (w = v)) pm (pm + 1) := by
          refine ⟨g1, s1, by omega, by omega, q1, fun i h1 h2 => ?_, fun w hw hf => ?_⟩
          · obtain rfl : i = pm := by omega
            exact ⟨v, v1, q2, decide_eq_true rfl⟩
          · obtain rfl := of_decide_eq_true hw
            exact ⟨pm, Nat.le_refl _, by omega, q2⟩
        have := F1.tr P
        rw [en, show orN (fun w => decide (w = v)) noN = (fun w => decide (w = v)) from funext (fun w => Bool.or_false _)] at this
        exact this
end MENT
