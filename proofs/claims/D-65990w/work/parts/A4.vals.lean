/-! L3: the values of a design on both sides; the model's valueNamed, owner -/
/-- byte i of the name of VALUE v -/
def nbt (c : Nat → Int) (v i : Nat) : Int := uop 4 (bop32 122 (c (40 + 248 * v + 1 + i / 4)) ((24 - 8 * (i % 4) : Nat) : Int))
/-- the model's formula x says what the text at f says -/
def FmT (B : Nat) (h : AH) (c : Nat → Int) (nv f : Nat) (x : Int) : Prop := (c f = 0 ∧ x = 0) ∨ (c f ≠ 0 ∧ ∃ X N p', rdT c nv f = .inr (X, N, p') ∧ AstI (B + 246) 240 h x X N ∧ (∀ w, N w = nmT c nv f w) ∧ tkK (fun i => txb c f i % 256) (txm c f) p' = 0)
/-- the values of the component's cells c and of the model's design q -/
def DV (B : Nat) (h : AH) (c : Nat → Int) (q nv nc : Nat) : Prop := (hv h q 0 = (nv : Int) ∧ hv h q 1 = (nc : Int) ∧ hv h q 2 = c 2) ∧ (∀ v, v < nv → ∃ s : Nat, 1 ≤ s ∧ s ≤ 12 ∧ c (40 + 248 * v) = (s : Int) ∧ hv h (q + 2) v = (s : Int) ∧ ∀ i, i < s → hv h (q + 1) (12 * v + i) = nbt c v i) ∧ (∀ k, 1 ≤ k → k < nc → hv h (q + 4) k = c (30 + k)) ∧ (∀ v k, v < nv → k < 4 → FmT B h c nv (fo v k) (hv h (q + 3) (40 * k + v))) ∧ ∀ v k, nv ≤ v → v < 40 → k < 4 → c (fo v k) = 0 ∧ hv h (q + 3) (40 * k + v) = 0
theorem isW_r {c : Int} (h : isW c = true) : 0 ≤ c ∧ c < 128 := by
  unfold isW isL isD at h
  simp only [Bool.or_eq_true, Bool.and_eq_true, decide_eq_true_eq] at h
  omega
theorem isL_nn {c : Int} (h : isL c = true) : ¬ c < 0 := by
  have := isW_r (c := c) (by unfold isW; rw [h]; rfl)
  omega
theorem wd_ch {u : Nat → Int} {m p : Nat} (k1 : tkK u m p = 1) : isL (chr u m (tkF u m p)) = true ∧ tkT u m p = en isW u m (tkF u m p) ∧ tkT u m p - tkF u m p ≤ 12 ∧ ¬ chr u m (tkF u m p) < 0 := by
  unfold tkK at k1
  split at k1
  · exact absurd k1 (by decide)
  · next h0 =>
    split at k1
    · next h1 =>
      split at k1
      · next h2 =>
        have e : tkT u m p = en isW u m (tkF u m p) := by unfold tkT; rw [if_neg h0, if_pos h1]
        exact ⟨h1, e, by rw [e]; exact h2, h0⟩
      · exact absurd k1 (by decide)
    · split at k1
      · split at k1 <;> exact absurd k1 (by decide)
      · exact absurd k1 (by decide)
theorem wd_lt {u : Nat → Int} {m p j : Nat} (k1 : tkK u m p = 1) (h1 : tkF u m p ≤ j) (h2 : j < tkT u m p) : 0 ≤ u j ∧ u j < 128 ∧ j < m := by
  obtain ⟨a1, a2, a3, a4⟩ := wd_ch k1
  rw [a2] at h2
  have h := en_all (P := isW) (u := u) (m := m) rfl _ _ rfl j h1 h2
  have hm : j < m := by
    by_cases e : j < m
    · exact e
    · rw [show chr u m j = -1 from if_neg e] at h; exact absurd h (by decide)
  rw [show chr u m j = u j from if_pos hm] at h
  have := isW_r h
  exact ⟨this.1, this.2, hm⟩
theorem wd_pos {u : Nat → Int} {m p : Nat} (k1 : tkK u m p = 1) : tkF u m p < tkT u m p := by
  obtain ⟨a1, a2, a3, a4⟩ := wd_ch k1
  have hw : isW (chr u m (tkF u m p)) = true := by unfold isW; rw [a1]; rfl
  have := (en_t (P := isW) rfl hw).1
  rw [a2, this]
  exact Nat.lt_of_lt_of_le (Nat.lt_succ_self _) en_ge
section MVALS
variable {gv : Nat → Int} {B n d m p q nv nc : Nat} {h : AH} {c u b : Nat → Int}
theorem c_valueNamed (l : LX B n h) (hd : 10 ≤ d) (hq : hv h (B + 149) 19 = rf q) (D : YD B q h) (V : DV B h c q nv nc) (hn : nv ≤ 40) (S : MgP B h m u) (R : MgT B h u m p) (k1 : tkK u m p = 1) (hb : ∀ i, i < m → u i < 128 → b i = u i) :
    Vt 0 (cll PP (ev PP (gsF gv) B) d 862 [(2, rf (B + 149))] h) (fun x h' => h' = h ∧ x = fdC c nv b u m p) := by
  obtain ⟨V1, V2, V3, V4, V5⟩ := V
  obtain ⟨a1, a2, a3, a4⟩ := wd_ch k1
  have hm := S.2.2.2
  refine Vt.into (D := 9) hd (Nat.le_of_ble_eq_true rfl) rfl (fun d hd => ?_)
  generalize eP : nmP c b (tkF u m p) (tkT u m p - tkF u m p) = P
  have efd : fdC c nv b u m p = fdN P nv 0 := by rw [← eP]; rfl
  rw [efd]
  have h8 := R.2.2.2.2.1
  have h7 := R.2.2.2.1
  generalize et : tkT u m p - tkF u m p = t at h8 eP a3
  refine Ends.eq (b862_0 (n := n) (by (repeat' first | assumption | refine LX.setF _ _ ?_ (by decide +kernel) | refine LX.setS ?_ rfl | refine LX.setA ?_ (by first | assumption | omega))) (by first | assumption | omega)) ?_
  have key : ∀ k y, y + k = nv → ∀ u2 u3 : AV, Ends (ev PP (gsF gv) B d 862 2 [(2, rf (B + 149)), (0, (y : Int)), u2, u3] [] h) (fun r => ∃ x h', r = ((0, (0, x)), h') ∧ h' = h ∧ x = fdN P k y) := by
    intro k
    induction k with
    | zero =>
      intro y hy u2 u3
      refine Ends.eq (b862_2 (n := n) (by (repeat' first | assumption | refine LX.setF _ _ ?_ (by decide +kernel) | refine LX.setS ?_ rfl | refine LX.setA ?_ (by first | assumption | omega))) (by first | assumption | omega) (by first | assumption | omega) (by first | assumption | omega)) ?_
      rw [V1.1]
      exact Ends.b3 (fun _ => Ends.sm ⟨_, _, rfl, rfl, rfl⟩) (fun z => by omega)
    | succ k ih =>
      intro y hy u2 u3
      obtain ⟨s, s1, s2, s3, s4, s5⟩ := V2 y (by omega)
      refine Ends.eq (b862_2 (n := n) (by (repeat' first | assumption | refine LX.setF _ _ ?_ (by decide +kernel) | refine LX.setS ?_ rfl | refine LX.setA ?_ (by first | assumption | omega))) (by first | assumption | omega) (by first | assumption | omega) (by first | assumption | omega)) ?_
      rw [V1.1]
      refine Ends.b3 (fun z => by omega) (fun _ => Ends.g ⟨by omega, by omega⟩ ?_)
      rw [tn, s4, h8]
      have no : ¬ P y → ∀ u3 : AV, Ends (ev PP (gsF gv) B d 862 2 [(2, rf (B + 149)), (0, w32 ((y : Int) + 1)), (0, 0), u3] [] h) (fun r => ∃ x h', r = ((0, (0, x)), h') ∧ h' = h ∧ x = fdN P (k + 1) y) := fun hP u3 => by
        rw [w_succ (by omega), show fdN P (k + 1) y = fdN P k (y + 1) from itP_f hP]
        exact ih (y + 1) (by omega) _ _
      have inn : ∀ i (x2 : Int), i ≤ t → (x2 = 1 ∧ s = t ∧ (∀ j, j < i → nbt c y j = b (tkF u m p + j)) ∨ x2 = 0 ∧ ¬ P y) → Ends (ev PP (gsF gv) B d 862 37 [(2, rf (B + 149)), (0, (y : Int)), (0, x2), (0, (i : Int))] [] h) (fun r => ∃ x h', r = ((0, (0, x)), h') ∧ h' = h ∧ x = fdN P (k + 1) y) := by
        intro i
        induction hk : t - i generalizing i with
        | zero =>
          intro x2 hi hx
          obtain rfl : i = t := by omega
          refine Ends.eq (b862_37 (n := n) (by (repeat' first | assumption | refine LX.setF _ _ ?_ (by decide +kernel) | refine LX.setS ?_ rfl | refine LX.setA ?_ (by first | assumption | omega))) (by first | assumption | omega) (by first | assumption | omega) (by first | assumption | omega)) ?_
          rw [h8]
          refine Ends.b3 (fun _ => ?_) (fun z => by omega)
          refine Ends.eq (b862_89 (n := n) (by (repeat' first | assumption | refine LX.setF _ _ ?_ (by decide +kernel) | refine LX.setS ?_ rfl | refine LX.setA ?_ (by first | assumption | omega))) (by first | assumption | omega)) ?_
          rcases hx with ⟨rfl, e, hj⟩ | ⟨rfl, hP⟩
          · refine Ends.b0 (fun z => absurd z (by decide)) (fun _ => Ends.sm ⟨_, _, rfl, rfl, ?_⟩)
            have hP : P y := by rw [← eP]; exact ⟨by rw [s3, e], fun j hj' => hj j hj'⟩
            exact (itP_t hP).symm
          · exact Ends.b0 (fun _ => no hP _) (fun z => absurd rfl z)
        | succ r ihr =>
          intro x2 hi hx
          refine Ends.eq (b862_37 (n := n) (by (repeat' first | assumption | refine LX.setF _ _ ?_ (by decide +kernel) | refine LX.setS ?_ rfl | refine LX.setA ?_ (by first | assumption | omega))) (by first | assumption | omega) (by first | assumption | omega) (by first | assumption | omega)) ?_
          rw [h8]
          refine Ends.b3 (fun z => by omega) (fun _ => ?_)
          rcases hx with ⟨rfl, e, hj⟩ | ⟨rfl, hP⟩
          · have hu := wd_lt (j := tkF u m p + i) k1 (by omega) (by omega)
            rw [show bop32 96 (bop32 104 12 (y : Int)) (i : Int) = ((12 * y + i : Nat) : Int) from by rw [show bop32 104 12 (y : Int) = ((12 * y : Nat) : Int) from mulNN (x := 12) (by omega)]; exact addNN (by omega), h7, show bop32 96 ((tkF u m p : Nat) : Int) (i : Int) = ((tkF u m p + i : Nat) : Int) from addNN (by omega), tn, tn, s5 i (by omega), S.2.1 _ hu.2.2]
            refine Ends.b0 (fun z => absurd z (by decide)) (fun _ => Ends.g ⟨by omega, by omega⟩ (Ends.g ⟨by omega, by omega⟩ ?_))
            rw [w_succ (by omega)]
            have hbu := hb _ hu.2.2 hu.2.1
            refine ihr (i + 1) (by omega) _ (by omega) ?_
            by_cases z : nbt c y i = u (tkF u m p + i)
            · refine Or.inl ⟨?_, e, fun j hj' => ?_⟩
              · rw [z, tst1, decide_eq_true rfl]; rfl
              · by_cases ej : j = i
                · rw [ej, hbu]; exact z
                · exact hj j (by omega)
            · refine Or.inr ⟨?_, fun hP => z ?_⟩
              · rw [tst1, decide_eq_false z]; rfl
              · rw [← eP] at hP
                rw [← hbu]; exact hP.2 i (by omega)
          · refine Ends.b0 (fun _ => ?_) (fun z => absurd rfl z)
            refine Ends.eq (b862_89 (n := n) (by (repeat' first | assumption | refine LX.setF _ _ ?_ (by decide +kernel) | refine LX.setS ?_ rfl | refine LX.setA ?_ (by first | assumption | omega))) (by first | assumption | omega)) ?_
            exact Ends.b0 (fun _ => no hP _) (fun z => absurd rfl z)
      refine inn 0 _ (Nat.zero_le _) ?_
      by_cases z : s = t
      · refine Or.inl ⟨?_, z, fun j hj => absurd hj (by omega)⟩
        rw [z, tst1, decide_eq_true rfl]; rfl
      · refine Or.inr ⟨?_, fun hP => z ?_⟩
        · rw [tst1, decide_eq_false (show ¬ ((s : Int) = (t : Int)) by omega)]; rfl
        · rw [← eP] at hP
          have := hP.1
          rw [s3] at this; omega
  exact key nv 0 (by omega) _ _
/-- whose FORMULA counts -/
theorem c_owner (l : LX B n h) (hd : 10 ≤ d) (hq : hv h (B + 149) 19 = rf q) (D : YD B q h) (V : DV B h c q nv nc) (W : DW c nv nc) {v k : Nat} (hvn : v < nv) (hk : k < nc) :
    Vt 0 (cll PP (ev PP (gsF gv) B) d 774 [(2, rf (B + 149)), (0, (v : Int)), (0, (k : Int))] h) (fun x h' => h' = h ∧ x = ((efK c v 4 k : Nat) : Int)) := by
  obtain ⟨V1, V2, V3, V4, V5⟩ := V
  obtain ⟨w0, w1, w2, w3, w4, w5, w6⟩ := W
  refine Vt.into (D := 9) hd (Nat.le_of_ble_eq_true rfl) rfl (fun d hd => ?_)
  refine Ends.eq (b774_0 (n := n) (by (repeat' first | assumption | refine LX.setF _ _ ?_ (by decide +kernel) | refine LX.setS ?_ rfl | refine LX.setA ?_ (by first | assumption | omega))) (by first | assumption | omega)) ?_
  have key : ∀ (g o : Nat), o ≤ g → o < nc → Ends (ev PP (gsF gv) B d 774 2 [(2, rf (B + 149)), (0, (v : Int)), (0, (k : Int)), (0, (o : Int))] [] h) (fun r => ∃ x h', r = ((0, (0, x)), h') ∧ h' = h ∧ x = ((efK c v g o : Nat) : Int)) := by
    intro g
    induction g with
    | zero =>
      intro o h1 h2
      obtain rfl : o = 0 := by omega
      refine Ends.eq (b774_2 (n := n) (by (repeat' first | assumption | refine LX.setF _ _ ?_ (by decide +kernel) | refine LX.setS ?_ rfl | refine LX.setA ?_ (by first | assumption | omega))) (by first | assumption | omega) (by first | assumption | omega) (by first | assumption | omega)) ?_
      refine Ends.b5 (fun _ => ?_) (fun z => by omega)
      refine Ends.eq (b774_36 (n := n) (by (repeat' first | assumption | refine LX.setF _ _ ?_ (by decide +kernel) | refine LX.setS ?_ rfl | refine LX.setA ?_ (by first | assumption | omega))) (by first | assumption | omega)) ?_
      exact Ends.sm ⟨_, _, rfl, rfl, rfl⟩
    | succ g ih =>
      intro o h1 h2
      unfold efK
      refine Ends.eq (b774_2 (n := n) (by (repeat' first | assumption | refine LX.setF _ _ ?_ (by decide +kernel) | refine LX.setS ?_ rfl | refine LX.setA ?_ (by first | assumption | omega))) (by first | assumption | omega) (by first | assumption | omega) (by first | assumption | omega)) ?_
      rw [show bop32 96 (bop32 104 40 (o : Int)) (v : Int) = ((40 * o + v : Nat) : Int) from by rw [show bop32 104 40 (o : Int) = ((40 * o : Nat) : Int) from mulNN (x := 40) (by omega)]; exact addNN (by omega), tn, tn]
      have stop : (o = 0 ∨ c (fo v o) ≠ 0) → Ends (ev PP (gsF gv) B d 774 36 [(2, rf (B + 149)), (0, (v : Int)), (0, (k : Int)), (0, (o : Int))] [] h) (fun r => ∃ x h', r = ((0, (0, x)), h') ∧ h' = h ∧ x = (((if o = 0 ∨ c (fo v o) ≠ 0 then o else efK c v g (c (30 + o)).toNat) : Nat) : Int)) := fun z => by
        refine Ends.eq (b774_36 (n := n) (by (repeat' first | assumption | refine LX.setF _ _ ?_ (by decide +kernel) | refine LX.setS ?_ rfl | refine LX.setA ?_ (by first | assumption | omega))) (by first | assumption | omega)) ?_
        rw [if_pos z]
        exact Ends.sm ⟨_, _, rfl, rfl, rfl⟩
      refine Ends.b5 (fun z => stop (Or.inl (by omega))) (fun z => Ends.g ⟨by omega, by omega⟩ ?_)
      rcases V4 v o hvn (by omega) with ⟨e1, e2⟩ | ⟨e1, X, N, p', r1, r2, r3⟩
      · rw [e2]
        refine Ends.b0 (fun _ => Ends.g ⟨by omega, by omega⟩ ?_) (fun z => absurd rfl z)
        obtain ⟨j, j1, j2⟩ := w5 o (by omega) h2
        have hne : ¬ (o = 0 ∨ c (fo v o) ≠ 0) := by
          rintro (z | z)
          · omega
          · exact z e1
        rw [V3 o (by omega) h2, if_neg hne, j1, tn]
        exact ih j (by omega) (by omega)
      · have := r2.pos
        exact Ends.b0 (fun z => by omega) (fun _ => stop (Or.inr e1))
  exact key 4 k (by omega) hk
end MVALS
