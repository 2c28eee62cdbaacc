/-! L3: loops: how many lines, how large, how deep (model) -/
noncomputable section LOM
variable {gv : Nat → Int} {B n d : Nat} {h : AH} {lv : Nat → Bool} {U0 V0 U1 V1 DU DV SZ : Nat → Int} {k m l f l0 : Nat} {u v w x y s : Int}
theorem LbM.self {q : AH} (L : LbM B q lv U0 V0 U1 V1) (lm : lv m = true) : hv q (B + 176) (cntN lv m) = ((cntN lv m : Nat) : Int) ↔ lstP lv U0 V0 U1 V1 m := by
  constructor
  · intro e
    obtain ⟨l', h1, h2, h3⟩ := lead (U0 := U0) (V0 := V0) (U1 := U1) (V1 := V1) m lm
    rw [L m lm l' h2 h3] at e
    rw [← cnt_inj h2.1 lm (by omega)]
    exact h2
  · exact fun c => L m lm m c ConL.rf
theorem il_cn {q : AH} (L : LbM B q lv U0 V0 U1 V1) (n64 : n ≤ 64) (hG : ∀ k, lv k = true → SgK n U0 V0 U1 V1 DU DV SZ k) (nm : ∀ f k, lv f = true → lv k = true → f ≠ k → ¬ MtSk U0 V0 DU DV SZ f k) (pl : lstP lv U0 V0 U1 V1 l0) (pm : lstP lv U0 V0 U1 V1 m) (ne : m ≠ l0) : ∀ N, cntN (ilM lv (fun i => hv q (B + 176) i) U0 V0 V1 DU DV (2 * U0 l0) (2 * V0 l0 + 1) ((cntN lv m : Nat) : Int)) N = cntN (fun k => cnB lv U0 V0 U1 V1 m k && cxB U0 V0 V1 DU DV 8 (8 * U0 l0) (8 * V0 l0) k) N
  | 0 => rfl
  | N + 1 => by
    rw [cntN_s, cntN_s, il_cn L n64 hG nm pl pm ne N]
    have e : ilM lv (fun i => hv q (B + 176) i) U0 V0 V1 DU DV (2 * U0 l0) (2 * V0 l0 + 1) ((cntN lv m : Nat) : Int) N = (cnB lv U0 V0 U1 V1 m N && cxB U0 V0 V1 DU DV 8 (8 * U0 l0) (8 * V0 l0) N) := by
      unfold ilM
      refine Bool.eq_iff_iff.mpr ?_
      rw [Bool.and_eq_true, Bool.and_eq_true, Bool.and_eq_true, decide_eq_true_eq, cnB_t, cxB_t, cxB_t]
      have key : ConL lv U0 V0 U1 V1 m N → (cxP U0 V0 V1 DU DV 8 (8 * U0 l0) (8 * V0 l0) N ↔ cxP U0 V0 V1 DU DV 2 (2 * U0 l0) (2 * V0 l0 + 1) N) := fun c => by
        have lN := c.live pm.1
        have s0 := (hG l0 pl.1).1.2
        have na : ¬ AdjL lv U0 V0 U1 V1 l0 N := fun z => ne (lst_uniq pm pl c z.con)
        exact cr_same n64 (hG N lN) pl.1 lN (by omega) na (nm l0 N pl.1 lN (fun z => na (by rw [← z]; exact ⟨pl.1, pl.1, _, _, Or.inl ⟨rfl, rfl⟩, Or.inl ⟨rfl, rfl⟩⟩)))
      constructor
      · rintro ⟨⟨h1, h2⟩, h3⟩
        have c := (L.lab pm h1).mp h2
        exact ⟨c, (key c).mpr h3⟩
      · rintro ⟨c, h3⟩
        have lN := c.live pm.1
        exact ⟨⟨lN, (L.lab pm lN).mpr c⟩, (key c).mp h3⟩
    rw [e]
theorem pick_ex (F : Nat → Bool) : ∃ P : Nat → Bool, ∀ k, lv k = true → P (cntN lv k) = F k := by
  refine ⟨fun i => @decide (∃ k, lv k = true ∧ cntN lv k = i ∧ F k = true) (Classical.propDecidable _), fun k lk => ?_⟩
  cases z : F k
  · exact @decide_eq_false _ (Classical.propDecidable _) (fun ⟨k', h1, h2, h3⟩ => by rw [cnt_inj h1 lk h2, z] at h3; cases h3)
  · exact @decide_eq_true _ (Classical.propDecidable _) ⟨k, lk, rfl, z⟩
set_option maxHeartbeats 2000000 in
/-- behind the number of loops -/
theorem c_loopTail {Q : Rs → Prop} {x4 : Int} (l : LX B n h) (n64 : n ≤ 64) (hd : 12 ≤ d) (Sm : SgM B h lv U0 V0 U1 V1) (hG : ∀ k, lv k = true → SgK n U0 V0 U1 V1 DU DV SZ k) (G : GrP lv U0 V0 U1 V1) (b : BdL lv U0 V0 U1 V1) (nm : ∀ f k, lv f = true → lv k = true → f ≠ k → ¬ MtSk U0 V0 DU DV SZ f k) (L : LbM B h lv U0 V0 U1 V1) (pl : lstP lv U0 V0 U1 V1 l0) (hw : 0 ≤ w ∧ w ≤ 2) (K : ∀ x, LoR lv U0 V0 U1 V1 DU DV l0 w x → Q ((0, (0, x)), h)) (u8 : AV) : Ends (ev PP (gsF gv) B d 733 94 [(2, rf (B + 149)), (0, s), (0, ((cntN (lsB lv U0 V0 U1 V1) l0 : Nat) : Int)), (0, w), (0, x4), (0, -1), (0, ((cntN (lsB lv U0 V0 U1 V1) l0 : Nat) : Int)), (0, 0), u8] [] h) Q := by
  have l24 := (G l0 pl.1).1.1
  have c24 : cntN lv 24 ≤ 24 := cntN_le _ _
  have cl : ∀ m, lv m = true → cntN lv m < cntN lv 24 := fun m lm => cnt_ltl (G m lm).1.1 lm
  have cl0 := cl l0 pl.1
  obtain ⟨kk, ekk⟩ : ∃ kk, kk = cntN (lsB lv U0 V0 U1 V1) l0 := ⟨_, rfl⟩
  have k24 : kk ≤ 24 := by rw [ekk]; have := cntN_le (lsB lv U0 V0 U1 V1) l0; omega
  rw [← ekk]
  obtain ⟨y1, y2, y3, y4⟩ := Sm.2 l0 l24 pl.1
  have b0 := b l0 pl.1
  unfold in64 at b0
  have e1 : bop32 104 2 (U0 l0) = 2 * U0 l0 := mul32 (by omega) (by omega)
  have e2 : bop32 104 2 (V0 l0) = 2 * V0 l0 := mul32 (by omega) (by omega)
  have e3 : bop32 96 (2 * V0 l0) 1 = 2 * V0 l0 + 1 := add32 (by omega) (by omega)
  obtain ⟨P, eP⟩ := pick_ex (lv := lv) (lsB lv U0 V0 U1 V1)
  obtain ⟨P0, eP0⟩ := pick_ex (lv := lv) (cnB lv U0 V0 U1 V1 l0)
  obtain ⟨P2, eP2⟩ := pick_ex (lv := lv) (dpB lv U0 V0 U1 V1 DU DV l0)
  have no0 : ∀ k, lv k = false → cnB lv U0 V0 U1 V1 l0 k = false := fun k z => Bool.eq_false_iff.mpr (fun y => by
    have := (cnB_t.mp y).live pl.1
    rw [z] at this; cases this)
  have noL : ∀ k, lv k = false → lsB lv U0 V0 U1 V1 k = false := fun k z => Bool.eq_false_iff.mpr (fun y => by
    have := (lsB_t.mp y).1
    rw [z] at this; cases this)
  have no2 : ∀ k, lv k = false → dpB lv U0 V0 U1 V1 DU DV l0 k = false := fun k z => by unfold dpB; rw [noL k z]; rfl
  -- lines, loops about it
  have count : w ≠ 1 → ∀ (r i : Nat) (x6 : Int) (N : Nat), i + r = cntN lv 24 → (w = 0 ∧ N = cntN P0 i) ∨ (w = 2 ∧ N = cntN P2 i) → Ends (ev PP (gsF gv) B d 733 168 [(2, rf (B + 149)), (0, s), (0, (kk : Int)), (0, w), (0, x4), (0, ((cntN lv l0 : Nat) : Int)), (0, x6), (0, (N : Int)), (0, (i : Int))] [] h) Q := by
    intro w1 r
    induction r with
    | zero =>
      intro i x6 N ei hN
      obtain rfl : i = cntN lv 24 := by omega
      refine Ends.eq (b733_168 (n := n) (by (repeat' first | assumption | refine LX.setF _ _ ?_ (by decide +kernel) | refine LX.setS ?_ rfl | refine LX.setA ?_ (by first | assumption | omega))) (by first | assumption | omega)) ?_
      rw [Sm.1]
      refine Ends.b3 (fun _ => Ends.sm (K _ ?_)) (fun z => absurd z (Int.lt_irrefl _))
      rcases hN with ⟨w0, hN⟩ | ⟨w0, hN⟩
      · exact Or.inl ⟨w0, by rw [hN, cnt_ml eP0 no0]⟩
      · exact Or.inr (Or.inr ⟨by omega, by omega, by rw [hN, cnt_ml eP2 no2]⟩)
    | succ r ih =>
      intro i x6 N ei hN
      obtain ⟨m, hm, lm, cm⟩ := cnt_at (S := lv) 24 i (by omega)
      have p0 := eP0 m lm
      have p2 := eP2 m lm
      rw [cm] at p0 p2
      have i0 := cntN_le P0 i
      have i2 := cntN_le P2 i
      have next : ∀ N' : Nat, (w = 0 ∧ N' = cntN P0 (i + 1)) ∨ (w = 2 ∧ N' = cntN P2 (i + 1)) → Ends (ev PP (gsF gv) B d 733 252 [(2, rf (B + 149)), (0, s), (0, (kk : Int)), (0, w), (0, x4), (0, ((cntN lv l0 : Nat) : Int)), (0, x6), (0, (N' : Int)), (0, (i : Int))] [] h) Q := fun N' hN' => by
        refine Ends.eq (b733_252 (n := n) (by (repeat' first | assumption | refine LX.setF _ _ ?_ (by decide +kernel) | refine LX.setS ?_ rfl | refine LX.setA ?_ (by first | assumption | omega))) (by first | assumption | omega)) ?_
        rw [w_succ (by omega)]
        exact ih (i + 1) x6 N' (by omega) hN'
      refine Ends.eq (b733_168 (n := n) (by (repeat' first | assumption | refine LX.setF _ _ ?_ (by decide +kernel) | refine LX.setS ?_ rfl | refine LX.setA ?_ (by first | assumption | omega))) (by first | assumption | omega)) ?_
      simp only [tn]
      rw [Sm.1]
      refine Ends.b3 (fun z => absurd z (by omega)) (fun _ => Ends.g (by
        rw [ct1]
        split
        · exact ⟨by omega, by omega⟩
        · trivial) ?_)
      rcases hN with ⟨w0, hN⟩ | ⟨w0, hN⟩
      · rw [w0, ct1, ct1, if_pos rfl]
        refine Ends.b1 (fun _ => ?_) (fun z => absurd z (by decide))
        have lab := L.lab (m := m) pl lm
        rw [cm] at lab
        rw [← w0]
        by_cases z : hv h (B + 176) i = ((cntN lv l0 : Nat) : Int)
        · rw [if_pos z, w_succ (by omega)]
          refine next _ (Or.inl ⟨w0, ?_⟩)
          rw [hN, cntN_s, p0, if_pos (cnB_t.mpr (lab.mp z))]
        · rw [if_neg z]
          refine next _ (Or.inl ⟨w0, ?_⟩)
          rw [hN, cntN_s, p0, if_neg (fun y => z (lab.mpr (cnB_t.mp y)))]
          omega
      · have e0 : (cond (tst 1 w 0) (N : Int) (cond (tst 1 (hv h (B + 176) i) ((cntN lv l0 : Nat) : Int)) (N : Int) (w32 ((N : Int) + 1)))) = (N : Int) := by rw [ct1, if_neg (by omega)]
        rw [e0, y1, y2, e1, e2, e3]
        have self := L.self (m := m) lm
        rw [cm] at self
        refine Ends.b1 (fun z => absurd w0 z) (fun _ => Ends.g ⟨by omega, by omega⟩ (Ends.b1 (fun z => next _ (Or.inr ⟨w0, ?_⟩)) (fun z => Ends.b0 (fun z2 => next _ (Or.inr ⟨w0, ?_⟩)) (fun z2 => Ends.g ⟨by omega, by omega⟩ ?_))))
        · rw [hN, cntN_s, p2, if_neg (fun y => z (self.mpr (lsB_t.mp (by unfold dpB at y; rw [Bool.and_eq_true] at y; exact y.1))))]
          omega
        · have em : m = l0 := cnt_inj lm pl.1 (by omega)
          rw [hN, cntN_s, p2, if_neg (fun y => by
            unfold dpB at y
            rw [em, decide_eq_false (show ¬ l0 ≠ l0 from fun y => y rfl), Bool.false_and, Bool.and_false] at y
            cases y)]
          omega
        · have pm := self.mp z
          have ne : m ≠ l0 := fun y => z2 (by rw [← cm, y])
          refine Ends.ct l (by decide +kernel) (by decide) (c_isInLoop696 l n64 (by omega) Sm (fun k _ lk => hG k lk) (fun k lk => (G k lk).1.1) (u := 2 * U0 l0) (v := 2 * V0 l0 + 1) (by omega) (by omega) (by omega)) (fun y0 q2 l2 _ _ _ ⟨eq2_, ey0⟩ => ?_)
          subst eq2_
          rw [← cm, il_cn L n64 hG nm pl pm ne 24] at ey0
          refine Ends.eq (b733_246 (n := n) (by (repeat' first | assumption | refine LX.setF _ _ ?_ (by decide +kernel) | refine LX.setS ?_ rfl | refine LX.setA ?_ (by first | assumption | omega))) (by first | assumption | omega)) ?_
          rw [ey0, ct0]
          have dp : dpB lv U0 V0 U1 V1 DU DV l0 m = decide (cntN (fun k => cnB lv U0 V0 U1 V1 m k && cxB U0 V0 V1 DU DV 8 (8 * U0 l0) (8 * V0 l0) k) 24 % 2 = 1) := by
            unfold dpB
            rw [lsB_t.mpr pm, decide_eq_true ne, Bool.true_and, Bool.true_and]
          generalize cntN (fun k => cnB lv U0 V0 U1 V1 m k && cxB U0 V0 V1 DU DV 8 (8 * U0 l0) (8 * V0 l0) k) 24 = M at *
          unfold parI
          by_cases z1 : M % 2 = 1
          · rw [if_neg (by omega), w_succ (by omega)]
            exact next _ (Or.inr ⟨w0, by rw [hN, cntN_s, p2, dp, decide_eq_true z1]; rfl⟩)
          · rw [if_pos (by omega)]
            exact next _ (Or.inr ⟨w0, by rw [hN, cntN_s, p2, dp, decide_eq_false z1]; rfl⟩)
  -- found
  have found : ∀ (x6 x7 : Int) (u8 : AV), Ends (ev PP (gsF gv) B d 733 150 [(2, rf (B + 149)), (0, s), (0, (kk : Int)), (0, w), (0, x4), (0, ((cntN lv l0 : Nat) : Int)), (0, x6), (0, x7), u8] [] h) Q := fun x6 x7 u8 => by
    refine Ends.eq (b733_150 (n := n) (by (repeat' first | assumption | refine LX.setF _ _ ?_ (by decide +kernel) | refine LX.setS ?_ rfl | refine LX.setA ?_ (by first | assumption | omega))) (by first | assumption | omega)) ?_
    refine Ends.b1 (fun z => count z (cntN lv 24) 0 x6 0 (by omega) ?_) (fun z => ?_)
    · rcases (by omega : w = 0 ∨ w = 2) with y | y
      · exact Or.inl ⟨y, rfl⟩
      · exact Or.inr ⟨y, rfl⟩
    · refine Ends.ct l (by decide +kernel) (by decide) (c_doubleArea595 l (by omega) Sm G b pl.1) (fun y0 q2 l2 _ _ _ ⟨eq2_, y, ar, ey0⟩ => ?_)
      subst eq2_
      refine Ends.eq (b733_161 (n := n) (by (repeat' first | assumption | refine LX.setF _ _ ?_ (by decide +kernel) | refine LX.setS ?_ rfl | refine LX.setA ?_ (by first | assumption | omega))) (by first | assumption | omega)) ?_
      exact Ends.sm (K _ (Or.inr (Or.inl ⟨z, y, ar, ey0⟩)))
  have find : ∀ (r i : Nat) (u8 : AV), i + r = cntN lv l0 → Ends (ev PP (gsF gv) B d 733 94 [(2, rf (B + 149)), (0, s), (0, (kk : Int)), (0, w), (0, x4), (0, -1), (0, (kk : Int) - ((cntN P i : Nat) : Int)), (0, (i : Int)), u8] [] h) Q := by
    intro r
    induction r with
    | zero =>
      intro i u8 ei
      obtain rfl : i = cntN lv l0 := by omega
      have self := L.self (m := l0) pl.1
      have ck : cntN P (cntN lv l0) = kk := by rw [cnt_ml eP noL, ekk]
      refine Ends.eq (b733_94 (n := n) (by (repeat' first | assumption | refine LX.setF _ _ ?_ (by decide +kernel) | refine LX.setS ?_ rfl | refine LX.setA ?_ (by first | assumption | omega))) (by first | assumption | omega)) ?_
      rw [Sm.1, tn, self.mpr pl, ck, Int.sub_self, ct1, if_pos rfl, ct1, if_pos rfl, w_succ (by omega)]
      refine Ends.b3 (fun z => absurd z (by omega)) (fun _ => Ends.b3 (fun z => absurd z (by decide)) (fun _ => Ends.g ⟨by omega, by omega⟩ ?_))
      refine Ends.eq (b733_94 (n := n) (by (repeat' first | assumption | refine LX.setF _ _ ?_ (by decide +kernel) | refine LX.setS ?_ rfl | refine LX.setA ?_ (by first | assumption | omega))) (by first | assumption | omega)) ?_
      rw [Sm.1]
      exact Ends.b3 (fun _ => found _ _ _) (fun _ => Ends.b3 (fun _ => found _ _ _) (fun z => absurd z (by omega)))
    | succ r ih =>
      intro i u8 ei
      obtain ⟨m, hm, lm, cm⟩ := cnt_at (S := lv) 24 i (by omega)
      have self := L.self (m := m) lm
      have pm := eP m lm
      rw [cm] at self pm
      have mono := cntN_mono (S := P) (i := i + 1) (cntN lv l0) (by omega)
      rw [cnt_ml eP noL, ← ekk, cntN_s, pm] at mono
      refine Ends.eq (b733_94 (n := n) (by (repeat' first | assumption | refine LX.setF _ _ ?_ (by decide +kernel) | refine LX.setS ?_ rfl | refine LX.setA ?_ (by first | assumption | omega))) (by first | assumption | omega)) ?_
      rw [Sm.1, tn, w_succ (by omega)]
      refine Ends.b3 (fun z => absurd z (by omega)) (fun _ => Ends.b3 (fun z => absurd z (by decide)) (fun _ => Ends.g ⟨by omega, by omega⟩ ?_))
      have go := ih (i + 1) u8 (by omega)
      rw [cntN_s, pm] at go
      rw [ct1, ct1, ct1]
      by_cases z : hv h (B + 176) i = (i : Int)
      · have ls := lsB_t.mpr (self.mp z)
        rw [if_pos ls] at go mono
        rw [if_pos z, if_pos z, if_neg (by omega), show w32 ((kk : Int) - ((cntN P i : Nat) : Int) + (-1)) = (kk : Int) - ((cntN P i + 1 : Nat) : Int) from by rw [w32_id ⟨by omega, by omega⟩]; omega]
        exact go
      · rw [if_neg (fun y => z (self.mpr (lsB_t.mp y)))] at go
        rw [if_neg z, if_neg z]
        exact go
  have := find (cntN lv l0) 0 u8 (by omega)
  rw [show (kk : Int) - ((cntN P 0 : Nat) : Int) = (kk : Int) from by show (kk : Int) - ((0 : Nat) : Int) = (kk : Int); omega] at this
  exact this
end LOM
