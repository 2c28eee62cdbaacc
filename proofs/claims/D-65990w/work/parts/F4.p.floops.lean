/-! L3: loops are found (desk) -/
noncomputable section FLD
variable {gv : Nat → Int} {B n d : Nat} {h : AH} {lv S : Nat → Bool} {U0 V0 U1 V1 : Nat → Int} {k m l : Nat} {u v x y p0 p1 r0 r1 a b : Int}
theorem fth_is : cond (tst 1 p0 u) (0 : Int) (cond (tst 1 p1 v) 0 1) = if p0 = u ∧ p1 = v then 1 else 0 := by
  rw [ct1, ct1]
  by_cases h1 : p0 = u
  · by_cases h2 : p1 = v
    · rw [if_pos h1, if_pos h2, if_pos ⟨h1, h2⟩]
    · rw [if_pos h1, if_neg h2, if_neg (fun z => h2 z.2)]
  · rw [if_neg h1, if_neg (fun z => h1 z.1)]
theorem fth_sel : cond (tst 0 (cond (tst 1 p0 u) (0 : Int) (cond (tst 1 p1 v) 0 1)) 0) a b = if p0 = u ∧ p1 = v then b else a := by
  rw [fth_is, ct0]
  by_cases z : p0 = u ∧ p1 = v
  · rw [if_pos z, if_pos z, if_neg (by decide)]
  · rw [if_neg z, if_neg z, if_pos rfl]
theorem nxi_is : cond (tst 1 p0 u) (cond (tst 1 r0 u) x (cond (tst 1 r1 v) x y)) (cond (tst 0 p1 v) y (cond (tst 1 r0 u) x (cond (tst 1 r1 v) x y))) = if (p0 = u ∧ p1 = v) ∨ (r0 = u ∧ r1 = v) then y else x := by
  have e : cond (tst 1 r0 u) x (cond (tst 1 r1 v) x y) = if r0 = u ∧ r1 = v then y else x := by
    rw [ct1, ct1]
    by_cases h1 : r0 = u
    · by_cases h2 : r1 = v
      · rw [if_pos h1, if_pos h2, if_pos ⟨h1, h2⟩]
      · rw [if_pos h1, if_neg h2, if_neg (fun z => h2 z.2)]
    · rw [if_neg h1, if_neg (fun z => h1 z.1)]
  rw [e, ct1, ct0]
  by_cases h1 : p0 = u
  · by_cases h2 : p1 = v
    · rw [if_pos h1, if_pos h2, if_pos (Or.inl ⟨h1, h2⟩)]
    · rw [if_pos h1, if_neg h2]
      by_cases h3 : r0 = u ∧ r1 = v
      · rw [if_pos h3, if_pos (Or.inr h3)]
      · rw [if_neg h3, if_neg (fun z => z.elim (fun w => h2 w.2) h3)]
  · rw [if_neg h1]
    by_cases h3 : r0 = u ∧ r1 = v
    · rw [if_pos h3, if_pos (Or.inr h3)]
    · rw [if_neg h3, if_neg (fun z => z.elim (fun w => h1 w.1) h3)]
/-- what a line's mark is as soon as the loops of the lines ahead of k are found -/
def bsK (lv : Nat → Bool) (U0 V0 U1 V1 : Nat → Int) (k m : Nat) (x : Int) : Prop := (∃ l, l < k ∧ lstP lv U0 V0 U1 V1 l ∧ ConL lv U0 V0 U1 V1 l m ∧ x = ((cntN (lsB lv U0 V0 U1 V1) l : Nat) : Int)) ∨ ((∀ l, l < k → lstP lv U0 V0 U1 V1 l → ¬ ConL lv U0 V0 U1 V1 l m) ∧ x = -1)
/-- all loops are found -/
def LbD (B : Nat) (q : AH) (lv : Nat → Bool) (U0 V0 U1 V1 : Nat → Int) : Prop := hv q (B + 56) 19 = ((cntN (lsB lv U0 V0 U1 V1) 24 : Nat) : Int) ∧ ∀ m, m < 24 → (lv m = false → hv q (B + 76) m = -1) ∧ ∀ l, lstP lv U0 V0 U1 V1 l → ConL lv U0 V0 U1 V1 l m → hv q (B + 76) m = ((cntN (lsB lv U0 V0 U1 V1) l : Nat) : Int)
def flW (B : Nat) : Nat → Nat → Prop := fun c k => c = B + 76 ∨ (c = B + 56 ∧ k = 19)
theorem bs_no (h : bsK lv U0 V0 U1 V1 k m x) (no : ¬ lstP lv U0 V0 U1 V1 k) : bsK lv U0 V0 U1 V1 (k + 1) m x := by
  rcases h with ⟨l, h1, h2⟩ | ⟨h1, h2⟩
  · exact Or.inl ⟨l, by omega, h2⟩
  · refine Or.inr ⟨fun l hl pl => ?_, h2⟩
    rcases (by omega : l < k ∨ l = k) with z | z
    · exact h1 l z pl
    · rw [z] at pl; exact absurd pl no
theorem cnt_lst (h : lstP lv U0 V0 U1 V1 k) : cntN (lsB lv U0 V0 U1 V1) (k + 1) = cntN (lsB lv U0 V0 U1 V1) k + 1 := by
  rw [cntN_s, if_pos (lsB_t.mpr h)]
theorem cnt_nol (h : ¬ lstP lv U0 V0 U1 V1 k) : cntN (lsB lv U0 V0 U1 V1) (k + 1) = cntN (lsB lv U0 V0 U1 V1) k := by
  rw [cntN_s, if_neg (fun z => h (lsB_t.mp z))]
  exact Nat.add_zero _
theorem SgD.agr {q : AH} {W' : Nat → Nat → Prop} (H : SgD B h lv U0 V0 U1 V1) (g : Agr W' h q) (hW : ∀ c k, W' c k → c < B + 69 ∨ (B + 72 < c ∧ c ≠ B + 77)) : SgD B q lv U0 V0 U1 V1 := by
  have at_ : ∀ c k, (B + 69 ≤ c ∧ c ≤ B + 72) ∨ c = B + 77 → hv q c k = hv h c k := fun c k h1 => g.at _ _ (fun z => by have := hW _ _ z; omega)
  refine fun k hk => ?_
  rw [at_ _ _ (Or.inr rfl), at_ _ _ (Or.inl ⟨by omega, by omega⟩), at_ _ _ (Or.inl ⟨by omega, by omega⟩), at_ _ _ (Or.inl ⟨by omega, by omega⟩), at_ _ _ (Or.inl ⟨by omega, by omega⟩)]
  exact H k hk
set_option maxHeartbeats 4000000 in
theorem c_findLoops403 (l : LX B n h) (hd : 10 ≤ d) (Sg : SgD B h lv U0 V0 U1 V1) (G : GrP lv U0 V0 U1 V1) : Vd (cll PP (ev PP (gsF gv) B) d 403 [(2, rf (B + 56))] h) (fun h' => Agr (flW B) h h' ∧ LbD B h' lv U0 V0 U1 V1) := by
  refine Vd.inq (D := 9) hd (Nat.le_of_ble_eq_true rfl) rfl (fun d hd Q K => ?_)
  have sg : ∀ {q : AH}, Agr (flW B) h q → SgD B q lv U0 V0 U1 V1 := fun {q} g => Sg.agr g (fun c k z => by unfold flW at z; omega)
  have lsl : ∀ k, cntN (lsB lv U0 V0 U1 V1) k ≤ k := fun k => cntN_le _ _
  have outer : ∀ (r k : Nat) (q : AH) (u2 u3 u4 u5 u6 : AV), k + r = 24 → LX B n q → Agr (flW B) h q → hv q (B + 56) 19 = ((cntN (lsB lv U0 V0 U1 V1) k : Nat) : Int) → (∀ m, m < 24 → bsK lv U0 V0 U1 V1 k m (hv q (B + 76) m)) → Ends (ev PP (gsF gv) B d 403 28 [(2, rf (B + 56)), (0, (k : Int)), u2, u3, u4, u5, u6] [] q) Q := by
    intro r
    induction r with
    | zero =>
      intro k q u2 u3 u4 u5 u6 ek lq g e19 bs
      obtain rfl : k = 24 := by omega
      refine Ends.eq (b403_28 (n := n) (by (repeat' first | assumption | refine LX.setF _ _ ?_ (by decide +kernel) | refine LX.setS ?_ rfl | refine LX.setA ?_ (by first | assumption | omega))) (by first | assumption | omega)) ?_
      refine Ends.b3 (fun _ => Ends.sm (K _ ⟨g, e19, fun m hm => ⟨fun z => ?_, fun l pl cl => ?_⟩⟩)) (fun z => absurd z (by decide))
      · rcases bs m hm with ⟨l, h1, h2, h3, h4⟩ | ⟨h1, h2⟩
        · have := h3.live h2.1
          rw [z] at this; cases this
        · exact h2
      · rcases bs m hm with ⟨l', h1, h2, h3, h4⟩ | ⟨h1, h2⟩
        · rw [h4, lst_uniq h2 pl h3 cl]
        · exact absurd cl (h1 l (G l pl.1).1.1 pl)
    | succ r ih =>
      intro k q u2 u3 u4 u5 u6 ek lq g e19 bs
      have next : ∀ (q' : AH) (u2 u3 u4 u5 u6 : AV), LX B n q' → Agr (flW B) h q' → hv q' (B + 56) 19 = ((cntN (lsB lv U0 V0 U1 V1) (k + 1) : Nat) : Int) → (∀ m, m < 24 → bsK lv U0 V0 U1 V1 (k + 1) m (hv q' (B + 76) m)) → Ends (ev PP (gsF gv) B d 403 278 [(2, rf (B + 56)), (0, (k : Int)), u2, u3, u4, u5, u6] [] q') Q := fun q' u2 u3 u4 u5 u6 l' g' e' b' => by
        refine Ends.eq (b403_278 (n := n) (by (repeat' first | assumption | refine LX.setF _ _ ?_ (by decide +kernel) | refine LX.setS ?_ rfl | refine LX.setA ?_ (by first | assumption | omega))) (by first | assumption | omega)) ?_
        rw [w_succ (by omega)]
        exact ih (k + 1) q' _ _ _ _ _ (by omega) l' g' e' b'
      have ck := lsl k
      have S0 := sg g
      refine Ends.eq (b403_28 (n := n) (by (repeat' first | assumption | refine LX.setF _ _ ?_ (by decide +kernel) | refine LX.setS ?_ rfl | refine LX.setA ?_ (by first | assumption | omega))) (by first | assumption | omega)) ?_
      rw [tn, (S0 k (by omega)).1]
      refine Ends.b3 (fun z => absurd z (by omega)) (fun _ => Ends.g ⟨by omega, by omega⟩ ?_)
      cases ek' : lv k
      · have no : ¬ lstP lv U0 V0 U1 V1 k := fun z => by have := z.1; rw [ek'] at this; cases this
        exact Ends.b0 (fun _ => next q _ _ _ _ _ lq g (by rw [cnt_nol no]; exact e19) (fun m hm => bs_no (bs m hm) no)) (fun z => absurd rfl z)
      · refine Ends.b0 (fun z => absurd z (by decide)) (fun _ => ?_)
        obtain ⟨s1, s2, s3, s4⟩ := (S0 k (by omega)).2 ek'
        rw [s3, s4]
        refine Ends.b2 (fun neg => ?_) (fun pos => ?_)
        · have pk : lstP lv U0 V0 U1 V1 k := by
            refine ⟨ek', fun i hi li ci => ?_⟩
            obtain ⟨l', h1, h2, h3⟩ := lead i li
            rcases bs k (by omega) with ⟨l'', a1, a2, a3, a4⟩ | ⟨a1, a2⟩
            · omega
            · exact a1 l' (by omega) h2 (h3.tr ci)
          -- round the loop
          have inner : ∀ (r : Nat) (T : Nat → Bool) (a : Nat) (u v : Int) (q : AH) (u5 u6 : AV), cntN (insB T a) 24 + r = 24 → TrI lv U0 V0 U1 V1 (insB T a) a u v k → T a = false → LX B n q → Agr (flW B) h q → hv q (B + 56) 19 = ((cntN (lsB lv U0 V0 U1 V1) k : Nat) : Int) → (∀ m, m < 24 → (T m = true → hv q (B + 76) m = ((cntN (lsB lv U0 V0 U1 V1) k : Nat) : Int)) ∧ (T m = false → bsK lv U0 V0 U1 V1 k m (hv q (B + 76) m))) → Ends (ev PP (gsF gv) B d 403 72 [(2, rf (B + 56)), (0, (k : Int)), (0, (a : Int)), (0, u), (0, v), u5, u6] [] q) Q := by
            intro r
            refine Nat.strongRecOn r (fun r ihr => ?_)
            intro T a u v q u5 u6 er I ta lq g e19 hT
            have a24 : a < 24 := (G a (I.1 a I.2.1.1).1).1.1
            have c24 := cntN_le (insB T a) 24
            refine Ends.eq (b403_72 (n := n) (by (repeat' first | assumption | refine LX.setF _ _ ?_ (by decide +kernel) | refine LX.setS ?_ rfl | refine LX.setA ?_ (by first | assumption | omega))) (by first | assumption | omega)) ?_
            rw [tn, an0, e19]
            refine Ends.b2 (fun z => absurd z (by omega)) (fun _ => Ends.g ⟨by omega, by omega⟩ ?_)
            have g1s : Agr (flW B) q (hset q (B + 76) a ((cntN (lsB lv U0 V0 U1 V1) k : Nat) : Int)) := Agr.rf.set (Or.inl rfl)
            have g1 : Agr (flW B) h (hset q (B + 76) a ((cntN (lsB lv U0 V0 U1 V1) k : Nat) : Int)) := g.tr g1s (fun _ _ z => z)
            have l1 : LX B n (hset q (B + 76) a ((cntN (lsB lv U0 V0 U1 V1) k : Nat) : Int)) := lq.setS rfl
            have e1 : hv (hset q (B + 76) a ((cntN (lsB lv U0 V0 U1 V1) k : Nat) : Int)) (B + 56) 19 = ((cntN (lsB lv U0 V0 U1 V1) k : Nat) : Int) := by rw [hv_set_ne (by omega)]; exact e19
            have hS : ∀ m, m < 24 → (insB T a m = true → hv (hset q (B + 76) a ((cntN (lsB lv U0 V0 U1 V1) k : Nat) : Int)) (B + 76) m = ((cntN (lsB lv U0 V0 U1 V1) k : Nat) : Int)) ∧ (insB T a m = false → bsK lv U0 V0 U1 V1 k m (hv (hset q (B + 76) a ((cntN (lsB lv U0 V0 U1 V1) k : Nat) : Int)) (B + 76) m)) := fun m hm => by
              by_cases y : m = a
              · rw [y, hv_set_at]
                exact ⟨fun _ => rfl, fun z => absurd rfl (insB_f z).2⟩
              · rw [hv_set_ne (by omega)]
                exact ⟨fun z => (hT m hm).1 ((insB_t.mp z).resolve_right y), fun z => (hT m hm).2 (insB_f z).1⟩
            obtain ⟨S, eS⟩ : ∃ S, S = insB T a := ⟨_, rfl⟩
            obtain ⟨q1, eq1⟩ : ∃ q1, q1 = hset q (B + 76) a ((cntN (lsB lv U0 V0 U1 V1) k : Nat) : Int) := ⟨_, rfl⟩
            rw [← eS] at I er c24 hS
            rw [← eq1] at g1 l1 e1 hS ⊢
            have S1 := sg g1
            -- what comes behind the search
            have after : ∀ (x5 x6 : Int), ((x5 = -1 ∧ ∀ m, m < 24 → ¬ (lv m = true ∧ hv q1 (B + 76) m < 0 ∧ endP (U0 m) (V0 m) (U1 m) (V1 m) u v)) ∨ ∃ m : Nat, x5 = (m : Int) ∧ m < 24 ∧ lv m = true ∧ hv q1 (B + 76) m < 0 ∧ endP (U0 m) (V0 m) (U1 m) (V1 m) u v) → Ends (ev PP (gsF gv) B d 403 180 [(2, rf (B + 56)), (0, (k : Int)), (0, (a : Int)), (0, u), (0, v), (0, x5), (0, x6)] [] q1) Q := fun x5 x6 hx => by
              rcases hx with ⟨hx, no⟩ | ⟨m, hx, hm, lm, neg_, em⟩
              · have cur : u = U0 k ∧ v = V0 k := by
                  refine Classical.byContradiction (fun ne => ?_)
                  obtain ⟨m0, lm0, sm0, em0, -⟩ := I.next G ne
                  have m24 := (G m0 lm0).1.1
                  refine no m0 m24 ⟨lm0, ?_, em0⟩
                  rcases (hS m0 m24).2 sm0 with ⟨l', h1, h2, h3, -⟩ | ⟨-, h2⟩
                  · have la := I.1 a I.2.1.1
                    have cm : ConL lv U0 V0 U1 V1 k m0 := la.2.tr (AdjL.con ⟨la.1, lm0, u, v, I.2.1.2.2, em0⟩)
                    exact absurd (h3.tr cm.sym) (pk.2 l' h1 h2.1)
                  · rw [h2]; decide
                obtain ⟨-, -, clo⟩ := I.fin G cur.1 cur.2
                have le1 := lsl k
                refine Ends.eq (b403_180 (n := n) (by (repeat' first | assumption | refine LX.setF _ _ ?_ (by decide +kernel) | refine LX.setS ?_ rfl | refine LX.setA ?_ (by first | assumption | omega))) (by first | assumption | omega)) ?_
                rw [hx]
                simp only [ct2]
                rw [if_pos (by decide), if_pos (by decide), if_pos (by decide)]
                refine Ends.g trivial ?_
                refine Ends.eq (b403_72 (n := n) (by (repeat' first | assumption | refine LX.setF _ _ ?_ (by decide +kernel) | refine LX.setS ?_ rfl | refine LX.setA ?_ (by first | assumption | omega))) (by first | assumption | omega)) ?_
                rw [e1, show bop32 96 ((cntN (lsB lv U0 V0 U1 V1) k : Nat) : Int) 1 = ((cntN (lsB lv U0 V0 U1 V1) (k + 1) : Nat) : Int) from by rw [cnt_lst pk]; exact addNN (y := 1) (by omega)]
                refine Ends.b2 (fun _ => ?_) (fun z => absurd z (by decide))
                refine next _ _ _ _ _ _ (by (repeat' first | assumption | refine LX.setF _ _ ?_ (by decide +kernel) | refine LX.setS ?_ rfl | refine LX.setA ?_ (by assumption))) (g1.set (Or.inr ⟨rfl, rfl⟩)) (hv_set_at _ _ _ _) (fun m hm => ?_)
                rw [hv_set_ne (by omega)]
                cases sm : S m
                · rcases (hS m hm).2 sm with ⟨l', h1, h2⟩ | ⟨h1, h2⟩
                  · exact Or.inl ⟨l', by omega, h2⟩
                  · refine Or.inr ⟨fun l' hl pl cl => ?_, h2⟩
                    rcases (by omega : l' < k ∨ l' = k) with z | z
                    · exact h1 l' z pl cl
                    · rw [z] at cl
                      have := (clo m).mp cl
                      rw [sm] at this; cases this
                · exact Or.inl ⟨k, by omega, pk, (clo m).mpr sm, (hS m hm).1 sm⟩
              · have sm : S m = false := by
                  cases sm : S m
                  · rfl
                  · have := (hS m hm).1 sm
                    omega
                obtain ⟨m1, m2, m3, m4⟩ := (S1 m hm).2 lm
                have cc := cnt_ins hm sm
                have cl := cntN_le (insB S m) 24
                refine Ends.eq (b403_180 (n := n) (by (repeat' first | assumption | refine LX.setF _ _ ?_ (by decide +kernel) | refine LX.setS ?_ rfl | refine LX.setA ?_ (by first | assumption | omega))) (by first | assumption | omega)) ?_
                rw [hx]
                simp only [ct2, tn]
                rw [if_neg (show ¬ (m : Int) < 0 by omega), if_neg (show ¬ (m : Int) < 0 by omega), if_neg (show ¬ (m : Int) < 0 by omega), m1, m2, m3, m4, fth_sel, fth_sel]
                refine Ends.g ⟨by omega, by omega⟩ ?_
                exact ihr (r - 1) (by omega) S m _ _ q1 _ _ (by omega) (I.step G lm sm em) sm l1 g1 e1 hS
            -- the search
            have search : ∀ (r i : Nat) (x5 : Int), i + r = 24 → ((x5 = -1 ∧ ∀ m, m < i → ¬ (lv m = true ∧ hv q1 (B + 76) m < 0 ∧ endP (U0 m) (V0 m) (U1 m) (V1 m) u v)) ∨ ∃ m : Nat, x5 = (m : Int) ∧ m < 24 ∧ lv m = true ∧ hv q1 (B + 76) m < 0 ∧ endP (U0 m) (V0 m) (U1 m) (V1 m) u v) → Ends (ev PP (gsF gv) B d 403 92 [(2, rf (B + 56)), (0, (k : Int)), (0, (a : Int)), (0, u), (0, v), (0, x5), (0, (i : Int))] [] q1) Q := by
              intro r
              induction r with
              | zero =>
                intro i x5 ei hx
                obtain rfl : i = 24 := by omega
                refine Ends.eq (b403_92 (n := n) (by (repeat' first | assumption | refine LX.setF _ _ ?_ (by decide +kernel) | refine LX.setS ?_ rfl | refine LX.setA ?_ (by first | assumption | omega))) (by first | assumption | omega)) ?_
                exact Ends.b3 (fun _ => after x5 _ hx) (fun z => absurd z (by decide))
              | succ r ihs =>
                intro i x5 ei hx
                rcases hx with ⟨hx, no⟩ | hx
                · obtain ⟨t1, t2⟩ := S1 i (by omega)
                  refine Ends.eq (b403_92 (n := n) (by (repeat' first | assumption | refine LX.setF _ _ ?_ (by decide +kernel) | refine LX.setS ?_ rfl | refine LX.setA ?_ (by first | assumption | omega))) (by first | assumption | omega)) ?_
                  rw [hx, tn, t1, nxi_is, ct0, ct3, w_succ (by omega)]
                  refine Ends.b3 (fun z => absurd z (by omega)) (fun _ => Ends.b3 (fun z => absurd z (by decide)) (fun _ => Ends.g ⟨by omega, by omega⟩ ?_))
                  have go : ∀ x : Int, (x = -1 ∧ ¬ (lv i = true ∧ hv q1 (B + 76) i < 0 ∧ endP (U0 i) (V0 i) (U1 i) (V1 i) u v)) ∨ (x = (i : Int) ∧ lv i = true ∧ hv q1 (B + 76) i < 0 ∧ endP (U0 i) (V0 i) (U1 i) (V1 i) u v) → Ends (ev PP (gsF gv) B d 403 92 [(2, rf (B + 56)), (0, (k : Int)), (0, (a : Int)), (0, u), (0, v), (0, x), (0, ((i + 1 : Nat) : Int))] [] q1) Q := fun x hx' => by
                    refine ihs (i + 1) x (by omega) ?_
                    rcases hx' with ⟨h1, h2⟩ | ⟨h1, h2, h3, h4⟩
                    · refine Or.inl ⟨h1, fun m hm => ?_⟩
                      rcases (by omega : m < i ∨ m = i) with z | z
                      · exact no m z
                      · rw [z]; exact h2
                    · exact Or.inr ⟨i, h1, by omega, h2, h3, h4⟩
                  cases li : lv i
                  · rw [if_pos (show b2i false = 0 from rfl)]
                    exact go _ (Or.inl ⟨rfl, fun z => Bool.false_ne_true (by rw [← li]; exact z.1)⟩)
                  · rw [if_neg (show ¬ b2i true = 0 by decide)]
                    obtain ⟨y1, y2, y3, y4⟩ := t2 li
                    by_cases h1 : hv q1 (B + 76) i < 0
                    · rw [if_pos h1, y1, y2, y3, y4]
                      by_cases h2 : (U0 i = u ∧ V0 i = v) ∨ (U1 i = u ∧ V1 i = v)
                      · rw [if_pos h2]; exact go _ (Or.inr ⟨rfl, li, h1, h2⟩)
                      · rw [if_neg h2]; exact go _ (Or.inl ⟨rfl, fun z => h2 z.2.2⟩)
                    · rw [if_neg h1]
                      exact go _ (Or.inl ⟨rfl, fun z => h1 z.2.1⟩)
                · obtain ⟨m, hx1, hx2⟩ := hx
                  refine Ends.eq (b403_92 (n := n) (by (repeat' first | assumption | refine LX.setF _ _ ?_ (by decide +kernel) | refine LX.setS ?_ rfl | refine LX.setA ?_ (by first | assumption | omega))) (by first | assumption | omega)) ?_
                  refine Ends.b3 (fun z => absurd z (by omega)) (fun _ => Ends.b3 (fun _ => after x5 _ (Or.inr ⟨m, hx1, hx2⟩)) (fun z => absurd (show (0 : Int) ≤ x5 by omega) (by omega)))
            exact search 24 0 (-1) rfl (Or.inl ⟨rfl, fun m hm => absurd hm (Nat.not_lt_zero m)⟩)
          have cS : cntN (insB (fun _ => false) k) 24 = 1 := by
            rw [cnt_ins (by omega) rfl]
            have : ∀ N, cntN (fun _ => false) N = 0 := fun N => by
              induction N with
              | zero => rfl
              | succ N ihN => rw [cntN_s, ihN]; rfl
            rw [this]
          exact inner 23 (fun _ => false) k _ _ q _ _ (by omega) (TrI.start G ek') rfl lq g e19 (fun m hm => ⟨fun z => (by cases z), fun _ => bs m hm⟩)
        · have no : ¬ lstP lv U0 V0 U1 V1 k := fun z => by
            rcases bs k (by omega) with ⟨l', a1, a2, a3, a4⟩ | ⟨a1, a2⟩
            · exact z.2 l' a1 a2.1 a3
            · omega
          exact next q _ _ _ _ _ lq g (by rw [cnt_nol no]; exact e19) (fun m hm => bs_no (bs m hm) no)
  -- all are unmarked at first
  have clr : ∀ (r i : Nat) (q : AH) (u2 u3 u4 u5 u6 : AV), i + r = 24 → LX B n q → Agr (flW B) h q → hv q (B + 56) 19 = 0 → (∀ m, m < i → hv q (B + 76) m = -1) → Ends (ev PP (gsF gv) B d 403 7 [(2, rf (B + 56)), (0, (i : Int)), u2, u3, u4, u5, u6] [] q) Q := by
    intro r
    induction r with
    | zero =>
      intro i q u2 u3 u4 u5 u6 ei lq g e19 hm
      obtain rfl : i = 24 := by omega
      refine Ends.eq (b403_7 (n := n) (by (repeat' first | assumption | refine LX.setF _ _ ?_ (by decide +kernel) | refine LX.setS ?_ rfl | refine LX.setA ?_ (by first | assumption | omega))) (by first | assumption | omega)) ?_
      refine Ends.b3 (fun _ => outer 24 0 q _ _ _ _ _ rfl lq g e19 (fun m h24 => Or.inr ⟨fun l hl => absurd hl (Nat.not_lt_zero l), hm m h24⟩)) (fun z => absurd z (by decide))
    | succ r ih =>
      intro i q u2 u3 u4 u5 u6 ei lq g e19 hm
      refine Ends.eq (b403_7 (n := n) (by (repeat' first | assumption | refine LX.setF _ _ ?_ (by decide +kernel) | refine LX.setS ?_ rfl | refine LX.setA ?_ (by first | assumption | omega))) (by first | assumption | omega)) ?_
      rw [tn, an0, w_succ (by omega)]
      refine Ends.b3 (fun z => absurd z (by omega)) (fun _ => Ends.g ⟨by omega, by omega⟩ ?_)
      refine ih (i + 1) _ _ _ _ _ _ (by omega) (lq.setS rfl) (g.set (Or.inl rfl)) (by rw [hv_set_ne (by omega)]; exact e19) (fun m h1 => ?_)
      rcases (by omega : m < i ∨ m = i) with z | z
      · rw [hv_set_ne (by omega)]; exact hm m z
      · rw [z]; exact hv_set_at _ _ _ _
  refine Ends.eq (b403_0 (n := n) (by (repeat' first | assumption | refine LX.setF _ _ ?_ (by decide +kernel) | refine LX.setS ?_ rfl | refine LX.setA ?_ (by first | assumption | omega))) (by first | assumption | omega)) ?_
  exact clr 24 0 _ _ _ _ _ _ rfl (by (repeat' first | assumption | refine LX.setF _ _ ?_ (by decide +kernel) | refine LX.setS ?_ rfl | refine LX.setA ?_ (by assumption))) (Agr.rf.set (Or.inr ⟨rfl, rfl⟩)) (hv_set_at _ _ _ _) (fun m hm => absurd hm (Nat.not_lt_zero m))
end FLD
