/-! L3: views (desk): lines, the table of facets -/
section DVW
variable {gv : Nat → Int} {B n d : Nat} {h : AH}
/-- the three static arrays of View -/
def SlC (gv : Nat → Int) (B : Nat) (h : AH) : Prop := (∃ a, gv 48 = rf a ∧ a < B ∧ hk h a = (2, 5) ∧ ∀ k, k < 5 → hv h a k = ((slL k : Nat) : Int)) ∧ (∃ a, gv 49 = rf a ∧ a < B ∧ hk h a = (2, 8) ∧ ∀ k, k < 8 → hv h a k = ((puL k : Nat) : Int)) ∧ ∃ a, gv 50 = rf a ∧ a < B ∧ hk h a = (2, 8) ∧ ∀ k, k < 8 → hv h a k = ((pvL k : Nat) : Int)
theorem SlC.exg {W : Nat → Nat → Prop} {t : AH} (s : SlC gv B h) (hb : B ≤ hnx h) (g : ExG W h t) (hW : ∀ c k, c < B → ¬ W c k) : SlC gv B t := by
  obtain ⟨⟨a, a1, a2, a3, a4⟩, ⟨b, b1, b2, b3, b4⟩, ⟨c, c1, c2, c3, c4⟩⟩ := s
  exact ⟨⟨a, a1, a2, by rw [g.hk (by omega)]; exact a3, fun k hk => by rw [g.at _ (by omega) (hW _ _ a2)]; exact a4 k hk⟩, ⟨b, b1, b2, by rw [g.hk (by omega)]; exact b3, fun k hk => by rw [g.at _ (by omega) (hW _ _ b2)]; exact b4 k hk⟩, ⟨c, c1, c2, by rw [g.hk (by omega)]; exact c3, fun k hk => by rw [g.at _ (by omega) (hW _ _ c2)]; exact c4 k hk⟩⟩
/-- the line told by axis, side and piece -/
def LnI (B : Nat) (h : AH) (ax dn p : Nat) : Prop := ∀ k, k < 5 → hv h (B + 133) k = ((vlT ax dn p k : Nat) : Int) ∧ hv h (B + 134) k = ((vlE ax dn p k : Nat) : Int)
def vaW (B : Nat) : Nat → Nat → Prop := fun c _ => c = B + 133 ∨ c = B + 134
theorem c_along461 {ax dn p : Nat} (l : LX B n h) (hd : 12 ≤ d) (m : TbC B h) (sl : SlC gv B h) (hax : ax < 3) (hdn : dn < 2) (hp : p < 8) :
    Vd (cll PP (ev PP (gsF gv) B) d 461 [(2, rf (B + 132)), (0, (ax : Int)), (0, (dn : Int)), (0, (p : Int))] h) (fun h' => Agr (vaW B) h h' ∧ LnI B h' ax dn p) := by
  have hb := l.2.2
  obtain ⟨⟨a, a1, a2, a3, a4⟩, ⟨b, b1, b2, b3, b4⟩, ⟨c, c1, c2, c3, c4⟩⟩ := sl
  refine Vd.inq (D := 11) hd (Nat.le_of_ble_eq_true rfl) rfl (fun d hd Q K => ?_)
  have key : ∀ (r k : Nat) (q : AH) (u5 u6 u7 u8 : AV), k + r = 5 → LX B n q → Agr (vaW B) h q → (∀ j, j < k → hv q (B + 133) j = ((vlT ax dn p j : Nat) : Int) ∧ hv q (B + 134) j = ((vlE ax dn p j : Nat) : Int)) → Ends (ev PP (gsF gv) B d 461 3 [(2, rf (B + 132)), (0, (ax : Int)), (0, (dn : Int)), (0, (p : Int)), (0, (k : Int)), u5, u6, u7, u8] [] q) Q := by
    intro r
    induction r with
    | zero =>
      intro k q u5 u6 u7 u8 e lq g I
      obtain rfl : k = 5 := by omega
      exact Ends.eq (b461_3 lq (by omega)) (Ends.b3 (fun _ => Ends.sm (K _ ⟨g, I⟩)) (fun z => absurd z (by decide)))
    | succ r ih =>
      intro k q u5 u6 u7 u8 e lq g I
      have hk5 : k < 5 := by omega
      have mq : TbC B q := m.ext hb g.ext (fun c k h1 h2 w => by unfold vaW at w; omega)
      have kc : cond (tst 0 (dn : Int) 0) (k : Int) (bop32 100 (4 : Int) (k : Int)) = (((if dn = 0 then k else 4 - k : Nat)) : Int) := by
        rw [ct0]
        by_cases z : dn = 0
        · rw [if_pos (by omega), if_pos z]
        · rw [if_neg (by omega), if_neg z]; exact subNN (x := 4) (by omega) (by omega)
      have ki : (if dn = 0 then k else 4 - k) < 5 := by split <;> omega
      obtain ⟨t24, ga⟩ := ga_all ⟨ax, hax⟩ ⟨dn, hdn⟩ ⟨p, hp⟩ ⟨k, hk5⟩
      simp only at t24 ga
      refine Ends.eq (b461_3 lq (by omega)) (Ends.b3 (fun z => absurd z (by omega)) (fun _ => ?_))
      rw [kc, a1, b1, c1, ad_rf, ad_rf, ad_rf, tn, tn, g.hk, g.hk, g.hk, a3, b3, c3, g.at _ _ (by unfold vaW; omega), g.at _ _ (by unfold vaW; omega), g.at _ _ (by unfold vaW; omega), a4 _ ki, b4 p hp, c4 p hp]
      clear kc
      refine Ends.g ⟨rf_pos _, rfl, by omega, by show _ < ((5 : Nat) : Int); omega⟩ (Ends.g ⟨rf_pos _, rfl, by omega, by show _ < ((8 : Nat) : Int); omega⟩ (Ends.g ⟨rf_pos _, rfl, by omega, by show _ < ((8 : Nat) : Int); omega⟩ ?_))
      have q229 : ∀ x y z : Int, gaI x y z = ((64 * rT (vlT ax dn p k) 0 + 8 * rT (vlT ax dn p k) 1 + rT (vlT ax dn p k) 2 : Nat) : Int) → q229 B q x y z ∧ v229 B q x y z = ((vlT ax dn p k : Nat) : Int) := fun x y z e => by
        have r0 := (rT_lt ⟨_, t24⟩ 0).2
        have r1 := (rT_lt ⟨_, t24⟩ 1).2
        have r2 := (rT_lt ⟨_, t24⟩ 2).2
        simp only [Fin.val_zero, Fin.val_one, Fin.val_two] at r0 r1 r2
        have ty : tyN (rT (vlT ax dn p k) 0) (rT (vlT ax dn p k) 1) (rT (vlT ax dn p k) 2) = vlT ax dn p k := tyN_rT ⟨_, t24⟩
        refine ⟨?_, ?_⟩
        · show 0 ≤ gaI x y z ∧ gaI x y z < 512
          rw [e]; omega
        · show hv q (B + 43) (Int.toNat (gaI x y z)) = _
          rw [e, tn, mq.2 _ _ _ r0 r1 r2, ty, if_pos t24]
      obtain ⟨g1, g2⟩ := q229 _ _ _ ga
      rw [g2, tn, an0, an0]
      refine Ends.g g1 (Ends.g ⟨by omega, by omega⟩ ?_)
      clear ga g1 g2 q229
      have l2 : LX B n (hset (hset q (B + 133) k ((vlT ax dn p k : Nat) : Int)) (B + 134) k 0) := LX.setS (LX.setS lq rfl) rfl
      have G2 : Agr (fun c j => vaW B c j ∧ j = k) q (hset (hset q (B + 133) k ((vlT ax dn p k : Nat) : Int)) (B + 134) k 0) := (Agr.rf.set ⟨Or.inl rfl, rfl⟩).set ⟨Or.inr rfl, rfl⟩
      have v1 : hv (hset (hset q (B + 133) k ((vlT ax dn p k : Nat) : Int)) (B + 134) k 0) (B + 133) k = ((vlT ax dn p k : Nat) : Int) := by rw [hv_set_ne (by omega), hv_set_at]
      have v2 : hv (hset (hset q (B + 133) k ((vlT ax dn p k : Nat) : Int)) (B + 134) k 0) (B + 134) k = 0 := hv_set_at ..
      generalize hset (hset q (B + 133) k ((vlT ax dn p k : Nat) : Int)) (B + 134) k 0 = q2 at *
      obtain ⟨en, -, -⟩ := vl_all ⟨ax, hax⟩ ⟨dn, hdn⟩ ⟨p, hp⟩ ⟨k, hk5⟩
      simp only at en
      have fin : ∀ (q3 : AH) (x5 x6 x7 x8 : AV), LX B n q3 → Agr (fun c j => vaW B c j ∧ j = k) q q3 → hv q3 (B + 133) k = ((vlT ax dn p k : Nat) : Int) → hv q3 (B + 134) k = ((vlE ax dn p k : Nat) : Int) → ∀ y5 y6 y7 y8 : Int, Ends (ev PP (gsF gv) B d 461 162 [(2, rf (B + 132)), (0, (ax : Int)), (0, (dn : Int)), (0, (p : Int)), (0, (k : Int)), (0, y5), (0, y6), (0, y7), (0, y8)] [] q3) Q := by
        intro q3 _ _ _ _ l3 G3 w1 w2 y5 y6 y7 y8
        refine Ends.eq (b461_162 l3 (by omega)) ?_
        rw [w_succ (by omega)]
        refine ih (k + 1) q3 _ _ _ _ (by omega) l3 (g.tr G3 (fun c j z => z.1)) (fun j hj => ?_)
        by_cases z : j = k
        · rw [z]; exact ⟨w1, w2⟩
        · rw [G3.at _ _ (fun y => z y.2), G3.at _ _ (fun y => z y.2)]
          exact I j (by omega)
      by_cases k0 : k = 0
      · refine Ends.eq (b461_104 l2 (by omega)) (Ends.b3 (fun z => absurd z (by decide)) (fun _ => Ends.b5 (fun _ => ?_) (fun z => by omega)))
        exact fin q2 (9, 0) (9, 0) (9, 0) (9, 0) l2 G2 v1 (by rw [v2, en, if_pos k0]; rfl) _ _ _ _
      · rw [if_neg k0] at en
        have t1 : vlT ax dn p (k - 1) < 24 := (ga_all ⟨ax, hax⟩ ⟨dn, hdn⟩ ⟨p, hp⟩ ⟨k - 1, by omega⟩).1
        have pv : ∀ {q3 : AH}, Agr (fun c j => vaW B c j ∧ j = k) q q3 → hv q3 (B + 133) (k - 1) = ((vlT ax dn p (k - 1) : Nat) : Int) := fun G3 => by rw [G3.at _ _ (fun z => by have := z.2; omega)]; exact (I (k - 1) (by omega)).1
        have inner : ∀ (r2 f : Nat) (q3 : AH) (y5 y6 y7 : Int), f + r2 = 4 → 1 ≤ f → LX B n q3 → Agr (fun c j => vaW B c j ∧ j = k) q q3 → hv q3 (B + 133) k = ((vlT ax dn p k : Nat) : Int) → hv q3 (B + 134) k = ((vlF (vlT ax dn p k) (vlT ax dn p (k - 1)) f : Nat) : Int) → Ends (ev PP (gsF gv) B d 461 104 [(2, rf (B + 132)), (0, (ax : Int)), (0, (dn : Int)), (0, (p : Int)), (0, (k : Int)), (0, y5), (0, y6), (0, y7), (0, (f : Int))] [] q3) Q := by
          intro r2
          induction r2 with
          | zero =>
            intro f q3 y5 y6 y7 ef hf l3 G3 w1 w2
            obtain rfl : f = 4 := by omega
            refine Ends.eq (b461_104 l3 (by omega)) (Ends.b3 (fun _ => ?_) (fun z => absurd z (by decide)))
            exact fin q3 (9, 0) (9, 0) (9, 0) (9, 0) l3 G3 w1 (by rw [w2, en]) _ _ _ _
          | succ r2 ih2 =>
            intro f q3 y5 y6 y7 ef hf l3 G3 w1 w2
            have m3 : TbC B q3 := mq.ext lq.2.2 G3.ext (fun c k h1 h2 w => by have := w.1; unfold vaW at this; omega)
            obtain ⟨-, -, -, -, -, -, t7, -⟩ := m3.1 _ t24
            have nx := (t7 f (by omega)).1
            have s1 : vlF (vlT ax dn p k) (vlT ax dn p (k - 1)) (f + 1) = if 1 ≤ f ∧ nxt (vlT ax dn p k) f = vlT ax dn p (k - 1) then f else vlF (vlT ax dn p k) (vlT ax dn p (k - 1)) f := rfl
            refine Ends.eq (b461_104 l3 (by omega)) (Ends.b3 (fun z => absurd z (by omega)) (fun _ => Ends.b5 (fun z => by omega) (fun _ => ?_)))
            rw [tn, w1, show bop32 96 (bop32 104 (4 : Int) ((vlT ax dn p k : Nat) : Int)) (f : Int) = ((4 * vlT ax dn p k + f : Nat) : Int) from by rw [show bop32 104 (4 : Int) ((vlT ax dn p k : Nat) : Int) = ((4 * vlT ax dn p k : Nat) : Int) from mulNN (x := 4) (by omega), addNN (by omega)], show bop32 100 (k : Int) 1 = ((k - 1 : Nat) : Int) from subNN (y := 1) (by omega) (by omega), tn, tn, nx, pv G3, an0]
            refine Ends.g ⟨by omega, by omega⟩ (Ends.g ⟨by omega, by omega⟩ (Ends.g ⟨by omega, by omega⟩ (Ends.b1 (fun z => ?_) (fun z => ?_))))
            · refine Ends.eq (b461_156 l3 (by omega)) ?_
              rw [w_succ (by omega)]
              refine ih2 (f + 1) q3 _ _ _ (by omega) (by omega) l3 G3 w1 ?_
              rw [s1, if_neg (fun y => z (by rw [y.2])), w2]
            · have l4 : LX B n (hset q3 (B + 134) k (f : Int)) := LX.setS l3 rfl
              refine Ends.eq (b461_156 l4 (by omega)) ?_
              rw [w_succ (by omega)]
              refine ih2 (f + 1) _ _ _ _ (by omega) (by omega) l4 (G3.set ⟨Or.inr rfl, rfl⟩) (by rw [hv_set_ne (by omega)]; exact w1) ?_
              rw [hv_set_at, s1, if_pos ⟨hf, by omega⟩]
        exact inner 3 1 q2 _ _ _ rfl (Nat.le_refl _) l2 G2 v1 (by rw [v2]; rfl)
  refine Ends.eq (b461_0 l (by omega)) ?_
  exact key 5 0 h _ _ _ _ rfl l Agr.rf (fun j hj => absurd hj (Nat.not_lt_zero j))
/-- what a line comes to first, as the desk tells it -/
def ffD (n : Nat) (S : Nat → Bool) (ax dn p u v : Nat) : Int := if ffP n S ax dn p u v < 5 * n then ((cdN n (ffK n S ax dn p u v) : Nat) : Int) else -1
theorem ffI_at {f : Nat → Bool} {N i : Nat} (hi : i < N) (hf : f i = true) (no : ∀ j, j < i → f j = false) : ffI f N 0 = i := by
  obtain ⟨a1, a2, a3, a4⟩ := ffI_s (f := f) N 0
  rw [Nat.zero_add] at a2 a3
  rcases (by omega : ffI f N 0 < i ∨ ffI f N 0 = i ∨ i < ffI f N 0) with z | z | z
  · have := a3 (by omega); rw [no _ z] at this; exact absurd this (by decide)
  · exact z
  · have := a4 i (Nat.zero_le _) z; rw [hf] at this; exact absurd this (by decide)
theorem ffI_no {f : Nat → Bool} {N : Nat} (no : ∀ j, j < N → f j = false) : ffI f N 0 = N := by
  obtain ⟨a1, a2, a3, a4⟩ := ffI_s (f := f) N 0
  rw [Nat.zero_add] at a2 a3
  rcases (by omega : ffI f N 0 < N ∨ ffI f N 0 = N) with z | z
  · have := a3 z; rw [no _ z] at this; exact absurd this (by decide)
  · exact z
theorem c_first465 {a ax dn p u v : Nat} {S : Nat → Bool} (l : LX B n h) (hd : 10 ≤ d) (hn : n ≤ 52) (s : SG n h a S) (ln : LnI B h ax dn p) (hax : ax < 3) (hdn : dn < 2) (hp : p < 8) (hu : u < n) (hv' : v < n) :
    Vt 0 (cll PP (ev PP (gsF gv) B) d 465 [(2, rf (B + 132)), (2, (rf a)), (0, (ax : Int)), (0, (dn : Int)), (0, (u : Int)), (0, (v : Int))] h) (fun x h' => h' = h ∧ x = ffD n S ax dn p u v) := by
  refine Vt.inq (D := 9) hd (Nat.le_of_ble_eq_true rfl) rfl (fun d hd Q K => ?_)
  have outer : ∀ (r w : Nat) (u7 u8 u9 u10 u11 : AV), w + r = n → (∀ j, j < 5 * w → S (lnG n ax dn p u v j) = false) → Ends (ev PP (gsF gv) B d 465 3 [(2, rf (B + 132)), (2, rf a), (0, (ax : Int)), (0, (dn : Int)), (0, (u : Int)), (0, (v : Int)), (0, (w : Int)), u7, u8, u9, u10, u11] [] h) Q := by
    intro r
    induction r with
    | zero =>
      intro w u7 u8 u9 u10 u11 e no
      obtain rfl : n = w := by omega
      refine Ends.eq (b465_3 l (by omega)) (Ends.b3 (fun _ => Ends.sm (K _ _ ⟨rfl, ?_⟩)) (fun z => absurd z (Int.lt_irrefl _)))
      have : ffP n S ax dn p u v = 5 * n := ffI_no no
      unfold ffD
      rw [if_neg (by omega)]
    | succ r ih =>
      intro w u7 u8 u9 u10 u11 e no
      have hw : w < n := by omega
      have hc := lnC_lt (dn := dn) hw
      have ec : cond (tst 0 (dn : Int) 0) (w : Int) (bop32 100 (bop32 100 (n : Int) 1) (w : Int)) = ((vlC n dn w : Nat) : Int) := by
        rw [ct0]
        unfold vlC
        by_cases z : dn = 0
        · rw [if_pos (by omega), if_pos z]
        · rw [if_neg (by omega), if_neg z, show bop32 100 (n : Int) 1 = ((n - 1 : Nat) : Int) from subNN (y := 1) (by omega) (by omega), subNN (by omega) (by omega)]
      refine Ends.eq (b465_3 l (by omega)) (Ends.b3 (fun z => absurd z (by omega)) (fun _ => ?_))
      rw [ec, show v468 (ax : Int) 0 (u : Int) (v : Int) ((vlC n dn w : Nat) : Int) = ((pkA ax 0 u v (vlC n dn w) : Nat) : Int) from pk_N (w := 0) hax (by decide), show v468 (ax : Int) 1 (u : Int) (v : Int) ((vlC n dn w : Nat) : Int) = ((pkA ax 1 u v (vlC n dn w) : Nat) : Int) from pk_N (w := 1) hax (by decide), show v468 (ax : Int) 2 (u : Int) (v : Int) ((vlC n dn w : Nat) : Int) = ((pkA ax 2 u v (vlC n dn w) : Nat) : Int) from pk_N (w := 2) hax (by decide)]
      clear ec
      have h0 := pkA_lt (ax := ax) (w := 0) hu hv' hc
      have h1 := pkA_lt (ax := ax) (w := 1) hu hv' hc
      have h2 := pkA_lt (ax := ax) (w := 2) hu hv' hc
      have inner : ∀ (r2 k : Nat), k + r2 = 5 → (∀ j, j < 5 * w + k → S (lnG n ax dn p u v j) = false) → Ends (ev PP (gsF gv) B d 465 74 [(2, rf (B + 132)), (2, rf a), (0, (ax : Int)), (0, (dn : Int)), (0, (u : Int)), (0, (v : Int)), (0, (w : Int)), (0, ((vlC n dn w : Nat) : Int)), (0, ((pkA ax 0 u v (vlC n dn w) : Nat) : Int)), (0, ((pkA ax 1 u v (vlC n dn w) : Nat) : Int)), (0, ((pkA ax 2 u v (vlC n dn w) : Nat) : Int)), (0, (k : Int))] [] h) Q := by
        intro r2
        induction r2 with
        | zero =>
          intro k ek no
          obtain rfl : k = 5 := by omega
          refine Ends.eq (b465_74 l (by omega)) (Ends.b3 (fun _ => ?_) (fun z => absurd z (by decide)))
          rw [w_succ (by omega)]
          exact ih (w + 1) _ _ _ _ _ (by omega) (fun j hj => no j (by omega))
        | succ r2 ih2 =>
          intro k ek no
          have hk5 : k < 5 := by omega
          have i5 : (5 * w + k) / 5 = w ∧ (5 * w + k) % 5 = k := by omega
          obtain ⟨g1, g2, g3, g4, g5, g6⟩ := lnG_is (n := n) (i := 5 * w + k) hax hdn hp hu hv' (by omega)
          rw [i5.2] at g6
          have eg : lnG n ax dn p u v (5 * w + k) = gI n (pkA ax 0 u v (vlC n dn w)) (pkA ax 1 u v (vlC n dn w)) (pkA ax 2 u v (vlC n dn w)) (vlT ax dn p k) := by unfold lnG; rw [i5.1, i5.2]
          refine Ends.eq (b465_74 l (by omega)) (Ends.b3 (fun z => absurd z (by omega)) (fun _ => Ends.g ⟨by omega, by omega⟩ ?_))
          rw [tn, (ln k hk5).1, (ln k hk5).2, has_eq hn g6 h0 h1 h2 s, onK_at h2 h1, ← eg]
          refine Ends.g (has_ok hn g6 h1 h2 s) ?_
          cases hS : S (lnG n ax dn p u v (5 * w + k))
          · refine Ends.b0 (fun _ => ?_) (fun z => absurd rfl z)
            rw [w_succ (by omega)]
            refine ih2 (k + 1) (by omega) (fun j hj => ?_)
            rcases (by omega : j < 5 * w + k ∨ j = 5 * w + k) with z | z
            · exact no j z
            · rw [z]; exact hS
          · refine Ends.b0 (fun z => absurd z (by decide)) (fun _ => Ends.sm (K _ _ ⟨rfl, ?_⟩))
            have eP : ffP n S ax dn p u v = 5 * w + k := ffI_at (f := fun i => S (lnG n ax dn p u v i)) (by omega) hS no
            unfold ffD ffK
            rw [eP, if_pos (by omega), i5.2, cd_at hn g6 lnE_lt h0 h1 h2, eg]
      exact inner 5 0 rfl (fun j hj => no j (by omega))
  refine Ends.eq (b465_0 l (by omega)) ?_
  exact outer n 0 _ _ _ _ _ (Nat.zero_add _) (fun j hj => absurd hj (Nat.not_lt_zero j))
/-- where a key is, or would be -/
def sIs (N : Nat) (K : Nat → Int) (hs : Nat) (c : Int) (k : Nat) : Prop := ∃ j, j < N ∧ k = (hs + j) % N ∧ (∀ i, i < j → K ((hs + i) % N) ≠ -1 ∧ K ((hs + i) % N) ≠ c) ∧ (K k = -1 ∨ K k = c)
theorem sIs.uniq {N hs k k' : Nat} {K : Nat → Int} {c : Int} (a : sIs N K hs c k) (b : sIs N K hs c k') : k = k' := by
  obtain ⟨j, j1, j2, j3, j4⟩ := a
  obtain ⟨i, i1, i2, i3, i4⟩ := b
  rcases (by omega : j < i ∨ j = i ∨ i < j) with z | z | z
  · have := i3 j z
    rw [← j2] at this
    rcases j4 with y | y
    · exact absurd y this.1
    · exact absurd y this.2
  · rw [j2, i2, z]
  · have := j3 i z
    rw [← i2] at this
    rcases i4 with y | y
    · exact absurd y this.1
    · exact absurd y this.2
theorem rm_pow (n : Nat) : ∃ j, 8 ≤ j ∧ j ≤ 16 ∧ rmN n = 2 ^ j := by
  unfold rmN
  split
  · exact ⟨8, by decide, by decide, by decide⟩
  split
  · exact ⟨9, by decide, by decide, by decide⟩
  split
  · exact ⟨10, by decide, by decide, by decide⟩
  split
  · exact ⟨11, by decide, by decide, by decide⟩
  split
  · exact ⟨12, by decide, by decide, by decide⟩
  split
  · exact ⟨13, by decide, by decide, by decide⟩
  split
  · exact ⟨14, by decide, by decide, by decide⟩
  split
  · exact ⟨15, by decide, by decide, by decide⟩
  · exact ⟨16, by decide, by decide, by decide⟩
theorem rm_lt (n : Nat) : 256 ≤ rmN n ∧ rmN n ≤ 65536 := by
  unfold rmN
  repeat' split
  all_goals exact ⟨by decide, by decide⟩
theorem rm_ge (hn : n ≤ 52) : 16 * n * n ≤ rmN n := by
  have : 16 * n * n ≤ 43264 := by
    have : n * n ≤ 52 * 52 := Nat.mul_le_mul hn hn
    rw [Nat.mul_assoc]; omega
  unfold rmN
  repeat' split
  all_goals omega
theorem and_rm {x : Int} : bop32 126 x (bop32 100 ((rmN n : Nat) : Int) 1) = x % ((rmN n : Nat) : Int) := by
  obtain ⟨j, j1, j2, ej⟩ := rm_pow n
  have := rm_lt n
  rw [show bop32 100 ((rmN n : Nat) : Int) 1 = ((rmN n - 1 : Nat) : Int) from subNN (y := 1) (by omega) (by omega), ej, and32 (by omega)]
  congr 1
/-- the desk's hash of a code -/
def hsD (n : Nat) (c : Int) : Nat := (bop32 126 (bop32 124 (bop32 104 c 40503) 3) (bop32 100 ((rmN n : Nat) : Int) 1)).toNat
theorem hsD_is {c : Int} : bop32 126 (bop32 124 (bop32 104 c 40503) 3) (bop32 100 ((rmN n : Nat) : Int) 1) = ((hsD n c : Nat) : Int) ∧ hsD n c < rmN n := by
  have := rm_lt n
  unfold hsD
  rw [and_rm]
  generalize bop32 124 (bop32 104 c 40503) 3 = y
  have h1 := Int.emod_nonneg y (show ((rmN n : Nat) : Int) ≠ 0 by omega)
  have h2 := Int.emod_lt_of_pos y (show (0 : Int) < ((rmN n : Nat) : Int) by omega)
  omega
theorem c_slot471 {kc k0 : Nat} {c : Int} (l : LX B n h) (hd : 10 ≤ d) (e5 : hv h (B + 132) 5 = rf kc) (kk : hk h kc = (2, rmN n)) (e7 : hv h (B + 132) 7 = ((rmN n : Nat) : Int)) (hk0 : k0 < rmN n) (free : hv h kc k0 = -1) :
    Vt 0 (cll PP (ev PP (gsF gv) B) d 471 [(2, rf (B + 132)), (0, c)] h) (fun x h' => h' = h ∧ ∃ k : Nat, x = (k : Int) ∧ k < rmN n ∧ sIs (rmN n) (hv h kc) (hsD n c) c k) := by
  have rl := rm_lt n
  obtain ⟨hs1, hs2⟩ := hsD_is (n := n) (c := c)
  obtain ⟨N, eN⟩ : ∃ N, N = rmN n := ⟨_, rfl⟩
  refine Vt.inq (D := 9) hd (Nat.le_of_ble_eq_true rfl) rfl (fun d hd Q K => ?_)
  refine Ends.eq (b471_0 l (by omega)) ?_
  rw [e7, hs1]
  rw [← eN] at hs2 hk0 rl kk e7 K
  obtain ⟨J, eJ⟩ : ∃ J, J = (k0 + N - hsD n c) % N := ⟨_, rfl⟩
  have hJ : J < N := by rw [eJ]; exact Nat.mod_lt _ (by omega)
  have J2 : (hsD n c + J) % N = k0 := by
    rw [eJ]
    by_cases z : hsD n c ≤ k0
    · rw [show k0 + N - hsD n c = (k0 - hsD n c) + N by omega, Nat.add_mod_right, Nat.mod_eq_of_lt (by omega : k0 - hsD n c < N), show hsD n c + (k0 - hsD n c) = k0 by omega, Nat.mod_eq_of_lt hk0]
    · rw [Nat.mod_eq_of_lt (by omega : k0 + N - hsD n c < N), show hsD n c + (k0 + N - hsD n c) = k0 + N by omega, Nat.add_mod_right, Nat.mod_eq_of_lt hk0]
  have key : ∀ (r j : Nat), j + r = J → (∀ i, i < j → hv h kc ((hsD n c + i) % N) ≠ -1 ∧ hv h kc ((hsD n c + i) % N) ≠ c) → Ends (ev PP (gsF gv) B d 471 14 [(2, rf (B + 132)), (0, c), (0, (((hsD n c + j) % N : Nat) : Int))] [] h) Q := by
    intro r
    induction r with
    | zero =>
      intro j e no
      obtain rfl : j = J := by omega
      refine Ends.eq (b471_14 l (by omega)) ?_
      rw [e5, ad_rf, kk, tn, J2, free]
      refine Ends.g ⟨rf_pos _, rfl, by omega, by show _ < ((N : Nat) : Int); omega⟩ (Ends.b0 (fun _ => ?_) (fun z => absurd rfl z))
      rw [← J2]
      exact Ends.eq (b471_48 l (by omega)) (Ends.sm (K _ _ ⟨rfl, _, rfl, Nat.mod_lt _ (by omega), j, hJ, rfl, no, Or.inl (by rw [J2]; exact free)⟩))
    | succ r ih =>
      intro j e no
      have ml : (hsD n c + j) % N < N := Nat.mod_lt _ (by omega)
      refine Ends.eq (b471_14 l (by omega)) ?_
      rw [e5, ad_rf, kk, tn, e7]
      refine Ends.g ⟨rf_pos _, rfl, by omega, by show _ < ((N : Nat) : Int); omega⟩ (Ends.b0 (fun z => ?_) (fun z1 => Ends.b0 (fun z => ?_) (fun z2 => ?_)))
      · exact Ends.eq (b471_48 l (by omega)) (Ends.sm (K _ _ ⟨rfl, _, rfl, ml, j, by omega, rfl, no, Or.inl z⟩))
      · exact Ends.eq (b471_48 l (by omega)) (Ends.sm (K _ _ ⟨rfl, _, rfl, ml, j, by omega, rfl, no, Or.inr z⟩))
      · rw [eN, and_rm, ← eN, show bop32 96 (((hsD n c + j) % N : Nat) : Int) 1 = (((hsD n c + j) % N + 1 : Nat) : Int) from addNN (y := 1) (by omega), ← Int.natCast_emod, show ((hsD n c + j) % N + 1) % N = (hsD n c + (j + 1)) % N from by rw [Nat.mod_add_mod, Nat.add_assoc]]
        refine ih (j + 1) (by omega) (fun i hi => ?_)
        rcases (by omega : i < j ∨ i = j) with y | y
        · exact no i y
        · rw [y]; exact ⟨z1, z2⟩
  have := key J 0 (Nat.zero_add _) (fun i hi => absurd hi (Nat.not_lt_zero i))
  rw [show (hsD n c + 0) % N = hsD n c from Nat.mod_eq_of_lt hs2] at this
  exact this
end DVW
