/-! L3: the model's sheet, the call -/
section MEX2
variable {gv : Nat → Int} {B n d : Nat} {h : AH} {a N : Nat} {bs : List Int} {S : Nat → Nat → Bool} {is : Nat → Bool} {o i : Int}
theorem OutM.agr {W : Nat → Nat → Prop} {t : AH} (p : OutM B h a N bs) (g : Agr W h t) (h1 : ¬ W (B + 149) 164) (h2 : ¬ W (B + 149) 165) (h3 : ∀ k, ¬ W a k) : OutM B t a N bs := by
  obtain ⟨a1, a2, a3, a4, a5, a6, a7, a8, a9⟩ := p
  exact ⟨by rw [g.at _ _ h1]; exact a1, by rw [g.hk]; exact a2, a3, by rw [g.nx]; exact a4, by rw [g.at _ _ h2]; exact a5, a6, a7, a8, fun i c e => by rw [g.at _ _ (h3 i)]; exact a9 i c e⟩
theorem c_export616 (l : LX B n h) (hd : 28 ≤ d) (hn0 : 0 < n) (hn : n ≤ 52) (T : TxO gv B h) (b : BdM B n h is S) (x : OutM B h a N bs) :
    Vt 0 (cll PP (ev PP (gsF gv) B) d 616 [(2, rf (B + 149)), (0, o)] h) (fun v h' => (thS is o = false ∧ MdA B h 1 v h') ∨ (thS is o = true ∧ ((1000 < cntR n (fun k => begB (rwG n (S (rwS o)) k)) (24 * n * n) ∧ v = -1 ∧ h' = hset h (B + 149) 0 0) ∨ (cntR n (fun k => begB (rwG n (S (rwS o)) k)) (24 * n * n) ≤ 1000 ∧ v = ((shtT n (rwG n (S (rwS o)))).length : Int) ∧ hv h' (B + 149) 0 = 0 ∧ ∃ a' N', OutM B h' a' N' (shtT n (rwG n (S (rwS o)))) ∧ N ≤ N' ∧ (a' = a ∨ hnx h ≤ a') ∧ Ext (mexW B a) (N' - N) (2 * N' - 2 * N) h h')))) := by
  have hb0 := l.2.2
  have gle := gN_le hn
  refine Vt.inq (D := 27) hd (Nat.le_of_ble_eq_true rfl) rfl (fun d hd P K => ?_)
  refine Ends.eq (b616_0 (n := n) (by (repeat' first | assumption | refine LX.setF _ _ ?_ (by decide +kernel) | refine LX.setS ?_ rfl | refine LX.setA ?_ (by first | assumption | omega))) (by first | assumption | omega)) ?_
  obtain ⟨q5, e5⟩ := v765_is (o := o) (fun i hi => (b.1 i hi).1)
  refine Ends.g q5 ?_
  rw [e5]
  cases hs : thS is o
  · refine Ends.mbad l (by omega) (c := 1) (by decide) rfl ?_
    have l1 : LX B n (hset h (B + 149) 0 ((1 : Nat) : Int)) := LX.setF 149 0 l (by decide +kernel)
    exact Ends.eq (b616_17 (n := n) l1 (by omega)) (Ends.b0 (fun z => absurd z (by decide)) (fun _ => Ends.sm (K _ _ (Or.inl ⟨hs, rfl, rfl⟩))))
  refine Ends.mok l (by omega) rfl ?_
  have l1 : LX B n (hset h (B + 149) 0 0) := LX.setF 149 0 l (by decide +kernel)
  have g1 : Agr (fun c k => c = B + 149 ∧ k = 0) h (hset h (B + 149) 0 0) := Agr.rf.set ⟨rfl, rfl⟩
  have b1 := b.fset 0 0
  have x1 : OutM B (hset h (B + 149) 0 0) a N bs := x.agr g1 (by omega) (by omega) (fun k w => by have := x.2.2.1; omega)
  have T1 : TxO gv B (hset h (B + 149) 0 0) := T.ext g1.ext hb0 (fun c k hc w => by omega)
  have z1 : hv (hset h (B + 149) 0 0) (B + 149) 0 = 0 := hv_set_at ..
  refine Ends.eq (b616_17 (n := n) l1 (by omega)) (Ends.b0 (fun _ => ?_) (fun z => absurd rfl z))
  obtain ⟨h1, eh1⟩ : ∃ q, q = hset h (B + 149) 0 0 := ⟨_, rfl⟩
  rw [← eh1] at l1 g1 b1 x1 T1 z1 ⊢
  obtain ⟨mb, rw11⟩ := b1.sol hs
  have ho := v806_is hs
  have ball := beg_all (S := S (rwS o)) hn0
  -- all grains are looked at
  have cnt : ∀ (c g : Nat), g + c = gN n → Ends (ev PP (gsF gv) B d 616 26 [(2, rf (B + 149)), (0, o), (0, ((cntN (bgS n (S (rwS o))) g : Nat) : Int)), (0, (g : Int)), (9, 0), (9, 0), (9, 0)] [] h1) P := by
    intro c
    induction c with
    | zero =>
      intro g hg
      obtain rfl : g = gN n := by omega
      refine Ends.eq (b616_26 (n := n) (by (repeat' first | assumption | refine LX.setF _ _ ?_ (by decide +kernel) | refine LX.setS ?_ rfl | refine LX.setA ?_ (by first | assumption | omega))) (by first | assumption | omega)) ?_
      refine Ends.b3 (fun _ => ?_) (fun z => by omega)
      rw [← ball]
      obtain ⟨M, eM⟩ : ∃ M, M = cntR n (fun k => begB (rwG n (S (rwS o)) k)) (24 * n * n) := ⟨_, rfl⟩
      rw [← eM] at K ⊢
      by_cases few : M ≤ 1000
      rotate_left
      · exact Ends.b5 (fun z => by omega) (fun _ => Ends.sm (K _ _ (Or.inr ⟨hs, Or.inl ⟨by omega, rfl, eh1⟩⟩)))
      refine Ends.b5 (fun _ => ?_) (fun z => by omega)
      have l2 : LX B n (hset h1 (B + 149) 165 0) := LX.setF 149 165 l1 (by decide +kernel)
      have g2 : Agr (fun c k => c = B + 149 ∧ k = 165) h1 (hset h1 (B + 149) 165 0) := Agr.rf.set ⟨rfl, rfl⟩
      obtain ⟨a1, a2, a3, a4, a5, a6, a7, a8, a9⟩ := x1
      have hb1 := l1.2.2
      have o2 : OutM B (hset h1 (B + 149) 165 0) a N [] := ⟨by rw [hv_set_ne (by omega)]; exact a1, a2, a3, a4, hv_set_at .., Nat.zero_le _, a7, a8, fun i c e => by simp at e⟩
      have T2 : TxO gv B (hset h1 (B + 149) 165 0) := T1.ext g2.ext hb1 (fun b k hb w => by omega)
      have m2 : MB B n (hset h1 (B + 149) 165 0) (rwS o) (S (rwS o)) := mb.agr g2 (fun k _ w => by omega)
      have z2 : hv (hset h1 (B + 149) 165 0) (B + 149) 0 = 0 := by rw [hv_set_ne (by omega)]; exact z1
      generalize hset h1 (B + 149) 165 0 = h2 at *
      have hb2 := l2.2.2
      have keepT : ∀ {q : AH} {a' N' : Nat}, Wrs (outV B) a N h2 q a' N' → TxO gv B q := fun w => T2.ext w.2.2 hb2 (fun b k hb w => by unfold outV at w; omega)
      have p4 : (10 : Nat) ^ (3 + 1) = 10000 := by decide
      refine Ends.cv l2 (by decide +kernel) (c_sayS809 l2 (by omega) T2.1 o2 (by decide)) (fun q1 m1 _ _ _ ⟨a1', N1, o1, w1⟩ => ?_)
      have lb1 : ([] ++ sGr : List Int).length = 7 := rfl
      refine Ends.eq (b616_99 (n := n) (by (repeat' first | assumption | refine LX.setF _ _ ?_ (by decide +kernel) | refine LX.setS ?_ rfl | refine LX.setA ?_ (by first | assumption | omega))) (by first | assumption | omega)) ?_
      refine Ends.cv m1 (by decide +kernel) (c_sayN810 3 M m1 (by omega) (by decide) (by omega) o1 (by omega)) (fun q3 m3 _ _ _ ⟨a3', N3, o3, v3⟩ => ?_)
      have w3 := w1.tr v3 outV_tr
      have lb3 : ([] ++ sGr ++ digF (3 + 1) M : List Int).length ≤ 11 := by rw [List.length_append]; have := dig_len (3 + 1) M; omega
      refine Ends.eq (b616_104 (n := n) (by (repeat' first | assumption | refine LX.setF _ _ ?_ (by decide +kernel) | refine LX.setS ?_ rfl | refine LX.setA ?_ (by first | assumption | omega))) (by first | assumption | omega)) ?_
      refine Ends.cv m3 (by decide +kernel) (c_sayS809 m3 (by omega) (keepT w3).2.2.2.2 o3 (by show _ + 1 ≤ 30001; omega)) (fun q4 m4 _ _ _ ⟨a4', N4, o4, v4⟩ => ?_)
      have w4 := w3.tr v4 outV_tr
      have lb4 : ([] ++ sGr ++ digF (3 + 1) M ++ sSem : List Int).length ≤ 12 := by rw [List.length_append]; show _ + 1 ≤ 12; omega
      refine Ends.eq (b616_111 (n := n) (by (repeat' first | assumption | refine LX.setF _ _ ?_ (by decide +kernel) | refine LX.setS ?_ rfl | refine LX.setA ?_ (by first | assumption | omega))) (by first | assumption | omega)) ?_
      refine Ends.cv m4 (by decide +kernel) (c_say808 (c := 10) m4 (by omega) o4 (by omega) (by decide) (by decide)) (fun q5 m5 _ _ _ ⟨a5', N5, o5, v5⟩ => ?_)
      have w5 := w4.tr v5 outV_tr
      have lb5 : ([] ++ sGr ++ digF (3 + 1) M ++ sSem ++ [10] : List Int).length ≤ 13 := by rw [List.length_append]; show _ + 1 ≤ 13; omega
      refine Ends.eq (b616_117 (n := n) (by (repeat' first | assumption | refine LX.setF _ _ ?_ (by decide +kernel) | refine LX.setS ?_ rfl | refine LX.setA ?_ (by first | assumption | omega))) (by first | assumption | omega)) ?_
      have mb5 : MB B n q5 (rwS o) (S (rwS o)) := m2.ext w5.2.2 hb2 (fun k hk w => by unfold outV at w; omega)
      refine mexp_rows m5 (by omega) hn (by omega) ho (keepT w5) mb5 o5 (by omega) (by rw [← eM]; exact few) (fun q6 a6' N6 m6 o6 v6 u4 u5 u6 => ?_)
      have w6 := w5.tr v6 outV_tr
      have rl := runsT_len (n := n) (R := rwG n (S (rwS o))) (24 * n * n)
      rw [← eM] at rl
      have lb6 : ([] ++ sGr ++ digF (3 + 1) M ++ sSem ++ [10] ++ runsT n (rwG n (S (rwS o))) (24 * n * n) : List Int).length ≤ 24100 := by rw [List.length_append]; omega
      refine Ends.cv m6 (by decide +kernel) (c_sayS809 m6 (by omega) (keepT w6).2.2.2.1 o6 (by show _ + 4 ≤ 30001; omega)) (fun q7 m7 _ _ _ ⟨a7', N7, o7, v7⟩ => ?_)
      have w7 := w6.tr v7 outV_tr
      have lb7 : ([] ++ sGr ++ digF (3 + 1) M ++ sSem ++ [10] ++ runsT n (rwG n (S (rwS o))) (24 * n * n) ++ sFin : List Int).length ≤ 24104 := by rw [List.length_append]; show _ + 4 ≤ 24104; omega
      refine Ends.eq (b616_225 (n := n) (by (repeat' first | assumption | refine LX.setF _ _ ?_ (by decide +kernel) | refine LX.setS ?_ rfl | refine LX.setA ?_ (by first | assumption | omega))) (by first | assumption | omega)) ?_
      refine Ends.cv m7 (by decide +kernel) (c_say808 (c := 10) m7 (by omega) o7 (by omega) (by decide) (by decide)) (fun q8 m8 _ _ _ ⟨a8', N8, o8, v8⟩ => ?_)
      have w8 := w7.tr v8 outV_tr
      have et : ([] ++ sGr ++ digF (3 + 1) M ++ sSem ++ [10] ++ runsT n (rwG n (S (rwS o))) (24 * n * n) ++ sFin ++ [10] : List Int) = shtT n (rwG n (S (rwS o))) := by
        unfold shtT
        rw [← eM, List.nil_append]; rfl
      rw [et] at o8
      refine Ends.eq (b616_231 (n := n) (by (repeat' first | assumption | refine LX.setF _ _ ?_ (by decide +kernel) | refine LX.setS ?_ rfl | refine LX.setA ?_ (by first | assumption | omega))) (by first | assumption | omega)) ?_
      rw [o8.2.2.2.2.1]
      refine Ends.sm (K _ _ (Or.inr ⟨hs, Or.inr ⟨few, rfl, ?_, a8', N8, o8, w8.1, ?_, ?_⟩⟩))
      · rw [w8.2.2.at _ (by omega) (by unfold outV; omega)]; exact z2
      · have := w8.2.1
        rw [g2.nx, g1.nx] at this
        exact this
      · have E0 : Ext (mexW B a) 0 0 h h1 := g1.ext.sub (fun c k _ w => Or.inl ⟨w.1, Or.inl w.2⟩) (Nat.le_refl _) (Nat.le_refl _)
        have E1 := E0.tr g2.ext (fun c k _ w => Or.inl ⟨w.1, Or.inr (Or.inr w.2)⟩)
        have E2 := E1.tr w8.2.2 (fun c k _ w => by unfold outV at w; unfold mexW; omega)
        exact E2.sub (fun c k _ w => w) (by omega) (by omega)
    | succ c ih =>
      intro g hg
      have hgn : g < gN n := by omega
      obtain ⟨h1', h2'⟩ := has_is mb (by omega) hn hgn
      obtain ⟨_, hx, hy, hz, ht⟩ := g_lt hgn
      have cx := cubeX_is (g := g) hn0 hn (by omega)
      have cl' := cntN_le (bgS n (S (rwS o))) g
      have qx : q588 n (g : Int) := by unfold q588; omega
      have s1 := cntN_s (bgS n (S (rwS o))) g
      refine Ends.eq (b616_26 (n := n) (by (repeat' first | assumption | refine LX.setF _ _ ?_ (by decide +kernel) | refine LX.setS ?_ rfl | refine LX.setA ?_ (by first | assumption | omega))) (by first | assumption | omega)) ?_
      rw [ho, h2', cx]
      refine Ends.b3 (fun z => by omega) (fun _ => Ends.g h1' ?_)
      have cv : cond (tst 0 (if S (rwS o) g = true then (1 : Int) else 0) 0) ((cntN (bgS n (S (rwS o))) g : Nat) : Int) (cond (tst 0 ((gX n g : Nat) : Int) 0) (w32 (((cntN (bgS n (S (rwS o))) g : Nat) : Int) + 1)) (cond (tst 1 (v669 B n h1 ((rwS o : Nat) : Int) (bop32 100 (g : Int) 24)) 0) ((cntN (bgS n (S (rwS o))) g : Nat) : Int) (w32 (((cntN (bgS n (S (rwS o))) g : Nat) : Int) + 1)))) = ((cntN (bgS n (S (rwS o))) (g + 1) : Nat) : Int) ∧ cond (tst 0 (if S (rwS o) g = true then (1 : Int) else 0) 0) True (q588 n (g : Int) ∧ cond (tst 0 ((gX n g : Nat) : Int) 0) True (q669 B n h1 ((rwS o : Nat) : Int) (bop32 100 (g : Int) 24))) := by
        cases e : S (rwS o) g
        · have eb : bgS n (S (rwS o)) g = false := by unfold bgS; rw [e, Bool.false_and]
          rw [s1, eb]
          exact ⟨rfl, trivial⟩
        · by_cases x0 : gX n g = 0
          · have eb : bgS n (S (rwS o)) g = true := by unfold bgS; rw [e, x0]; rfl
            rw [s1, eb, x0, w_succ (by omega)]
            exact ⟨rfl, qx, trivial⟩
          · have g24 : 24 ≤ g := by
              unfold gX at x0
              by_cases w : 24 ≤ g
              · exact w
              · rw [Nat.div_eq_of_lt (by omega), Nat.zero_mod] at x0; exact absurd rfl x0
            obtain ⟨k1, k2⟩ := has_is mb (by omega) hn (show g - 24 < gN n by omega)
            have eb : bgS n (S (rwS o)) g = !S (rwS o) (g - 24) := by unfold bgS; rw [e, decide_eq_true (Nat.pos_of_ne_zero x0)]; simp
            have t0 : tst 0 ((gX n g : Nat) : Int) 0 = false := by rw [tst0]; exact decide_eq_false (fun z => x0 (Int.ofNat.inj z))
            rw [s1, eb, t0, w_succ (by omega), show bop32 100 (g : Int) 24 = ((g - 24 : Nat) : Int) from subNN (y := 24) (by omega) g24, k2]
            refine ⟨?_, qx, k1⟩
            cases S (rwS o) (g - 24) <;> rfl
      rw [cv.1]
      refine Ends.g cv.2 ?_
      rw [w_succ (by omega)]
      exact ih (g + 1) (by omega)
  exact cnt (gN n) 0 (by omega)
def mshA (bs : List Int) (i : Int) : Int := shA bs i
theorem c_sheet821 (l : LX B n h) (hd : 10 ≤ d) (x : OutM B h a N bs) : Vt 0 (cll PP (ev PP (gsF gv) B) d 821 [(2, rf (B + 149)), (0, i)] h) (fun v h' => v = shA bs i ∧ h' = hset h (B + 149) 0 0) := by
  obtain ⟨a1, a2, a3, a4, a5, a6, a7, a8, a9⟩ := x
  have hb0 := l.2.2
  refine Vt.inq (D := 9) hd (Nat.le_of_ble_eq_true rfl) rfl (fun d hd P K => ?_)
  refine Ends.eq (b821_0 (n := n) (by (repeat' first | assumption | refine LX.setF _ _ ?_ (by decide +kernel) | refine LX.setS ?_ rfl | refine LX.setA ?_ (by first | assumption | omega))) (by first | assumption | omega)) ?_
  rw [a1, a5, ad_rf, a2]
  simp only [ct2]
  by_cases h0 : i < 0
  · rw [if_pos h0, if_pos h0]
    refine Ends.g trivial (Ends.sm (K _ _ ⟨?_, rfl⟩))
    unfold shA
    rw [if_neg (by omega)]
  rw [if_neg h0, if_neg h0]
  by_cases h1 : i < (bs.length : Int)
  · obtain ⟨k, rfl⟩ : ∃ k : Nat, i = (k : Int) := ⟨i.toNat, by omega⟩
    obtain ⟨c, hc⟩ : ∃ c, bs[k]? = some c := ⟨bs[k]'(by omega), List.getElem?_eq_getElem (by omega)⟩
    rw [if_pos h1, if_pos h1, tn, hv_na (by omega), a9 k c hc]
    refine Ends.g ⟨rf_pos _, trivial, by omega, by show (k : Int) < ((N : Nat) : Int); omega⟩ (Ends.sm (K _ _ ⟨?_, rfl⟩))
    unfold shA
    rw [if_pos ⟨by omega, h1⟩]
    show c = (bs[k]?).getD (-1)
    rw [hc]; rfl
  · rw [if_neg h1, if_neg h1]
    refine Ends.g trivial (Ends.sm (K _ _ ⟨?_, rfl⟩))
    unfold shA
    rw [if_neg (by omega)]
end MEX2
