/-! L3: the model's designs in their ring: at, edit, undo, redo -/
section RING
variable {gv : Nat → Int} {B n d : Nat} {h : AH}
theorem nz_ptr {q j k : Nat} (hj : (1 ≤ j ∧ j ≤ 4) ∨ j = 7) : ¬ ptr q (q + j) k := (ar_dW hj).2.2
theorem New0.td {q : Nat} (z : New0 q h) : TD h q := by
  obtain ⟨z1, z2⟩ := z
  have nsk : ∀ s j k, s < 6 → 1 ≤ j → j ≤ 13 → ¬ ptr q (q + (8 + 14 * s) + j) k := fun s j k hs h1 h2 p => by
    rcases p with p | p | p | ⟨s', hs', p, p2⟩ | ⟨s', hs', p, _⟩ <;> omega
  have nft : ∀ s k, s < 24 → ¬ ptr q (q + (92 + 2 * s) + 1) k := fun s k hs p => by
    rcases p with p | p | p | ⟨s', hs', p, p2⟩ | ⟨s', hs', p, _⟩ <;> omega
  have nfo : ∀ s k, s < 24 → k < 5 → ¬ ptr q (q + (92 + 2 * s)) k := fun s k hs hk p => by
    rcases p with p | p | p | ⟨s', hs', p, p2⟩ | ⟨s', hs', p, _⟩ <;> omega
  refine ⟨fun k _ => Or.inl (z2 _ _ (by omega) (by omega) (nz_ptr (by omega))), fun s hs => ⟨fun k _ => Or.inl (z2 _ _ (by omega) (by omega) (nsk s 5 k hs (by decide) (by decide))), fun k _ => Or.inl (z2 _ _ (by omega) (by omega) (nsk s 12 k hs (by decide) (by decide))), fun k _ => Or.inl (z2 _ _ (by omega) (by omega) (nsk s 7 k hs (by decide) (by decide))), fun k _ => Or.inl (z2 _ _ (by omega) (by omega) (nsk s 13 k hs (by decide) (by decide)))⟩, fun f hf => ⟨Or.inl (z2 _ _ (by omega) (by omega) (nfo f 0 hf (by decide))), Or.inl (z2 _ _ (by omega) (by omega) (nfo f 4 hf (by decide))), fun k _ => Or.inl (z2 _ _ (by omega) (by omega) (nft f k hf))⟩, ?_, ?_⟩
  · rw [z1 3 (by decide)]; decide
  · rw [z1 3 (by decide)]; decide
/-- the ring of designs: Q i the cell of the i-th, al of them made, dn done, tt in all -/
def MRg (B : Nat) (h : AH) (Q : Nat → Nat) (al dn tt : Nat) : Prop := hv h (B + 149) 16 = (dn : Int) ∧ hv h (B + 149) 17 = (dn : Int) ∧ hv h (B + 149) 18 = ((tt - dn : Nat) : Int) ∧ hv h (B + 149) 19 = rf (Q dn) ∧ dn ≤ tt ∧ tt < al ∧ al ≤ 100 ∧ (∀ i, i < al → hv h (B + 151) i = rf (Q i) ∧ YD B (Q i) h ∧ TD h (Q i) ∧ Q i + 140 ≤ hnx h) ∧ (∀ i, al ≤ i → i < 101 → hv h (B + 151) i = 0) ∧ ∀ i j, i < j → j < al → Q i + 140 ≤ Q j
theorem FR0.ext {W : Nat → Nat → Prop} {c s : Nat} {t : AH} {x : Int} (f : FR0 h x) (e : Ext W c s h t) : FR0 t x := f.imp id (fun ⟨a, b, c⟩ => ⟨a, by rw [e.1 _ c]; exact b, Nat.lt_of_lt_of_le c e.2.2.1⟩)
theorem FL0.ext {W : Nat → Nat → Prop} {c s : Nat} {t : AH} {x : Int} (f : FL0 h x) (e : Ext W c s h t) : FL0 t x := f.imp id (fun ⟨a, b, c⟩ => ⟨a, by rw [e.1 _ c]; exact b, Nat.lt_of_lt_of_le c e.2.2.1⟩)
theorem TD.of {q : Nat} {t : AH} (T : TD h q) (a : ∀ j k, j < 140 → hv t (q + j) k = hv h (q + j) k) (fr : ∀ x, FR0 h x → FR0 t x) (fl : ∀ x, FL0 h x → FL0 t x) : TD t q := by
  obtain ⟨T1, T2, T3, T4, T5⟩ := T
  refine ⟨fun k hk => by rw [a 3 k (by decide)]; exact fr _ (T1 k hk), fun s hs => ?_, fun f hf => ?_, ?_, ?_⟩
  · obtain ⟨U1, U2, U3, U4⟩ := T2 s hs
    have b : ∀ j k, j ≤ 13 → hv t (q + (8 + 14 * s) + j) k = hv h (q + (8 + 14 * s) + j) k := fun j k hj => by rw [Nat.add_assoc q]; exact a _ k (by omega)
    exact ⟨fun k hk => by rw [b 5 k (by decide)]; exact U1 k hk, fun k hk => by rw [b 12 k (by decide)]; exact U2 k hk, fun k hk => by rw [b 7 k (by decide)]; exact fr _ (U3 k hk), fun k hk => by rw [b 13 k (by decide)]; exact fr _ (U4 k hk)⟩
  · obtain ⟨U1, U2, U3⟩ := T3 f hf
    exact ⟨by rw [a _ 0 (by omega)]; exact U1, by rw [a _ 4 (by omega)]; exact U2, fun k hk => by rw [Nat.add_assoc q, a _ k (by omega), ← Nat.add_assoc q]; exact fl _ (U3 k hk)⟩
  · rw [show hv t q 3 = hv h q 3 from a 0 3 (by decide)]; exact T4
  · rw [show hv t q 3 = hv h q 3 from a 0 3 (by decide)]; exact T5
theorem TD.agr {q : Nat} {t : AH} {W : Nat → Nat → Prop} (T : TD h q) (g : Agr W h t) (hW : ∀ c k, q ≤ c → c < q + 140 → ¬ W c k) : TD t q :=
  T.of (fun j k hj => g.at _ _ (hW _ _ (Nat.le_add_right ..) (by omega))) (fun x f => f.agr g) (fun x f => f.agr g)
theorem TD.ext {q cc ss : Nat} {t : AH} {W : Nat → Nat → Prop} (T : TD h q) (hx : q + 140 ≤ hnx h) (e : Ext W cc ss h t) (hW : ∀ c k, q ≤ c → c < q + 140 → ¬ W c k) : TD t q :=
  T.of (fun j k hj => e.at _ (by omega) (hW _ _ (Nat.le_add_right ..) (by omega))) (fun x f => f.ext e) (fun x f => f.ext e)
theorem YD.ext {q cc ss : Nat} {t : AH} {W : Nat → Nat → Prop} (y : YD B q h) (hx : q + 140 ≤ hnx h) (e : Ext W cc ss h t) (hW : ∀ c k, q ≤ c → c < q + 140 → ¬ W c k) : YD B q t := by
  obtain ⟨⟨a1, a2⟩, ⟨b1, b2, b3, b4, b5, b6, b7⟩, ⟨c1, c2, c3, c4, c5, c6, c7⟩, z, f⟩ := y
  have K : ∀ j, j < 140 → hk t (q + j) = hk h (q + j) := fun j hj => e.1 _ (by omega)
  have P0 : ∀ k, hv t q k = hv h q k := fun k => e.at k (by omega) (hW _ _ (Nat.le_refl _) (by omega))
  refine ⟨⟨by rw [show hk t q = hk h q from e.1 _ (by omega)]; exact a1, a2⟩, ⟨by rw [K 1 (by decide)]; exact b1, by rw [K 2 (by decide)]; exact b2, by rw [K 3 (by decide)]; exact b3, by rw [K 4 (by decide)]; exact b4, by rw [K 5 (by decide)]; exact b5, by rw [K 6 (by decide)]; exact b6, by rw [K 7 (by decide)]; exact b7⟩, ⟨by rw [P0 6]; exact c1, by rw [P0 7]; exact c2, by rw [P0 8]; exact c3, by rw [P0 9]; exact c4, by rw [P0 10]; exact c5, by rw [P0 11]; exact c6, by rw [P0 12]; exact c7⟩, fun s hs => ?_, fun s hs => ?_⟩
  · obtain ⟨e1, e2⟩ := z s hs
    exact ⟨e1.ext (by omega) e (fun k hk => hW _ _ (by omega) (by omega)), by rw [e.at _ (by omega) (hW _ _ (by omega) (by omega))]; exact e2⟩
  · obtain ⟨e1, e2⟩ := f s hs
    exact ⟨e1.ext (by omega) e (hW _ _ (by omega) (by omega)), by rw [e.at _ (by omega) (hW _ _ (by omega) (by omega))]; exact e2⟩
/-- what two designs have alike, seen from other heaps -/
theorem DsEq.mv {a b : Nat} {h' t t' : AH} (E : DsEq h a t b) (ta : ∀ j k, j < 140 → hv t' (b + j) k = hv t (b + j) k) (ha : ∀ j k, j < 140 → hv h (a + j) k = hv h' (a + j) k) : DsEq h' a t' b := by
  obtain ⟨E1, E2, E3, E4, E5, E6, E7, E8⟩ := E
  have t0 : ∀ k, hv t' b k = hv t b k := fun k => ta 0 k (by decide)
  have h0 : ∀ k, hv h a k = hv h' a k := fun k => ha 0 k (by decide)
  refine ⟨fun k hk => by rw [t0, E1 k hk, h0], fun k hk => by rw [ta 1 k (by decide), E2 k hk, ha 1 k (by decide)], fun k hk => by rw [ta 2 k (by decide), E3 k hk, ha 2 k (by decide)], fun k hk => by rw [ta 3 k (by decide), E4 k hk, ha 3 k (by decide)], fun k hk => by rw [ta 4 k (by decide), E5 k hk, ha 4 k (by decide)], fun z hz hz2 => ?_, fun f hf => ?_, fun k hk => by rw [ta 7 k (by decide), E8 k hk, ha 7 k (by decide)]⟩
  · have := E6 z hz (by rw [h0]; exact hz2)
    exact ⟨fun k hk => by rw [ta _ k (by omega), this.1 k hk, ha _ k (by omega)], fun j k h1 h2 hk => by rw [Nat.add_assoc b, ta _ k (by omega), ← Nat.add_assoc b, this.2 j k h1 h2 hk, Nat.add_assoc a, ha _ k (by omega)]⟩
  · have := E7 f hf
    exact ⟨fun k hk => by rw [ta _ k (by omega), this.1 k hk, ha _ k (by omega)], fun k hk => by rw [Nat.add_assoc b, ta _ k (by omega), ← Nat.add_assoc b, this.2 k hk, Nat.add_assoc a, ha _ k (by omega)]⟩
theorem c_at (l : LX B n h) (hd : 14 ≤ d) {i : Nat} (hi : i < 101) (h0 : hv h (B + 151) i = 0 ∨ ∃ q, hv h (B + 151) i = rf q) :
    Vt 2 (cll PP (ev PP (gsF gv) B) d 551 [(2, rf (B + 149)), (0, (i : Int))] h) (fun x h' => (∃ q, hv h (B + 151) i = rf q ∧ x = rf q ∧ h' = h) ∨ (hv h (B + 151) i = 0 ∧ x = rf (hnx h) ∧ YD B (hnx h) h' ∧ New0 (hnx h) h' ∧ hnx h' = hnx h + 140 ∧ Ext (fun c k => c = B + 151 ∧ k = i) 140 2977 h h' ∧ hv h' (B + 151) i = rf (hnx h))) := by
  have hb := l.2.2
  refine Vt.into (D := 13) hd (Nat.le_of_ble_eq_true rfl) rfl (fun d hd => ?_)
  refine Ends.eq (b551_0 (n := n) (by (repeat' first | assumption | refine LX.setF _ _ ?_ (by decide +kernel) | refine LX.setS ?_ rfl | refine LX.setA ?_ (by first | assumption | omega))) (by first | assumption | omega)) ?_
  rw [tn]
  refine Ends.g ⟨by omega, by omega⟩ ?_
  rcases h0 with h0 | ⟨q, h0⟩
  · rw [h0]
    refine Ends.b0 (fun _ => ?_) (fun z => absurd rfl z)
    have l1 : LX B n (hnew h (1, 21) 13) := l.new
    have k1 : hk (hnew h (1, 21) 13) (hnx h) = (1, 21) := by rw [hk_new, if_pos rfl]
    refine Ends.eq (b551_17 (n := n) (by (repeat' first | assumption | refine LX.setF _ _ ?_ (by decide +kernel) | refine LX.setS ?_ rfl | refine LX.setA ?_ (by first | assumption | omega))) (by first | assumption | omega)) ?_
    refine Ends.g (rf_pos _) ?_
    refine Ends.cv l1 (by decide +kernel) (c_initD (w := hnx h) l1 (by omega) rfl k1 (by omega) (fun k => by rw [hv_new, if_pos rfl])) (fun s2 l2 _ _ _ ⟨_, Y2, Z2, n2, x2⟩ => ?_)
    have k5 : hk s2 (B + 151) = (12, 101) := by rw [x2.1 _ (by show B + 151 < hnx h + 1; omega), hk_new, if_neg (by omega)]; exact lk_151 l
    have D0 := Y2
    refine Ends.eq (b551_21 (n := n) (by (repeat' first | assumption | refine LX.setF _ _ ?_ (by decide +kernel) | refine LX.setS ?_ rfl | refine LX.setA ?_ (by first | assumption | omega))) (by first | assumption | omega)) ?_
    rw [ad_rf, ad_rf, k5, tn]
    refine Ends.g ⟨rf_pos _, rfl, by omega, by show (i : Int) < ((101 : Nat) : Int); omega, by omega, Or.inr ⟨rf_pos _, by rw [Y2.kd]; rfl⟩⟩ ?_
    have l3 : LX B n (hset s2 (B + 151) i (rf (hnx h))) := (by (repeat' first | assumption | refine LX.setF _ _ ?_ (by decide +kernel) | refine LX.setS ?_ rfl | refine LX.setA ?_ (by assumption)))
    have g3 : Agr (fun c k => c = B + 151) s2 (hset s2 (B + 151) i (rf (hnx h))) := Agr.rf.set rfl
    have X3 : Ext (fun c k => c = B + 151 ∧ k = i) 140 2977 h (hset s2 (B + 151) i (rf (hnx h))) := (((Ext.new (W := fun c k => c = B + 151 ∧ k = i)).tr x2 (fun c k hc z => by omega)).ml' (by decide) (by decide)).set (fun _ => ⟨rfl, rfl⟩)
    refine Ends.eq (b551_22 (n := n) (by (repeat' first | assumption | refine LX.setF _ _ ?_ (by decide +kernel) | refine LX.setS ?_ rfl | refine LX.setA ?_ (by first | assumption | omega))) (by first | assumption | omega)) ?_
    rw [tn, hv_set_at]
    refine Ends.g ⟨by omega, by omega⟩ (Ends.sm ⟨_, _, rfl, Or.inr ⟨rfl, rfl, Y2.far g3 (fun c k h1 h2 => by omega), ⟨fun k hk => by rw [hv_na (by omega)]; exact Z2.1 k hk, fun c k h1 h2 h3 => by rw [hv_na (by omega)]; exact Z2.2 c k h1 h2 h3⟩, by show hnx s2 = _; omega, X3, hv_set_at ..⟩⟩)
  · rw [h0]
    refine Ends.b0 (fun z => absurd z (rf_ne q)) (fun _ => ?_)
    refine Ends.eq (b551_22 (n := n) (by (repeat' first | assumption | refine LX.setF _ _ ?_ (by decide +kernel) | refine LX.setS ?_ rfl | refine LX.setA ?_ (by first | assumption | omega))) (by first | assumption | omega)) ?_
    rw [tn, h0]
    exact Ends.g ⟨by omega, by omega⟩ (Ends.sm ⟨_, _, rfl, Or.inl ⟨q, rfl, rfl, rfl⟩⟩)
theorem c_forget (l : LX B n h) (hd : 10 ≤ d) : Vd (cll PP (ev PP (gsF gv) B) d 645 [(2, rf (B + 149))] h) (fun h' => Agr (fun c _ => c = B + 154) h h' ∧ ∀ k, k < 40 → hv h' (B + 154) k = 0) := by
  refine Vd.into (D := 9) hd (Nat.le_of_ble_eq_true rfl) rfl (fun d hd => ?_)
  refine Ends.eq (b645_0 (n := n) (by (repeat' first | assumption | refine LX.setF _ _ ?_ (by decide +kernel) | refine LX.setS ?_ rfl | refine LX.setA ?_ (by first | assumption | omega))) (by first | assumption | omega)) ?_
  refine lp (40) (fun i L q => L = [(2, rf (B + 149)), (0, ((i : Int)))] ∧ LX B n q ∧ i ≤ 40 ∧ Agr (fun c _ => c = B + 154) h q ∧ ∀ k, k < i → hv q (B + 154) k = 0) ?_ ?_ (0) ⟨rfl, (by (repeat' first | assumption | refine LX.setF _ _ ?_ (by decide +kernel) | refine LX.setS ?_ rfl | refine LX.setA ?_ (by assumption))), by omega, ?_, ?_⟩
  · rintro i _ q hi ⟨rfl, lq, hiN, gq, i1⟩ ihi
    refine Ends.eq (b645_2 (n := n) (by (repeat' first | assumption | refine LX.setF _ _ ?_ (by decide +kernel) | refine LX.setS ?_ rfl | refine LX.setA ?_ (by first | assumption | omega))) (by first | assumption | omega)) ?_
    rw [tn, show anar 3 0 = 0 from rfl, w_succ (by omega)]
    refine Ends.b3 (fun z => by omega) (fun _ => Ends.g ⟨by omega, by omega⟩ ?_)
    refine ihi _ _ ⟨rfl, (by (repeat' first | assumption | refine LX.setF _ _ ?_ (by decide +kernel) | refine LX.setS ?_ rfl | refine LX.setA ?_ (by assumption))), by omega, ?_, ?_⟩
    · exact gq.set rfl
    · intro k hk
      by_cases e : k = i
      · subst e; exact hv_set_at ..
      · rw [hv_set_ne (by omega)]; exact i1 k (by omega)
  · rintro i _ q hi ⟨rfl, lq, hiN, gq, i1⟩
    obtain rfl : i = 40 := by omega
    refine Ends.eq (b645_2 (n := n) (by (repeat' first | assumption | refine LX.setF _ _ ?_ (by decide +kernel) | refine LX.setS ?_ rfl | refine LX.setA ?_ (by first | assumption | omega))) (by first | assumption | omega)) ?_
    exact Ends.b3 (fun _ => Ends.sm ⟨_, rfl, gq, i1⟩) (fun z => absurd z (by decide))
  · exact Agr.rf
  · exact fun k hk => absurd hk (by omega)
theorem v549_is {k : Nat} (hk : k < 101) : v549 (k : Int) = (k : Int) := by
  unfold v549
  rw [show bop32 96 (k : Int) 101 = ((k + 101 : Nat) : Int) from addNN (y := 101) (by omega), show bop32 112 ((k + 101 : Nat) : Int) 101 = (((k + 101) % 101 : Nat) : Int) from modNN (y := 101) (by decide) (by decide)]
  congr 1
  omega
end RING
