/-! L3: the model's clash and sweep -/
section MCL
variable {gv : Nat → Int} {B n d : Nat} {h : AH} {is : Nat → Bool} {S : Nat → Nat → Bool} {pl jn : Nat} {bd wy : Nat → Nat} {sh : Nat → Nat → Int} {lw hg : Nat → Nat → Nat} {M : Int} {ja jb jx : Nat → Nat} {js : Nat → Int}
def mclW (B : Nat) : Nat → Nat → Prop := fun c k => meW B c k ∨ (c = B + 149 ∧ k = 0)
theorem c_clash570 {k : Int} (l : LX B n h) (hd : 12 ≤ d) (hn : n ≤ 52) (m : TbM B h) (b : BdM B n h is S) (P : AsQ B h pl bd wy sh lw hg) (V : AsV n is M pl bd wy sh lw hg) (hM : M ≤ 1000000) (e120 : hv h (B + 149) 120 = (pl : Int)) (hk32 : -2147483648 ≤ k ∧ k < 2147483648) :
    Vt 0 (cll PP (ev PP (gsF gv) B) d 570 [(2, rf (B + 149)), (0, k)] h) (fun x h' => ClA (MtI n S bd wy sh) pl k x ∧ Agr (mclW B) h h' ∧ hv h' (B + 149) 0 = 0) := by
  have hp := V.1
  refine Vt.inq (D := 11) hd (Nat.le_of_ble_eq_true rfl) rfl (fun d hd Q K => ?_)
  have l0 : LX B n (hset h (B + 149) 0 0) := LX.setF 149 0 l (by decide +kernel)
  have G0 : Agr (mclW B) h (hset h (B + 149) 0 0) := Agr.rf.set (Or.inr ⟨rfl, rfl⟩)
  have t0 : hv (hset h (B + 149) 0 0) (B + 149) 0 = 0 := hv_set_at ..
  refine Ends.eq (b570_0 (n := n) (by (repeat' first | assumption | refine LX.setF _ _ ?_ (by decide +kernel) | refine LX.setS ?_ rfl | refine LX.setA ?_ (by first | assumption | omega))) (by first | assumption | omega)) ?_
  generalize hset h (B + 149) 0 0 = h0 at l0 G0 t0 ⊢
  have e0 : hv h0 (B + 149) 120 = (pl : Int) := by rw [G0.at _ _ (by unfold mclW meW; omega)]; exact e120
  have m0 : TbM B h0 := m.agr G0 (fun c k h1 h2 h3 z => by unfold mclW meW at z; omega)
  have b0 : BdM B n h0 is S := b.agr G0 (fun k => by unfold mclW meW; omega) (fun s k h1 h2 => by unfold mclW meW; omega)
  have P0 : AsQ B h0 pl bd wy sh lw hg := P.agr G0 (fun c k h1 h2 => by unfold mclW meW; omega)
  have fin : ∀ x q, Agr (meW B) h0 q → ClA (MtI n S bd wy sh) pl k x → Q ((0, (0, x)), q) := fun x q g c => K _ _ ⟨c, G0.tr g (fun c k z => Or.inl z), by rw [g.at _ _ (by unfold meW; omega)]; exact t0⟩
  have eq120 : ∀ q, Agr (meW B) h0 q → hv q (B + 149) 120 = (pl : Int) := fun q g => by rw [g.at _ _ (by unfold meW; omega)]; exact e0
  have out : ∀ q (x2 x3 : Int) (u4 : AV), LX B n q → Agr (meW B) h0 q → ClA (MtI n S bd wy sh) pl k (-1) → Ends (ev PP (gsF gv) B d 570 77 [(2, rf (B + 149)), (0, k), (0, x2), (0, x3), u4] [] q) Q := fun q x2 x3 u4 lq g c => by
    refine Ends.eq (b570_77 (n := n) (by (repeat' first | assumption | refine LX.setF _ _ ?_ (by decide +kernel) | refine LX.setS ?_ rfl | refine LX.setA ?_ (by first | assumption | omega))) (by first | assumption | omega)) ?_
    exact Ends.sm (fin _ _ g c)
  have rows : ∀ (r i : Nat) (q : AH) (u4 : AV), i + r = pl → LX B n q → Agr (meW B) h0 q → (0 ≤ k → ((clN (MtI n S bd wy sh) pl (12 * i) : Nat) : Int) ≤ k) → (k < 0 → i = 0) → Ends (ev PP (gsF gv) B d 570 9 [(2, rf (B + 149)), (0, k), (0, k - ((clN (MtI n S bd wy sh) pl (12 * i) : Nat) : Int)), (0, (i : Int)), u4] [] q) Q := by
    intro r
    induction r with
    | zero =>
      intro i q u4 hi lq gq hc hk0
      obtain rfl : i = pl := by omega
      refine Ends.eq (b570_9 (n := n) (by (repeat' first | assumption | refine LX.setF _ _ ?_ (by decide +kernel) | refine LX.setS ?_ rfl | refine LX.setA ?_ (by first | assumption | omega))) (by first | assumption | omega)) ?_
      rw [eq120 q gq]
      refine Ends.b3 (fun _ => out _ _ _ _ lq gq ?_) (fun z => by omega)
      by_cases k0 : k < 0
      · exact Or.inl ⟨k0, rfl⟩
      · exact Or.inr ⟨by omega, Or.inr ⟨rfl, hc (by omega)⟩⟩
    | succ r ih =>
      intro i q u4 hi lq gq hc hk0
      have hip : i < pl := by omega
      have cle := clN_le (Mt := MtI n S bd wy sh) (pl := pl) (p := 12 * i)
      refine Ends.eq (b570_9 (n := n) (by (repeat' first | assumption | refine LX.setF _ _ ?_ (by decide +kernel) | refine LX.setS ?_ rfl | refine LX.setA ?_ (by first | assumption | omega))) (by first | assumption | omega)) ?_
      rw [eq120 q gq]
      refine Ends.b3 (fun z => by omega) (fun _ => Ends.b2 (fun z => out _ _ _ _ lq gq (Or.inl ⟨?_, rfl⟩)) (fun k0' => ?_))
      · by_cases k0 : k < 0
        · exact k0
        · have := hc (by omega); omega
      have k0 : 0 ≤ k := by omega
      rw [show bop32 96 (i : Int) 1 = ((i + 1 : Nat) : Int) from addNN (y := 1) (by omega)]
      have cols : ∀ (r2 j : Nat) (q3 : AH), j + r2 = pl → i < j → LX B n q3 → Agr (meW B) h0 q3 → ((clN (MtI n S bd wy sh) pl (12 * i + j) : Nat) : Int) ≤ k → Ends (ev PP (gsF gv) B d 570 26 [(2, rf (B + 149)), (0, k), (0, k - ((clN (MtI n S bd wy sh) pl (12 * i + j) : Nat) : Int)), (0, (i : Int)), (0, (j : Int))] [] q3) Q := by
        intro r2
        induction r2 with
        | zero =>
          intro j q3 hj hij l3 g3 hc3
          obtain rfl : j = pl := by omega
          refine Ends.eq (b570_26 (n := n) (by (repeat' first | assumption | refine LX.setF _ _ ?_ (by decide +kernel) | refine LX.setS ?_ rfl | refine LX.setA ?_ (by first | assumption | omega))) (by first | assumption | omega)) ?_
          rw [eq120 q3 g3, w_succ (by omega)]
          refine Ends.b3 (fun _ => ?_) (fun z => by omega)
          rw [← clN_end hp] at hc3 ⊢
          exact ih (i + 1) q3 _ (by omega) l3 g3 (fun _ => hc3) (fun z => by omega)
        | succ r2 ihc =>
          intro j q3 hj hij l3 g3 hc3
          have hjp : j < pl := by omega
          refine Ends.eq (b570_26 (n := n) (by (repeat' first | assumption | refine LX.setF _ _ ?_ (by decide +kernel) | refine LX.setS ?_ rfl | refine LX.setA ?_ (by first | assumption | omega))) (by first | assumption | omega)) ?_
          rw [eq120 q3 g3]
          refine Ends.b3 (fun z => by omega) (fun _ => ?_)
          have me := c_meets748 (gv := gv) (d := d) (ax := 0) (y := 0) l3 (by omega) hn (m0.agr g3 (fun c k h1 h2 h3 z => by unfold meW at z; omega)) (b0.agr g3 (fun k => by unfold meW; omega) (fun s k h1 h2 => by unfold meW; omega)) (P0.agr g3 (fun c k h1 h2 => by unfold meW; omega)) V hM hip hjp (by omega)
          refine Ends.ct l3 (by decide +kernel) (by decide) me (fun v q5 l5 _ _ _ ⟨g5, evv⟩ => ?_)
          have gq5 := g3.tr g5 (fun c k z => z)
          have mi : MtS n (wy j) (wy i) (S (bd j)) (S (bd i)) (fun k => sh k i - sh k j + if k = 0 then 0 else 0) ↔ MtI n S bd wy sh i j := MtS.sym.trans (MtS.congr (fun _ _ => rfl) (fun _ _ => rfl) (fun k _ => by split <;> omega))
          rw [mi] at evv
          have ck := clK_at (Mt := MtI n S bd wy sh) (pl := pl) (i := i) (j := j) (by omega)
          have cs := clN_s (Mt := MtI n S bd wy sh) (pl := pl) (p := 12 * i + j)
          have cl1 := clN_le (Mt := MtI n S bd wy sh) (pl := pl) (p := 12 * i + j)
          have nx : ((clN (MtI n S bd wy sh) pl (12 * i + j + 1) : Nat) : Int) ≤ k → Ends (ev PP (gsF gv) B d 570 65 [(2, rf (B + 149)), (0, k), (0, k - ((clN (MtI n S bd wy sh) pl (12 * i + j + 1) : Nat) : Int)), (0, (i : Int)), (0, (j : Int))] [] q5) Q := fun hc5 => by
            refine Ends.eq (b570_65 (n := n) (by (repeat' first | assumption | refine LX.setF _ _ ?_ (by decide +kernel) | refine LX.setS ?_ rfl | refine LX.setA ?_ (by first | assumption | omega))) (by first | assumption | omega)) ?_
            rw [w_succ (by omega)]
            exact ihc (j + 1) q5 (by omega) (by omega) l5 gq5 hc5
          refine Ends.eq (b570_44 (n := n) (by (repeat' first | assumption | refine LX.setF _ _ ?_ (by decide +kernel) | refine LX.setS ?_ rfl | refine LX.setA ?_ (by first | assumption | omega))) (by first | assumption | omega)) ?_
          rcases evv with ⟨rfl, yes⟩ | ⟨rfl, no⟩
          · refine Ends.b1 (fun _ => ?_) (fun z => absurd z (by decide))
            rw [if_pos (ck.mpr ⟨hij, hjp, yes⟩)] at cs
            refine Ends.b1 (fun z => ?_) (fun z => ?_)
            · rw [show w32 (k - ((clN (MtI n S bd wy sh) pl (12 * i + j) : Nat) : Int) + (-1)) = k - ((clN (MtI n S bd wy sh) pl (12 * i + j + 1) : Nat) : Int) from by rw [inc32 (by omega) (by omega), cs]; omega]
              exact nx (by omega)
            · rw [show bop32 104 (100 : Int) (i : Int) = ((100 * i : Nat) : Int) from mulNN (x := 100) (by omega), addNN (by omega)]
              exact Ends.sm (fin _ _ gq5 (Or.inr ⟨k0, Or.inl ⟨i, j, hij, hjp, yes, by omega, rfl⟩⟩))
          · refine Ends.b1 (fun z => absurd rfl z) (fun _ => ?_)
            have cs2 : clN (MtI n S bd wy sh) pl (12 * i + j + 1) = clN (MtI n S bd wy sh) pl (12 * i + j) := by rw [cs, if_neg (fun z => no (ck.mp z).2.2)]; rfl
            rw [← cs2]
            exact nx (by omega)
      have := cols (pl - (i + 1)) (i + 1) q (by omega) (by omega) lq gq (by rw [clN_row (by omega)]; exact hc k0)
      rw [clN_row (by omega)] at this
      exact this
  have := rows pl 0 h0 (9, 0) (by omega) l0 Agr.rf (fun z => z) (fun _ => rfl)
  rw [show k - ((clN (MtI n S bd wy sh) pl (12 * 0) : Nat) : Int) = k from by show k - ((0 : Nat) : Int) = k; omega] at this
  exact this
/-- sweep: what its numbers must be -/
def swOK (a y t : Int) : Prop := (0 ≤ a ∧ a ≤ 2) ∧ (-8 ≤ y ∧ y ≤ 8) ∧ 0 ≤ t ∧ t ≤ 64
def msweW (B : Nat) : Nat → Nat → Prop := fun c k => meW B c k ∨ c = B + 219 ∨ (c = B + 149 ∧ k = 0)
theorem c_sweep842 {i a y t : Int} (l : LX B n h) (hd : 12 ≤ d) (hn : n ≤ 52) (m : TbM B h) (b : BdM B n h is S) (P : AsQ B h pl bd wy sh lw hg) (V : AsV n is M pl bd wy sh lw hg) (hM : M ≤ 1000000) (J : AsM B h pl jn ja jb jx js) :
    Vt 0 (cll PP (ev PP (gsF gv) B) d 842 [(2, rf (B + 149)), (0, i), (0, a), (0, y), (0, t)] h) (fun x h' => (isPl pl i = false ∧ MdA B h 1 x h') ∨ (isPl pl i = true ∧ ¬ swOK a y t ∧ MdA B h 2 x h') ∨ (isPl pl i = true ∧ swOK a y t ∧ SweA n S pl jn bd wy sh ja jb jx i.toNat a.toNat y t.toNat x ∧ Agr (msweW B) h h' ∧ hv h' (B + 149) 0 = 0)) := by
  have hp := V.1
  refine Vt.inq (D := 11) hd (Nat.le_of_ble_eq_true rfl) rfl (fun d hd Q K => ?_)
  refine Ends.eq (b842_0 (n := n) (by (repeat' first | assumption | refine LX.setF _ _ ?_ (by decide +kernel) | refine LX.setS ?_ rfl | refine LX.setA ?_ (by first | assumption | omega))) (by first | assumption | omega)) ?_
  rw [v762_p J.1]
  have bad : ∀ c : Nat, c ≠ 0 → Q ((0, (0, 0)), hset h (B + 149) 0 (c : Int)) → Ends (ev PP (gsF gv) B d 842 54 [(2, rf (B + 149)), (0, i), (0, a), (0, y), (0, t), (9, 0), (9, 0), (9, 0)] [(0, 1)] (hset h (B + 149) 0 (c : Int))) Q := fun c hc q => by
    have l2 : LX B n (hset h (B + 149) 0 (c : Int)) := LX.setF 149 0 l (by decide +kernel)
    refine Ends.eq (b842_54 (n := n) (by (repeat' first | assumption | refine LX.setF _ _ ?_ (by decide +kernel) | refine LX.setS ?_ rfl | refine LX.setA ?_ (by first | assumption | omega))) (by first | assumption | omega)) ?_
    exact Ends.b0 (fun z => absurd z (by decide)) (fun _ => Ends.sm q)
  cases hi : isPl pl i
  · exact Ends.mbad l (by omega) (c := 1) (by decide) rfl (bad 1 (by decide) (K _ _ (Or.inl ⟨hi, rfl, rfl⟩)))
  by_cases ok : swOK a y t
  rotate_left
  · refine Ends.mbad l (by omega) (c := 2) (by decide) ?_ (bad 2 (by decide) (K _ _ (Or.inr (Or.inl ⟨hi, ok, rfl, rfl⟩))))
    unfold swOK at ok
    by_cases h1 : a < 0
    · simp [tst0, tst1, tst2, tst3, tst4, tst5, h1]
    by_cases h2 : 2 < a
    · simp [tst0, tst1, tst2, tst3, tst4, tst5, h2]
    by_cases h3 : y < -8
    · simp [tst0, tst1, tst2, tst3, tst4, tst5, h3]
    by_cases h4 : 8 < y
    · simp [tst0, tst1, tst2, tst3, tst4, tst5, h4]
    by_cases h5 : t < 0
    · simp [tst0, tst1, tst2, tst3, tst4, tst5, h5]
    have h6 : 64 < t := by omega
    simp [tst0, tst1, tst2, tst3, tst4, tst5, h6]
  refine Ends.mok l (by omega) ?_ ?_
  · unfold swOK at ok
    have h1 : ¬ a < 0 := by omega
    have h2 : ¬ 2 < a := by omega
    have h3 : ¬ y < -8 := by omega
    have h4 : ¬ 8 < y := by omega
    have h5 : ¬ t < 0 := by omega
    have h6 : ¬ 64 < t := by omega
    simp [tst0, tst1, tst2, tst3, tst4, tst5, h1, h2, h3, h4, h5, h6]
  obtain ⟨i0, hi0, rfl⟩ := isPl_c hi
  obtain ⟨oa, oy, ot⟩ := ok
  obtain ⟨a0, rfl⟩ : ∃ c : Nat, a = (c : Int) := ⟨a.toNat, by omega⟩
  obtain ⟨t0, rfl⟩ : ∃ c : Nat, t = (c : Int) := ⟨t.toNat, by omega⟩
  have l0 : LX B n (hset h (B + 149) 0 0) := LX.setF 149 0 l (by decide +kernel)
  have G0 : Agr (msweW B) h (hset h (B + 149) 0 0) := Agr.rf.set (Or.inr (Or.inr ⟨rfl, rfl⟩))
  have z0 : hv (hset h (B + 149) 0 0) (B + 149) 0 = 0 := hv_set_at ..
  generalize hset h (B + 149) 0 0 = h0 at l0 G0 z0 ⊢
  have J0 : AsM B h0 pl jn ja jb jx js := J.agr G0 (by unfold msweW meW; omega) (by unfold msweW meW; omega) (fun c k h1 h2 => by unfold msweW meW; omega)
  refine Ends.eq (b842_54 (n := n) (by (repeat' first | assumption | refine LX.setF _ _ ?_ (by decide +kernel) | refine LX.setS ?_ rfl | refine LX.setA ?_ (by first | assumption | omega))) (by first | assumption | omega)) ?_
  refine Ends.b0 (fun _ => ?_) (fun z => absurd rfl z)
  refine Ends.ct l0 (by decide +kernel) (by decide) (c_going661 (a := a0) (i := i0) l0 (by omega) J0 hi0 (by omega)) (fun v h1 l1 _ _ _ ⟨g1, G, gg, evv, vg⟩ => ?_)
  have G1 : Agr (msweW B) h h1 := G0.tr g1 (fun c k z => Or.inr (Or.inl z))
  have z1 : hv h1 (B + 149) 0 = 0 := by rw [g1.at _ _ (by unfold moW; omega)]; exact z0
  have fin : ∀ x q, Agr (meW B) h1 q → SweA n S pl jn bd wy sh ja jb jx i0 a0 y t0 x → Q ((0, (0, x)), q) := fun x q g c => K _ _ (Or.inr (Or.inr ⟨hi, ⟨oa, oy, ot⟩, c, G1.tr g (fun c k z => Or.inl z), by rw [g.at _ _ (by unfold meW; omega)]; exact z1⟩))
  refine Ends.eq (b842_65 (n := n) (by (repeat' first | assumption | refine LX.setF _ _ ?_ (by decide +kernel) | refine LX.setS ?_ rfl | refine LX.setA ?_ (by first | assumption | omega))) (by first | assumption | omega)) ?_
  by_cases v0 : v = 0
  · have nG : ∀ x, x < pl → G x = false := cntN_zero pl (by omega)
    have ti : TCon jn ja jb (aC' jx none0 a0) i0 12 := Classical.byContradiction (fun z => by
      have := (gg i0 hi0).mpr ⟨z, TCon.rf⟩
      rw [nG i0 hi0] at this
      exact Bool.false_ne_true this)
    exact Ends.b1 (fun z => absurd v0 z) (fun _ => Ends.sm (fin _ _ Agr.rf (Or.inl ⟨ti, rfl⟩)))
  have vg := vg v0
  have nT : ¬ TCon jn ja jb (aC' jx none0 a0) i0 12 := fun z => by
    have : cntN G pl = 0 := cntN_none pl (fun x hx => by
      cases e : G x
      · rfl
      · exact absurd z ((gg x hx).mp e).1)
    omega
  have gT : ∀ x, x < pl → (G x = true ↔ TCon jn ja jb (aC' jx none0 a0) i0 x) := fun x hx => ⟨fun e => ((gg x hx).mp e).2, fun c => (gg x hx).mpr ⟨nT, c⟩⟩
  refine Ends.b1 (fun _ => ?_) (fun z => absurd z v0)
  have eq120 : ∀ q, Agr (meW B) h1 q → hv q (B + 149) 120 = (pl : Int) := fun q g => by rw [g.at _ _ (by unfold meW; omega), G1.at _ _ (by unfold msweW meW; omega)]; exact J.1
  have eq219 : ∀ q, Agr (meW B) h1 q → ∀ k, k < pl → hv q (B + 219) k = if G k = true then 1 else 0 := fun q g k hk => by rw [g.at _ _ (by unfold meW; omega)]; exact vg k hk
  have H : ∀ a b u, HiS n S bd wy sh (fun z => TCon jn ja jb (aC' jx none0 a0) i0 z) a0 y a b u ↔ (¬ TCon jn ja jb (aC' jx none0 a0) i0 a ∧ TCon jn ja jb (aC' jx none0 a0) i0 b ∧ MtS n (wy a) (wy b) (S (bd a)) (S (bd b)) (fun k => sh k b - sh k a + if k = a0 then (u : Int) * y else 0)) := fun a b u => Iff.rfl
  have times : ∀ (r u : Nat) (q : AH) (u6 u7 : AV), u + r = t0 + 1 → LX B n q → Agr (meW B) h1 q → (∀ w a b, w < u → a < pl → b < pl → ¬ HiS n S bd wy sh (fun z => TCon jn ja jb (aC' jx none0 a0) i0 z) a0 y a b w) → Ends (ev PP (gsF gv) B d 842 74 [(2, rf (B + 149)), (0, (i0 : Int)), (0, (a0 : Int)), (0, y), (0, (t0 : Int)), (0, (u : Int)), u6, u7] [] q) Q := by
    intro r
    induction r with
    | zero =>
      intro u q u6 u7 hu lq gq no
      refine Ends.eq (b842_74 (n := n) (by (repeat' first | assumption | refine LX.setF _ _ ?_ (by decide +kernel) | refine LX.setS ?_ rfl | refine LX.setA ?_ (by first | assumption | omega))) (by first | assumption | omega)) ?_
      exact Ends.b4 (fun _ => Ends.sm (fin _ _ gq (Or.inr ⟨nT, Or.inr ⟨rfl, fun w a b h1 h2 h3 => no w a b (by omega) h2 h3⟩⟩))) (fun z => by omega)
    | succ r ih =>
      intro u q u6 u7 hu lq gq no
      have hut : u ≤ t0 := by omega
      refine Ends.eq (b842_74 (n := n) (by (repeat' first | assumption | refine LX.setF _ _ ?_ (by decide +kernel) | refine LX.setS ?_ rfl | refine LX.setA ?_ (by first | assumption | omega))) (by first | assumption | omega)) ?_
      refine Ends.b4 (fun z => by omega) (fun _ => ?_)
      have yb : -1000 ≤ (u : Int) * y ∧ (u : Int) * y ≤ 1000 := by
        have h1 : (u : Int) * y ≤ (u : Int) * 8 := Int.mul_le_mul_of_nonneg_left oy.2 (by omega)
        have h2 : (u : Int) * (-8) ≤ (u : Int) * y := Int.mul_le_mul_of_nonneg_left oy.1 (by omega)
        omega
      -- b goes (x6), a stays (x7)
      have gos : ∀ (r2 g : Nat) (q2 : AH) (u7 : AV), g + r2 = pl → LX B n q2 → Agr (meW B) h1 q2 → (∀ b a, b < g → a < pl → ¬ HiS n S bd wy sh (fun z => TCon jn ja jb (aC' jx none0 a0) i0 z) a0 y a b u) → Ends (ev PP (gsF gv) B d 842 84 [(2, rf (B + 149)), (0, (i0 : Int)), (0, (a0 : Int)), (0, y), (0, (t0 : Int)), (0, (u : Int)), (0, (g : Int)), u7] [] q2) Q := by
        intro r2
        induction r2 with
        | zero =>
          intro g q2 u7 hg l2 g2 no2
          obtain rfl : g = pl := by omega
          refine Ends.eq (b842_84 (n := n) (by (repeat' first | assumption | refine LX.setF _ _ ?_ (by decide +kernel) | refine LX.setS ?_ rfl | refine LX.setA ?_ (by first | assumption | omega))) (by first | assumption | omega)) ?_
          rw [eq120 q2 g2, w_succ (by omega)]
          refine Ends.b3 (fun _ => ih (u + 1) q2 _ _ (by omega) l2 g2 (fun w a b h1 h2 h3 => ?_)) (fun z => by omega)
          by_cases z : w = u
          · rw [z]; exact no2 b a h3 h2
          · exact no w a b (by omega) h2 h3
        | succ r2 ihg =>
          intro g q2 u7 hg l2 g2 no2
          have hgp : g < pl := by omega
          refine Ends.eq (b842_84 (n := n) (by (repeat' first | assumption | refine LX.setF _ _ ?_ (by decide +kernel) | refine LX.setS ?_ rfl | refine LX.setA ?_ (by first | assumption | omega))) (by first | assumption | omega)) ?_
          rw [eq120 q2 g2]
          refine Ends.b3 (fun z => by omega) (fun _ => ?_)
          have sts : ∀ (r3 s : Nat) (q3 : AH), s + r3 = pl → LX B n q3 → Agr (meW B) h1 q3 → (∀ a, a < s → ¬ HiS n S bd wy sh (fun z => TCon jn ja jb (aC' jx none0 a0) i0 z) a0 y a g u) → Ends (ev PP (gsF gv) B d 842 96 [(2, rf (B + 149)), (0, (i0 : Int)), (0, (a0 : Int)), (0, y), (0, (t0 : Int)), (0, (u : Int)), (0, (g : Int)), (0, (s : Int))] [] q3) Q := by
            intro r3
            induction r3 with
            | zero =>
              intro s q3 hs l3 g3 no3
              obtain rfl : s = pl := by omega
              refine Ends.eq (b842_96 (n := n) (by (repeat' first | assumption | refine LX.setF _ _ ?_ (by decide +kernel) | refine LX.setS ?_ rfl | refine LX.setA ?_ (by first | assumption | omega))) (by first | assumption | omega)) ?_
              rw [eq120 q3 g3, w_succ (by omega)]
              refine Ends.b3 (fun _ => ihg (g + 1) q3 _ (by omega) l3 g3 (fun b a h1 h2 => ?_)) (fun z => by omega)
              by_cases z : b = g
              · rw [z]; exact no3 a h2
              · exact no2 b a (by omega) h2
            | succ r3 ihs =>
              intro s q3 hs l3 g3 no3
              have hsp : s < pl := by omega
              have nx : ∀ q4, LX B n q4 → Agr (meW B) h1 q4 → ¬ HiS n S bd wy sh (fun z => TCon jn ja jb (aC' jx none0 a0) i0 z) a0 y s g u → Ends (ev PP (gsF gv) B d 842 144 [(2, rf (B + 149)), (0, (i0 : Int)), (0, (a0 : Int)), (0, y), (0, (t0 : Int)), (0, (u : Int)), (0, (g : Int)), (0, (s : Int))] [] q4) Q := fun q4 l4 g4 no4 => by
                refine Ends.eq (b842_144 (n := n) (by (repeat' first | assumption | refine LX.setF _ _ ?_ (by decide +kernel) | refine LX.setS ?_ rfl | refine LX.setA ?_ (by first | assumption | omega))) (by first | assumption | omega)) ?_
                rw [w_succ (by omega)]
                refine ihs (s + 1) q4 (by omega) l4 g4 (fun a ha => ?_)
                by_cases z : a = s
                · rw [z]; exact no4
                · exact no3 a (by omega)
              refine Ends.eq (b842_96 (n := n) (by (repeat' first | assumption | refine LX.setF _ _ ?_ (by decide +kernel) | refine LX.setS ?_ rfl | refine LX.setA ?_ (by first | assumption | omega))) (by first | assumption | omega)) ?_
              rw [eq120 q3 g3, tn, tn, eq219 q3 g3 g hgp, eq219 q3 g3 s hsp]
              refine Ends.b3 (fun z => by omega) (fun _ => Ends.g ⟨by omega, by omega⟩ ?_)
              cases hgg : G g
              · exact Ends.b0 (fun _ => nx q3 l3 g3 (fun z => by have := (gT g hgp).mpr z.2.1; rw [hgg] at this; exact Bool.false_ne_true this)) (fun z => absurd rfl z)
              refine Ends.b0 (fun z => absurd z (by decide)) (fun _ => Ends.g ⟨by omega, by omega⟩ ?_)
              cases hgs : G s
              rotate_left
              · exact Ends.b1 (fun _ => nx q3 l3 g3 (fun z => z.1 ((gT s hsp).mp hgs))) (fun z => absurd z (by decide))
              refine Ends.b1 (fun z => absurd rfl z) (fun _ => ?_)
              rw [mul32 (by omega) (by omega)]
              have GG := G1.tr g3 (fun c k z => Or.inl z)
              have me := c_meets748 (gv := gv) (d := d) (ax := a0) (y := (u : Int) * y) l3 (by omega) hn (m.agr GG (fun c k h1 h2 h3 z => by unfold msweW meW at z; omega)) (b.agr GG (fun k => by unfold msweW meW; omega) (fun s k h1 h2 => by unfold msweW meW; omega)) (P.agr GG (fun c k h1 h2 => by unfold msweW meW; omega)) V hM hgp hsp yb
              refine Ends.ct l3 (by decide +kernel) (by decide) me (fun v q5 l5 _ _ _ ⟨g5, evv⟩ => ?_)
              have gq5 := g3.tr g5 (fun c k z => z)
              refine Ends.eq (b842_138 (n := n) (by (repeat' first | assumption | refine LX.setF _ _ ?_ (by decide +kernel) | refine LX.setS ?_ rfl | refine LX.setA ?_ (by first | assumption | omega))) (by first | assumption | omega)) ?_
              rcases evv with ⟨rfl, yes⟩ | ⟨rfl, nom⟩
              · refine Ends.b0 (fun z => absurd z (by decide)) (fun _ => Ends.sm (fin _ _ gq5 (Or.inr ⟨nT, Or.inl ⟨u, hut, rfl, ⟨s, g, hsp, hgp, ?_, (gT g hgp).mp hgg, yes⟩, no⟩⟩)))
                intro z
                have := (gT s hsp).mpr z
                rw [hgs] at this
                exact Bool.false_ne_true this
              · exact Ends.b0 (fun _ => nx q5 l5 gq5 (fun z => nom z.2.2)) (fun z => absurd rfl z)
          exact sts pl 0 q2 (by omega) l2 g2 (fun a ha => absurd ha (by omega))
      exact gos pl 0 q _ (by omega) lq gq (fun b a hb => absurd hb (by omega))
  exact times (t0 + 1) 0 h1 _ _ (by omega) l1 Agr.rf (fun w a b hw => absurd hw (by omega))
end MCL
