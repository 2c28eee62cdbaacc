/-! L3: shapes united, asked in their box alone -/
noncomputable section SHAPB
variable {gv : Nat → Int} {B n d a so mth cl : Nat} {h : AH} {S C : Nat → Bool} {x0 y0 z0 x1 y1 z1 : Int} {P : Int → Int → Int → Bool}
theorem c_unite365b (l : LX B n h) (hd : 13 ≤ d) (hn0 : 0 < n) (hn : n ≤ 52) (m : TbC B h) (kso : hk h so = (1, cl)) (hp : pVt PP 475 cl = mth) (hm : mth ≠ 0) (sa : SG n h a S) (ha : B + 246 ≤ a) (bx : -1000 ≤ x0 ∧ x0 ≤ 1000) (by_ : -1000 ≤ y0 ∧ y0 ≤ 1000) (bz : -1000 ≤ z0 ∧ z0 ≤ 1000)
    (HS : ∀ q d, 10 ≤ d → LX B n q → Agr (fun c _ => c = a) h q → ∀ x y z : Nat, x < 8 * n → y < 8 * n → z < 8 * n → ((8 * x0 < (x : Int) ∧ (x : Int) < 8 * x1) ∧ (8 * y0 < (y : Int) ∧ (y : Int) < 8 * y1) ∧ 8 * z0 < (z : Int) ∧ (z : Int) < 8 * z1) → cll PP (ev PP (gsF gv) B) d mth [(2, rf so), (0, (x : Int)), (0, (y : Int)), (0, (z : Int))] q = some ((0, (0, if P x y z = true then 1 else 0)), q)) :
    Vd (cll PP (ev PP (gsF gv) B) d 365 [(2, rf so), (2, rf (B + 51)), (2, rf a), (0, x0), (0, y0), (0, z0), (0, x1), (0, y1), (0, z1)] h) (fun h' => Agr (fun c _ => c = a) h h' ∧ SG n h' a (fun g => S g || (bxG n x0 y0 z0 x1 y1 z1 g && P (g8 n g 0 : Nat) (g8 n g 1 : Nat) (g8 n g 2 : Nat)))) := by
  refine Vd.inq (D := 12) hd (Nat.le_of_ble_eq_true rfl) rfl (fun d hd Q K => ?_)
  obtain ⟨C, eC⟩ : ∃ C : Nat → Bool, C = fun g => bxG n x0 y0 z0 x1 y1 z1 g && P (g8 n g 0 : Nat) (g8 n g 1 : Nat) (g8 n g 2 : Nat) := ⟨_, rfl⟩
  have Cb : ∀ g, C g = true → ((x0 ≤ ((gX n g : Nat) : Int) ∧ ((gX n g : Nat) : Int) < x1) ∧ y0 ≤ ((gY n g : Nat) : Int) ∧ ((gY n g : Nat) : Int) < y1) ∧ z0 ≤ ((gZ n g : Nat) : Int) ∧ ((gZ n g : Nat) : Int) < z1 := fun g w => by rw [eC] at w; exact bx_of w
  have c8 : ∀ x r : Nat, x < 52 → r < 8 → bop32 96 (bop32 104 (8 : Int) (x : Int)) ((r : Nat) : Int) = ((8 * x + r : Nat) : Int) := fun x r h1 h2 => by rw [show bop32 104 (8 : Int) (x : Int) = ((8 * x : Nat) : Int) from mulNN (x := 8) (by omega)]; exact addNN (by omega)
  -- along x
  have xl : ∀ (t z y : Nat), t < 24 → z < n → y < n → ((z0 ≤ (z : Int) ∧ (z : Int) < z1) ∧ y0 ≤ (y : Int) ∧ (y : Int) < y1) → (∀ (q : AH) (x : Nat), LX B n q → Agr (fun c _ => c = a) h q → shI n a S C q t z (y + 1) 0 → Ends (ev PP (gsF gv) B d 365 47 [(2, rf so), (2, rf (B + 51)), (2, rf a), (0, x0), (0, y0), (0, z0), (0, x1), (0, y1), (0, z1), (2, rf (B + 36)), (0, (t : Int)), (0, (z : Int)), (0, ((y + 1 : Nat) : Int)), (0, (x : Int))] [] q) Q) → ∀ (c x : Nat) (q : AH), x + c = n + 1300 → x0.toNat ≤ x → LX B n q → Agr (fun c _ => c = a) h q → shI n a S C q t z y x → Ends (ev PP (gsF gv) B d 365 69 [(2, rf so), (2, rf (B + 51)), (2, rf a), (0, x0), (0, y0), (0, z0), (0, x1), (0, y1), (0, z1), (2, rf (B + 36)), (0, (t : Int)), (0, (z : Int)), (0, (y : Int)), (0, (x : Int))] [] q) Q := by
    intro t z y ht hz hy hb go c
    have out : ∀ (x : Nat) (q : AH), LX B n q → Agr (fun c _ => c = a) h q → shI n a S C q t z y x → ((n : Int) ≤ x ∨ x1 ≤ (x : Int)) → Ends (ev PP (gsF gv) B d 365 47 [(2, rf so), (2, rf (B + 51)), (2, rf a), (0, x0), (0, y0), (0, z0), (0, x1), (0, y1), (0, z1), (2, rf (B + 36)), (0, (t : Int)), (0, (z : Int)), (0, w32 ((y : Int) + 1)), (0, (x : Int))] [] q) Q := fun x q lq gq iq hx => by
      rw [w_succ (by omega)]
      refine go q x lq gq (iq.to hn0 (fun g hg w => ?_))
      have := Cb g w
      have := (g_lt hg).2.1
      unfold ahG
      rw [decide_eq_decide]
      omega
    induction c with
    | zero =>
      intro x q hx h0 lq gq iq
      refine Ends.eq (b365_69 lq (by omega)) ?_
      rw [minI]
      exact Ends.b3 (fun _ => out x q lq gq iq (Or.inl (by omega))) (fun w => by split at w <;> omega)
    | succ c ih =>
      intro x q hx h0 lq gq iq
      refine Ends.eq (b365_69 lq (by omega)) ?_
      rw [minI]
      refine Ends.b3 (fun w => out x q lq gq iq (by split at w <;> omega)) (fun w => ?_)
      have hxn : x < n ∧ (x : Int) < x1 := by split at w <;> omega
      have m1 := (m.1 t ht).1
      have m2 : ∀ k, k < 3 → hv q (B + 37) (3 * t + k) = (rT t k : Nat) := fun k hk => by rw [gq.at _ _ (show ¬ B + 37 = a by omega)]; exact m1 k hk
      have r0 : rT t 0 < 8 := (rT_lt ⟨t, ht⟩ ⟨0, by decide⟩).2
      have r1 : rT t 1 < 8 := (rT_lt ⟨t, ht⟩ ⟨1, by decide⟩).2
      have r2 : rT t 2 < 8 := (rT_lt ⟨t, ht⟩ ⟨2, by decide⟩).2
      have r0m := (rT_lt ⟨t, ht⟩ ⟨0, by decide⟩).1
      have r1m := (rT_lt ⟨t, ht⟩ ⟨1, by decide⟩).1
      have r2m := (rT_lt ⟨t, ht⟩ ⟨2, by decide⟩).1
      simp only at r0m r1m r2m
      have t31 : bop32 96 (bop32 104 (3 : Int) (t : Int)) 1 = ((3 * t + 1 : Nat) : Int) := by rw [show bop32 104 (3 : Int) (t : Int) = ((3 * t : Nat) : Int) from mulNN (x := 3) (by omega)]; exact addNN (y := 1) (by omega)
      have t32 : bop32 96 (bop32 104 (3 : Int) (t : Int)) 2 = ((3 * t + 2 : Nat) : Int) := by rw [show bop32 104 (3 : Int) (t : Int) = ((3 * t : Nat) : Int) from mulNN (x := 3) (by omega)]; exact addNN (y := 2) (by omega)
      have t30 : bop32 104 (3 : Int) (t : Int) = ((3 * t + 0 : Nat) : Int) := mulNN (x := 3) (by omega)
      have kq : hk q so = (1, cl) := by rw [gq.hk]; exact kso
      rw [t31, t32, t30, tn, tn, tn, m2 0 (by decide), m2 1 (by decide), m2 2 (by decide), c8 x _ (by omega) r0, c8 y _ (by omega) r1, c8 z _ (by omega) r2, ad_rf, kq]
      show Ends (gdC _ (gdC _ (gdC _ (gdC (_ ∧ _ ∧ pVt PP 475 cl ≠ 0) (aft PP 365 137 140 _ _ _ (cll PP (ev PP (gsF gv) B) d (pVt PP 475 cl) _ q)))))) Q
      rw [hp]
      refine Ends.g ⟨by omega, by omega⟩ (Ends.g ⟨by omega, by omega⟩ (Ends.g ⟨by omega, by omega⟩ (Ends.g ⟨rf_pos so, rfl, hm⟩ ?_)))
      rw [aft_ret (HS q d (by omega) lq gq (8 * x + rT t 0) (8 * y + rT t 1) (8 * z + rT t 2) (by omega) (by omega) (by omega) (by omega)) (show ¬ (0 : Nat) = 9 by decide)]
      obtain ⟨a1, a2, a3⟩ := g8_I (z := z) hxn.1 hy ht
      have eP : C (gI n x y z t) = P ((8 * x + rT t 0 : Nat) : Int) ((8 * y + rT t 1 : Nat) : Int) ((8 * z + rT t 2 : Nat) : Int) := by
        rw [eC]
        show (bxG n x0 y0 z0 x1 y1 z1 (gI n x y z t) && P (g8 n (gI n x y z t) 0 : Nat) (g8 n (gI n x y z t) 1 : Nat) (g8 n (gI n x y z t) 2 : Nat)) = _
        rw [a1, a2, a3]
        unfold bxG
        rw [gX_I hxn.1 ht, gY_I hxn.1 hy ht, gZ_I hxn.1 hy ht, decide_eq_true (by omega), Bool.true_and]
      have go2 : ∀ q' : AH, LX B n q' → Agr (fun c _ => c = a) h q' → shI n a S C q' t z y (x + 1) → Ends (ev PP (gsF gv) B d 365 156 [(2, rf so), (2, rf (B + 51)), (2, rf a), (0, x0), (0, y0), (0, z0), (0, x1), (0, y1), (0, z1), (2, rf (B + 36)), (0, (t : Int)), (0, (z : Int)), (0, (y : Int)), (0, (x : Int))] [] q') Q := fun q' l' g' i' => by
        refine Ends.eq (b365_156 l' (by omega)) ?_
        rw [w_succ (by omega)]
        exact ih (x + 1) q' (by omega) (by omega) l' g' i'
      rw [← eP]
      refine Ends.eq (b365_140 lq (by omega)) (Ends.b0 (fun w => ?_) (fun w => ?_))
      · have cf : C (gI n x y z t) = false := by
          cases e : C (gI n x y z t)
          · rfl
          · rw [e] at w; exact absurd w (by decide)
        refine go2 q lq gq (iq.to hn0 (fun g hg wg => ?_))
        rw [ah_next hg ht hxn.1 hy hz, decide_eq_false (fun e => by rw [e, cf] at wg; exact Bool.false_ne_true wg), Bool.or_false]
      · have ct : C (gI n x y z t) = true := by
          cases e : C (gI n x y z t)
          · rw [e] at w; exact absurd rfl w
          · rfl
        refine Ends.cv lq (by decide +kernel) (c_putG lq (by omega) hn0 hn iq (by omega) ht hxn.1 hy hz) (fun q2 l2 _ _ _ ⟨f2, s2⟩ => ?_)
        refine go2 q2 l2 (gq.tr f2.agr (fun c k w => w)) (s2.congr hn0 (fun g hg => ?_))
        show ((S g || (C g && ahG n t z y x g)) || decide (g = gI n x y z t)) = (S g || (C g && ahG n t z y (x + 1) g))
        rw [ah_next hg ht hxn.1 hy hz]
        by_cases e : g = gI n x y z t
        · rw [decide_eq_true e, e, ct]; simp
        · rw [decide_eq_false e, Bool.or_false, Bool.or_false]
  -- along y
  have yl : ∀ (t z : Nat), t < 24 → z < n → (z0 ≤ (z : Int) ∧ (z : Int) < z1) → (∀ (q : AH) (y : Nat) (u : AV), LX B n q → Agr (fun c _ => c = a) h q → shI n a S C q t (z + 1) 0 0 → Ends (ev PP (gsF gv) B d 365 24 [(2, rf so), (2, rf (B + 51)), (2, rf a), (0, x0), (0, y0), (0, z0), (0, x1), (0, y1), (0, z1), (2, rf (B + 36)), (0, (t : Int)), (0, ((z + 1 : Nat) : Int)), (0, (y : Int)), u] [] q) Q) → ∀ (c y : Nat) (q : AH) (u : AV), y + c = n + 1300 → y0.toNat ≤ y → LX B n q → Agr (fun c _ => c = a) h q → shI n a S C q t z y 0 → Ends (ev PP (gsF gv) B d 365 47 [(2, rf so), (2, rf (B + 51)), (2, rf a), (0, x0), (0, y0), (0, z0), (0, x1), (0, y1), (0, z1), (2, rf (B + 36)), (0, (t : Int)), (0, (z : Int)), (0, (y : Int)), u] [] q) Q := by
    intro t z ht hz hb go c
    have out : ∀ (y : Nat) (q : AH) (u : AV), LX B n q → Agr (fun c _ => c = a) h q → shI n a S C q t z y 0 → ((n : Int) ≤ y ∨ y1 ≤ (y : Int)) → Ends (ev PP (gsF gv) B d 365 24 [(2, rf so), (2, rf (B + 51)), (2, rf a), (0, x0), (0, y0), (0, z0), (0, x1), (0, y1), (0, z1), (2, rf (B + 36)), (0, (t : Int)), (0, w32 ((z : Int) + 1)), (0, (y : Int)), u] [] q) Q := fun y q u lq gq iq hy => by
      rw [w_succ (by omega)]
      refine go q y u lq gq (iq.to hn0 (fun g hg w => ?_))
      have := Cb g w
      have := (g_lt hg).2.2.1
      unfold ahG
      rw [decide_eq_decide]
      omega
    induction c with
    | zero =>
      intro y q u hx h0 lq gq iq
      refine Ends.eq (b365_47 lq (by omega)) ?_
      rw [minI]
      exact Ends.b3 (fun _ => out y q u lq gq iq (Or.inl (by omega))) (fun w => by split at w <;> omega)
    | succ c ih =>
      intro y q u hx h0 lq gq iq
      refine Ends.eq (b365_47 lq (by omega)) ?_
      rw [minI, max0J]
      refine Ends.b3 (fun w => out y q u lq gq iq (by split at w <;> omega)) (fun w => ?_)
      have hyn : y < n ∧ (y : Int) < y1 := by split at w <;> omega
      refine xl t z y ht hz hyn.1 (by omega) (fun q' x' l' g' i' => ih (y + 1) q' _ (by omega) (by omega) l' g' i') (n + 1300 - x0.toNat) x0.toNat q (by omega) (Nat.le_refl _) lq gq (iq.to hn0 (fun g hg w => ?_))
      have := Cb g w
      unfold ahG
      rw [decide_eq_decide]
      omega
  -- along z
  have zl : ∀ (t : Nat), t < 24 → (∀ (q : AH) (z : Nat) (u v : AV), LX B n q → Agr (fun c _ => c = a) h q → shI n a S C q (t + 1) 0 0 0 → Ends (ev PP (gsF gv) B d 365 9 [(2, rf so), (2, rf (B + 51)), (2, rf a), (0, x0), (0, y0), (0, z0), (0, x1), (0, y1), (0, z1), (2, rf (B + 36)), (0, ((t + 1 : Nat) : Int)), (0, (z : Int)), u, v] [] q) Q) → ∀ (c z : Nat) (q : AH) (u v : AV), z + c = n + 1300 → z0.toNat ≤ z → LX B n q → Agr (fun c _ => c = a) h q → shI n a S C q t z 0 0 → Ends (ev PP (gsF gv) B d 365 24 [(2, rf so), (2, rf (B + 51)), (2, rf a), (0, x0), (0, y0), (0, z0), (0, x1), (0, y1), (0, z1), (2, rf (B + 36)), (0, (t : Int)), (0, (z : Int)), u, v] [] q) Q := by
    intro t ht go c
    have out : ∀ (z : Nat) (q : AH) (u v : AV), LX B n q → Agr (fun c _ => c = a) h q → shI n a S C q t z 0 0 → ((n : Int) ≤ z ∨ z1 ≤ (z : Int)) → Ends (ev PP (gsF gv) B d 365 9 [(2, rf so), (2, rf (B + 51)), (2, rf a), (0, x0), (0, y0), (0, z0), (0, x1), (0, y1), (0, z1), (2, rf (B + 36)), (0, w32 ((t : Int) + 1)), (0, (z : Int)), u, v] [] q) Q := fun z q u v lq gq iq hz => by
      rw [w_succ (by omega)]
      refine go q z u v lq gq (iq.to hn0 (fun g hg w => ?_))
      have := Cb g w
      have := (g_lt hg).2.2.2.1
      unfold ahG
      rw [decide_eq_decide]
      omega
    induction c with
    | zero =>
      intro z q u v hx h0 lq gq iq
      refine Ends.eq (b365_24 lq (by omega)) ?_
      rw [minI]
      exact Ends.b3 (fun _ => out z q u v lq gq iq (Or.inl (by omega))) (fun w => by split at w <;> omega)
    | succ c ih =>
      intro z q u v hx h0 lq gq iq
      refine Ends.eq (b365_24 lq (by omega)) ?_
      rw [minI, max0J]
      refine Ends.b3 (fun w => out z q u v lq gq iq (by split at w <;> omega)) (fun w => ?_)
      have hzn : z < n ∧ (z : Int) < z1 := by split at w <;> omega
      refine yl t z ht hzn.1 (by omega) (fun q' y' u' l' g' i' => ih (z + 1) q' _ _ (by omega) (by omega) l' g' i') (n + 1300 - y0.toNat) y0.toNat q _ (by omega) (Nat.le_refl _) lq gq (iq.to hn0 (fun g hg w => ?_))
      have := Cb g w
      unfold ahG
      rw [decide_eq_decide]
      omega
  have tl : ∀ (c t : Nat) (q : AH) (u v w : AV), t + c = 24 → LX B n q → Agr (fun c _ => c = a) h q → shI n a S C q t 0 0 0 → Ends (ev PP (gsF gv) B d 365 9 [(2, rf so), (2, rf (B + 51)), (2, rf a), (0, x0), (0, y0), (0, z0), (0, x1), (0, y1), (0, z1), (2, rf (B + 36)), (0, (t : Int)), u, v, w] [] q) Q := by
    intro c
    induction c with
    | zero =>
      intro t q u v w ht lq gq iq
      obtain rfl : t = 24 := by omega
      refine Ends.eq (b365_9 lq (by omega)) (Ends.b3 (fun _ => Ends.sm (K _ ⟨gq, SG.congr hn0 iq (fun g hg => ?_)⟩)) (fun w => absurd w (by decide)))
      show (S g || (C g && ahG n 24 0 0 0 g)) = _
      rw [show ahG n 24 0 0 0 g = true from decide_eq_true (Or.inl ((g_lt hg).2.2.2.2)), Bool.and_true, eC]
    | succ c ih =>
      intro t q u v w ht lq gq iq
      refine Ends.eq (b365_9 lq (by omega)) (Ends.b3 (fun w => absurd w (by omega)) (fun _ => ?_))
      rw [max0J]
      refine zl t (by omega) (fun q' z' u' v' l' g' i' => ih (t + 1) q' _ _ _ (by omega) l' g' i') (n + 1300 - z0.toNat) z0.toNat q _ _ (by omega) (Nat.le_refl _) lq gq (iq.to hn0 (fun g hg w => ?_))
      have := Cb g w
      unfold ahG
      rw [decide_eq_decide]
      omega
  refine Ends.eq (b365_0 l (by omega)) ?_
  refine tl 24 0 h _ _ _ rfl l Agr.rf (SG.congr hn0 sa (fun g hg => ?_))
  show S g = (S g || (C g && ahG n 0 0 0 0 g))
  rw [show ahG n 0 0 0 0 g = false from decide_eq_false (by omega), Bool.and_false, Bool.or_false]
end SHAPB
noncomputable section WEDGB
variable {gv : Nat → Int} {B n d a so cl ax mth w : Nat} {h : AH} {S : Nat → Bool} {nb : Nat → Int} {P : Int → Int → Int → Bool} {l1 h1 l2 h2 lo hi : Int}
theorem c_between318b (l : LX B n h) (hd : 14 ≤ d) (hn0 : 0 < n) (hn : n ≤ 52) (m : TbC B h) (kso : hk h so = (1, cl)) (hp : pVt PP 475 cl = mth) (hm : mth ≠ 0) (hu : pVt PP 365 cl = 365) (sa : SG n h a S) (ha : B + 246 ≤ a) (hax : ax < 3) (bl : -1000 ≤ lo ∧ lo ≤ 1000)
    (HS : ∀ q d, 10 ≤ d → LX B n q → Agr (fun c _ => c = a) h q → ∀ x y z : Nat, x < 8 * n → y < 8 * n → z < 8 * n → (8 * lo < c3 (x : Int) (y : Int) (z : Int) ax ∧ c3 (x : Int) (y : Int) (z : Int) ax < 8 * hi) → cll PP (ev PP (gsF gv) B) d mth [(2, rf so), (0, (x : Int)), (0, (y : Int)), (0, (z : Int))] q = some ((0, (0, if P x y z = true then 1 else 0)), q)) :
    Vd (cll PP (ev PP (gsF gv) B) d 318 [(2, rf (B + 92)), (2, rf so), (2, rf a), (0, (ax : Int)), (0, lo), (0, hi)] h) (fun h' => Agr (fun c _ => c = a) h h' ∧ SG n h' a (fun g => S g || (btG n ax lo hi g && P (g8 n g 0 : Nat) (g8 n g 1 : Nat) (g8 n g 2 : Nat)))) := by
  refine Vd.inq (D := 13) hd (Nat.le_of_ble_eq_true rfl) rfl (fun d hd Q K => ?_)
  refine Ends.eq (b318_0 l (by omega)) ?_
  rw [ad_rf, kso, bw0, bw1, bw2, bw0, bw1, bw2]
  show Ends (gdC (_ ∧ _ ∧ pVt PP 365 cl ≠ 0) (aft PP 318 79 82 _ _ _ (cll PP _ d (pVt PP 365 cl) _ h))) Q
  rw [hu]
  refine Ends.g ⟨rf_pos so, rfl, by decide⟩ ?_
  refine Ends.cv l (by decide +kernel) (c_unite365b l (by omega) hn0 hn m kso hp hm sa ha (by split <;> omega) (by split <;> omega) (by split <;> omega) (fun q d h1 h2 h3 x y z h4 h5 h6 h7 => HS q d h1 h2 h3 x y z h4 h5 h6 (by
    obtain rfl | rfl | rfl : ax = 0 ∨ ax = 1 ∨ ax = 2 := by omega
    · exact h7.1
    · exact h7.2.1
    · exact h7.2.2))) (fun q lq _ _ _ ⟨gq, sq⟩ => ?_)
  refine Ends.eq (b318_82 lq (by omega)) ?_
  exact Ends.sm (K _ ⟨gq, SG.congr hn0 sq (fun g hg => by
    show (S g || _) = (S g || _)
    rw [bx_bt hg hax])⟩)
end WEDGB
