/-! L3: the model's positions; free places -/
section MPOS
variable {gv : Nat → Int} {B n d r : Nat} {h : AH} {S D : Nat → Bool} {pa cap many : Nat}
/-- the model's positions: where, how many fit, how many there are -/
def PosM (B : Nat) (h : AH) (pa cap many : Nat) : Prop := hv h (B + 149) 159 = rf pa ∧ hk h pa = (2, cap) ∧ (pa = B + 231 ∨ B + 246 ≤ pa) ∧ pa < hnx h ∧ hv h (B + 149) 160 = (many : Int) ∧ 3 * many ≤ cap ∧ 48 ≤ cap ∧ cap ≤ 51000
def psW (B pa : Nat) : Nat → Nat → Prop := fun c k => (c = B + 149 ∧ (k = 159 ∨ k = 160)) ∨ c = pa
/-- one position more -/
def PsP (B : Nat) (h h' : AH) (pa cap many : Nat) (x y z : Int) (pa' cap' : Nat) : Prop := PosM B h' pa' cap' (many + 1) ∧ (∀ k, k < 3 * many → hv h' pa' k = hv h pa k) ∧ hv h' pa' (3 * many) = x ∧ hv h' pa' (3 * many + 1) = y ∧ hv h' pa' (3 * many + 2) = z ∧ cap ≤ cap' ∧ Ext (psW B pa) (cap' - cap) (2 * cap' - 2 * cap) h h' ∧ (pa' = pa ∨ hnx h ≤ pa')
theorem c_position782 {x y z : Int} (l : LX B n h) (hd : 10 ≤ d) (p : PosM B h pa cap many) (hm : many ≤ 8480) : Vd (cll PP (ev PP (gsF gv) B) d 782 [(2, rf (B + 149)), (0, x), (0, y), (0, z)] h) (fun h' => ∃ pa' cap', PsP B h h' pa cap many x y z pa' cap') := by
  have hb0 := l.2.2
  obtain ⟨p1, p2, p3, p4, p5, p6, p7, p8⟩ := p
  refine Vd.inq (D := 9) hd (Nat.le_of_ble_eq_true rfl) rfl (fun d hd P K => ?_)
  have m3 : ∀ m : Nat, m ≤ 8480 → bop32 104 (3 : Int) (m : Int) = ((3 * m : Nat) : Int) := fun m hm => mulNN (x := 3) (by omega)
  have a1 : ∀ m j : Nat, m ≤ 8480 → j ≤ 3 → bop32 96 ((3 * m : Nat) : Int) (j : Int) = ((3 * m + j : Nat) : Int) := fun m j h1 h2 => addNN (by omega)
  -- the three are written
  have fin : ∀ (q : AH) (u4 u5 : AV) (pa' cap' : Nat), LX B n q → hv q (B + 149) 159 = rf pa' → hk q pa' = (2, cap') → (pa' = B + 231 ∨ B + 246 ≤ pa') → pa' < hnx q → hv q (B + 149) 160 = (many : Int) → 3 * many + 3 ≤ cap' → 48 ≤ cap' → cap' ≤ 51000 → (∀ k, k < 3 * many → hv q pa' k = hv h pa k) → cap ≤ cap' → Ext (psW B pa) (cap' - cap) (2 * cap' - 2 * cap) h q → (pa' = pa ∨ hnx h ≤ pa') → Ends (ev PP (gsF gv) B d 782 64 [(2, rf (B + 149)), (0, x), (0, y), (0, z), u4, u5] [] q) P := fun q u4 u5 pa' cap' lq h1 h2 h3 h4 h5 h6 h7 h8 h9 h10 h11 h12 => by
    have ne : pa' ≠ B + 149 := by omega
    have lw : ∀ {q' : AH} {k : Nat} {v : Int}, LX B n q' → hk q' pa' = (2, cap') → LX B n (hset q' pa' k v) := fun l' k' => lxA l' k'
    refine Ends.eq (b782_64 (n := n) (by (repeat' first | assumption | refine LX.setF _ _ ?_ (by decide +kernel) | refine LX.setS ?_ rfl | refine LX.setA ?_ (by first | assumption | omega))) (by first | assumption | omega)) ?_
    rw [h1, h5, m3 many hm, show bop32 96 ((3 * many : Nat) : Int) 1 = ((3 * many + 1 : Nat) : Int) from a1 many 1 hm (by decide), show bop32 96 ((3 * many : Nat) : Int) 2 = ((3 * many + 2 : Nat) : Int) from a1 many 2 hm (by decide), ad_rf, h2, tn, tn, tn, show bop32 96 (many : Int) 1 = ((many + 1 : Nat) : Int) from addNN (y := 1) (by omega)]
    rw [an0, an0, an0]
    refine Ends.g ⟨rf_pos _, rfl, by omega, by show ((3 * many : Nat) : Int) < ((cap' : Nat) : Int); omega, by omega⟩ (Ends.g ⟨rf_pos _, rfl, by omega, by show ((3 * many + 1 : Nat) : Int) < ((cap' : Nat) : Int); omega, by omega⟩ (Ends.g ⟨rf_pos _, rfl, by omega, by show ((3 * many + 2 : Nat) : Int) < ((cap' : Nat) : Int); omega, by omega⟩ ?_))
    have wa : ∀ a, a < hnx h → a = pa' → psW B pa a 0 := fun a ha e => Or.inr (by rcases h12 with w | w <;> omega)
    refine Ends.sm (K _ ⟨pa', cap', ⟨?_, h2, h3, h4, hv_set_at .., by omega, h7, h8⟩, fun k hk => ?_, ?_, ?_, ?_, h10, ?_, h12⟩)
    · rw [hv_set_ne (by omega), hv_na ne.symm, hv_na ne.symm, hv_na ne.symm]; exact h1
    · rw [hv_na ne, hv_set_ne (by omega), hv_set_ne (by omega), hv_set_ne (by omega)]; exact h9 k hk
    · rw [hv_na ne, hv_set_ne (by omega), hv_set_ne (by omega), hv_set_at]
    · rw [hv_na ne, hv_set_ne (by omega), hv_set_at]
    · rw [hv_na ne, hv_set_at]
    · exact (((h11.set (fun w => Or.inr (by rcases h12 with e | e <;> omega))).set (fun w => Or.inr (by rcases h12 with e | e <;> omega))).set (fun w => Or.inr (by rcases h12 with e | e <;> omega))).set (fun _ => Or.inl ⟨rfl, Or.inr rfl⟩)
  refine Ends.eq (b782_0 (n := n) (by (repeat' first | assumption | refine LX.setF _ _ ?_ (by decide +kernel) | refine LX.setS ?_ rfl | refine LX.setA ?_ (by first | assumption | omega))) (by first | assumption | omega)) ?_
  rw [p1, p5, m3 many hm, show bop32 96 ((3 * many : Nat) : Int) 3 = ((3 * many + 3 : Nat) : Int) from a1 many 3 hm (by decide), ad_rf, p2]
  refine Ends.g ⟨rf_pos _, by show 2 ≤ 2; decide⟩ ?_
  by_cases fit : 3 * many + 3 ≤ cap
  · refine Ends.b5 (fun _ => fin h _ _ pa cap l p1 p2 p3 p4 p5 fit p7 p8 (fun k _ => rfl) (Nat.le_refl _) Ext.rf (Or.inl rfl)) (fun w => absurd w (by show ¬ ((cap : Nat) : Int) < ((3 * many + 3 : Nat) : Int); omega))
  refine Ends.b5 (fun w => absurd w (by show ¬ ((3 * many + 3 : Nat) : Int) ≤ ((cap : Nat) : Int); omega)) (fun _ => ?_)
  rw [show bop32 104 (2 : Int) (((2, cap) : Nat × Nat).2 : Int) = ((2 * cap : Nat) : Int) from mulNN (x := 2) (by show 2 * cap < 2147483648; omega), tn]
  refine Ends.g ⟨by omega, by omega⟩ ?_
  have l1 : LX B n (hnew h (0 + 2, 2 * cap) (2 * cap)) := l.new
  have E1 : Ext (psW B pa) 1 (2 * cap) h (hnew h (0 + 2, 2 * cap) (2 * cap)) := Ext.new
  have nn : hnx (hnew h (0 + 2, 2 * cap) (2 * cap)) = hnx h + 1 := rfl
  have pn : pa ≠ hnx h := by omega
  have kp : hk (hnew h (0 + 2, 2 * cap) (2 * cap)) pa = (2, cap) := by rw [hk_new, if_neg pn]; exact p2
  have kn : hk (hnew h (0 + 2, 2 * cap) (2 * cap)) (hnx h) = (2, 2 * cap) := by rw [hk_new, if_pos rfl]
  refine Ends.eq (b782_25 (n := n) (by (repeat' first | assumption | refine LX.setF _ _ ?_ (by decide +kernel) | refine LX.setS ?_ rfl | refine LX.setA ?_ (by first | assumption | omega))) (by first | assumption | omega)) ?_
  have cp : ∀ (c i : Nat) (q : AH), i + c = cap → LX B n q → Agr (fun c _ => c = hnx h) (hnew h (0 + 2, 2 * cap) (2 * cap)) q → (∀ k, k < i → hv q (hnx h) k = hv h pa k) → Ends (ev PP (gsF gv) B d 782 30 [(2, rf (B + 149)), (0, x), (0, y), (0, z), (2, rf (hnx h)), (0, (i : Int))] [] q) P := by
    intro c
    induction c with
    | zero =>
      intro i q hi lq gq lo
      obtain rfl : i = cap := by omega
      have q1 : hv q (B + 149) 159 = rf pa := by rw [gq.at _ _ (by omega), hv_new, if_neg (by omega)] ; exact p1
      refine Ends.eq (b782_30 (n := n) (by (repeat' first | assumption | refine LX.setF _ _ ?_ (by decide +kernel) | refine LX.setS ?_ rfl | refine LX.setA ?_ (by first | assumption | omega))) (by first | assumption | omega)) ?_
      rw [q1, ad_rf, show hk q pa = (2, i) from by rw [gq.hk]; exact kp]
      refine Ends.g ⟨rf_pos _, by show 2 ≤ 2; decide⟩ (Ends.b3 (fun _ => ?_) (fun w => absurd w (by show ¬ (i : Int) < ((i : Nat) : Int); omega)))
      have l2 : LX B n (hset q (B + 149) 159 (rf (hnx h))) := LX.setF 149 159 lq (by decide +kernel)
      refine fin _ _ _ (hnx h) (2 * i) l2 (hv_set_at ..) ?_ (Or.inr (by omega)) ?_ ?_ (by omega) (by omega) (by omega) (fun k hk => ?_) (by omega) ?_ (Or.inr (Nat.le_refl _))
      · show hk q (hnx h) = _
        rw [gq.hk]; exact kn
      · show hnx h < hnx q
        rw [gq.nx, nn]; omega
      · rw [hv_set_ne (by omega), gq.at _ _ (by omega), hv_new, if_neg (by omega)] ; exact p5
      · rw [hv_na (by omega)]; exact lo k (by omega)
      · have E2 := (E1.tr (c' := 0) (s' := 0) gq.ext (fun c k hc w => absurd w (by omega))).set (a := B + 149) (k := 159) (v := rf (hnx h)) (fun _ => Or.inl ⟨rfl, Or.inl rfl⟩)
        exact E2.sub (fun c k _ w => w) (by omega) (by omega)
    | succ c ih =>
      intro i q hi lq gq lo
      have q1 : hv q (B + 149) 159 = rf pa := by rw [gq.at _ _ (by omega), hv_new, if_neg (by omega)] ; exact p1
      refine Ends.eq (b782_30 (n := n) (by (repeat' first | assumption | refine LX.setF _ _ ?_ (by decide +kernel) | refine LX.setS ?_ rfl | refine LX.setA ?_ (by first | assumption | omega))) (by first | assumption | omega)) ?_
      rw [q1, ad_rf, ad_rf, show hk q pa = (2, cap) from by rw [gq.hk]; exact kp, show hk q (hnx h) = (2, 2 * cap) from by rw [gq.hk]; exact kn, tn, an0, w_succ (by omega), gq.at pa _ pn, hv_new, if_neg pn]
      refine Ends.g ⟨rf_pos _, by show 2 ≤ 2; decide⟩ (Ends.b3 (fun w => absurd w (by show ¬ ((cap : Nat) : Int) ≤ (i : Int); omega)) (fun _ => Ends.g ⟨rf_pos _, rfl, by omega, by show (i : Int) < ((cap : Nat) : Int); omega⟩ (Ends.g ⟨rf_pos _, rfl, by omega, by show (i : Int) < ((2 * cap : Nat) : Int); omega, by omega⟩ ?_)))
      refine ih (i + 1) _ (by omega) (lxA lq (by rw [gq.hk]; exact kn)) (gq.set rfl) (fun k hk => ?_)
      by_cases w : k = i
      · rw [w]; exact hv_set_at ..
      · rw [hv_set_ne (by omega)]; exact lo k (by omega)
  exact cp cap 0 _ (by omega) l1 Agr.rf (fun k hk => absurd hk (by omega))
/-- the shadow and the quarters that it comes to -/
def ShQ (B n : Nat) (h : AH) (Q : Nat → Nat → Nat → Bool) : Prop := ∃ D S z0, ShM B n h D ∧ (∀ k, k < 24 * n * n → (D k = true ↔ shT z0 n S k)) ∧ ∀ q y x, q < 4 → y < n → x < n → (Q q y x = true ↔ ShP n S z0 q y x)
theorem ShQ.agr {Q : Nat → Nat → Nat → Bool} {W : Nat → Nat → Prop} {q : AH} (s : ShQ B n h Q) (g : Agr W h q) (hW : ∀ k, ¬ W (B + 241) k) : ShQ B n q Q := by
  obtain ⟨D, S, z0, s1, s2⟩ := s
  exact ⟨D, S, z0, fun k hk => by rw [g.at _ _ (hW k)]; exact s1 k hk, s2⟩
theorem ShQ.ext {Q : Nat → Nat → Nat → Bool} {W : Nat → Nat → Prop} {q : AH} {c s0 : Nat} (s : ShQ B n h Q) (hb : B + 246 ≤ hnx h) (g : Ext W c s0 h q) (hW : ∀ k, ¬ W (B + 241) k) : ShQ B n q Q := by
  obtain ⟨D, S, z0, s1, s2⟩ := s
  exact ⟨D, S, z0, fun k hk => by rw [g.at _ (by omega) (hW k)]; exact s1 k hk, s2⟩
theorem c_blk659 {X Y far : Nat} {Q : Nat → Nat → Nat → Bool} (l : LX B n h) (hd : 10 ≤ d) (hn : n ≤ 52) (hr : r ≤ 8) (m : TbM B h) (sh : ShQ B n h Q) (hX : X + far ≤ n) (hY : Y ≤ n) :
    Vt 0 (cll PP (ev PP (gsF gv) B) d 659 [(2, rf (B + 149)), (0, (X : Int)), (0, ((X + far : Nat) : Int)), (0, (Y : Int)), (0, (r : Int)), (2, 0)] h) (fun v h' => Agr (fun c _ => c = B + 241) h h' ∧ ShQ B n h' Q ∧ ((v = 1 ∧ blk n r Q X Y far) ∨ (v = 0 ∧ ¬ blk n r Q X Y far))) := by
  obtain ⟨D, S, z0, s1, s2, s3⟩ := sh
  have c := c_goesOver659 (gv := gv) (mk := false) (x := X) (to := X + far) (y := Y) l hd hn hr m s1 (by omega) hX hY
  simp only [Bool.false_eq_true, if_false] at c
  obtain ⟨v, h', e, g, sh', _, r2⟩ := c
  have bc := blk_cols (r := r) (X := X) (Y := Y) (far := far) s3 s2
  refine ⟨v, h', e, g, ⟨D, S, z0, sh'.congr (fun k hk => by simp), s2, s3⟩, ?_⟩
  rcases r2 trivial with ⟨a, b⟩ | ⟨a, b⟩
  · exact Or.inl ⟨a, bc.mp b⟩
  · exact Or.inr ⟨a, fun w => b (bc.mpr w)⟩
theorem c_isFree691 {X Y : Nat} {up : Bool} {Q : Nat → Nat → Nat → Bool} (l : LX B n h) (hd : 12 ≤ d) (hn : n ≤ 52) (hr : r ≤ 8) (e161 : hv h (B + 149) 161 = (r : Int)) (m : TbM B h) (sh : ShQ B n h Q) (hX : X + 1 ≤ n) (hY : Y ≤ n) :
    Vt 0 (cll PP (ev PP (gsF gv) B) d 691 [(2, rf (B + 149)), (0, (if up = true then (X : Int) else ((X + 1 : Nat) : Int))), (0, (if up = true then ((X + 1 : Nat) : Int) else (X : Int))), (0, (Y : Int))] h) (fun v h' => Agr (fun c _ => c = B + 241) h h' ∧ ShQ B n h' Q ∧ ((v = 0 ∧ blk n r Q X Y 1) ∨ (v = 1 ∧ ¬ blk n r Q X Y 1))) := by
  refine Vt.inq (D := 11) hd (Nat.le_of_ble_eq_true rfl) rfl (fun d hd P K => ?_)
  refine Ends.eq (b691_0 (n := n) (by (repeat' first | assumption | refine LX.setF _ _ ?_ (by decide +kernel) | refine LX.setS ?_ rfl | refine LX.setA ?_ (by first | assumption | omega))) (by first | assumption | omega)) ?_
  have c1 : cond (tst 3 (if up = true then (X : Int) else ((X + 1 : Nat) : Int)) (if up = true then ((X + 1 : Nat) : Int) else (X : Int))) (if up = true then ((X + 1 : Nat) : Int) else (X : Int)) (if up = true then (X : Int) else ((X + 1 : Nat) : Int)) = (X : Int) := by
    rw [tst3]
    cases up
    · rw [if_neg Bool.false_ne_true, if_neg Bool.false_ne_true, decide_eq_false (by omega)]; rfl
    · rw [if_pos rfl, if_pos rfl, decide_eq_true (by omega)]; rfl
  have c2 : cond (tst 3 (if up = true then (X : Int) else ((X + 1 : Nat) : Int)) (if up = true then ((X + 1 : Nat) : Int) else (X : Int))) (if up = true then (X : Int) else ((X + 1 : Nat) : Int)) (if up = true then ((X + 1 : Nat) : Int) else (X : Int)) = ((X + 1 : Nat) : Int) := by
    rw [tst3]
    cases up
    · rw [if_neg Bool.false_ne_true, if_neg Bool.false_ne_true, decide_eq_false (by omega)]; rfl
    · rw [if_pos rfl, if_pos rfl, decide_eq_true (by omega)]; rfl
  rw [c1, c2, e161]
  refine Ends.ct l (by decide +kernel) (by decide) (c_blk659 (far := 1) l (by omega) hn hr m sh hX hY) (fun v h1 l1 _ _ _ ⟨g1, s1, vv⟩ => ?_)
  refine Ends.eq (b691_30 (n := n) (by (repeat' first | assumption | refine LX.setF _ _ ?_ (by decide +kernel) | refine LX.setS ?_ rfl | refine LX.setA ?_ (by first | assumption | omega))) (by first | assumption | omega)) ?_
  rcases vv with ⟨rfl, b⟩ | ⟨rfl, b⟩
  · exact Ends.sm (K _ _ ⟨g1, s1, Or.inl ⟨rfl, b⟩⟩)
  · exact Ends.sm (K _ _ ⟨g1, s1, Or.inr ⟨rfl, b⟩⟩)
end MPOS
