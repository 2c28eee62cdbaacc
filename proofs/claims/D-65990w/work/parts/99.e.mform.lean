/-! L3: the model's reader: a formula with its two ways -/
section MFORM
variable {gv : Nat → Int} {B n m : Nat} {u : Nat → Int} {fd : Nat → Int} {bk : Nat → Bool} {nv : Nat} {tl : Int} {DX : AH → Prop}
theorem mkN_at {B k : Nat} {s : AH} {op nn a b c : Int} (h : B + 246 ≤ hnx s) : hv (mkN s op nn a b c) (B + 149) k = hv s (B + 149) k := by
  unfold mkN
  rw [hv_na (by omega), hv_na (by omega), hv_na (by omega), hv_na (by omega), hv_na (by omega), hv_new, if_neg (by omega)]
theorem MgT.mkN {B p : Nat} {s : AH} {op nn a b c : Int} (R : MgT B s u m p) (h : B + 246 ≤ hnx s) : MgT B (mkN s op nn a b c) u m p := by
  obtain ⟨c1, c2, c3, c4, c5, c6⟩ := R
  exact ⟨by rw [mkN_at h]; exact c1, by rw [mkN_at h]; exact c2, by rw [mkN_at h]; exact c3, by rw [mkN_at h]; exact c4, by rw [mkN_at h]; exact c5, fun k2 => by rw [mkN_at h, mkN_at h]; exact c6 k2⟩
theorem stepMA (ok : MOk gv B n m u fd bk nv tl DX) {p : Nat} (hB : stB gv B n m u fd bk tl DX 0 p) (hA : ∀ q, p < q → q ≤ m → stA gv B n m u fd bk tl DX q) : stA gv B n m u fd bk tl DX p := by
  intro d dp h r hr l M S hd
  obtain ⟨S1, S2, S3, S4, S5⟩ := S
  unfold FD at hd
  have hm := M.2.2.2.2
  refine Vt.into (D := d - 1) (by omega) (Nat.le_of_ble_eq_true rfl) rfl (fun d' hd' => ?_)
  obtain ⟨r1, a1⟩ := RdR.tot1 (u := u) (m := m) (fd := fd) (bk := bk) (lst := 0) (dp := dp) (acc := accZ) S4 (Int.le_refl 0)
  refine Ends.eq (b792_0 (n := n) (by (repeat' first | assumption | refine LX.setF _ _ ?_ (by decide +kernel) | refine LX.setS ?_ rfl | refine LX.setA ?_ (by first | assumption | omega))) (by first | assumption | omega)) ?_
  refine Ends.ct l (by decide +kernel) (by decide) (hB d' dp h r1 a1 l M ⟨S1, S2, S3, S4, S5⟩ (by unfold FD; omega)) (fun x h1 l1 _ _ _ R1 => ?_)
  refine Ends.eq (b792_5 (n := n) (by (repeat' first | assumption | refine LX.setF _ _ ?_ (by decide +kernel) | refine LX.setS ?_ rfl | refine LX.setA ?_ (by first | assumption | omega))) (by first | assumption | omega)) ?_
  rcases R1 with ⟨D, N, p1, er, e1, t1, e12, e11, A1, lt1, le1⟩ | ⟨e, er, ex, e1, w1⟩
  case inr =>
    subst er ex
    refine Ends.b0 (fun _ => ?_) (fun z => absurd rfl z)
    refine Ends.eq (b792_19 (n := n) (by (repeat' first | assumption | refine LX.setF _ _ ?_ (by decide +kernel) | refine LX.setS ?_ rfl | refine LX.setA ?_ (by first | assumption | omega))) (by first | assumption | omega)) ?_
    exact Ends.sm ⟨_, _, rfl, Or.inr ⟨e, RdR.uni hr (R0e a1), rfl, e1, w1⟩⟩
  subst er
  have M1 := M.ext ok l e1
  have xp := A1.pos
  refine Ends.b0 (fun z => by omega) (fun _ => ?_)
  refine Ends.ct l1 (by decide +kernel) (by decide) (c_is1 l1 (by omega) M1.1 M1.2.1 t1 le1 52 63 (by decide) (by decide) (by decide)) (fun v q l2 _ _ _ ⟨eh, w⟩ => ?_)
  subst eh
  refine Ends.eq (b792_16 (n := n) (by (repeat' first | assumption | refine LX.setF _ _ ?_ (by decide +kernel) | refine LX.setS ?_ rfl | refine LX.setA ?_ (by first | assumption | omega))) (by first | assumption | omega)) ?_
  rcases w with ⟨w, rfl⟩ | ⟨w, rfl⟩
  case inr =>
    refine Ends.b1 (fun z => absurd rfl z) (fun _ => ?_)
    refine Ends.eq (b792_19 (n := n) (by (repeat' first | assumption | refine LX.setF _ _ ?_ (by decide +kernel) | refine LX.setS ?_ rfl | refine LX.setA ?_ (by first | assumption | omega))) (by first | assumption | omega)) ?_
    exact Ends.sm ⟨_, _, rfl, Or.inl ⟨D, N, p1, RdR.uni hr (R0n a1 w), e1, t1, e12, e11, A1, lt1, le1⟩⟩
  refine Ends.b1 (fun _ => ?_) (fun z => absurd z (by decide))
  obtain ⟨b1, b2⟩ := sg_lt (u := u) le1 w
  refine Ends.ct l1 (by decide +kernel) (by decide) (c_enterM l1 (by omega) M1.1 t1 le1 e12 S5 e11) (fun v q l2 _ _ _ ⟨h2, g2, t2, w2⟩ => ?_)
  have e2 := e1.mt (mg_mw g2)
  rcases w2 with ⟨dlt, ev, eq⟩ | ⟨deq, ev, eq⟩
  case inr =>
    subst ev eq
    refine Ends.eq (b792_25 (n := n) (by (repeat' first | assumption | refine LX.setF _ _ ?_ (by decide +kernel) | refine LX.setS ?_ rfl | refine LX.setA ?_ (by first | assumption | omega))) (by first | assumption | omega)) ?_
    refine Ends.b1 (fun z => absurd rfl z) (fun _ => ?_)
    exact Ends.sm ⟨_, _, rfl, Or.inr ⟨_, RdR.uni hr (R0d a1 w (by omega)), rfl, ((e2.ms (by decide) (by decide)).ms (by decide) (by decide)).ml (by omega) (by omega), hv_set_at ..⟩⟩
  subst ev eq
  refine Ends.eq (b792_25 (n := n) (by (repeat' first | assumption | refine LX.setF _ _ ?_ (by decide +kernel) | refine LX.setS ?_ rfl | refine LX.setA ?_ (by first | assumption | omega))) (by first | assumption | omega)) ?_
  refine Ends.b1 (fun _ => ?_) (fun z => absurd z (by decide))
  have e2' := e2.ms (k := 12) (v := ((dp + 1 : Nat) : Int)) (by decide) (by decide)
  have M2 := M.ext ok l e2'
  have l1' := l2
  obtain ⟨r2, a2⟩ := RdR.tot0 (u := u) (m := m) (fd := fd) (bk := bk) (dp := dp + 1) (acc := accZ) b2
  refine Ends.ct l2 (by decide +kernel) (by decide) (hA (tkT u m p1) (by omega) b2 d' (dp + 1) _ r2 a2 l2 M2 ⟨t2.f (by decide), hv_set_at .., by rw [hv_set_ne (by omega), g2.at _ _ (by unfold mgW; omega)]; exact e11, b2, by omega⟩ (by unfold FD; omega)) (fun y h3 l3 _ _ _ R2 => ?_)
  refine Ends.eq (b792_34 (n := n) (by (repeat' first | assumption | refine LX.setF _ _ ?_ (by decide +kernel) | refine LX.setS ?_ rfl | refine LX.setA ?_ (by first | assumption | omega))) (by first | assumption | omega)) ?_
  rcases R2 with ⟨Y, N2, p3, er2, e3, t3, e312, e311, A3, lt3, le3⟩ | ⟨e, er2, ey, e3, w3⟩
  case inr =>
    subst er2 ey
    refine Ends.b0 (fun _ => ?_) (fun z => absurd rfl z)
    exact Ends.sm ⟨_, _, rfl, Or.inr ⟨e, RdR.uni hr (R0y a1 w (by omega) a2), rfl, ((e2'.mt e3).ms (by decide) (by decide)).ml (by omega) (by omega), by rw [hv_set_ne (by omega)]; exact w3⟩⟩
  subst er2
  have yp := A3.pos
  refine Ends.b0 (fun z => by omega) (fun _ => ?_)
  rw [e312, b100_1' (by omega)]
  have l3' : LX B n (hset h3 (B + 149) 12 (dp : Int)) := (by (repeat' first | assumption | refine LX.setF _ _ ?_ (by decide +kernel) | refine LX.setS ?_ rfl | refine LX.setA ?_ (by assumption)))
  have e3' := (e2'.mt e3).ms (k := 12) (v := (dp : Int)) (by decide) (by decide)
  have M3 := M.ext ok l e3'
  have t3' : MgT B (hset h3 (B + 149) 12 (dp : Int)) u m p3 := t3.f (by decide)
  have A1_3 : AstI (hnx h) (p1 - p) (hset h3 (B + 149) 12 (dp : Int)) x D N := A1.mw l1 ((((mg_mw g2).ms (k := 12) (v := ((dp + 1 : Nat) : Int)) (by decide) (by decide)).mt e3).ms (by decide) (by decide)) (Nat.le_refl _)
  have A3' : AstI (hnx h) (p3 - tkT u m p1) (hset h3 (B + 149) 12 (dp : Int)) y Y N2 := (A3.lo e2'.2.2.1).mw l3 ((Ext.rf (W := MW B) (c := 0) (s := 0)).ms (by decide) (by decide)) (Nat.le_refl _)
  have w12' : hv (hset h3 (B + 149) 12 (dp : Int)) (B + 149) 12 = (dp : Int) := hv_set_at ..
  have w11' : hv (hset h3 (B + 149) 12 (dp : Int)) (B + 149) 11 = -1 := by rw [hv_set_ne (by omega)]; exact e311
  generalize hq3 : hset h3 (B + 149) 12 (dp : Int) = q3 at *
  refine Ends.ct l3' (by decide +kernel) (by decide) (c_is1 l3' (by omega) M3.1 M3.2.1 t3' le3 53 58 (by decide) (by decide) (by decide)) (fun v q l4 _ _ _ ⟨eh, w4⟩ => ?_)
  subst eh
  refine Ends.eq (b792_57 (n := n) (by (repeat' first | assumption | refine LX.setF _ _ ?_ (by decide +kernel) | refine LX.setS ?_ rfl | refine LX.setA ?_ (by first | assumption | omega))) (by first | assumption | omega)) ?_
  rcases w4 with ⟨w4, rfl⟩ | ⟨w4, rfl⟩
  case inr =>
    refine Ends.b1 (fun z => absurd rfl z) (fun _ => ?_)
    refine Ends.ct l3' (by decide +kernel) (by decide) (c_failM l3' (by omega) w11' t3'.2.1) (fun v h4 l4 _ _ _ ⟨ev, w5⟩ => ?_)
    subst ev
    refine Ends.eq (b792_64 (n := n) (by (repeat' first | assumption | refine LX.setF _ _ ?_ (by decide +kernel) | refine LX.setS ?_ rfl | refine LX.setA ?_ (by first | assumption | omega))) (by first | assumption | omega)) ?_
    rcases w5 with ⟨_, eh4⟩ | ⟨z, _⟩
    · subst eh4
      exact Ends.sm ⟨_, _, rfl, Or.inr ⟨_, RdR.uni hr (R0c a1 w (by omega) a2 w4), rfl, (e3'.ms (by decide) (by decide)).ml (by omega) (by omega), hv_set_at ..⟩⟩
    · omega
  refine Ends.b1 (fun _ => ?_) (fun z => absurd z (by decide))
  obtain ⟨c1, c2⟩ := sg_lt (u := u) le3 w4
  refine Ends.ct l3' (by decide +kernel) (by decide) (c_enterM l3' (by omega) M3.1 t3' le3 w12' S5 w11') (fun v q4 l4 _ _ _ ⟨h4, g4, t4, w5⟩ => ?_)
  rcases w5 with ⟨_, ev, eq⟩ | ⟨deq, ev, eq⟩
  case inr => omega
  subst ev eq
  refine Ends.eq (b792_69 (n := n) (by (repeat' first | assumption | refine LX.setF _ _ ?_ (by decide +kernel) | refine LX.setS ?_ rfl | refine LX.setA ?_ (by first | assumption | omega))) (by first | assumption | omega)) ?_
  refine Ends.b1 (fun _ => ?_) (fun z => absurd z (by decide))
  have x4 : Ext (MW B) 0 0 q (hset h4 (B + 149) 12 ((dp + 1 : Nat) : Int)) := (mg_mw g4).ms (by decide) (by decide)
  have e4 := e3'.mt x4
  have M4 := M.ext ok l e4
  obtain ⟨r3, a3⟩ := RdR.tot0 (u := u) (m := m) (fd := fd) (bk := bk) (dp := dp + 1) (acc := accZ) c2
  refine Ends.ct l4 (by decide +kernel) (by decide) (hA (tkT u m p3) (by omega) c2 d' (dp + 1) _ r3 a3 l4 M4 ⟨t4.f (by decide), hv_set_at .., by rw [hv_set_ne (by omega), g4.at _ _ (by unfold mgW; omega)]; exact w11', c2, by omega⟩ (by unfold FD; omega)) (fun z h5 l5 _ _ _ R3 => ?_)
  refine Ends.eq (b792_78 (n := n) (by (repeat' first | assumption | refine LX.setF _ _ ?_ (by decide +kernel) | refine LX.setS ?_ rfl | refine LX.setA ?_ (by first | assumption | omega))) (by first | assumption | omega)) ?_
  rcases R3 with ⟨Z, N3, p5, er3, e5, t5, e512, e511, A5, lt5, le5⟩ | ⟨e, er3, ez, e5, w6⟩
  case inr =>
    subst er3 ez
    refine Ends.b0 (fun _ => ?_) (fun z => absurd rfl z)
    have l6 : LX B n (hset h5 (B + 149) 12 (bop32 100 (hv h5 (B + 149) 12) 1)) := (by (repeat' first | assumption | refine LX.setF _ _ ?_ (by decide +kernel) | refine LX.setS ?_ rfl | refine LX.setA ?_ (by assumption)))
    refine Ends.eq (b792_105 (n := n) (by (repeat' first | assumption | refine LX.setF _ _ ?_ (by decide +kernel) | refine LX.setS ?_ rfl | refine LX.setA ?_ (by first | assumption | omega))) (by first | assumption | omega)) ?_
    exact Ends.sm ⟨_, _, rfl, Or.inr ⟨e, RdR.uni hr (R0z a1 w (by omega) a2 w4 a3), rfl, ((e4.mt e5).ms (by decide) (by decide)).ml (by omega) (by omega), by rw [hv_set_ne (by omega)]; exact w6⟩⟩
  subst er3
  have zp := A5.pos
  refine Ends.b0 (fun z => by omega) (fun _ => ?_)
  rw [e512, b100_1' (by omega)]
  have l6 : LX B n (hset h5 (B + 149) 12 (dp : Int)) := (by (repeat' first | assumption | refine LX.setF _ _ ?_ (by decide +kernel) | refine LX.setS ?_ rfl | refine LX.setA ?_ (by assumption)))
  have e6 := (e4.mt e5).ms (k := 12) (v := (dp : Int)) (by decide) (by decide)
  have t6 : MgT B (hset h5 (B + 149) 12 (dp : Int)) u m p5 := t5.f (by decide)
  have x6 : Ext (MW B) (p5 - tkT u m p3) (7 * (p5 - tkT u m p3)) q (hset h5 (B + 149) 12 (dp : Int)) := ((x4.mt e5).ms (by decide) (by decide)).ml (by omega) (by omega)
  have A1_6 := A1_3.mw l3' x6 (Nat.le_refl _)
  have A3_6 := A3'.mw l3' x6 (Nat.le_refl _)
  have A5_6 : AstI (hnx h) (p5 - tkT u m p3) (hset h5 (B + 149) 12 (dp : Int)) z Z N3 := (A5.lo e4.2.2.1).mw l5 ((Ext.rf (W := MW B) (c := 0) (s := 0)).ms (by decide) (by decide)) (Nat.le_refl _)
  have v12 : hv (hset h5 (B + 149) 12 (dp : Int)) (B + 149) 12 = (dp : Int) := hv_set_at ..
  have v11 : hv (hset h5 (B + 149) 12 (dp : Int)) (B + 149) 11 = -1 := by rw [hv_set_ne (by omega)]; exact e511
  generalize hq6 : hset h5 (B + 149) 12 (dp : Int) = q6 at *
  refine Ends.ct l6 (by decide +kernel) (by decide) (c_mkF l6 (by omega)) (fun v h7 l7 _ _ _ ⟨ev, eh⟩ => ?_)
  subst ev
  refine Ends.eq (b792_105 (n := n) (by (repeat' first | assumption | refine LX.setF _ _ ?_ (by decide +kernel) | refine LX.setS ?_ rfl | refine LX.setA ?_ (by first | assumption | omega))) (by first | assumption | omega)) ?_
  have hb6 := l6.2.2
  have xn : Ext (MW B) 1 7 q6 h7 := by rw [eh]; exact mkN_ext
  have hvn : ∀ k, hv h7 (hnx q6) k = if k = 6 then z else if k = 5 then y else if k = 4 then x else if k = 1 then 0 else if k = 0 then 2 else 0 := fun k => by rw [eh]; exact mkN_hv k
  refine Ends.sm ⟨_, _, rfl, Or.inl ⟨_, _, p5, RdR.uni hr (R0f a1 w (by omega) a2 w4 a3), (e6.mt xn).ml (by omega) (by omega), by rw [eh]; exact t6.mkN hb6, by rw [eh, mkN_at hb6]; exact v12, by rw [eh, mkN_at hb6]; exact v11, ?_, by omega, le5⟩⟩
  obtain ⟨g0, eg0⟩ : ∃ g0, p5 - p = g0 + 1 := ⟨p5 - p - 1, by omega⟩
  rw [eg0]
  unfold AstI
  refine ⟨hnx q6, rfl, e6.2.2.1, by rw [eh]; exact Nat.lt_succ_self _, by rw [eh]; exact mkN_hk, Or.inr (Or.inr (Or.inl ⟨hvn 0, D, N, Y, N2, Z, N3, ?_, ?_, ?_, rfl, rfl⟩))⟩
  · rw [show hv h7 (hnx q6) 4 = x from hvn 4]; exact A1_6.mw l6 xn (by omega)
  · rw [show hv h7 (hnx q6) 5 = y from hvn 5]; exact A3_6.mw l6 xn (by omega)
  · rw [show hv h7 (hnx q6) 6 = z from hvn 6]; exact A5_6.mw l6 xn (by omega)
end MFORM
