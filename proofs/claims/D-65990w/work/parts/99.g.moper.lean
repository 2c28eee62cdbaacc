/-! L3: the model's reader: signs ahead, brackets, numbers, names -/
section MOPER
variable {gv : Nat → Int} {B n m : Nat} {u : Nat → Int} {fd : Nat → Int} {bk : Nat → Bool} {nv : Nat} {tl : Int} {DX : AH → Prop}
theorem bh0 {q : AH} {B n : Nat} {c s : Nat} {h : AH} (l : LX B n h) (e : Ext (MW B) c s h q) : B + 246 ≤ hnx q := by
  have := l.2.2
  have := e.2.2.1
  omega
/-- a sign ahead -/
theorem e_unary (ok : MOk gv B n m u fd bk nv tl DX) {p : Nat} (hD : ∀ q, p < q → q ≤ m → stD gv B n m u fd bk tl DX q) {d dp : Nat} {h : AH} {r : PR} (hr : RdR u m fd bk 3 0 dp p accZ r) (l : LX B n h) (M : MC gv B m u tl DX h) (S : MSt B m u h dp p) (hd : FD dp ≤ d) (hs : (isSg u m p 45 || isSg u m p 33) = true) {u1 u2 u3 : AV} :
    Ends (ev PP (gsF gv) B d 795 18 [(2, rf (B + 149)), u1, u2, u3] [] h) (fun r' => ∃ x h', r' = ((0, (2, x)), h') ∧ MRes B m u h dp p r x h') := by
  obtain ⟨S1, S2, S3, S4, S5⟩ := S
  unfold FD at hd
  have hm := M.2.2.2.2
  obtain ⟨b1, b2⟩ := or_lt S4 hs
  refine Ends.eq (b795_18 (n := n) (by (repeat' first | assumption | refine LX.setF _ _ ?_ (by decide +kernel) | refine LX.setS ?_ rfl | refine LX.setA ?_ (by first | assumption | omega))) (by first | assumption | omega)) ?_
  refine Ends.ct l (by decide +kernel) (by decide) (c_is1 l (by omega) M.1 M.2.1 S1 S4 54 45 (by decide) (by decide) (by decide)) (fun v q l1 _ _ _ ⟨eh, w⟩ => ?_)
  subst eh
  refine Ends.eq (b795_24 (n := n) (by (repeat' first | assumption | refine LX.setF _ _ ?_ (by decide +kernel) | refine LX.setS ?_ rfl | refine LX.setA ?_ (by first | assumption | omega))) (by first | assumption | omega)) ?_
  have eop : cond (tst 0 v 0) (4 : Int) 3 = if isSg u m p 45 = true then 3 else 4 := by
    rcases w with ⟨w, rfl⟩ | ⟨w, rfl⟩
    · rw [if_pos w]; rfl
    · rw [if_neg w]; rfl
  rw [eop]
  generalize ho : (if isSg u m p 45 = true then (3 : Int) else 4) = op
  refine Ends.ct l (by decide +kernel) (by decide) (c_enterM l (by omega) M.1 S1 S4 S2 S5 S3) (fun v2 q2 l2 _ _ _ ⟨h2, g2, t2, w2⟩ => ?_)
  have e2 := mg_mw g2
  refine Ends.eq (b795_37 (n := n) (by (repeat' first | assumption | refine LX.setF _ _ ?_ (by decide +kernel) | refine LX.setS ?_ rfl | refine LX.setA ?_ (by first | assumption | omega))) (by first | assumption | omega)) ?_
  rcases w2 with ⟨dlt, ev, eq⟩ | ⟨deq, ev, eq⟩
  case inr =>
    subst ev eq
    refine Ends.b1 (fun z => absurd rfl z) (fun _ => ?_)
    exact Ends.sm ⟨_, _, rfl, Or.inr ⟨_, RdR.uni hr (R3_0 hs (by omega)), rfl, ((e2.ms (by decide) (by decide)).ms (by decide) (by decide)).ml (by omega) (by omega), hv_set_at ..⟩⟩
  subst ev eq
  refine Ends.b1 (fun _ => ?_) (fun z => absurd z (by decide))
  have e2' := e2.ms (k := 12) (v := ((dp + 1 : Nat) : Int)) (by decide) (by decide)
  have M2 := M.ext ok l e2'
  obtain ⟨r2, a2⟩ := RdR.tot3 (u := u) (m := m) (fd := fd) (bk := bk) (dp := dp + 1) (acc := accZ) b2
  refine Ends.ct l2 (by decide +kernel) (by decide) (hD (tkT u m p) (by omega) b2 d (dp + 1) _ r2 a2 l2 M2 ⟨t2.f (by decide), hv_set_at .., by rw [hv_set_ne (by omega), g2.at _ _ (by unfold mgW; omega)]; exact S3, b2, by omega⟩ (by unfold FD; omega)) (fun y h3 l3 _ _ _ R2 => ?_)
  refine Ends.eq (b795_46 (n := n) (by (repeat' first | assumption | refine LX.setF _ _ ?_ (by decide +kernel) | refine LX.setS ?_ rfl | refine LX.setA ?_ (by first | assumption | omega))) (by first | assumption | omega)) ?_
  rcases R2 with ⟨D, N, p1, er2, e3, t3, e312, e311, A3, lt3, le3⟩ | ⟨e, er2, ey, e3, w3⟩
  case inr =>
    subst er2 ey
    refine Ends.b0 (fun _ => ?_) (fun z => absurd rfl z)
    have l4 : LX B n (hset h3 (B + 149) 12 (bop32 100 (hv h3 (B + 149) 12) 1)) := (by (repeat' first | assumption | refine LX.setF _ _ ?_ (by decide +kernel) | refine LX.setS ?_ rfl | refine LX.setA ?_ (by assumption)))
    refine Ends.eq (b795_73 (n := n) (by (repeat' first | assumption | refine LX.setF _ _ ?_ (by decide +kernel) | refine LX.setS ?_ rfl | refine LX.setA ?_ (by first | assumption | omega))) (by first | assumption | omega)) ?_
    exact Ends.sm ⟨_, _, rfl, Or.inr ⟨e, RdR.uni hr (R3_1 hs (by omega) a2), rfl, ((e2'.mt e3).ms (by decide) (by decide)).ml (by omega) (by omega), by rw [hv_set_ne (by omega)]; exact w3⟩⟩
  subst er2
  have yp := A3.pos
  refine Ends.b0 (fun z => by omega) (fun _ => ?_)
  rw [e312, b100_1' (by omega)]
  have l4 : LX B n (hset h3 (B + 149) 12 (dp : Int)) := (by (repeat' first | assumption | refine LX.setF _ _ ?_ (by decide +kernel) | refine LX.setS ?_ rfl | refine LX.setA ?_ (by assumption)))
  have e4 := (e2'.mt e3).ms (k := 12) (v := (dp : Int)) (by decide) (by decide)
  have t4 : MgT B (hset h3 (B + 149) 12 (dp : Int)) u m p1 := t3.f (by decide)
  have A4 : AstI (hnx q) (p1 - tkT u m p) (hset h3 (B + 149) 12 (dp : Int)) y D N := (A3.lo e2'.2.2.1).mw l3 ((Ext.rf (W := MW B) (c := 0) (s := 0)).ms (by decide) (by decide)) (Nat.le_refl _)
  have v12 : hv (hset h3 (B + 149) 12 (dp : Int)) (B + 149) 12 = (dp : Int) := hv_set_at ..
  have v11 : hv (hset h3 (B + 149) 12 (dp : Int)) (B + 149) 11 = -1 := by rw [hv_set_ne (by omega)]; exact e311
  generalize hset h3 (B + 149) 12 (dp : Int) = q4 at *
  refine Ends.ct l4 (by decide +kernel) (by decide) (c_mkF l4 (by omega)) (fun v h7 l7 _ _ _ ⟨ev, eh⟩ => ?_)
  subst ev
  refine Ends.eq (b795_73 (n := n) (by (repeat' first | assumption | refine LX.setF _ _ ?_ (by decide +kernel) | refine LX.setS ?_ rfl | refine LX.setA ?_ (by first | assumption | omega))) (by first | assumption | omega)) ?_
  have hb4 := l4.2.2
  have xn : Ext (MW B) 1 7 q4 h7 := by rw [eh]; exact mkN_ext
  have hvn : ∀ k, hv h7 (hnx q4) k = if k = 6 then 0 else if k = 5 then 0 else if k = 4 then y else if k = 1 then 0 else if k = 0 then op else 0 := fun k => by rw [eh]; exact mkN_hv k
  refine Ends.sm ⟨_, _, rfl, Or.inl ⟨_, _, p1, RdR.uni hr (R3_2 hs (by omega) a2), (e4.mt xn).ml (by omega) (by omega), by rw [eh]; exact t4.mkN hb4, by rw [eh, mkN_at hb4]; exact v12, by rw [eh, mkN_at hb4]; exact v11, ?_, by omega, le3⟩⟩
  obtain ⟨g0, eg0⟩ : ∃ g0, p1 - p = g0 + 1 := ⟨p1 - p - 1, by omega⟩
  rw [eg0]
  unfold AstI
  have h0 : hv h7 (hnx q4) 0 = op := hvn 0
  refine ⟨hnx q4, rfl, e4.2.2.1, by rw [eh]; exact Nat.lt_succ_self _, by rw [eh]; exact mkN_hk, Or.inr (Or.inr (Or.inr (Or.inl ⟨?_, hvn 5, hvn 6, D, ?_, ?_⟩)))⟩
  · rw [h0, ← ho]
    by_cases z : isSg u m p 45 = true
    · rw [if_pos z]; exact Or.inl rfl
    · rw [if_neg z]; exact Or.inr rfl
  · rw [show hv h7 (hnx q4) 4 = y from hvn 4]; exact A4.mw l4 xn (by omega)
  · rw [h0, ← ho]
    funext e
    by_cases z : isSg u m p 45 = true
    · rw [if_pos z, if_pos z, if_pos rfl]
    · rw [if_neg z, if_neg z, if_neg (by decide)]
/-- brackets -/
theorem e_paren (ok : MOk gv B n m u fd bk nv tl DX) {p : Nat} (hA : ∀ q, p < q → q ≤ m → stA gv B n m u fd bk tl DX q) {d dp : Nat} {h : AH} {r : PR} (hr : RdR u m fd bk 3 0 dp p accZ r) (l : LX B n h) (M : MC gv B m u tl DX h) (S : MSt B m u h dp p) (hd : FD dp ≤ d) (hs : ¬ (isSg u m p 45 || isSg u m p 33) = true) (h40 : isSg u m p 40 = true) {u1 u2 u3 : AV} :
    Ends (ev PP (gsF gv) B d 795 80 [(2, rf (B + 149)), u1, u2, u3] [(0, 1)] h) (fun r' => ∃ x h', r' = ((0, (2, x)), h') ∧ MRes B m u h dp p r x h') := by
  obtain ⟨S1, S2, S3, S4, S5⟩ := S
  unfold FD at hd
  have hm := M.2.2.2.2
  obtain ⟨b1, b2⟩ := sg_lt (u := u) S4 h40
  refine Ends.eq (b795_80 (n := n) (by (repeat' first | assumption | refine LX.setF _ _ ?_ (by decide +kernel) | refine LX.setS ?_ rfl | refine LX.setA ?_ (by first | assumption | omega))) (by first | assumption | omega)) ?_
  refine Ends.b0 (fun z => absurd z (by decide)) (fun _ => ?_)
  refine Ends.ct l (by decide +kernel) (by decide) (c_enterM l (by omega) M.1 S1 S4 S2 S5 S3) (fun v2 q2 l2 _ _ _ ⟨h2, g2, t2, w2⟩ => ?_)
  have e2 := mg_mw g2
  refine Ends.eq (b795_87 (n := n) (by (repeat' first | assumption | refine LX.setF _ _ ?_ (by decide +kernel) | refine LX.setS ?_ rfl | refine LX.setA ?_ (by first | assumption | omega))) (by first | assumption | omega)) ?_
  rcases w2 with ⟨dlt, ev, eq⟩ | ⟨deq, ev, eq⟩
  case inr =>
    subst ev eq
    refine Ends.b1 (fun z => absurd rfl z) (fun _ => ?_)
    exact Ends.sm ⟨_, _, rfl, Or.inr ⟨_, RdR.uni hr (R3_3 hs h40 (by omega)), rfl, ((e2.ms (by decide) (by decide)).ms (by decide) (by decide)).ml (by omega) (by omega), hv_set_at ..⟩⟩
  subst ev eq
  refine Ends.b1 (fun _ => ?_) (fun z => absurd z (by decide))
  have e2' := e2.ms (k := 12) (v := ((dp + 1 : Nat) : Int)) (by decide) (by decide)
  have M2 := M.ext ok l e2'
  obtain ⟨r2, a2⟩ := RdR.tot0 (u := u) (m := m) (fd := fd) (bk := bk) (dp := dp + 1) (acc := accZ) b2
  refine Ends.ct l2 (by decide +kernel) (by decide) (hA (tkT u m p) (by omega) b2 d (dp + 1) _ r2 a2 l2 M2 ⟨t2.f (by decide), hv_set_at .., by rw [hv_set_ne (by omega), g2.at _ _ (by unfold mgW; omega)]; exact S3, b2, by omega⟩ (by unfold FD; omega)) (fun y h3 l3 _ _ _ R2 => ?_)
  refine Ends.eq (b795_96 (n := n) (by (repeat' first | assumption | refine LX.setF _ _ ?_ (by decide +kernel) | refine LX.setS ?_ rfl | refine LX.setA ?_ (by first | assumption | omega))) (by first | assumption | omega)) ?_
  rcases R2 with ⟨D, N, p1, er2, e3, t3, e312, e311, A3, lt3, le3⟩ | ⟨e, er2, ey, e3, w3⟩
  case inr =>
    subst er2 ey
    refine Ends.b0 (fun _ => ?_) (fun z => absurd rfl z)
    have l4 : LX B n (hset h3 (B + 149) 12 (bop32 100 (hv h3 (B + 149) 12) 1)) := (by (repeat' first | assumption | refine LX.setF _ _ ?_ (by decide +kernel) | refine LX.setS ?_ rfl | refine LX.setA ?_ (by assumption)))
    refine Ends.eq (b795_124 (n := n) (by (repeat' first | assumption | refine LX.setF _ _ ?_ (by decide +kernel) | refine LX.setS ?_ rfl | refine LX.setA ?_ (by first | assumption | omega))) (by first | assumption | omega)) ?_
    refine Ends.eq (b795_125 (n := n) (by (repeat' first | assumption | refine LX.setF _ _ ?_ (by decide +kernel) | refine LX.setS ?_ rfl | refine LX.setA ?_ (by first | assumption | omega))) (by first | assumption | omega)) ?_
    exact Ends.sm ⟨_, _, rfl, Or.inr ⟨e, RdR.uni hr (R3_4 hs h40 (by omega) a2), rfl, ((e2'.mt e3).ms (by decide) (by decide)).ml (by omega) (by omega), by rw [hv_set_ne (by omega)]; exact w3⟩⟩
  subst er2
  have yp := A3.pos
  refine Ends.b0 (fun z => by omega) (fun _ => ?_)
  rw [e312, b100_1' (by omega)]
  have l4 : LX B n (hset h3 (B + 149) 12 (dp : Int)) := (by (repeat' first | assumption | refine LX.setF _ _ ?_ (by decide +kernel) | refine LX.setS ?_ rfl | refine LX.setA ?_ (by assumption)))
  have e4 := (e2'.mt e3).ms (k := 12) (v := (dp : Int)) (by decide) (by decide)
  have M4 := M.ext ok l e4
  have t4 : MgT B (hset h3 (B + 149) 12 (dp : Int)) u m p1 := t3.f (by decide)
  have A4 : AstI (hnx h) (p1 - tkT u m p) (hset h3 (B + 149) 12 (dp : Int)) y D N := (A3.lo e2'.2.2.1).mw l3 ((Ext.rf (W := MW B) (c := 0) (s := 0)).ms (by decide) (by decide)) (Nat.le_refl _)
  have v12 : hv (hset h3 (B + 149) 12 (dp : Int)) (B + 149) 12 = (dp : Int) := hv_set_at ..
  have v11 : hv (hset h3 (B + 149) 12 (dp : Int)) (B + 149) 11 = -1 := by rw [hv_set_ne (by omega)]; exact e311
  generalize hset h3 (B + 149) 12 (dp : Int) = q4 at *
  refine Ends.ct l4 (by decide +kernel) (by decide) (c_needM l4 (by omega) M4.1 M4.2.1 t4 le3 15 41 (by decide) (by decide) (by decide) v11) (fun v h7 l7 _ _ _ w7 => ?_)
  refine Ends.eq (b795_117 (n := n) (by (repeat' first | assumption | refine LX.setF _ _ ?_ (by decide +kernel) | refine LX.setS ?_ rfl | refine LX.setA ?_ (by first | assumption | omega))) (by first | assumption | omega)) ?_
  rcases w7 with ⟨k41, ev, g7, t7⟩ | ⟨k41, ev, eh⟩
  · subst ev
    obtain ⟨c1, c2⟩ := sg_lt (u := u) le3 k41
    have x7 := mg_mw g7
    refine Ends.sm ⟨_, _, rfl, Or.inl ⟨D, N, tkT u m p1, RdR.uni hr (R3_5 hs h40 (by omega) a2 k41), (e4.mt x7).ml (by omega) (by omega), t7, by rw [g7.at _ _ (by unfold mgW; omega)]; exact v12, by rw [g7.at _ _ (by unfold mgW; omega)]; exact v11, A4.mw l4 x7 (by omega), by omega, c2⟩⟩
  · subst ev eh
    exact Ends.sm ⟨_, _, rfl, Or.inr ⟨_, RdR.uni hr (R3_6 hs h40 (by omega) a2 k41), rfl, (e4.ms (by decide) (by decide)).ml (by omega) (by omega), hv_set_at ..⟩⟩
/-- a number -/
theorem e_numM (ok : MOk gv B n m u fd bk nv tl DX) {p : Nat} {d dp : Nat} {h : AH} {r : PR} (hr : RdR u m fd bk 3 0 dp p accZ r) (l : LX B n h) (M : MC gv B m u tl DX h) (S : MSt B m u h dp p) (hd : FD dp ≤ d) (hs : ¬ (isSg u m p 45 || isSg u m p 33) = true) (h40 : ¬ isSg u m p 40 = true) (k2 : tkK u m p = 2) {u1 u2 u3 : AV} :
    Ends (ev PP (gsF gv) B d 795 142 [(2, rf (B + 149)), u1, u2, u3] [(2, rf (hnx h))] (mkN h 0 0 0 0 0)) (fun r' => ∃ x h', r' = ((0, (2, x)), h') ∧ MRes B m u h dp p r x h') := by
  obtain ⟨S1, S2, S3, S4, S5⟩ := S
  unfold FD at hd
  have hm := M.2.2.2.2
  have hb := l.2.2
  obtain ⟨b1, b2⟩ := k_lt (u := u) S4 (by rw [k2]; decide)
  have hrr := RdR.uni hr (R3_7 hs h40 k2)
  have nok : nOK u m (tkF u m p) = true := by
    unfold tkK at k2
    split at k2
    · omega
    split at k2
    · split at k2 <;> omega
    split at k2
    · split at k2
      · next z => exact z
      · omega
    · omega
  obtain ⟨⟨n1, n2⟩, n3, n4⟩ := nAb_r nok
  obtain ⟨c9, c10⟩ := S1.2.2.2.2.2 k2
  have x0 : Ext (MW B) 1 7 h (mkN h 0 0 0 0 0) := mkN_ext
  have l0 : LX B n (mkN h 0 0 0 0 0) := mkN_lx l
  have t0 : MgT B (mkN h 0 0 0 0 0) u m p := S1.mkN hb
  have i12 : hv (mkN h 0 0 0 0 0) (B + 149) 12 = (dp : Int) := by rw [mkN_at hb]; exact S2
  have i11 : hv (mkN h 0 0 0 0 0) (B + 149) 11 = -1 := by rw [mkN_at hb]; exact S3
  have i9 : hv (mkN h 0 0 0 0 0) (B + 149) 9 = nAb u m (tkF u m p) := by rw [mkN_at hb]; exact c9
  have i10 : hv (mkN h 0 0 0 0 0) (B + 149) 10 = nBe u m (tkF u m p) := by rw [mkN_at hb]; exact c10
  have kn : hk (mkN h 0 0 0 0 0) (hnx h) = (1, 24) := mkN_hk
  have nx0 : hnx (mkN h 0 0 0 0 0) = hnx h + 1 := rfl
  have z0 : ∀ k, hv (mkN h 0 0 0 0 0) (hnx h) k = 0 := fun k => by rw [mkN_hv]; simp
  generalize mkN h 0 0 0 0 0 = q0 at *
  generalize hTt : nAb u m (tkF u m p) = T at *
  refine Ends.eq (b795_142 (n := n) (by (repeat' first | assumption | refine LX.setF _ _ ?_ (by decide +kernel) | refine LX.setS ?_ rfl | refine LX.setA ?_ (by first | assumption | omega))) (by first | assumption | omega)) ?_
  rw [ad_rf, i9]
  refine Ends.g ⟨rf_pos _, kn, by omega, rfl⟩ ?_
  have l1 : LX B n (hset q0 (hnx h) 2 T) := lx_na l0 hb
  refine Ends.eq (b795_151 (n := n) (by (repeat' first | assumption | refine LX.setF _ _ ?_ (by decide +kernel) | refine LX.setS ?_ rfl | refine LX.setA ?_ (by first | assumption | omega))) (by first | assumption | omega)) ?_
  rw [ad_rf, show hv (hset q0 (hnx h) 2 T) (B + 149) 10 = nBe u m (tkF u m p) by rw [hv_na (by omega)]; exact i10]
  refine Ends.g ⟨rf_pos _, kn, by omega, rfl⟩ ?_
  have l2 : LX B n (hset (hset q0 (hnx h) 2 T) (hnx h) 3 (nBe u m (tkF u m p))) := lx_na l1 hb
  have x2 : Ext (MW B) 1 7 h (hset (hset q0 (hnx h) 2 T) (hnx h) 3 (nBe u m (tkF u m p))) := (x0.set (fun z => absurd z (by omega))).set (fun z => absurd z (by omega))
  have M2 := M.ext ok l x2
  have y4 : hv (hset (hset q0 (hnx h) 2 T) (hnx h) 3 (nBe u m (tkF u m p))) (B + 149) 4 = (tkT u m p : Int) := by rw [hv_na (by omega), hv_na (by omega)]; exact t0.1
  have y12 : hv (hset (hset q0 (hnx h) 2 T) (hnx h) 3 (nBe u m (tkF u m p))) (B + 149) 12 = (dp : Int) := by rw [hv_na (by omega), hv_na (by omega)]; exact i12
  have y11 : hv (hset (hset q0 (hnx h) 2 T) (hnx h) 3 (nBe u m (tkF u m p))) (B + 149) 11 = -1 := by rw [hv_na (by omega), hv_na (by omega)]; exact i11
  have w2 : hv (hset (hset q0 (hnx h) 2 T) (hnx h) 3 (nBe u m (tkF u m p))) (hnx h) 2 = T := by rw [hv_set_ne (by omega)]; exact hv_set_at ..
  have w3 : hv (hset (hset q0 (hnx h) 2 T) (hnx h) 3 (nBe u m (tkF u m p))) (hnx h) 3 = nBe u m (tkF u m p) := hv_set_at ..
  have wz : ∀ k, k ≠ 2 → k ≠ 3 → hv (hset (hset q0 (hnx h) 2 T) (hnx h) 3 (nBe u m (tkF u m p))) (hnx h) k = 0 := fun k e1 e2 => by rw [hv_set_ne (by omega), hv_set_ne (by omega)]; exact z0 k
  have kk : hk (hset (hset q0 (hnx h) 2 T) (hnx h) 3 (nBe u m (tkF u m p))) (hnx h) = (1, 24) := kn
  have nxx : hnx (hset (hset q0 (hnx h) 2 T) (hnx h) 3 (nBe u m (tkF u m p))) = hnx h + 1 := nx0
  generalize hset (hset q0 (hnx h) 2 T) (hnx h) 3 (nBe u m (tkF u m p)) = q2 at *
  generalize hBe : nBe u m (tkF u m p) = Bt at *
  refine Ends.eq (b795_159 (n := n) (by (repeat' first | assumption | refine LX.setF _ _ ?_ (by decide +kernel) | refine LX.setS ?_ rfl | refine LX.setA ?_ (by first | assumption | omega))) (by first | assumption | omega)) ?_
  refine Ends.cv l2 (by decide +kernel) (c_nextM l2 (by omega) M2.1 y4 b2) (fun s3 l3 _ _ _ ⟨g3, t3⟩ => ?_)
  have x3 := x2.mt (mg_mw g3)
  have M3 := M.ext ok l x3
  have v2 : hv s3 (hnx h) 2 = T := by rw [g3.at _ _ (by unfold mgW; omega)]; exact w2
  have v3 : hv s3 (hnx h) 3 = Bt := by rw [g3.at _ _ (by unfold mgW; omega)]; exact w3
  have vz : ∀ k, k ≠ 2 → k ≠ 3 → hv s3 (hnx h) k = 0 := fun k e1 e2 => by rw [g3.at _ _ (by unfold mgW; omega)]; exact wz k e1 e2
  have k3 : hk s3 (hnx h) = (1, 24) := by rw [g3.hk]; exact kk
  have nx3 : hnx s3 = hnx h + 1 := by rw [g3.nx]; exact nxx
  have v12 : hv s3 (B + 149) 12 = (dp : Int) := by rw [g3.at _ _ (by unfold mgW; omega)]; exact y12
  have v11 : hv s3 (B + 149) 11 = -1 := by rw [g3.at _ _ (by unfold mgW; omega)]; exact y11
  -- the end
  have fin : ∀ (s' : AH) (pe : Nat) (t' b' kd : Int), LX B n s' → Ext (MW B) 1 7 h s' → hnx s' = hnx h + 1 → hk s' (hnx h) = (1, 24) → MgT B s' u m pe → hv s' (B + 149) 12 = (dp : Int) → hv s' (B + 149) 11 = -1 → hv s' (hnx h) 1 = kd → hv s' (hnx h) 2 = t' → hv s' (hnx h) 3 = b' → (∀ k, k = 0 ∨ 4 ≤ k → hv s' (hnx h) k = 0) → (0 ≤ t' ∧ t' ≤ 2000000000000) → (1 ≤ b' ∧ b' ≤ 100000) → (kd = 0 ∨ kd = 1) → numD u m p = (mkF t' b' kd, pe) → p < pe → pe ≤ m → Ends (ev PP (gsF gv) B d 795 275 [(2, rf (B + 149)), (2, rf (hnx h)), u2, u3] [] s') (fun r' => ∃ x h', r' = ((0, (2, x)), h') ∧ MRes B m u h dp p r x h') := by
    intro s' pe t' b' kd l5 x5 n5 k5 t5 e12 e11 f1 f2 f3 fz bt bb bk hN hp1 hp2
    refine Ends.eq (b795_275 (n := n) (by (repeat' first | assumption | refine LX.setF _ _ ?_ (by decide +kernel) | refine LX.setS ?_ rfl | refine LX.setA ?_ (by first | assumption | omega))) (by first | assumption | omega)) ?_
    refine Ends.sm ⟨_, _, rfl, Or.inl ⟨_, _, pe, by rw [hrr, hN], x5.ml (by omega) (by omega), t5, e12, e11, ?_, hp1, hp2⟩⟩
    obtain ⟨g0, eg0⟩ : ∃ g0, pe - p = g0 + 1 := ⟨pe - p - 1, by omega⟩
    rw [eg0]
    unfold AstI
    refine ⟨hnx h, rfl, Nat.le_refl _, by omega, k5, Or.inl ⟨fz 0 (by omega), fz 4 (by omega), fz 5 (by omega), fz 6 (by omega), by rw [f2]; exact bt, by rw [f3]; exact bb, by rw [f1]; exact bk, ?_, rfl⟩⟩
    rw [f1, f2, f3]
  have eN : numD u m p = itP (isWd u m (tkT u m p) [109, 109]) (mkF T Bt 1, tkT u m (tkT u m p)) (itP (isWd u m (tkT u m p) [99, 109]) (mkF (T * 10) Bt 1, tkT u m (tkT u m p)) (itP (isWd u m (tkT u m p) [105, 110]) (mkF (T * 127) (Bt * 5) 1, tkT u m (tkT u m p)) (mkF T Bt 0, tkT u m p))) := by
    unfold numD
    rw [hTt, hBe]
  -- with a unit
  have unit : tkK u m (tkT u m p) = 1 → (isWd u m (tkT u m p) [109, 109] ∨ isWd u m (tkT u m p) [99, 109] ∨ isWd u m (tkT u m p) [105, 110]) → Ends (ev PP (gsF gv) B d 795 190 [(2, rf (B + 149)), (2, rf (hnx h)), u2, u3] [] s3) (fun r' => ∃ x h', r' = ((0, (2, x)), h') ∧ MRes B m u h dp p r x h') := by
    intro k1 hu
    obtain ⟨c1, c2⟩ := k_lt (u := u) b2 (by rw [k1]; decide)
    refine e_unit (by omega) l3 M3.1 M3.2.1.1 t3 b2 k1 k3 hb v2 v3 n1 n2 n3 n4 (fun s' l5 g5 t5 f1 f2 f3 => ?_)
    have x5 : Ext (MW B) 1 7 h s' := by
      refine (x3.tr (W' := fun c k => mgW B c k ∨ (c = hnx h ∧ 1 ≤ k ∧ k ≤ 3)) (g5.ext) (fun c k hc w => ?_)).ml (by omega) (by omega)
      rcases w with w | w
      · exact Or.inl ⟨w.1, Or.inl ⟨w.2.1, by have := w.2.2; omega⟩⟩
      · omega
    refine fin s' (tkT u m (tkT u m p)) _ _ 1 l5 x5 (by rw [g5.nx]; exact nx3) (by rw [g5.hk]; exact k3) t5 (by rw [g5.at _ _ (by unfold mgW; omega)]; exact v12) (by rw [g5.at _ _ (by unfold mgW; omega)]; exact v11) f1 f2 f3 (fun k hk => by rw [g5.at _ _ (by unfold mgW; omega)]; exact vz k (by omega) (by omega)) ?_ ?_ (Or.inr rfl) ?_ (by omega) c2
    · by_cases w1 : isWd u m (tkT u m p) [99, 109]
      · rw [itP_t w1]; omega
      rw [itP_f w1]
      by_cases w2 : isWd u m (tkT u m p) [105, 110]
      · rw [itP_t w2]; omega
      · rw [itP_f w2]; omega
    · by_cases w2 : isWd u m (tkT u m p) [105, 110]
      · rw [itP_t w2]; omega
      · rw [itP_f w2]; omega
    · rw [eN]
      rcases hu with w | w | w
      · have a1 : ¬ isWd u m (tkT u m p) [99, 109] := fun z => absurd (isWd_uni w z) (by decide)
        have a2 : ¬ isWd u m (tkT u m p) [105, 110] := fun z => absurd (isWd_uni w z) (by decide)
        rw [itP_t w, itP_f a1, itP_f a2, itP_f a2]
      · have a1 : ¬ isWd u m (tkT u m p) [109, 109] := fun z => absurd (isWd_uni w z) (by decide)
        have a2 : ¬ isWd u m (tkT u m p) [105, 110] := fun z => absurd (isWd_uni w z) (by decide)
        rw [itP_f a1, itP_t w, itP_t w, itP_f a2]
      · have a1 : ¬ isWd u m (tkT u m p) [109, 109] := fun z => absurd (isWd_uni w z) (by decide)
        have a2 : ¬ isWd u m (tkT u m p) [99, 109] := fun z => absurd (isWd_uni w z) (by decide)
        rw [itP_f a1, itP_f a2, itP_t w, itP_f a2, itP_t w, itP_t w]
  refine Ends.eq (b795_163 (n := n) (by (repeat' first | assumption | refine LX.setF _ _ ?_ (by decide +kernel) | refine LX.setS ?_ rfl | refine LX.setA ?_ (by first | assumption | omega))) (by first | assumption | omega)) ?_
  refine Ends.ct l3 (by decide +kernel) (by decide) (c_isWordM l3 (by omega) M3.1 t3 b2 M3.2.1.1.2.2.1.1) (fun v q1 l4 _ _ _ ⟨eh, w⟩ => ?_)
  subst eh
  refine Ends.eq (b795_169 (n := n) (by (repeat' first | assumption | refine LX.setF _ _ ?_ (by decide +kernel) | refine LX.setS ?_ rfl | refine LX.setA ?_ (by first | assumption | omega))) (by first | assumption | omega)) ?_
  rcases w with ⟨w, rfl⟩ | ⟨w1, rfl⟩
  · exact Ends.b1 (fun _ => unit w.1 (Or.inl w)) (fun z => absurd z (by decide))
  refine Ends.b1 (fun z => absurd rfl z) (fun _ => ?_)
  refine Ends.ct l3 (by decide +kernel) (by decide) (c_isWordM l3 (by omega) M3.1 t3 b2 M3.2.1.1.2.2.2.1.1) (fun v q1 l4 _ _ _ ⟨eh, w⟩ => ?_)
  subst eh
  refine Ends.eq (b795_178 (n := n) (by (repeat' first | assumption | refine LX.setF _ _ ?_ (by decide +kernel) | refine LX.setS ?_ rfl | refine LX.setA ?_ (by first | assumption | omega))) (by first | assumption | omega)) ?_
  rcases w with ⟨w, rfl⟩ | ⟨w2, rfl⟩
  · exact Ends.b1 (fun _ => unit w.1 (Or.inr (Or.inl w))) (fun z => absurd z (by decide))
  refine Ends.b1 (fun z => absurd rfl z) (fun _ => ?_)
  refine Ends.ct l3 (by decide +kernel) (by decide) (c_isWordM l3 (by omega) M3.1 t3 b2 M3.2.1.1.2.2.2.2.1) (fun v q1 l4 _ _ _ ⟨eh, w⟩ => ?_)
  subst eh
  refine Ends.eq (b795_187 (n := n) (by (repeat' first | assumption | refine LX.setF _ _ ?_ (by decide +kernel) | refine LX.setS ?_ rfl | refine LX.setA ?_ (by first | assumption | omega))) (by first | assumption | omega)) ?_
  rcases w with ⟨w, rfl⟩ | ⟨w3, rfl⟩
  · exact Ends.b0 (fun z => absurd z (by decide)) (fun _ => unit w.1 (Or.inr (Or.inr w)))
  refine Ends.b0 (fun _ => ?_) (fun z => absurd rfl z)
  refine fin q1 (tkT u m p) T Bt 0 l3 (x3.ml (by omega) (by omega)) nx3 k3 t3 v12 v11 (vz 1 (by decide) (by decide)) v2 v3 (fun k hk => vz k (by omega) (by omega)) ⟨n1, by omega⟩ ⟨n3, by omega⟩ (Or.inl rfl) ?_ b1 b2
  rw [eN, itP_f w1, itP_f w2, itP_f w3]
end MOPER
