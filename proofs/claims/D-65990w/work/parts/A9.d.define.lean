/-! L3: Formulas.define -/
theorem Agr.same {W : Nat → Nat → Prop} {h s : AH} {a k : Nat} {v : Int} (g : Agr W h s) (e : hv h a k = v) : Agr W h (hset s a k v) := ⟨g.1, g.2.1, fun c j hn => by
  by_cases q : c = a ∧ j = k
  · rw [q.1, q.2, hv_set_at]; exact e.symm
  · rw [hv_set_ne q]; exact g.2.2 c j hn⟩
section CHECK0
variable {gv : Nat → Int} {B n d a m : Nat} {u c bb : Nat → Int} {nv nc tof : Nat} {tl : Int} {h : AH}
/-- looking through a formula, without working it out -/
theorem c_fmCheck0 {p : Nat} (l : LX B n h) (hd : 380 ≤ d) (F : FC gv B a m u c bb nv tl (tof : Int) h) (R : SgT h (B + 8) u m p) (ht : TkR u m p) (hp : p ≤ m) (D : DW c nv nc) (htl : tl < (nv : Int)) (h11 : hv h (B + 7) 11 = 0) :
    Vx (cll PP (ev PP (gsF gv) B) d 188 [(2, rf (B + 7))] h) (fun h' => ∃ X N p', rdF c nv nc tl tof bb u m p = .inr (X, N, p') ∧ Agr (FW B 0) h h' ∧ SgT h' (B + 8) u m p' ∧ p < p' ∧ p' ≤ m) (fun x h' => ∃ e h1, rdF c nv nc tl tof bb u m p = .inl e ∧ Agr (FW B 0) h h1 ∧ WrX h1 (e : Int) x h') := by
  refine Vx.into (D := 379) (by omega) (Nat.le_of_ble_eq_true rfl) rfl (fun d' hd' => ?_)
  refine Ends.eq (b188_0 (n := n) (by (repeat' first | assumption | refine LX.setF _ _ ?_ (by decide +kernel) | refine LX.setS ?_ rfl | refine LX.setA ?_ (by first | assumption | omega))) (by first | assumption | omega)) ?_
  generalize eh : hset (hset (hset (hset h (B + 7) 11 0) (B + 7) 8 0) (B + 7) 10 0) (B + 7) 9 1 = h1
  have l1 : LX B n h1 := by
    rw [← eh]
    exact LX.setF 7 9 (LX.setF 7 10 (LX.setF 7 8 (LX.setF 7 11 l (by decide +kernel)) (by decide +kernel)) (by decide +kernel)) (by decide +kernel)
  have la : LX B n (hset h (B + 7) 11 0) := LX.setF 7 11 l (by decide +kernel)
  have lb : LX B n (hset (hset h (B + 7) 11 0) (B + 7) 8 0) := LX.setF 7 8 la (by decide +kernel)
  have lc : LX B n (hset (hset (hset h (B + 7) 11 0) (B + 7) 8 0) (B + 7) 10 0) := LX.setF 7 10 lb (by decide +kernel)
  have F1 : FC gv B a m u c bb nv tl (tof : Int) h1 := by
    rw [← eh]
    exact (((F.sw l (by omega)).sw la (by omega)).sw lb (by omega)).sw lc (by omega)
  have G1 : Agr (FW B 0) h h1 := by
    rw [← eh]
    exact (((Agr.rf.same h11).set (FW_f (by omega))).set (FW_f (by omega))).set (FW_f (by omega))
  have R1 : SgT h1 (B + 8) u m p := by
    rw [← eh]
    exact R.f.f.f.f
  have P1 : FP B m u h1 p 0 0 1 := ⟨R1, by rw [← eh, hv_set_ne (by omega), hv_set_ne (by omega)]; exact hv_set_at .., by rw [← eh]; exact hv_set_at .., by rw [← eh, hv_set_ne (by omega)]; exact hv_set_at .., hp, by omega, by omega, by omega, ht⟩
  refine Ends.cx (c := 19) l1 (by decide +kernel) (c_formula l1 (by omega) F1 P1 D htl) (fun x h' ⟨e, _, w⟩ => w.c) rfl (fun h2 l2 _ _ _ ⟨X, N, p', er, FRR⟩ => ?_) (fun x h' _ _ ⟨e, er, w⟩ => ?_)
  · obtain ⟨r1, r2, r3, r4, r5, r6, r7, r8, r9⟩ := FRR
    refine Ends.eq (b188_24 (n := n) (by (repeat' first | assumption | refine LX.setF _ _ ?_ (by decide +kernel) | refine LX.setS ?_ rfl | refine LX.setA ?_ (by first | assumption | omega))) (by first | assumption | omega)) ?_
    exact Ends.sm (Or.inl ⟨_, rfl, X, N, p', er, G1.tr r1 (fun _ _ z => z), r2, r8, r9⟩)
  · obtain ⟨h2, g2, w2⟩ := w
    exact Or.inr ⟨x, h', rfl, e, h2, er, G1.tr g2 (fun _ _ z => z), w2⟩
end CHECK0
/-- what telling a VALUE comes to: the place that is wrong, or the formula -/
noncomputable def dfS (c : Nat → Int) (nv nc k : Nat) (b : Nat → Int) (u : Nat → Int) (m : Nat) : PR :=
  itP (tkK u m 0 = 1 ∧ ¬ kept u m 0) (itP (fdC c nv b u m 0 < 0 ∧ 0 < k) (.inl (tkF u m 0)) (if isSg u m (tkT u m 0) 61 = true then whR u m (rdF c nv nc (fdC c nv b u m 0) k b u m (tkT u m (tkT u m 0))) else .inl (tkF u m (tkT u m 0)))) (.inl (tkF u m 0))
/-- what reading writes at the desk -/
def dfW (B : Nat) : Nat → Nat → Prop := fun c z => (c = B + 7 ∧ 8 ≤ z ∧ z ≤ 14 ∧ z ≠ 11) ∨ c = B + 8 ∨ (B + 11 ≤ c ∧ c ≤ B + 14) ∨ c = B + 21 ∨ c = B + 22
/-- the cells with the VALUE told -/
noncomputable def dfC (c : Nat → Int) (nv k : Nat) (b u : Nat → Int) (m : Nat) : Nat → Int :=
  if fdC c nv b u m 0 < 0 then txt (nmd c nv (tkT u m 0 - tkF u m 0) (fun z => b (tkF u m 0 + z))) (fo nv 0) (fun z => b (tkF u m (tkT u m (tkT u m 0)) + z)) (m - tkF u m (tkT u m (tkT u m 0))) else txt c (fo (fdC c nv b u m 0).toNat k) (fun z => b (tkF u m (tkT u m (tkT u m 0)) + z)) (m - tkF u m (tkT u m (tkT u m 0)))
theorem WrX.k {h : AH} {pl x : Int} {h' : AH} (w : WrX h pl x h') : (hk h' (ad x)).1 = 1 := by
  obtain ⟨e1, e2⟩ := w
  subst e1 e2
  rw [ad_rf]
  show (hk (hnew h (1, 19) 7) (hnx h)).1 = 1
  rw [hk_new, if_pos rfl]
theorem St.mw {B : Nat} {h : AH} {H : Nat → Nat → Int} {s : Nat → Nat} {dn tt tu mw mw' : Nat} (S : St B h H s dn tt tu mw) (hm : mw ≤ mw') : St B h H s dn tt tu mw' := by
  obtain ⟨J, c1, c2, c3, c4, c5, c6, c7⟩ := S
  exact ⟨⟨J.1, J.2.1, J.2.2.1, J.2.2.2.1, J.2.2.2.2.1, J.2.2.2.2.2.1, by have := J.2.2.2.2.2.2; omega⟩, c1, c2, c3, c4, c5, fun i hi => by have := c6 i hi; omega, c7⟩
section DEFINE
variable {gv : Nat → Int} {B n d m k : Nat} {h : AH} {H : Nat → Nat → Int} {s : Nat → Nat} {dn tt tu mw nv nc : Nat} {b u : Nat → Int}
theorem SgP.b7 {t : AH} {a : Nat} (S : SgP B h (B + 8) a m u) (ha : a ≠ B + 7) (g : Agr (fun c _ => c = B + 7) h t) : SgP B t (B + 8) a m u := by
  obtain ⟨s1, s2, ⟨N, s3, s4⟩, s5, s6, s7⟩ := S
  exact ⟨⟨by rw [g.hk]; exact s1.1, s1.2⟩, by rw [g.at _ _ (by omega)]; exact s2, ⟨N, by rw [g.hk]; exact s3, s4⟩, by rw [g.at _ _ (by omega)]; exact s5, fun i hi => by rw [g.at _ _ (by omega)]; exact s6 i hi, s7⟩
/-- what define answers -/
def DefR (B : Nat) (H : Nat → Nat → Int) (dn tu mw nv nc k : Nat) (b u : Nat → Int) (m : Nat) (h : AH) (x : Int) (h' : AH) : Prop := ∃ X N P, dfS (H dn) nv nc k b u m = .inr (X, N, P) ∧ ((fdC (H dn) nv b u m 0 < 0 ∧ nv = 40 ∧ x = 40 ∧ Agr (dfW B) h h') ∨ (¬ (fdC (H dn) nv b u m 0 < 0 ∧ nv = 40) ∧ x = (if fdC (H dn) nv b u m 0 < 0 then (nv : Int) else fdC (H dn) nv b u m 0) ∧ ∃ h1, Agr (dfW B) h h1 ∧ SX1 B h1 h' ∧ ∃ s', St B h' (fun i => if i ≤ dn then H i else dfC (H dn) nv k b u m) s' (dn + 1) (dn + 1) (tu + 1) (mw + 70)))
def DefE (B : Nat) (H : Nat → Nat → Int) (dn nv nc k : Nat) (b u : Nat → Int) (m : Nat) (h : AH) (x : Int) (h' : AH) : Prop := ∃ e h1, dfS (H dn) nv nc k b u m = .inl e ∧ Agr (dfW B) h h1 ∧ WrX h1 (e : Int) x h'
set_option maxHeartbeats 4000000 in
theorem c_define190 (l : LX B n h) (hd : 420 ≤ d) (S : St B h H s dn tt tu mw) (D : DW (H dn) nv nc) (T : FnB gv B h) (hm : m ≤ 240) (hbb : ∀ i, hv h (B + 26) i = b i) (hb : ∀ i, i < m → -128 ≤ b i ∧ b i < 128) (hu : ∀ i, u i = b i % 256) (hk' : k < nc) (hdn : dn < 100) (htu : tu < 1000000) (hmw : mw + 100 < 1000000) (h11 : hv h (B + 7) 11 = 0) :
    Vtx 0 (cll PP (ev PP (gsF gv) B) d 190 [(2, rf (B + 7)), (2, rf (B + 26)), (0, (m : Int)), (0, (k : Int))] h) (DefR B H dn tu mw nv nc k b u m h) (DefE B H dn nv nc k b u m h) := by
  have hb0 := l.2.2
  have hnc := D.2.2.2.2.1
  have hcs : ∀ z, z < 37368 → hv h (B + 2) z = H dn z := S.2.2.2.2.2.2.2
  have J3 := S.1.2.2.1
  refine Vtx.into (D := 419) hd (Nat.le_of_ble_eq_true rfl) rfl (fun d hd => ?_)
  refine Ends.eq (b190_0 (n := n) (by (repeat' first | assumption | refine LX.setF _ _ ?_ (by decide +kernel) | refine LX.setS ?_ rfl | refine LX.setA ?_ (by first | assumption | omega))) (by first | assumption | omega)) ?_
  have l1 : LX B n (hset h (B + 7) 12 (-1)) := LX.setF 7 12 l (by decide +kernel)
  have g1 : Agr (dfW B) h (hset h (B + 7) 12 (-1)) := Agr.rf.set (Or.inl ⟨rfl, by decide, by decide, by decide⟩)
  generalize hset h (B + 7) 12 (-1) = h1 at *
  have tape : ∀ q, Agr (dfW B) h q → ∀ i, hv q (B + 26) i = b i := fun q g i => by rw [g.at _ _ (by unfold dfW; omega)]; exact hbb i
  have TT : ∀ q, Agr (dfW B) h q → FnB gv B q := fun q g => T.agr g (fun c z hc => by unfold dfW; omega)
  refine Ends.cv l1 (by decide +kernel) (c_open (u := u) l1 (by omega) ⟨lk_8 l1, by omega⟩ (TT _ g1).1.1 (lk_26 l1) (by omega) (by omega) (fun i hi => by rw [tape _ g1, hu])) (fun h2 l2 _ _ _ ⟨g2, S2, R2⟩ => ?_)
  have G2 : Agr (dfW B) h h2 := g1.tr g2 (fun c z w => Or.inr (Or.inl w))
  obtain ⟨t1, t2, t3⟩ := tk_le (u := u) (m := m) (Nat.zero_le m)
  have hn2 := l2.2.2
  refine Ends.eq (b190_14 (n := n) (by (repeat' first | assumption | refine LX.setF _ _ ?_ (by decide +kernel) | refine LX.setS ?_ rfl | refine LX.setA ?_ (by first | assumption | omega))) (by first | assumption | omega)) ?_
  rw [R2.1]
  have thr32 : dfS (H dn) nv nc k b u m = .inl (tkF u m 0) → ∀ u4 u5 u6 u7 u8 : AV, Ends (ev PP (gsF gv) B d 190 32 [(2, rf (B + 7)), (2, rf (B + 26)), (0, (m : Int)), (0, (k : Int)), u4, u5, u6, u7, u8] [] h2) (fun r => (∃ x h', r = ((0, (0, x)), h') ∧ DefR B H dn tu mw nv nc k b u m h x h') ∨ ∃ x h', r = ((1, (2, x)), h') ∧ DefE B H dn nv nc k b u m h x h') := fun hds u4 u5 u6 u7 u8 => by
    refine Ends.eq (b190_32 (n := n) (by (repeat' first | assumption | refine LX.setF _ _ ?_ (by decide +kernel) | refine LX.setS ?_ rfl | refine LX.setA ?_ (by first | assumption | omega))) (by first | assumption | omega)) ?_
    refine Ends.ct l2 (by decide +kernel) (by decide) (c_wrong l2 (by omega) ⟨lk_8 l2, by omega⟩ (by omega) R2.2.1) (fun x h3 l3 _ _ _ ⟨ex, eh⟩ => ?_)
    have w : WrX h2 (tkF u m 0 : Int) x h3 := ⟨ex, eh⟩
    refine Ends.eq (b190_39 (n := n) (by (repeat' first | assumption | refine LX.setF _ _ ?_ (by decide +kernel) | refine LX.setS ?_ rfl | refine LX.setA ?_ (by first | assumption | omega))) (by first | assumption | omega)) ?_
    exact Ends.g ⟨by rw [ex]; exact rf_pos _, w.k⟩ (Ends.th w.c rfl (Or.inr ⟨_, _, rfl, _, h2, hds, G2, w⟩))
  by_cases k1 : tkK u m 0 = 1
  rotate_left
  · exact Ends.b1 (fun _ => thr32 (itP_f (fun z => k1 z.1)) _ _ _ _ _) (fun z => absurd (show tkK u m 0 = 1 by omega) k1)
  refine Ends.b1 (fun z => absurd (show ((tkK u m 0 : Nat) : Int) = 1 by omega) z) (fun _ => ?_)
  have hw2 : ∀ i, i < m → -128 ≤ hv h2 (B + 26) i ∧ hv h2 (B + 26) i < 128 := fun i hi => by rw [tape _ G2]; exact hb i hi
  refine Ends.ct l2 (by decide +kernel) (by decide) (c_isKept l2 (by omega) S2 (TT _ G2) R2 (Nat.zero_le m) hw2) (fun x h3 l3 _ _ _ ⟨e3, w3⟩ => ?_)
  subst e3
  refine Ends.eq (b190_29 (n := n) (by (repeat' first | assumption | refine LX.setF _ _ ?_ (by decide +kernel) | refine LX.setS ?_ rfl | refine LX.setA ?_ (by first | assumption | omega))) (by first | assumption | omega)) ?_
  rcases w3 with ⟨w3, rfl⟩ | ⟨w3, rfl⟩
  · exact Ends.b0 (fun z => absurd z (by decide)) (fun _ => thr32 (itP_f (fun z => z.2 w3)) _ _ _ _ _)
  refine Ends.b0 (fun _ => ?_) (fun z => absurd rfl z)
  have ln := (wd_ch k1).2.2.1
  refine Ends.ct l3 (by decide +kernel) (by decide) (c_find (c := H dn) (f := tkF u m 0) (t := tkT u m 0 - tkF u m 0) (nv := nv) (N := 8192) l3 (by omega) R2.2.1 (by rw [R2.2.2.1]; congr 1; omega) S2.2.1 (lk_26 l3) (by omega) (by decide) ln (fun z hz => by rw [G2.at _ _ (by unfold dfW; omega)]; exact hcs z hz) D.1 D.2.1) (fun x h4 l4 _ _ _ ⟨ex, e4⟩ => ?_)
  subst e4
  have efd : x = fdC (H dn) nv b u m 0 := by
    rw [ex, show hv h4 (B + 26) = b from funext (tape _ G2)]; rfl
  clear ex
  have fdr := fdN_r (nmP (H dn) b (tkF u m 0) (tkT u m 0 - tkF u m 0)) nv 0
  have fdr : -1 ≤ x ∧ x < (nv : Int) := by
    rw [efd]
    unfold fdC
    rcases fdr with e | ⟨e1, e2⟩
    · rw [e]; omega
    · omega
  refine Ends.eq (b190_44 (n := n) (by (repeat' first | assumption | refine LX.setF _ _ ?_ (by decide +kernel) | refine LX.setS ?_ rfl | refine LX.setA ?_ (by first | assumption | omega))) (by first | assumption | omega)) ?_
  by_cases hbad : x < 0 ∧ 0 < k
  · refine Ends.b3 (fun z => by omega) (fun _ => Ends.b5 (fun z => by omega) (fun _ => ?_))
    have hds : dfS (H dn) nv nc k b u m = .inl (tkF u m 0) := (itP_t ⟨k1, w3⟩).trans (itP_t (by rw [← efd]; exact hbad))
    refine Ends.ct l4 (by decide +kernel) (by decide) (c_wrong l4 (by omega) ⟨lk_8 l4, by omega⟩ (by omega) R2.2.1) (fun x5 h5 l5 _ _ _ ⟨ex, eh⟩ => ?_)
    have w : WrX h4 (tkF u m 0 : Int) x5 h5 := ⟨ex, eh⟩
    refine Ends.eq (b190_62 (n := n) (by (repeat' first | assumption | refine LX.setF _ _ ?_ (by decide +kernel) | refine LX.setS ?_ rfl | refine LX.setA ?_ (by first | assumption | omega))) (by first | assumption | omega)) ?_
    exact Ends.g ⟨by rw [ex]; exact rf_pos _, w.k⟩ (Ends.th w.c rfl (Or.inr ⟨_, _, rfl, _, h4, hds, G2, w⟩))
  have go : ∀ u5 u6 u7 u8 : AV, Ends (ev PP (gsF gv) B d 190 63 [(2, rf (B + 7)), (2, rf (B + 26)), (0, (m : Int)), (0, (k : Int)), (0, x), u5, u6, u7, u8] [] h4) (fun r => (∃ x h', r = ((0, (0, x)), h') ∧ DefR B H dn tu mw nv nc k b u m h x h') ∨ ∃ x h', r = ((1, (2, x)), h') ∧ DefE B H dn nv nc k b u m h x h') := by
    intro u5 u6 u7 u8
    refine Ends.eq (b190_63 (n := n) (by (repeat' first | assumption | refine LX.setF _ _ ?_ (by decide +kernel) | refine LX.setS ?_ rfl | refine LX.setA ?_ (by first | assumption | omega))) (by first | assumption | omega)) ?_
    rw [R2.2.1, show hv h4 (B + 8) 4 = ((tkF u m 0 + (tkT u m 0 - tkF u m 0) : Nat) : Int) from by rw [R2.2.2.1]; congr 1; omega]
    refine Ends.cv l4 (by decide +kernel) (c_sgNext l4 (by omega) S2 (TT _ G2).1.1 R2.2.2.1 t2) (fun h5 l5 _ _ _ ⟨g5, R5⟩ => ?_)
    have sgd : ∀ c z, sgW (B + 8) c z → dfW B c z := fun c z w => Or.inr (Or.inl w.1)
    have G5 : Agr (dfW B) h h5 := G2.tr g5 sgd
    have S5 := S2.agr g5
    have hn5 := l5.2.2
    obtain ⟨p1, p2, p3⟩ := tk_le (u := u) (m := m) t2
    refine Ends.eq (b190_88 (n := n) (by (repeat' first | assumption | refine LX.setF _ _ ?_ (by decide +kernel) | refine LX.setS ?_ rfl | refine LX.setA ?_ (by first | assumption | omega))) (by first | assumption | omega)) ?_
    refine Ends.cvx l5 (by decide +kernel) (c_need l5 (by omega) S5 (by omega) (TT _ G5).1.1 R5 p2) (fun h6 l6 _ _ ⟨sg, g6, R6⟩ => ?_) (fun x6 h6 l6 _ _ ⟨ns, w⟩ => ?_)
    rotate_left
    · exact Ends.th w.c rfl (Or.inr ⟨_, _, rfl, _, h5, (itP_t ⟨k1, w3⟩).trans ((itP_f (by rw [← efd]; exact hbad)).trans (if_neg (fun z => ns (isSg_iff.mp z)))), G5, w⟩)
    have G6 : Agr (dfW B) h h6 := G5.tr g6 sgd
    have S6 := S5.agr g6
    refine Ends.eq (b190_97 (n := n) (by (repeat' first | assumption | refine LX.setF _ _ ?_ (by decide +kernel) | refine LX.setS ?_ rfl | refine LX.setA ?_ (by first | assumption | omega))) (by first | assumption | omega)) ?_
    rw [R6.2.1]
    generalize eh7 : hset (hset h6 (B + 7) 12 x) (B + 7) 13 (k : Int) = h7
    have l7 : LX B n h7 := by rw [← eh7]; exact LX.setF 7 13 (LX.setF 7 12 l6 (by decide +kernel)) (by decide +kernel)
    have g7 : Agr (fun c z => c = B + 7 ∧ (z = 12 ∨ z = 13)) h6 h7 := by rw [← eh7]; exact (Agr.rf.set ⟨rfl, Or.inl rfl⟩).set ⟨rfl, Or.inr rfl⟩
    have v12 : hv h7 (B + 7) 12 = x := by rw [← eh7, hv_set_ne (by omega)]; exact hv_set_at ..
    have v13 : hv h7 (B + 7) 13 = (k : Int) := by rw [← eh7]; exact hv_set_at ..
    clear eh7
    have G7 : Agr (dfW B) h h7 := G6.tr g7 (fun c z w => by unfold dfW; omega)
    have S7 : SgP B h7 (B + 8) (B + 26) m u := S6.b7 (by omega) (g7.sub (fun c z w => w.1))
    have R7 : SgT h7 (B + 8) u m (tkT u m (tkT u m 0)) := R6.agr g7 (fun z => by omega)
    have v11 : hv h7 (B + 7) 11 = 0 := by rw [G7.at _ _ (by unfold dfW; omega)]; exact h11
    have F7 : FC gv B (B + 26) m u (H dn) b nv x (k : Int) h7 := ⟨⟨S7, TT _ G7, by omega, fun i hi => by rw [tape _ G7]; exact hb i hi, fun z hz => by rw [G7.at _ _ (by unfold dfW; omega)]; exact hcs z hz, D.1, D.2.1, v12, hm, 8192, lk_26 l7, by omega, by decide⟩, tape _ G7, fun v p h0 => absurd v11 h0, v13⟩
    refine Ends.cvx l7 (by decide +kernel) (c_fmCheck0 (p := tkT u m (tkT u m 0)) l7 (by omega) F7 R7 TkR.z.s.s p2 D (by omega) v11) (fun h8 l8 _ _ ⟨X, N, P, er, g8, R8, hP1, hP2⟩ => ?_) (fun x8 h8 l8 _ _ ⟨e, hq, er, g8, w⟩ => ?_)
    rotate_left
    · have fwd : ∀ c z, FW B 0 c z → dfW B c z := fun c z w => by unfold FW at w; unfold dfW; omega
      refine Ends.th w.c rfl (Or.inr ⟨_, _, rfl, e, hq, (itP_t ⟨k1, w3⟩).trans ((itP_f (by rw [← efd]; exact hbad)).trans ((if_pos (isSg_iff.mpr sg)).trans ?_)), G7.tr g8 fwd, w⟩)
      rw [← efd, er]; rfl
    have G8 : Agr (dfW B) h h8 := G7.tr g8 (fun c z w => by unfold FW at w; unfold dfW; omega)
    have hn8 := l8.2.2
    refine Ends.eq (b190_121 (n := n) (by (repeat' first | assumption | refine LX.setF _ _ ?_ (by decide +kernel) | refine LX.setS ?_ rfl | refine LX.setA ?_ (by first | assumption | omega))) (by first | assumption | omega)) ?_
    rw [R8.1]
    by_cases k0 : tkK u m P = 0
    rotate_left
    · refine Ends.b0 (fun z => absurd (show tkK u m P = 0 by omega) k0) (fun _ => ?_)
      refine Ends.ct l8 (by decide +kernel) (by decide) (c_wrong l8 (by omega) ⟨lk_8 l8, by omega⟩ (by omega) R8.2.1) (fun x9 h9 l9 _ _ _ ⟨ex, eh⟩ => ?_)
      have w : WrX h8 (tkF u m P : Int) x9 h9 := ⟨ex, eh⟩
      refine Ends.eq (b190_138 (n := n) (by (repeat' first | assumption | refine LX.setF _ _ ?_ (by decide +kernel) | refine LX.setS ?_ rfl | refine LX.setA ?_ (by first | assumption | omega))) (by first | assumption | omega)) ?_
      refine Ends.g ⟨by rw [ex]; exact rf_pos _, w.k⟩ (Ends.th w.c rfl (Or.inr ⟨_, _, rfl, _, h8, (itP_t ⟨k1, w3⟩).trans ((itP_f (by rw [← efd]; exact hbad)).trans ((if_pos (isSg_iff.mpr sg)).trans ?_)), G8, w⟩))
      rw [← efd, er]
      show (if tkK u m P = 0 then _ else _) = _
      rw [if_neg k0]
    have hds : dfS (H dn) nv nc k b u m = .inr (X, N, P) := by
      refine (itP_t ⟨k1, w3⟩).trans ((itP_f (by rw [← efd]; exact hbad)).trans ((if_pos (isSg_iff.mpr sg)).trans ?_))
      rw [← efd, er]
      show (if tkK u m P = 0 then _ else _) = _
      rw [if_pos k0]
    rw [k0]
    refine Ends.b0 (fun _ => ?_) (fun z => absurd rfl z)
    have l9 : LX B n (hset h8 (B + 7) 12 (-1)) := LX.setF 7 12 l8 (by decide +kernel)
    have G9 : Agr (dfW B) h (hset h8 (B + 7) 12 (-1)) := G8.set (Or.inl ⟨rfl, by decide, by decide, by decide⟩)
    generalize hset h8 (B + 7) 12 (-1) = h9 at *
    have hn9 := l9.2.2
    have go165 : ¬ (x < 0 ∧ nv = 40) → ∀ u8 : AV, Ends (ev PP (gsF gv) B d 190 165 [(2, rf (B + 7)), (2, rf (B + 26)), (0, (m : Int)), (0, (k : Int)), (0, x), (0, ((tkF u m 0 : Nat) : Int)), (0, ((tkF u m 0 + (tkT u m 0 - tkF u m 0) : Nat) : Int)), (0, ((tkF u m (tkT u m (tkT u m 0)) : Nat) : Int)), u8] [] h9) (fun r => (∃ x h', r = ((0, (0, x)), h') ∧ DefR B H dn tu mw nv nc k b u m h x h') ∨ ∃ x h', r = ((1, (2, x)), h') ∧ DefE B H dn nv nc k b u m h x h') := by
      intro hfull u8
      have St9 : St B h9 H s dn tt tu mw := S.ext hb0 G9.ext (fun a z w => by unfold dfW; omega)
      have J9 := St9.1
      refine Ends.eq (b190_165 (n := n) (by (repeat' first | assumption | refine LX.setF _ _ ?_ (by decide +kernel) | refine LX.setS ?_ rfl | refine LX.setA ?_ (by first | assumption | omega))) (by first | assumption | omega)) ?_
      refine Ends.cv l9 (by decide +kernel) (c_stBegin l9 (by omega) St9 hdn htu) (fun h10 l10 n10 _ _ ⟨_, x10, S10⟩ => ?_)
      have tp10 : ∀ i, hv h10 (B + 26) i = b i := fun i => by rw [x10.at J9 hn9 (by omega) i]; exact tape _ G9 i
      have hf2 : tkF u m (tkT u m (tkT u m 0)) ≤ m := Nat.le_trans (tk_le (u := u) (m := m) p2).1 (tk_le (u := u) (m := m) p2).2.1
      have hn40 := D.2.1
      by_cases hneg : x < 0
      · have hk0 : k = 0 := by omega
        subst hk0
        refine e_def172 (N := 8192) (v := nv) l10 (by omega) S10 (by omega) D.1 (lk_26 l10) rfl (by omega) (by decide) hf2 hm ln (by omega) (fun i hi => by rw [tp10]; exact hb i hi) (by omega) hdn hneg (fun h' X11 ⟨s', S11⟩ => ?_)
        refine Or.inl ⟨_, _, rfl, X, N, P, hds, Or.inr ⟨by rw [← efd]; exact hfull, by rw [if_pos (by rw [← efd]; exact hneg)], h9, G9, x10.one.tr X11, s', ?_⟩⟩
        have e1 : (fun z => hv h10 (B + 26) (tkF u m 0 + z)) = (fun z => b (tkF u m 0 + z)) := funext (fun z => tp10 _)
        have e2 : (fun z => hv h10 (B + 26) (tkF u m (tkT u m (tkT u m 0)) + z)) = (fun z => b (tkF u m (tkT u m (tkT u m 0)) + z)) := funext (fun z => tp10 _)
        rw [e1, e2] at S11
        unfold dfC
        rw [if_pos (by rw [← efd]; exact hneg)]
        exact S11.mw (by omega)
      · obtain ⟨v, ev⟩ : ∃ v : Nat, x = (v : Int) := ⟨x.toNat, by omega⟩
        rw [ev]
        refine Ends.eq (b190_172 (n := n) (by (repeat' first | assumption | refine LX.setF _ _ ?_ (by decide +kernel) | refine LX.setS ?_ rfl | refine LX.setA ?_ (by first | assumption | omega))) (by first | assumption | omega)) ?_
        refine Ends.b3 (fun _ => ?_) (fun z => by omega)
        refine e_def403 (N := 8192) (v := v) l10 (by omega) S10 (by omega) (by omega) (lk_26 l10) (by omega) (by omega) (by decide) hf2 hm (by omega) hdn (fun h' X11 ⟨s', S11⟩ => ?_)
        refine Or.inl ⟨_, _, rfl, X, N, P, hds, Or.inr ⟨by rw [← efd]; exact hfull, by rw [if_neg (by rw [← efd]; exact hneg), ← efd, ev], h9, G9, x10.one.tr X11.one, s', ?_⟩⟩
        have e2 : (fun z => hv h10 (B + 26) (tkF u m (tkT u m (tkT u m 0)) + z)) = (fun z => b (tkF u m (tkT u m (tkT u m 0)) + z)) := funext (fun z => tp10 _)
        rw [e2] at S11
        unfold dfC
        rw [if_neg (by rw [← efd]; exact hneg), ← efd, ev, Int.toNat_natCast]
        exact S11.mw (by omega)
    have v0 : v447 B h9 0 = (nv : Int) := by
      unfold v447
      rw [G9.at _ _ (by unfold dfW; omega)]
      exact (hcs 0 (by decide)).trans D.1
    rw [v0]
    refine Ends.b3 (fun z => go165 (fun w => by omega) _) (fun z => Ends.g (by unfold q447; omega) (Ends.b1 (fun ne => go165 (fun w => ne (by omega)) _) (fun eq => ?_)))
    exact Ends.sm (Or.inl ⟨_, _, rfl, X, N, P, hds, Or.inl ⟨by rw [← efd]; exact z, by omega, rfl, G9⟩⟩)
  exact Ends.b3 (fun _ => go _ _ _ _) (fun z => Ends.b5 (fun _ => go _ _ _ _) (fun z2 => absurd ⟨z, by omega⟩ hbad))
end DEFINE
