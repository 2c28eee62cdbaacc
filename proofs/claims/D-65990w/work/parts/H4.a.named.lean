/-! L3: a face by the name that a field holds (desk) -/
noncomputable section NMD
variable {gv : Nat → Int} {B n d m f k pc cap kc mm : Nat} {h t : AH} {S : Nat → Bool} {ka F mk : Nat → Nat} {c N u : Nat → Int}
/-- where a field's text lies -/
def fdA (f k : Nat) : Nat := feA f + 6 + 61 * k
theorem fdA_b (hf : f < 24) (hk : k < 8) : fdA f k + 61 ≤ 37368 := by unfold fdA feA; omega
theorem v267_is (hf : f < 24) (hk : k < 8) : v267 (f : Int) (k : Int) = ((fdA f k : Nat) : Int) := by
  unfold v267 fdA
  rw [v254_is hf, show bop32 96 ((feA f : Nat) : Int) (6 : Int) = ((feA f + 6 : Nat) : Int) from addNN (y := 6) (by unfold feA; omega), show bop32 104 (k : Int) (61 : Int) = ((k * 61 : Nat) : Int) from mulNN (y := 61) (by omega), addNN (by unfold feA; omega), Nat.mul_comm k 61]
/-- a text that is a name -/
def NmT (c : Nat → Int) (a : Nat) (N : Nat → Int) : Prop := ∃ (m : Nat) (b : Nat → Int), TxAt c a b m ∧ m ≤ 240 ∧ nmO (fun i => b i % 256) m 0 3 ∧ ∀ j, j < 3 → N j = nbV (fun i => b i % 256) m (nst (fun i => b i % 256) m 0 j)
theorem c_read298 (l : LX B n h) (hd : 14 ≤ d) (fc : FcN B n h pc cap ka kc) (fd : FdS B n h S mm F ka kc) (ms : MkS B h (mmk mk F) (mdr F) (min mm 4096)) (hm : m ≤ 240) (hb : ∀ i, i < m → (-128 ≤ hv h (B + 105) i ∧ hv h (B + 105) i < 128) ∧ hv h (B + 105) i % 256 = u i) (hz : hv h (B + 105) m = 0) (o : nmO u m 0 3) :
    Vt 0 (cll PP (ev PP (gsF gv) B) d 298 [(2, rf (B + 92)), (2, rf (B + 105)), (0, 0)] h) (fun v h' => FnR (mmk mk F) (mdr F) (min mm 4096) (nbV u m (nst u m 0 0)) (nbV u m (nst u m 0 1)) (nbV u m (nst u m 0 2)) v ∧ Agr (fun c k => c = B + 109 ∧ k < 6) h h') := by
  have hb0 := l.2.2
  refine Vt.inq (D := 13) hd (Nat.le_of_ble_eq_true rfl) rfl (fun d hd Q K => ?_)
  refine Ends.eq (b298_0 l (by omega)) ?_
  have k105 : ∀ {q : AH}, LX B n q → hk q (B + 105) = (2 + 2, 260) := fun lq => lk_105 lq
  have k109 : ∀ {q : AH}, LX B n q → hk q (B + 109) = (0 + 2, 16) := fun lq => lk_109 lq
  have key : ∀ (r j : Nat) (q : AH) (u6 : AV), j + r = 3 → LX B n q → Agr (fun c k => c = B + 109 ∧ k < 6) h q → (∀ i, i < j → hv q (B + 109) i = nbV u m (nst u m 0 i)) → Ends (ev PP (gsF gv) B d 298 11 [(2, rf (B + 92)), (2, rf (B + 105)), (0, 0), (0, ((nst u m 0 j : Nat) : Int)), (2, rf (B + 109)), (0, (j : Int)), u6] [] q) Q := by
    intro r
    induction r with
    | zero =>
      intro j q u6 e lq g I
      obtain rfl : j = 3 := by omega
      have i109 : hk q (B + 109) = (0 + 2, 16) := k109 lq
      refine Ends.eq (b298_11 lq (by omega)) ?_
      rw [ad_rf, i109, show Int.toNat (0 : Int) = 0 from rfl, show Int.toNat (1 : Int) = 1 from rfl, show Int.toNat (2 : Int) = 2 from rfl, I 0 (by decide), I 1 (by decide), I 2 (by decide)]
      refine Ends.b3 (fun _ => Ends.g ⟨rf_pos _, rfl, by decide, by decide⟩ (Ends.g ⟨rf_pos _, rfl, by decide, by decide⟩ (Ends.g ⟨rf_pos _, rfl, by decide, by decide⟩ ?_))) (fun z => absurd z (by decide))
      have n27 : ∀ i, i < 39 → rgC i = 27 ∨ rgC i = 53 ∨ rgC i = 93 ∨ rgC i = 94 ∨ rgC i = 83 ∨ rgC i = 81 := fun i hi => rg_in ⟨i, hi⟩
      have f2 : FcN B n q pc cap ka kc := fc.exg hb0 g.ext.exg (fun c k a b z => by omega) (fun k z => by omega) (fun i hi z => by have := n27 i hi; omega) (fun k a b z => by omega)
      have A := f2.2.2.2.2
      obtain ⟨f1, f2', f3, f4, f5⟩ := id fd
      have m4 : min mm 4096 ≤ 4096 := Nat.min_le_right _ _
      have kaN : ∀ k, ¬ (ka 0 = B + 109 ∧ k < 6) := fun k z => by
        have x1 := (A.2.1.1 0 (by decide)).2.1
        have x2 := (A.2.1.1 0 (by decide)).2.2.1
        rcases x2 with y | y <;> omega
      have drr : ∀ k, k < min mm 4096 → hv q (ka 0) k = mdr F k := fun k hk => by rw [g.at _ _ (kaN k), f5 k hk 0 (by decide)]; unfold kpV mdr; rw [if_pos rfl]
      have ms2 : MkS B q (mmk mk F) (mdr F) (min mm 4096) := fun i hi => by rw [g.at _ _ (by omega), g.at _ _ (by omega)]; exact ms i hi
      refine Ends.ct lq (by decide +kernel) (by decide) (c_faceOf264 lq (by omega) m4 f4 A (by rw [g.at _ _ (by omega)]; exact f3) drr ms2) (fun v q2 l2 _ _ _ ⟨r, e2⟩ => ?_)
      rw [e2]
      exact Ends.eq (b298_81 lq (by omega)) (Ends.sm (K _ _ ⟨r, g⟩))
    | succ r ih =>
      intro j q u6 e lq g I
      have hj : j < 3 := by omega
      obtain ⟨o1, o2⟩ := o j hj
      obtain ⟨s, es⟩ : ∃ s, s = nst u m 0 j := ⟨_, rfl⟩
      have sl := (nst_le o hj (Nat.zero_le m)).2
      rw [← es] at sl o1 o2 ⊢
      obtain ⟨w1, w2, -⟩ := o1
      have ge : s ≤ en isD u m s := en_ge
      have ed : en isD u m s = s + ndg u m s := by unfold ndg; omega
      have dg : ∀ i, i < ndg u m s → s + i < m ∧ isD (u (s + i)) = true := fun i hi => isD_chr (en_all' (u := u) (m := m) (p := s) (i := s + i) (by omega) (by omega))
      refine Ends.eq (b298_11 lq (by omega)) (Ends.b3 (fun z => by omega) (fun _ => ?_))
      have i105 : hk q (B + 105) = (2 + 2, 260) := k105 lq
      have i109 : hk q (B + 109) = (0 + 2, 16) := k109 lq
      have run : ∀ (r x : Nat), x + r = ndg u m s → Ends (ev PP (gsF gv) B d 298 20 [(2, rf (B + 92)), (2, rf (B + 105)), (0, 0), (0, ((s + x : Nat) : Int)), (2, rf (B + 109)), (0, (j : Int)), (0, hor u x s 0)] [] q) Q := by
        intro r
        induction r with
        | zero =>
          intro x ex
          have xm : s + x ≤ m := by
            have := (dg (x - 1) (by omega)).1
            omega
          refine Ends.eq (b298_20 lq (by omega)) ?_
          rw [ad_rf, ad_rf, i105, i109, tn, g.at (B + 105) _ (by omega), v369_is]
          have nd : isD (hv h (B + 105) (s + x)) = false := by
            rcases (by omega : s + x < m ∨ s + x = m) with z | z
            · have y := en_D (u := u) (m := m) s
              rw [show en isD u m s = s + x by omega, chr_lt z] at y
              rw [(byD (hb _ z).1.1 (hb _ z).1.2 (hb _ z).2).1]; exact y
            · rw [z, hz]; rfl
          rw [nd, if_neg Bool.false_ne_true, tn, an0, w_succ (by omega), w_succ (i := j) (by omega)]
          refine Ends.g ⟨rf_pos _, rfl, by omega, by show ((s + x : Nat) : Int) < ((260 : Nat) : Int); omega⟩ (Ends.b0 (fun _ => Ends.g ⟨rf_pos _, rfl, by omega, by show (j : Int) < ((16 : Nat) : Int); omega, by omega⟩ ?_) (fun z => absurd rfl z))
          have nx : s + x + 1 = nst u m 0 (j + 1) := by
            show s + x + 1 = en isD u m (nst u m 0 j) + 1
            rw [← es]; omega
          rw [nx]
          refine ih (j + 1) _ _ (by omega) (LX.setS lq rfl) (g.set ⟨rfl, by omega⟩) (fun i hi => ?_)
          by_cases z : i = j
          · rw [z, hv_set_at, ← es]
            unfold nbV
            rw [show ndg u m s = x by omega]
          · rw [hv_set_ne (fun y => z y.2)]; exact I i (by omega)
        | succ r ihr =>
          intro x ex
          obtain ⟨zi, zd⟩ := dg x (by omega)
          obtain ⟨b1, b2⟩ := hor_at (u := u) (p := s) (k := x) (by omega) (fun i hi => (dg i (by omega)).2)
          obtain ⟨y1, y2, y3, y4⟩ := byD (hb _ zi).1.1 (hb _ zi).1.2 (hb _ zi).2
          have cu := y4 (y1.trans zd)
          have cr := isD_r zd
          refine Ends.eq (b298_20 lq (by omega)) ?_
          rw [ad_rf, ad_rf, i105, i109, tn, g.at (B + 105) _ (by omega), v369_is, y1, zd, if_pos rfl, cu]
          refine Ends.g ⟨rf_pos _, rfl, by omega, by show ((s + x : Nat) : Int) < ((260 : Nat) : Int); omega⟩ (Ends.b0 (fun z => absurd z (by decide)) (fun _ => ?_))
          have nx := ihr (x + 1) (by omega)
          rw [hor_s] at nx
          rw [w_succ (by omega), mul32 (x := 10) (by omega) (by omega), add32 (by omega) (by omega), sub32 (by omega) (by omega), show 10 * hor u x s 0 + u (s + x) - 48 = 10 * hor u x s 0 + (u (s + x) - 48) by omega]
          exact nx
      exact run (ndg u m s) 0 (Nat.zero_add _)
  exact key 3 0 h _ rfl l Agr.rf (fun i hi => absurd hi (Nat.not_lt_zero i))
theorem c_named287 (l : LX B n h) (hd : 18 ≤ d) (fc : FcN B n h pc cap ka kc) (fd : FdS B n h S mm F ka kc) (ms : MkS B h (mmk mk F) (mdr F) (min mm 4096)) (hc : ∀ z, z < 37368 → hv h (B + 2) z = c z) (hf : f < 24) (hk8 : k < 8) (T : NmT c (fdA f k) N) :
    Vt 0 (cll PP (ev PP (gsF gv) B) d 287 [(2, rf (B + 92)), (0, (f : Int)), (0, (k : Int))] h) (fun v h' => FnR (mmk mk F) (mdr F) (min mm 4096) (N 0) (N 1) (N 2) v ∧ Agr (fun c _ => c = B + 105 ∨ c = B + 109) h h') := by
  have hb0 := l.2.2
  obtain ⟨m, b, T1, m240, o, eN⟩ := T
  have k105 : hk h (B + 105) = (4, 260) := lk_105 l
  refine Vt.inq (D := 17) hd (Nat.le_of_ble_eq_true rfl) rfl (fun d hd Q K => ?_)
  refine Ends.eq (b287_0 l (by omega)) ?_
  rw [v267_is hf hk8]
  refine Ends.ct l (by decide +kernel) (by decide) (c_stText l (by omega) hc (fdA_b hf hk8) k105 (by omega) T1 m240 (by omega)) (fun v h1 l1 _ _ _ ⟨ev', g1, by1⟩ => ?_)
  rw [ev']
  have i105 : hk h1 (B + 105) = (2 + 2, 260) := lk_105 l1
  refine Ends.eq (b287_20 l1 (by omega)) ?_
  rw [ad_rf, i105, tn, show anar 2 0 = 0 from by decide]
  refine Ends.g ⟨rf_pos _, rfl, by omega, by show (m : Int) < ((260 : Nat) : Int); omega, by omega⟩ ?_
  have l2 : LX B n (hset h1 (B + 105) m 0) := LX.setS l1 rfl
  have g2 : Agr (fun c _ => c = B + 105) h (hset h1 (B + 105) m 0) := (g1.sub (W' := fun c _ => c = B + 105) (fun c k z => z.1)).set rfl
  have w2 : ∀ i, i < m → hv (hset h1 (B + 105) m 0) (B + 105) i = b i := fun i hi => by rw [hv_set_ne (by omega)]; exact by1 i hi
  have z2 : hv (hset h1 (B + 105) m 0) (B + 105) m = 0 := hv_set_at ..
  generalize hset h1 (B + 105) m 0 = h2 at *
  have n27 : ∀ i, i < 39 → rgC i = 27 ∨ rgC i = 53 ∨ rgC i = 93 ∨ rgC i = 94 ∨ rgC i = 83 ∨ rgC i = 81 := fun i hi => rg_in ⟨i, hi⟩
  have f2 : FcN B n h2 pc cap ka kc := fc.exg hb0 g2.ext.exg (fun c k a b z => by omega) (fun k z => by omega) (fun i hi z => by have := n27 i hi; omega) (fun k a b z => by omega)
  have kaN : ∀ j k : Nat, j < 6 → ¬ (ka j = B + 105) := fun j k hj z => by
    have := (fc.2.2.2.2.2.1.1 j hj).2.2.1; omega
  have d2 : FdS B n h2 S mm F ka kc := fd.exg fc.2.2.2.2 hb0 g2.ext.exg (fun k hk z => by omega) (fun j k hj => kaN j k hj)
  have ms2 : MkS B h2 (mmk mk F) (mdr F) (min mm 4096) := fun i hi => by rw [g2.at _ _ (by omega), g2.at _ _ (by omega)]; exact ms i hi
  refine Ends.ct l2 (by decide +kernel) (by decide) (c_read298 (u := fun i => b i % 256) l2 (by omega) f2 d2 ms2 m240 (fun i hi => ⟨by rw [w2 i hi]; exact (T1.2 i hi).2, by rw [w2 i hi]⟩) z2 o) (fun v h3 l3 _ _ _ ⟨r, g3⟩ => ?_)
  rw [← eN 0 (by decide), ← eN 1 (by decide), ← eN 2 (by decide)] at r
  exact Ends.eq (b287_31 l3 (by omega)) (Ends.sm (K _ _ ⟨r, (g2.sub (fun c k z => Or.inl z)).tr g3 (fun c k z => Or.inr z.1)⟩))
end NMD
