/-! L3: dimensions told (both sides) -/
noncomputable section DMS
variable {gv : Nat → Int} {B n d m : Nat} {h t : AH} {u : Nat → Int}
def isSc (u : Nat → Int) (m p : Nat) : Prop := isSg u m p 59 = true
theorem isSc_iff {p : Nat} : isSc u m p ↔ (tkK u m p = 3 ∧ tkS u m p = 59) := by
  unfold isSc isSg; rw [Bool.and_eq_true, decide_eq_true_iff, decide_eq_true_iff]
def tlO (u : Nat → Int) (m p : Nat) : Prop := tkK u m p = 2 ∧ nBe u m (tkF u m p) = 1 ∧ nAb u m (tkF u m p) ≤ 200
/-- the places of the signs of a dimension's text -/
def dp1 (u : Nat → Int) (m : Nat) : Nat := nen u m (tkF u m 0) 3
def dp2 (u : Nat → Int) (m : Nat) : Nat := tkT u m (dp1 u m)
def dp3 (u : Nat → Int) (m : Nat) : Nat := nen u m (tkF u m (dp2 u m)) 3
def dp4 (u : Nat → Int) (m : Nat) : Nat := tkT u m (dp3 u m)
def dp5 (u : Nat → Int) (m : Nat) : Nat := tkT u m (dp4 u m)
def dp6 (u : Nat → Int) (m : Nat) : Nat := tkT u m (dp5 u m)
def dp7 (u : Nat → Int) (m : Nat) : Nat := tkT u m (dp6 u m)
/-- the text is wrong at e -/
def dmX (u : Nat → Int) (m e : Nat) : Prop := (¬ nmO u m (tkF u m 0) 3 ∧ e = tkF u m 0) ∨ (nmO u m (tkF u m 0) 3 ∧ ((¬ isSc u m (dp1 u m) ∧ e = tkF u m (dp1 u m)) ∨ (isSc u m (dp1 u m) ∧ ((¬ nmO u m (tkF u m (dp2 u m)) 3 ∧ e = tkF u m (dp2 u m)) ∨ (nmO u m (tkF u m (dp2 u m)) 3 ∧ ((¬ isSc u m (dp3 u m) ∧ e = tkF u m (dp3 u m)) ∨ (isSc u m (dp3 u m) ∧ ((¬ tlO u m (dp4 u m) ∧ e = tkF u m (dp4 u m)) ∨ (tlO u m (dp4 u m) ∧ ((¬ isSc u m (dp5 u m) ∧ e = tkF u m (dp5 u m)) ∨ (isSc u m (dp5 u m) ∧ ((¬ tlO u m (dp6 u m) ∧ e = tkF u m (dp6 u m)) ∨ (tlO u m (dp6 u m) ∧ tkK u m (dp7 u m) ≠ 0 ∧ e = tkF u m (dp7 u m))))))))))))))
def dmY (u : Nat → Int) (m : Nat) : Prop := nmO u m (tkF u m 0) 3 ∧ isSc u m (dp1 u m) ∧ nmO u m (tkF u m (dp2 u m)) 3 ∧ isSc u m (dp3 u m) ∧ tlO u m (dp4 u m) ∧ isSc u m (dp5 u m) ∧ tlO u m (dp6 u m) ∧ tkK u m (dp7 u m) = 0
theorem dmX.one {e e' : Nat} (a : dmX u m e) (b : dmX u m e') : e = e' := by
  unfold dmX at a b; grind
theorem dmX.no {e : Nat} (a : dmX u m e) (b : dmY u m) : False := by
  unfold dmX at a; unfold dmY at b; grind
/-- what is told -/
def dmV (u : Nat → Int) (m k : Nat) : Int := if k < 3 then nbV u m (nst u m (tkF u m 0) k) else if k < 6 then nbV u m (nst u m (tkF u m (dp2 u m)) (k - 3)) else if k = 6 then nAb u m (tkF u m (dp4 u m)) else nAb u m (tkF u m (dp6 u m))
theorem tk_num {p : Nat} (k2 : tkK u m p = 2) : isD (chr u m (tkF u m p)) = true ∧ nOK u m (tkF u m p) = true := by
  unfold tkK at k2
  by_cases a : chr u m (tkF u m p) < 0
  · rw [if_pos a] at k2; omega
  rw [if_neg a] at k2
  by_cases b : isL (chr u m (tkF u m p)) = true
  · rw [if_pos b] at k2
    by_cases c : en isW u m (tkF u m p) - tkF u m p ≤ 12
    · rw [if_pos c] at k2; omega
    · rw [if_neg c] at k2; omega
  rw [if_neg b] at k2
  by_cases c : isD (chr u m (tkF u m p)) = true
  · rw [if_pos c] at k2
    by_cases e : nOK u m (tkF u m p) = true
    · exact ⟨c, e⟩
    · rw [if_neg e] at k2; omega
  · rw [if_neg c] at k2; omega
theorem tkF_le {p : Nat} (hp : p ≤ m) : tkF u m p ≤ m := en_le hp
theorem nm_le {p : Nat} (hp : p ≤ m) (o : nmO u m (tkF u m p) 3) : nen u m (tkF u m p) 3 ≤ m := (nen_le o (by decide) (tkF_le hp)).2
/-- a name read by the desk -/
theorem c_nameSign63 {p at' : Nat} (l : LX B n h) (hd : 20 ≤ d) (S : SgP B h (B + 32) (B + 26) m u) (T : StrA gv h (gv 47) oneL) (hm : m ≤ 8192) (hb : ∀ i, i < m → (-128 ≤ hv h (B + 26) i ∧ hv h (B + 26) i < 128) ∧ hv h (B + 26) i % 256 = u i) (R : SgT h (B + 32) u m p) (hp : p ≤ m) (hat : at' ≤ 3) :
    Vx (cll PP (ev PP (gsF gv) B) d 63 [(2, rf (B + 0)), (0, (at' : Int))] h) (fun h' => nmO u m (tkF u m p) 3 ∧ Agr (fun c k => sgW (B + 32) c k ∨ (c = B + 33 ∧ at' ≤ k ∧ k < at' + 3)) h h' ∧ SgT h' (B + 32) u m (nen u m (tkF u m p) 3) ∧ ∀ j, j < 3 → hv h' (B + 33) (at' + j) = nbV u m (nst u m (tkF u m p) j)) (fun x h' => ¬ nmO u m (tkF u m p) 3 ∧ WrX h (tkF u m p : Int) x h') := by
  have hb0 := l.2.2
  have fl := tkF_le (u := u) hp
  have ka : hk h (B + 26) = (2 + 2, 8192) := lk_26 l
  refine Vx.into (D := 19) hd (Nat.le_of_ble_eq_true rfl) rfl (fun d hd => ?_)
  refine Ends.eq (b63_0 (n := n) (by (repeat' first | assumption | refine LX.setF _ _ ?_ (by decide +kernel) | refine LX.setS ?_ rfl | refine LX.setA ?_ (by first | assumption | omega))) (by first | assumption | omega)) ?_
  rw [R.2.1, S.2.2.2.1]
  refine Ends.ct l (by decide +kernel) (by decide) (c_nameEnd286 (a := B + 26) (p := tkF u m p) (NN := 8192) l (by omega) ka hm hm hb fl) (fun x h2 l2 _ _ _ ⟨e2, r⟩ => ?_)
  subst e2
  refine Ends.eq (b63_21 l2 (by omega)) ?_
  rcases r with ⟨o, ex⟩ | ⟨o, ex⟩
  · rw [ex, R.2.1]
    obtain ⟨n1, n2⟩ := nen_le o (by decide) fl
    refine Ends.b3 (fun _ => ?_) (fun z => by omega)
    refine Ends.ct l2 (by decide +kernel) (by decide) (c_numbers66 (p := tkF u m p) (q := nen u m (tkF u m p) 3) (at' := at') (u := u) l2 (by omega) (by omega) (fun i hi => hb i (by omega)) (by omega) hat) (fun y h3 l3 _ _ _ ⟨g3, r3⟩ => ?_)
    obtain ⟨c1, c2, c3⟩ := nm_cut (e := nen u m (tkF u m p) 3) o fl n2 (by decide) (Nat.le_refl _)
    have nums : ∀ j, j < 3 → hv h3 (B + 33) (at' + j) = nbV u m (nst u m (tkF u m p) j) := fun j hj => by
      rcases r3 with ⟨K, k1, k2, k3, k4, k5⟩ | ⟨no, -⟩
      · have K3 : K = 3 := by
          rcases (by omega : K < 3 ∨ K = 3) with z | z
          · have := nst_mono (u := u) (m := nen u m (tkF u m p) 3) (p := tkF u m p) (show K - 1 < 2 by omega)
            have ge : nst u (nen u m (tkF u m p) 3) (tkF u m p) 2 ≤ en isD u (nen u m (tkF u m p) 3) (nst u (nen u m (tkF u m p) 3) (tkF u m p) 2) := en_ge
            have e1 : nen u (nen u m (tkF u m p) 3) (tkF u m p) K = en isD u (nen u m (tkF u m p) 3) (nst u (nen u m (tkF u m p) 3) (tkF u m p) (K - 1)) := rfl
            have e2 : nen u (nen u m (tkF u m p) 3) (tkF u m p) 3 = en isD u (nen u m (tkF u m p) 3) (nst u (nen u m (tkF u m p) 3) (tkF u m p) 2) := rfl
            omega
          · exact z
        subst K3
        rw [k5 j hj, (c1 j hj).1, (c1 j hj).2.2]
      · exact absurd ⟨3, by decide, c2, c3⟩ no
    refine Ends.eq (b63_47 l3 (by omega)) ?_
    have S3 : SgP B h3 (B + 32) (B + 26) m u := by
      obtain ⟨s1, s2, s3, s4, s5, s6⟩ := S
      exact ⟨⟨by rw [g3.hk]; exact s1.1, s1.2⟩, by rw [g3.at _ _ (by omega)]; exact s2, by rw [g3.hk]; exact s3, by rw [g3.at _ _ (by omega)]; exact s4, fun i hi => by rw [g3.at _ _ (by omega)]; exact s5 i hi, s6⟩
    have T3 : StrA gv h3 (gv 47) oneL := by
      obtain ⟨t1, t2, t3, t4, t5, t6, t7, t8⟩ := T
      have k33 : hk h2 (B + 33) = (0 + 2, 6) := lk_33 l2
      have na : ad (gv 47) ≠ B + 33 := fun z => by rw [z, k33] at t2; exact absurd (congrArg Prod.fst t2) (show ¬ (2 : Nat) = 1 by decide)
      have nb : ad (hv h2 (ad (gv 47)) 0) ≠ B + 33 := fun z => by rw [z, k33] at t4; exact absurd (congrArg Prod.fst t4) (show ¬ (2 : Nat) = 4 by decide)
      refine ⟨t1, by rw [g3.hk]; exact t2, by rw [g3.at _ _ (by omega)]; exact t3, by rw [g3.at _ _ (by omega), g3.hk]; exact t4, fun i c hc => ?_, by rw [g3.at _ _ (by omega)]; exact t6, t7, t8⟩
      rw [g3.at (ad (gv 47)) 0 (by omega), g3.at _ _ (by omega)]; exact t5 i c hc
    have l4 : LX B n (hset h3 (B + 32) 4 ((nen u m (tkF u m p) 3 : Nat) : Int)) := S3.lx l3
    have S4 : SgP B (hset h3 (B + 32) 4 ((nen u m (tkF u m p) 3 : Nat) : Int)) (B + 32) (B + 26) m u := S3.s (by decide)
    have g4 : Agr (sgW (B + 32)) h3 (hset h3 (B + 32) 4 ((nen u m (tkF u m p) 3 : Nat) : Int)) := Agr.rf.set ⟨rfl, by decide⟩
    refine Ends.cv l4 (by decide +kernel) (c_sgNext l4 (by omega) S4 (T3.sg S3.1 g4) (p := nen u m (tkF u m p) 3) (hv_set_at ..) n2) (fun h5 l5 _ _ _ ⟨g5, R5⟩ => ?_)
    refine Ends.eq (b63_63 l5 (by omega)) (Ends.sm (Or.inl ⟨_, rfl, o, ?_, R5, fun j hj => ?_⟩))
    · exact ((g3.sub (fun c k z => Or.inr z)).tr g4 (fun c k z => Or.inl z)).tr g5 (fun c k z => Or.inl z)
    · rw [g5.at _ _ (by unfold sgW; omega), g4.at _ _ (by unfold sgW; omega)]; exact nums j hj
  · rw [ex]
    refine Ends.b3 (fun z => absurd z (by decide)) (fun _ => ?_)
    refine Ends.ct l2 (by decide +kernel) (by decide) (c_wrong l2 (by omega) S.1 (by omega) R.2.1) (fun x2 h3 l3 _ _ _ ⟨e1, e2⟩ => ?_)
    have w : WrX h2 (tkF u m p : Int) x2 h3 := ⟨e1, e2⟩
    refine Ends.eq (b63_33 l3 (by omega)) ?_
    obtain ⟨w1, w2, w3⟩ := w.kd
    refine Ends.g ⟨w1, by rw [w2]⟩ (Ends.th (c := 19) (by rw [w2]) rfl (Or.inr ⟨_, _, rfl, o, w⟩))
theorem nAb_b {f : Nat} (e : nOK u m f = true) : 0 ≤ nAb u m f := by
  unfold nAb
  have d1 : ∀ j, j < nE1 u m f - f → 48 ≤ u (f + j) ∧ u (f + j) ≤ 57 := fun j hj => isD_r (isD_chr (en_all' (u := u) (m := m) (p := f) (i := f + j) (by omega) (by unfold nE1 at hj; omega))).2
  have h1 := (hor_b (u := u) (p := f) (nE1 u m f - f) 0 d1 (Int.le_refl 0)).1
  by_cases z : nPt u m f = true
  · rw [if_pos z]
    have e2 : nE2 u m f = en isD u m (nE1 u m f + 1) := by unfold nE2; rw [if_pos z]
    refine (hor_b (u := u) (p := nE1 u m f + 1) _ _ (fun j hj => isD_r (isD_chr (en_all' (u := u) (m := m) (p := nE1 u m f + 1) (i := nE1 u m f + 1 + j) (by omega) (by rw [e2] at hj; omega))).2) h1).1
  · rw [if_neg z]; exact h1
theorem c_tolerance99 {p a : Nat} (l : LX B n h) (hd : 20 ≤ d) (S : SgP B h (B + 32) a m u) (T : StrA gv h (gv 47) oneL) (R : SgT h (B + 32) u m p) (hp : p ≤ m) :
    Vtx 0 (cll PP (ev PP (gsF gv) B) d 99 [(2, rf (B + 0))] h) (fun x h' => tlO u m p ∧ x = nAb u m (tkF u m p) ∧ Agr (sgW (B + 32)) h h' ∧ SgT h' (B + 32) u m (tkT u m p)) (fun x h' => ¬ tlO u m p ∧ WrX h (tkF u m p : Int) x h') := by
  have hb0 := l.2.2
  refine Vtx.into (D := 19) hd (Nat.le_of_ble_eq_true rfl) rfl (fun d hd => ?_)
  refine Ends.eq (b99_0 (n := n) (by (repeat' first | assumption | refine LX.setF _ _ ?_ (by decide +kernel) | refine LX.setS ?_ rfl | refine LX.setA ?_ (by first | assumption | omega))) (by first | assumption | omega)) ?_
  have bad : ¬ tlO u m p → Ends (ev PP (gsF gv) B d 99 37 [(2, rf (B + 0)), (9, 0)] [] h) (fun r => (∃ x h', r = ((0, (0, x)), h') ∧ (tlO u m p ∧ x = nAb u m (tkF u m p) ∧ Agr (sgW (B + 32)) h h' ∧ SgT h' (B + 32) u m (tkT u m p))) ∨ ∃ x h', r = ((1, (2, x)), h') ∧ (¬ tlO u m p ∧ WrX h (tkF u m p : Int) x h')) := fun o => by
    refine Ends.eq (b99_37 l (by omega)) ?_
    refine Ends.ct l (by decide +kernel) (by decide) (c_wrong l (by omega) S.1 (by omega) R.2.1) (fun x2 h3 l3 _ _ _ ⟨e1, e2⟩ => ?_)
    have w : WrX h (tkF u m p : Int) x2 h3 := ⟨e1, e2⟩
    refine Ends.eq (b99_44 l3 (by omega)) ?_
    obtain ⟨w1, w2, w3⟩ := w.kd
    exact Ends.g ⟨w1, by rw [w2]⟩ (Ends.th (c := 19) (by rw [w2]) rfl (Or.inr ⟨_, _, rfl, o, w⟩))
  rw [R.1]
  refine Ends.b1 (fun z => bad (fun y => z (by rw [y.1]; rfl))) (fun z1 => ?_)
  have k2 : tkK u m p = 2 := by omega
  obtain ⟨v6, v7⟩ := R.2.2.2.2 k2
  rw [v6, v7]
  refine Ends.b1 (fun z => bad (fun y => z (by rw [y.2.1]; exact cmp64_eq))) (fun z2 => ?_)
  have b1 := cmp64_z.mp z2
  refine Ends.b5 (fun z3 => ?_) (fun z => bad (fun y => ?_))
  rotate_left
  · rcases (by have := y.2.2; omega : nAb u m (tkF u m p) < 200 ∨ nAb u m (tkF u m p) = 200) with w | w
    · rw [cmp64_lt w] at z; exact absurd z (by decide)
    · rw [w, cmp64_eq] at z; exact absurd z (by decide)
  have le : nAb u m (tkF u m p) ≤ 200 := by
    apply Classical.byContradiction
    intro y
    rw [cmp64_gt (show (200 : Int) < nAb u m (tkF u m p) by omega)] at z3
    exact absurd z3 (by decide)
  have ok : tlO u m p := ⟨k2, b1, le⟩
  have nn := nAb_b (tk_num k2).2
  have lt := (tk_le (u := u) (m := m) hp).2.1
  refine Ends.cv l (by decide +kernel) (c_sgNext l (by omega) S T (p := tkT u m p) R.2.2.1 lt) (fun h5 l5 _ _ _ ⟨g5, R5⟩ => ?_)
  refine Ends.eq (b99_61 l5 (by omega)) (Ends.sm (Or.inl ⟨_, _, rfl, ok, ?_, g5, R5⟩))
  show w32 (nAb u m (tkF u m p)) = _
  exact w32_id ⟨by omega, by omega⟩
def dmW (B D : Nat) : Nat → Nat → Prop := fun c k => c = B + 32 ∨ c = B + 33 ∨ (c = B + 0 ∧ (k = 15 ∨ k = 25)) ∨ (c = B + 31 ∧ 8 * D ≤ k ∧ k < 8 * D + 8)
set_option maxHeartbeats 2000000 in
theorem c_dimension18 {D : Nat} (l : LX B n h) (hd : 30 ≤ d) (F : FnB gv B h) (yo : YO B (B + 32) h) (h15 : hv h (B + 0) 15 = (m : Int)) (hm : m ≤ 8192) (hb : ∀ i, i < m → (-128 ≤ hv h (B + 26) i ∧ hv h (B + 26) i < 128) ∧ hv h (B + 26) i % 256 = u i) (hD : hv h (B + 0) 25 = (D : Int)) (hD16 : D ≤ 16) :
    Opx 0 (cll PP (ev PP (gsF gv) B) d 18 [(2, rf (B + 0))] h) (fun x h' => D < 16 ∧ hv h' (B + 0) 15 = 0 ∧ Ext (dmW B D) 1 7 h h' ∧ ((∃ e, dmX u m e ∧ x = -1 - (e : Int) ∧ hv h' (B + 0) 25 = (D : Int) ∧ ∀ k, hv h' (B + 31) k = hv h (B + 31) k) ∨ (dmY u m ∧ x = (D : Int) ∧ hv h' (B + 0) 25 = ((D + 1 : Nat) : Int) ∧ ∀ k, k < 8 → hv h' (B + 31) (8 * D + k) = dmV u m k))) (fun c q => c = 28 ∧ q = hset h (B + 0) 15 0 ∧ D = 16) := by
  have hb0 := l.2.2
  have ka : hk h (B + 26) = (4, 8192) := lk_26 l
  refine Opx.inq (D := 29) hd (Nat.le_of_ble_eq_true rfl) rfl (fun d hd Q K KE => ?_)
  refine Ends.eq (b18_0 l (by omega)) ?_
  refine Ends.ct l (by decide +kernel) (by decide) (c_read76 l (by omega)) (fun x h1 l1 _ _ _ ⟨ex, e1⟩ => ?_)
  have g1 : Agr (fun c k => c = B + 0 ∧ k = 15) h h1 := by rw [e1]; exact Agr.rf.set ⟨rfl, rfl⟩
  have v15 : hv h1 (B + 0) 15 = 0 := by rw [e1]; exact hv_set_at ..
  refine Ends.eq (b18_4 l1 (by omega)) ?_
  rw [ex, h15, g1.at _ _ (by omega), hD]
  refine Ends.state (p := decide (D < 16)) l1 (by omega) (by
    rw [ct3]; simp only [decide_eq_true_eq]
    by_cases z : D < 16
    · rw [if_pos z, if_pos (by omega)]
    · rw [if_neg z, if_neg (by omega)]) (fun hp => ?_) (fun hp => Ends.thn rfl (KE _ _ ⟨rfl, e1, by have := of_decide_eq_false hp; omega⟩))
  have D16 := of_decide_eq_true hp
  clear KE hp e1
  have F1 : FnB gv B h1 := F.agr g1 (fun c k hc z => by omega)
  have yo1 : YO B (B + 32) h1 := ⟨by rw [g1.hk]; exact yo.1, yo.2⟩
  have hb1 : ∀ i, i < m → (-128 ≤ hv h1 (B + 26) i ∧ hv h1 (B + 26) i < 128) ∧ hv h1 (B + 26) i % 256 = u i := fun i hi => by rw [g1.at _ _ (by omega)]; exact hb i hi
  refine Ends.eq (b18_22 l1 (by omega)) ?_
  refine Ends.cv l1 (by decide +kernel) (c_open (a := B + 26) (N := 8192) l1 (by omega) yo1 F1.1.1 (by rw [g1.hk]; exact ka) hm hm (fun i hi => (hb1 i hi).2)) (fun h2 l2 _ _ _ ⟨g2, S2, R2⟩ => ?_)
  -- what stands while the text is read
  obtain ⟨W, eW⟩ : ∃ W : Nat → Nat → Prop, W = fun c k => c = B + 32 ∨ c = B + 33 ∨ (c = B + 0 ∧ k = 15) := ⟨_, rfl⟩
  have G2 : Agr W h h2 := by rw [eW]; exact (g1.sub (fun c k z => Or.inr (Or.inr z))).tr g2 (fun c k z => Or.inl z)
  have st : ∀ {q : AH}, Agr W h q → (hv q (B + 0) 25 = (D : Int)) ∧ (∀ k, hv q (B + 31) k = hv h (B + 31) k) ∧ StrA gv q (gv 47) oneL ∧ ∀ i, i < m → (-128 ≤ hv q (B + 26) i ∧ hv q (B + 26) i < 128) ∧ hv q (B + 26) i % 256 = u i := fun g => by
    rw [eW] at g
    exact ⟨by rw [g.at _ _ (by omega)]; exact hD, fun k => g.at _ _ (by omega), (F.agr g (fun c k hc z => by omega)).1.1, fun i hi => by rw [g.at _ _ (by omega)]; exact hb i hi⟩
  have bad : ∀ (q : AH) (e : Nat) (x : Int) (h' : AH) (u2 u3 u4 : AV), Agr W h q → LX B n h' → hv q (B + 0) 15 = 0 → dmX u m e → e ≤ m → WrX q (e : Int) x h' → Ends (ev PP (gsF gv) B d 18 172 [(2, rf (B + 0)), (0, (m : Int)), u2, u3, u4] [(2, x)] h') Q := fun q e x h' u2 u3 u4 g lq' z15 de he w => by
    obtain ⟨w1, w2, w3⟩ := w.kd
    obtain ⟨e1, e2⟩ := w
    have nq := g.nx
    have X : Ext (dmW B D) 1 7 h h' := by
      rw [e2]
      have X0 : Ext (dmW B D) 0 0 h q := g.ext.sub (fun a k _ z => by rw [eW] at z; unfold dmW; omega) (Nat.le_refl 0) (Nat.le_refl 0)
      have X1 := X0.tr (Ext.new (W := dmW B D) (h := q) (kd := (1, 19)) (sz := 7)) (fun _ _ _ z => z)
      rw [Nat.zero_add, Nat.zero_add] at X1
      exact X1.set (fun z => by omega)
    have old : ∀ c k, c < hnx h → hv h' c k = hv q c k := fun c k hc => by
      rw [e2]; unfold wrg
      rw [hv_set_ne (by omega), hv_new, if_neg (by omega)]
    refine Ends.eq (b18_172 lq' (by omega)) (Ends.g ⟨w1, w2⟩ (Ends.sm (K _ _ ⟨D16, by rw [old _ _ (by omega)]; exact z15, X, Or.inl ⟨e, de, ?_, by rw [old _ _ (by omega)]; exact (st g).1, fun k => by rw [old _ _ (by omega)]; exact (st g).2.1 k⟩⟩)))
    rw [w3, sub32 (by omega) (by omega)]
  have z0 : hv h2 (B + 0) 15 = 0 := by rw [g2.at _ _ (by unfold oW; omega)]; exact v15
  have keepS : ∀ {q q' : AH}, SgP B q (B + 32) (B + 26) m u → Agr (fun c k => sgW (B + 32) c k ∨ c = B + 33) q q' → SgP B q' (B + 32) (B + 26) m u := fun S g => by
    obtain ⟨s1, s2, s3, s4, s5, s6⟩ := S
    exact ⟨⟨by rw [g.hk]; exact s1.1, s1.2⟩, by rw [g.at _ _ (by unfold sgW; omega)]; exact s2, by rw [g.hk]; exact s3, by rw [g.at _ _ (by unfold sgW; omega)]; exact s4, fun i hi => by rw [g.at _ _ (by unfold sgW; omega)]; exact s5 i hi, s6⟩
  have toW : ∀ {q q' : AH}, Agr W h q → Agr (fun c k => sgW (B + 32) c k ∨ c = B + 33) q q' → Agr W h q' := fun g g' => g.tr g' (fun c k z => by rw [eW]; unfold sgW at z; omega)
  have z15 : ∀ {q q' : AH}, hv q (B + 0) 15 = 0 → Agr (fun c k => sgW (B + 32) c k ∨ c = B + 33) q q' → hv q' (B + 0) 15 = 0 := fun e g => by rw [g.at _ _ (by unfold sgW; omega)]; exact e
  have sg1 : ∀ {q q' : AH}, Agr (sgW (B + 32)) q q' → Agr (fun c k => sgW (B + 32) c k ∨ c = B + 33) q q' := fun g => g.sub (fun c k z => Or.inl z)
  have hx : ∀ {q : AH}, LX B n q → B + 32 < hnx q := fun l => by have := l.2.2; omega
  clear g2
  -- the first name
  refine Ends.eq (b18_34 l2 (by omega)) ?_
  refine Ends.cvx l2 (by decide +kernel) (c_nameSign63 (p := 0) (at' := 0) l2 (by omega) S2 (st G2).2.2.1 hm (st G2).2.2.2 R2 (Nat.zero_le _) (by decide)) (fun h3 l3 _ _ ⟨o1, g3, R3, n3⟩ => ?_) (fun x h' l' _ _ ⟨no, w⟩ => Ends.tc w.c rfl (bad h2 _ x h' _ _ _ G2 l' z0 (Or.inl ⟨no, rfl⟩) (tkF_le (Nat.zero_le _)) w))
  have g3' : Agr (fun c k => sgW (B + 32) c k ∨ c = B + 33) h2 h3 := g3.sub (fun c k z => by rcases z with z | z; exact Or.inl z; exact Or.inr z.1)
  have G3 := toW G2 g3'
  have S3 := keepS S2 g3'
  have z3 := z15 z0 g3'
  have p1 : dp1 u m ≤ m := nm_le (Nat.zero_le _) o1
  have R3 : SgT h3 (B + 32) u m (dp1 u m) := R3
  have t1 := tk_le (u := u) p1
  refine Ends.eq (b18_39 l3 (by omega)) ?_
  refine Ends.cvx l3 (by decide +kernel) (c_need l3 (by omega) S3 (hx l3) (st G3).2.2.1 R3 t1.2.1) (fun h4 l4 _ _ ⟨s1, g4, R4⟩ => ?_) (fun x h' l' _ _ ⟨no, w⟩ => Ends.tc w.c rfl (bad h3 _ x h' _ _ _ G3 l' z3 (Or.inr ⟨o1, Or.inl ⟨fun y => no (isSc_iff.mp y), rfl⟩⟩) (tkF_le p1) w))
  have s1 : isSc u m (dp1 u m) := isSc_iff.mpr s1
  have G4 := toW G3 (sg1 g4)
  have S4 := keepS S3 (sg1 g4)
  have z4 := z15 z3 (sg1 g4)
  have p2 : dp2 u m ≤ m := t1.2.1
  have R4 : SgT h4 (B + 32) u m (dp2 u m) := R4
  -- the second name
  refine Ends.eq (b18_48 l4 (by omega)) ?_
  refine Ends.cvx l4 (by decide +kernel) (c_nameSign63 (p := dp2 u m) (at' := 3) l4 (by omega) S4 (st G4).2.2.1 hm (st G4).2.2.2 R4 p2 (by decide)) (fun h5 l5 _ _ ⟨o2, g5, R5, n5⟩ => ?_) (fun x h' l' _ _ ⟨no, w⟩ => Ends.tc w.c rfl (bad h4 _ x h' _ _ _ G4 l' z4 (Or.inr ⟨o1, Or.inr ⟨s1, Or.inl ⟨no, rfl⟩⟩⟩) (tkF_le p2) w))
  have g5' : Agr (fun c k => sgW (B + 32) c k ∨ c = B + 33) h4 h5 := g5.sub (fun c k z => by rcases z with z | z; exact Or.inl z; exact Or.inr z.1)
  have G5 := toW G4 g5'
  have S5 := keepS S4 g5'
  have z5 := z15 z4 g5'
  have p3 : dp3 u m ≤ m := nm_le p2 o2
  have R5 : SgT h5 (B + 32) u m (dp3 u m) := R5
  have t3 := tk_le (u := u) p3
  refine Ends.eq (b18_53 l5 (by omega)) ?_
  refine Ends.cvx l5 (by decide +kernel) (c_need l5 (by omega) S5 (hx l5) (st G5).2.2.1 R5 t3.2.1) (fun h6 l6 _ _ ⟨s3, g6, R6⟩ => ?_) (fun x h' l' _ _ ⟨no, w⟩ => Ends.tc w.c rfl (bad h5 _ x h' _ _ _ G5 l' z5 (Or.inr ⟨o1, Or.inr ⟨s1, Or.inr ⟨o2, Or.inl ⟨fun y => no (isSc_iff.mp y), rfl⟩⟩⟩⟩) (tkF_le p3) w))
  have s3 : isSc u m (dp3 u m) := isSc_iff.mpr s3
  have G6 := toW G5 (sg1 g6)
  have S6 := keepS S5 (sg1 g6)
  have z6 := z15 z5 (sg1 g6)
  have p4 : dp4 u m ≤ m := t3.2.1
  have R6 : SgT h6 (B + 32) u m (dp4 u m) := R6
  have t4 := tk_le (u := u) p4
  -- less
  refine Ends.eq (b18_62 l6 (by omega)) ?_
  refine Ends.ctx l6 (by decide +kernel) (by decide) (c_tolerance99 l6 (by omega) S6 (st G6).2.2.1 R6 p4) (fun y6 h7 l7 _ _ ⟨o4, e4, g7, R7⟩ => ?_) (fun x h' l' _ _ ⟨no, w⟩ => Ends.tc w.c rfl (bad h6 _ x h' _ _ _ G6 l' z6 (Or.inr ⟨o1, Or.inr ⟨s1, Or.inr ⟨o2, Or.inr ⟨s3, Or.inl ⟨no, rfl⟩⟩⟩⟩⟩) (tkF_le p4) w))
  have G7 := toW G6 (sg1 g7)
  have S7 := keepS S6 (sg1 g7)
  have z7 := z15 z6 (sg1 g7)
  have p5 : dp5 u m ≤ m := t4.2.1
  have R7 : SgT h7 (B + 32) u m (dp5 u m) := R7
  have t5 := tk_le (u := u) p5
  refine Ends.eq (b18_66 l7 (by omega)) ?_
  refine Ends.cvx l7 (by decide +kernel) (c_need l7 (by omega) S7 (hx l7) (st G7).2.2.1 R7 t5.2.1) (fun h8 l8 _ _ ⟨s5, g8', R8⟩ => ?_) (fun x h' l' _ _ ⟨no, w⟩ => Ends.tc w.c rfl (bad h7 _ x h' _ _ _ G7 l' z7 (Or.inr ⟨o1, Or.inr ⟨s1, Or.inr ⟨o2, Or.inr ⟨s3, Or.inr ⟨o4, Or.inl ⟨fun y => no (isSc_iff.mp y), rfl⟩⟩⟩⟩⟩⟩) (tkF_le p5) w))
  have s5 : isSc u m (dp5 u m) := isSc_iff.mpr s5
  have G8 := toW G7 (sg1 g8')
  have S8 := keepS S7 (sg1 g8')
  have z8 := z15 z7 (sg1 g8')
  have p6 : dp6 u m ≤ m := t5.2.1
  have R8 : SgT h8 (B + 32) u m (dp6 u m) := R8
  have t6 := tk_le (u := u) p6
  -- more
  refine Ends.eq (b18_76 l8 (by omega)) ?_
  refine Ends.ctx l8 (by decide +kernel) (by decide) (c_tolerance99 l8 (by omega) S8 (st G8).2.2.1 R8 p6) (fun y8 h9 l9 _ _ ⟨o6, e6, g9, R9⟩ => ?_) (fun x h' l' _ _ ⟨no, w⟩ => Ends.tc w.c rfl (bad h8 _ x h' _ _ _ G8 l' z8 (Or.inr ⟨o1, Or.inr ⟨s1, Or.inr ⟨o2, Or.inr ⟨s3, Or.inr ⟨o4, Or.inr ⟨s5, Or.inl ⟨no, rfl⟩⟩⟩⟩⟩⟩⟩) (tkF_le p6) w))
  have G9 := toW G8 (sg1 g9)
  have z9 := z15 z8 (sg1 g9)
  have S9 := keepS S8 (sg1 g9)
  have p7 : dp7 u m ≤ m := t6.2.1
  have R9 : SgT h9 (B + 32) u m (dp7 u m) := R9
  refine Ends.eq (b18_80 l9 (by omega)) ?_
  rw [R9.1]
  refine Ends.b0 (fun k0 => ?_) (fun k0 => ?_)
  rotate_left
  · refine Ends.ct l9 (by decide +kernel) (by decide) (c_wrong l9 (by omega) S9.1 (hx l9) R9.2.1) (fun x h' l' _ _ _ ⟨e1, e2⟩ => ?_)
    have w : WrX h9 (tkF u m (dp7 u m) : Int) x h' := ⟨e1, e2⟩
    obtain ⟨w1, w2, w3⟩ := w.kd
    exact Ends.eq (b18_98 l' (by omega)) (Ends.g ⟨w1, by rw [w2]⟩ (Ends.tc w.c rfl (bad h9 _ x h' _ _ _ G9 l' z9 (Or.inr ⟨o1, Or.inr ⟨s1, Or.inr ⟨o2, Or.inr ⟨s3, Or.inr ⟨o4, Or.inr ⟨s5, Or.inr ⟨o6, by omega, rfl⟩⟩⟩⟩⟩⟩⟩) (tkF_le p7) w)))
  have Y : dmY u m := ⟨o1, s1, o2, s3, o4, s5, o6, by omega⟩
  have nums : ∀ k, k < 6 → hv h9 (B + 33) k = dmV u m k := fun k hk => by
    unfold dmV
    rw [g9.at _ _ (by unfold sgW; omega), g8'.at _ _ (by unfold sgW; omega), g7.at _ _ (by unfold sgW; omega), g6.at _ _ (by unfold sgW; omega)]
    by_cases z : k < 3
    · rw [if_pos z, g5.at _ _ (by unfold sgW; omega), g4.at _ _ (by unfold sgW; omega)]
      have := n3 k z
      rw [Nat.zero_add] at this; exact this
    · rw [if_neg z, if_pos hk]
      have := n5 (k - 3) (by omega)
      rw [show 3 + (k - 3) = k by omega] at this; exact this
  have hD9 := (st G9).1
  have ix : ∀ j : Nat, j < 8 → bop32 96 (bop32 104 (8 : Int) (D : Int)) (j : Int) = ((8 * D + j : Nat) : Int) := fun j hj => by rw [show bop32 104 (8 : Int) (D : Int) = ((8 * D : Nat) : Int) from mulNN (x := 8) (by omega), addNN (by omega)]
  have loop : ∀ (r k : Nat) (q : AH), k + r = 6 → LX B n q → Agr (fun c j => c = B + 31 ∧ 8 * D ≤ j ∧ j < 8 * D + 8) h9 q → (∀ j, j < k → hv q (B + 31) (8 * D + j) = dmV u m j) → Ends (ev PP (gsF gv) B d 18 102 [(2, rf (B + 0)), (0, (m : Int)), (0, y6), (0, y8), (0, (k : Int))] [] q) Q := by
    intro r
    induction r with
    | zero =>
      intro k q e lq g I
      obtain rfl : k = 6 := by omega
      refine Ends.eq (b18_102 lq (by omega)) (Ends.b3 (fun _ => ?_) (fun z => absurd z (by decide)))
      rw [g.at (B + 0) 25 (by omega), hD9, show bop32 96 (bop32 104 (8 : Int) (D : Int)) (6 : Int) = ((8 * D + 6 : Nat) : Int) from ix 6 (by decide), show bop32 96 (bop32 104 (8 : Int) (D : Int)) (7 : Int) = ((8 * D + 7 : Nat) : Int) from ix 7 (by decide), tn, tn, an0, an0, show bop32 96 (D : Int) (1 : Int) = ((D + 1 : Nat) : Int) from addNN (y := 1) (by omega), show bop32 100 ((D + 1 : Nat) : Int) (1 : Int) = ((D : Nat) : Int) from by rw [sub32 (by omega) (by omega)]; omega]
      refine Ends.g ⟨by omega, by omega⟩ (Ends.g ⟨by omega, by omega⟩ (Ends.sm (K _ _ ⟨D16, ?_, ?_, Or.inr ⟨Y, rfl, hv_set_at .., fun k hk => ?_⟩⟩)))
      · rw [hv_set_ne (by omega), hv_set_ne (by omega), hv_set_ne (by omega), g.at _ _ (by omega)]; exact z9
      · have GW : Agr (dmW B D) h q := (G9.sub (W' := dmW B D) (fun c k z => by rw [eW] at z; unfold dmW; omega)).tr g (fun c k z => Or.inr (Or.inr (Or.inr z)))
        exact ((GW.ext.set (fun _ => Or.inr (Or.inr (Or.inr ⟨rfl, by omega, by omega⟩)))).set (fun _ => Or.inr (Or.inr (Or.inr ⟨rfl, by omega, by omega⟩)))).set (fun _ => Or.inr (Or.inr (Or.inl ⟨rfl, Or.inr rfl⟩))) |>.sub (fun _ _ _ z => z) (by decide) (by decide)
      · rw [hv_set_ne (by omega)]
        by_cases y7 : k = 7
        · rw [y7, hv_set_at, e6]; unfold dmV; rw [if_neg (by decide), if_neg (by decide), if_neg (by decide)]
        · rw [hv_set_ne (by omega)]
          by_cases y6' : k = 6
          · rw [y6', hv_set_at, e4]; unfold dmV; rw [if_neg (by decide), if_neg (by decide), if_pos rfl]
          · rw [hv_set_ne (by omega)]; exact I k (by omega)
    | succ r ih =>
      intro k q e lq g I
      refine Ends.eq (b18_102 lq (by omega)) (Ends.b3 (fun z => by omega) (fun _ => ?_))
      rw [g.at (B + 0) 25 (by omega), hD9, ix k (by omega), tn, tn, an0, w_succ (by omega), g.at (B + 33) k (by omega), nums k (by omega)]
      refine Ends.g ⟨by omega, by omega⟩ (Ends.g ⟨by omega, by omega⟩ ?_)
      refine ih (k + 1) _ (by omega) (LX.setS lq rfl) (g.set ⟨rfl, by omega, by omega⟩) (fun j hj => ?_)
      by_cases z : j = k
      · rw [z, hv_set_at]
      · rw [hv_set_ne (by omega)]; exact I j (by omega)
  exact loop 6 0 h9 rfl l9 Agr.rf (fun j hj => absurd hj (Nat.not_lt_zero j))
end DMS
