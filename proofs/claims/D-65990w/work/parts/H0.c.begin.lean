/-! L3: faces (desk): all facets of the border -/
/-- few cells are made -/
def cel (h t : AH) : Prop := 128 * hnx t + hus h ≤ 128 * hnx h + hus t
theorem cel.rf {h : AH} : cel h h := Nat.le_refl _
theorem cel.tr {h t u : AH} (a : cel h t) (b : cel t u) : cel h u := by unfold cel at *; omega
theorem cel.agr {W : Nat → Nat → Prop} {h t : AH} (g : Agr W h t) : cel h t := by unfold cel; rw [g.nx, g.us]; omega
section FBG
variable {gv : Nat → Int} {B n d a : Nat} {h : AH} {S : Nat → Bool}
/-- the four cells of facets that are still to be seen -/
def FcE (B n : Nat) (h : AH) (ed : Nat → Nat) (E : Nat → Bool) : Prop := (∀ f, f < 4 → hv h (B + 83) f = rf (ed f) ∧ B + 246 ≤ ed f ∧ ed f < hnx h ∧ SG n h (ed f) (fun g => E (4 * g + f))) ∧ ∀ f f', f < 4 → f' < 4 → f ≠ f' → ed f ≠ ed f'
/-- what making them ready may write of old cells -/
def bgW (B : Nat) (h : AH) : Nat → Nat → Prop := fun c k => nbW B c k ∨ (c = B + 83 ∧ k < 4) ∨ ∃ f, f < 4 ∧ hv h (B + 83) f = rf c
theorem rgV_e {f : Nat} (hf : f < 4) : rgV B h (33 + f) = hv h (B + 83) f := by
  unfold rgV rgC rgK
  rw [if_neg (by omega), if_neg (by omega), if_neg (by omega), if_neg (by omega), if_pos (by omega), if_neg (by omega), if_neg (by omega), if_neg (by omega), if_neg (by omega), if_pos (by omega), Nat.add_sub_cancel_left]
theorem rg_no {c k : Nat} (hc : c = B + 83 → 4 ≤ k) (h1 : c ≠ B + 27) (h2 : c ≠ B + 53) (h3 : c ≠ B + 93) (h4 : c ≠ B + 94) (h5 : c ≠ B + 81) {j : Nat} (hj : j < 39) : ¬ (B + rgC j = c ∧ rgK j = k) := fun w => by
  rcases rgi hj with z | z | z | z | z | z
  · omega
  · omega
  · omega
  · omega
  · have := hc (by omega)
    have e : rgK j < 4 := by
      have : ∀ j : Fin 39, rgC j = 83 → rgK j < 4 := by decide +kernel
      exact this ⟨j, hj⟩ z
    omega
  · omega
set_option maxHeartbeats 2000000 in
theorem c_begin158 (l : LX B n h) (hd : 17 ≤ d) (hn4 : 4 ≤ n) (hn : n ≤ 52) (R : Reg B n h) (m : TbC B h) (u : BsU B h) (s : SG n h a S) (ha : a < hnx h) (hB : B + 83 < a) (hne : ∀ f, f < 4 → hv h (B + 83) f ≠ rf a) :
    Vd (cll PP (ev PP (gsF gv) B) d 158 [(2, rf (B + 82)), (2, (rf a))] h) (fun h' => (∃ ed, FcE B n h' ed (bdr n S) ∧ ∀ f, f < 4 → hnx h ≤ ed f ∨ hv h (B + 83) f = rf (ed f)) ∧ hv h' (B + 36) 17 = 1 ∧ BsC B h' ∧ Reg B n h' ∧ hus h' + lzy B n h' = hus h + lzy B n h ∧ cel h h' ∧ Ext (bgW B h) 4 (4 * (24 * n * n)) h h') := by
  have hn0 : 0 < n := by omega
  have n256 : 256 ≤ 24 * n * n := by
    have : 4 * 4 ≤ n * n := Nat.mul_le_mul hn4 hn4
    rw [Nat.mul_assoc]; omega
  have hN := rows_le hn
  have hb := l.2.2
  refine Vd.inq (D := 16) hd (Nat.le_of_ble_eq_true rfl) rfl (fun d hd Q K => ?_)
  refine Ends.eq (b158_0 l (by omega)) ?_
  refine Ends.cv l (by decide +kernel) (c_needBeside233 l (by omega) m u) (fun h1 l1 _ _ _ ⟨g1, e17, bs⟩ => ?_)
  obtain ⟨R1, L1⟩ := R.ext hb g1.ext (fun i hi w => by
    have := rgi hi
    unfold nbW at w
    omega)
  have m1 : TbC B h1 := m.ext hb g1.ext (fun c k h1 h2 w => by unfold nbW at w; omega)
  have s1 : SG n h1 a S := s.agr g1 (fun k w => by unfold nbW at w; omega)
  -- one facet after the other
  have key : ∀ (r f : Nat) (q : AH) (u3 u4 u5 u6 : AV), f + r = 4 → LX B n q → TbC B q → SG n q a S → Reg B n q → hv q (B + 36) 17 = 1 → BsC B q → hus q + lzy B n q = hus h + lzy B n h → cel h q → Ext (bgW B h) f (f * (24 * n * n)) h q → (∀ f', f' < f → ∃ e, hv q (B + 83) f' = rf e ∧ B + 246 ≤ e ∧ e < hnx q ∧ (hnx h ≤ e ∨ hv h (B + 83) f' = rf e) ∧ SG n q e (fun g => bdr n S (4 * g + f'))) → (∀ f', f ≤ f' → f' < 4 → hv q (B + 83) f' = hv h (B + 83) f') → Ends (ev PP (gsF gv) B d 158 9 [(2, rf (B + 82)), (2, rf a), (0, (f : Int)), u3, u4, u5, u6] [] q) Q := by
    intro r
    induction r with
    | zero =>
      intro f q u3 u4 u5 u6 ef lq mq sq Rq q17 bq uq ce X D O
      obtain rfl : f = 4 := by omega
      refine Ends.eq (b158_9 lq (by omega)) (Ends.b3 (fun _ => Ends.sm (K _ ⟨⟨fun f => ad (hv q (B + 83) f), ⟨fun f hf => ?_, fun f f' hf hf' ne => fun z => ?_⟩, fun f hf => ?_⟩, q17, bq, Rq, uq, ce, X⟩)) (fun z => absurd z (by decide)))
      · obtain ⟨e, e1, e2, e3, -, e4⟩ := D f hf
        dsimp only
        rw [e1, ad_rf]
        exact ⟨rfl, e2, e3, e4⟩
      · obtain ⟨e, e1, e2, -⟩ := D f hf
        obtain ⟨e', e1', e2', -⟩ := D f' hf'
        dsimp only at z
        rw [e1, e1', ad_rf, ad_rf] at z
        have := Rq.2 (33 + f) (33 + f') (by omega) (by omega) (by omega) (by rw [rgV_e hf, rgV_e hf', e1, e1', z])
        rw [rgV_e hf, e1] at this
        have := rf_pos e
        omega
      · obtain ⟨e, e1, e2, e3, e5, e4⟩ := D f hf
        dsimp only
        rw [e1, ad_rf]
        exact e5
    | succ r ih =>
      intro f q u3 u4 u5 u6 ef lq mq sq Rq q17 bq uq ce X D O
      have hf : f < 4 := by omega
      have hq := lq.2.2
      have nq : hnx h ≤ hnx q := X.2.2.1
      -- the rows of facet f
      have fill : ∀ (q : AH) (e : Nat) (u3 u4 u5 u6 : AV), LX B n q → TbC B q → SG n q a S → Reg B n q → hv q (B + 36) 17 = 1 → BsC B q → hus q + lzy B n q = hus h + lzy B n h → cel h q → Ext (bgW B h) (f + 1) ((f + 1) * (24 * n * n)) h q → (∀ f', f' < f → ∃ e', hv q (B + 83) f' = rf e' ∧ B + 246 ≤ e' ∧ e' < hnx q ∧ (hnx h ≤ e' ∨ hv h (B + 83) f' = rf e') ∧ SG n q e' (fun g => bdr n S (4 * g + f'))) → (∀ f', f < f' → f' < 4 → hv q (B + 83) f' = hv h (B + 83) f') → hv q (B + 83) f = rf e → B + 246 ≤ e → e < hnx q → hk q e = (3, 24 * n * n) → (hnx h ≤ e ∨ hv h (B + 83) f = rf e) → Ends (ev PP (gsF gv) B d 158 38 [(2, rf (B + 82)), (2, rf a), (0, (f : Int)), u3, u4, u5, u6] [] q) Q := by
        intro q e u3 u4 u5 u6 lq mq sq Rq q17 bq uq ce X D O ee e1 e2 ke eo
        have ea : e ≠ a := fun z => by
          rcases eo with w | w
          · omega
          · exact hne f hf (by rw [w, z])
        have main := tzy (n := n) hn0 (fun p t => LX B n t ∧ Rw n q e (onK n (fun t z y x => bdr n S (4 * gI n x y z t + f))) t p)
          (fun t q => ∀ u4 u5 u6, Ends (ev PP (gsF gv) B d 158 40 [(2, rf (B + 82)), (2, rf a), (0, (f : Int)), (0, (t : Int)), u4, u5, u6] [] q) Q)
          (fun t z q => ∀ u5 u6, Ends (ev PP (gsF gv) B d 158 49 [(2, rf (B + 82)), (2, rf a), (0, (f : Int)), (0, (t : Int)), (0, (z : Int)), u5, u6] [] q) Q)
          (fun t z y q => ∀ u6, Ends (ev PP (gsF gv) B d 158 61 [(2, rf (B + 82)), (2, rf a), (0, (f : Int)), (0, (t : Int)), (0, (z : Int)), (0, (y : Int)), u6] [] q) Q)
          (fun t q ht i k u4 u5 u6 => Ends.eq (b158_40 i.1 (by omega)) (Ends.b3 (fun w => absurd w (by omega)) (fun _ => k _ _)))
          (fun t z q ht hz i k u5 u6 => Ends.eq (b158_49 i.1 (by omega)) (Ends.b3 (fun w => absurd w (by omega)) (fun _ => k _)))
          (fun t q ht i k u5 u6 => Ends.eq (b158_49 i.1 (by omega)) (Ends.b3 (fun _ => by rw [w_succ (by omega)]; exact k _ _ _) (fun w => absurd w (by omega))))
          (fun t z q ht hz i k u6 => Ends.eq (b158_61 i.1 (by omega)) (Ends.b3 (fun _ => by rw [w_succ (by omega)]; exact k _ _) (fun w => absurd w (by omega))))
          ?_ ?_
        · refine Ends.eq (b158_38 lq (by omega)) ?_
          exact main q ⟨lq, Rw.ini⟩ _ _ _
        · intro t z y q2 ht hz hy i k u6
          have r1 := rw3_lt ht hz hy
          have g2 := i.2.1
          have m2 : TbC B q2 := mq.ext lq.2.2 (by exact g2.ext) (fun c k h1 h2 w => by omega)
          have s2 : SG n q2 a S := sq.agr g2 (fun _ w => ea w.symm)
          obtain ⟨k0, b0⟩ := nb_is m2 hn s2 ht hz hy hf
          have ka : hk q2 a = (3, 24 * n * n) := s2.1
          have ke2 : hk q2 e = (3, 24 * n * n) := by rw [g2.hk]; exact ke
          have e83 : hv q2 (B + 83) f = rf e := by rw [g2.at _ _ (by omega)]; exact ee
          refine Ends.eq (b158_61 i.1 (by omega)) (Ends.b3 (fun w => absurd w (by omega)) (fun _ => ?_))
          rw [tn, e83, row_eq hn ht hz hy, ad_rf, ad_rf, ka, ke2, tn, an1, w_succ (by omega)]
          refine Ends.g ⟨by omega, by omega⟩ (Ends.g ⟨rf_pos _, rfl, by omega, by show _ < ((24 * n * n : Nat) : Int); omega⟩ (Ends.g k0 (Ends.g ⟨rf_pos _, rfl, by omega, by show _ < ((24 * n * n : Nat) : Int); omega, by omega⟩ ?_)))
          refine k _ ⟨LX.setA (t := 1) i.1 (by rw [ke2]), i.2.put cn_bop64 (fun x hx => ?_)⟩ _
          rw [onK_at hz hy, tb_and, tb_not _ hx, b0 x hx, s2.bit ht hz hy hx, bdr_F hf]
          unfold bdF
          cases decide (x < n) <;> simp
        · intro q2 i u4 u5 u6
          have g2 := i.2.1
          have X2 : Ext (bgW B h) (f + 1) ((f + 1) * (24 * n * n)) h q2 := (X.tr g2.ext (fun c k hc w => Or.inr (Or.inr ⟨f, hf, by
            rcases eo with z | z
            · omega
            · rw [w]; exact z⟩))).sub (fun _ _ _ w => w) (Nat.le_refl _) (Nat.le_refl _)
          obtain ⟨R2, L2⟩ := Rq.ext lq.2.2 g2.ext (fun j hj w => by
            have := (rgC_lt ⟨j, hj⟩).1
            simp only at this
            omega)
          have m2 : TbC B q2 := mq.ext lq.2.2 (by exact g2.ext) (fun c k h1 h2 w => by omega)
          have s2 : SG n q2 a S := sq.agr g2 (fun _ w => ea w.symm)
          refine Ends.eq (b158_40 i.1 (by omega)) (Ends.b3 (fun _ => ?_) (fun w => absurd w (by decide)))
          rw [w_succ (by omega)]
          refine ih (f + 1) q2 _ _ _ _ (by omega) i.1 m2 s2 R2 (by rw [g2.at _ _ (by omega)]; exact q17) (fun k s' hk hs => ?_) (by rw [L2, g2.us]; exact uq) (ce.tr (cel.agr g2)) X2 (fun f' hf' => ?_) (fun f' h1 h2 => by rw [g2.at _ _ (by omega)]; exact O f' (by omega) h2)
          · have := bq k s' hk hs
            exact ⟨by rw [g2.at _ _ (by omega)]; exact this.1, fun a ha => by rw [g2.at _ _ (by omega)]; exact this.2 a ha⟩
          · rcases (by omega : f' < f ∨ f' = f) with z | z
            · obtain ⟨e', d1, d2, d3, d4, d5⟩ := D f' z
              have ne : e' ≠ e := fun w => by
                have := Rq.2 (33 + f') (33 + f) (by omega) (by omega) (by omega) (by rw [rgV_e (by omega), rgV_e hf, d1, ee, w])
                rw [rgV_e (by omega), d1] at this
                have := rf_pos e'
                omega
              exact ⟨e', by rw [g2.at _ _ (by omega)]; exact d1, d2, by rw [g2.nx]; exact d3, d4, d5.agr g2 (fun _ w => ne w)⟩
            · rw [z]
              exact ⟨e, by rw [g2.at _ _ (by omega)]; exact ee, e1, by rw [g2.nx]; exact e2, eo, i.2.fin ke⟩
      refine Ends.eq (b158_9 lq (by omega)) (Ends.b3 (fun z => absurd z (by omega)) (fun _ => Ends.g ⟨by omega, by omega⟩ ?_))
      rw [tn]
      refine Ends.b0 (fun z0 => ?_) (fun z0 => ?_)
      · -- a new one
        rw [tn]
        refine Ends.g ⟨by omega, by omega⟩ ?_
        have l2 : LX B n (hnew q (1 + 2, 24 * n * n) (24 * n * n)) := lq.new
        have hk3 : hk (hnew q (1 + 2, 24 * n * n) (24 * n * n)) (B + 83) = (1 + 4 + 2, 4) := lk_83 l2
        refine Ends.eq (b158_37 l2 (by omega)) ?_
        rw [ad_rf, ad_rf, tn, hk3]
        have l3 : LX B n (hset (hnew q (1 + 2, 24 * n * n) (24 * n * n)) (B + 83) f (rf (hnx q))) := LX.setA (t := 5) l2 (by rw [hk3])
        refine Ends.g ⟨rf_pos _, rfl, by omega, by show (f : Int) < ((4 : Nat) : Int); omega, by omega, Or.inr ⟨rf_pos _, by rw [hk_new, if_pos rfl]; rfl⟩⟩ ?_
        have X3 : Ext (fun c k => c = B + 83 ∧ k = f) 1 (24 * n * n) q (hset (hnew q (1 + 2, 24 * n * n) (24 * n * n)) (B + 83) f (rf (hnx q))) := Ext.set Ext.new (fun _ => ⟨rfl, rfl⟩)
        generalize hq3 : hset (hnew q (1 + 2, 24 * n * n) (24 * n * n)) (B + 83) f (rf (hnx q)) = q3 at *
        have n3 : hnx q3 = hnx q + 1 := by rw [← hq3]; rfl
        have u3' : hus q3 = hus q + 24 * n * n := by rw [← hq3]; rfl
        have e3 : hv q3 (B + 83) f = rf (hnx q) := by rw [← hq3]; exact hv_set_at ..
        have k3 : hk q3 (hnx q) = (3, 24 * n * n) := by rw [← hq3]; show hk (hnew q (1 + 2, 24 * n * n) (24 * n * n)) (hnx q) = _; rw [hk_new, if_pos rfl]
        have na : ∀ j, j < 39 → j ≠ 33 + f → ¬ (B + rgC j = B + 83 ∧ rgK j = f) := fun j hj hji w => by
          have c1 : rgC (33 + f) = 83 := by unfold rgC; rw [if_neg (by omega), if_neg (by omega), if_neg (by omega), if_neg (by omega), if_pos (by omega)]
          have c2 : rgK (33 + f) = f := by unfold rgK; rw [if_neg (by omega), if_neg (by omega), if_neg (by omega), if_neg (by omega), if_pos (by omega), Nat.add_sub_cancel_left]
          have w1 := w.1
          have w2 := w.2
          have := rgCK ⟨j, hj⟩ ⟨33 + f, by omega⟩ (show rgC j = rgC (33 + f) by omega) (show rgK j = rgK (33 + f) by omega)
          exact hji (congrArg Fin.val this)
        obtain ⟨R3, L3⟩ := Rq.put (i := 33 + f) hq (by omega) (by rw [rgV_e hf]; exact z0) X3 na (by rw [rgV_e hf]; exact e3) k3 (by omega)
        have X4 : Ext (bgW B h) (f + 1) ((f + 1) * (24 * n * n)) h q3 := (X.tr X3 (fun c k _ w => Or.inr (Or.inl ⟨w.1, by omega⟩))).sub (fun _ _ _ w => w) (Nat.le_refl _) (by have := Nat.add_mul f 1 (24 * n * n); omega)
        have o3 : ∀ c k, c < hnx q → ¬ (c = B + 83 ∧ k = f) → hv q3 c k = hv q c k := fun c k hc hne => X3.at k hc hne
        refine fill q3 (hnx q) _ _ _ _ l3 (mq.ext hq X3 (fun c k h1 h2 w => by omega)) (sq.ext X3 (by omega) (fun k w => by omega)) R3 (by rw [o3 _ _ (by omega) (by omega)]; exact q17) (fun k s' hk hs => ?_) (by omega) (ce.tr (by unfold cel; omega)) X4 (fun f' hf' => ?_) (fun f' h1 h2 => by rw [o3 _ _ (by omega) (by omega)]; exact O f' (by omega) h2) e3 hq (by omega) k3 (Or.inl nq)
        · have := bq k s' hk hs
          exact ⟨by rw [o3 _ _ (by omega) (by omega)]; exact this.1, fun a ha => by rw [o3 _ _ (by omega) (by omega)]; exact this.2 a ha⟩
        · obtain ⟨e', d1, d2, d3, d4, d5⟩ := D f' hf'
          exact ⟨e', by rw [o3 _ _ (by omega) (by omega)]; exact d1, d2, by omega, d4, d5.ext X3 d3 (fun k w => by omega)⟩
      · -- it stands
        rcases Rq.1 (33 + f) (by omega) with y | ⟨e, y1, y2, y3, y4⟩
        · rw [rgV_e hf] at y; exact absurd y z0
        rw [rgV_e hf] at y1
        exact fill q e _ _ _ _ lq mq sq Rq q17 bq uq ce (X.sub (fun _ _ _ w => w) (by omega) (by have := Nat.add_mul f 1 (24 * n * n); omega)) D (fun f' h1 h2 => O f' (by omega) h2) y1 y2 y3 y4 (Or.inr (by rw [← O f (Nat.le_refl _) hf]; exact y1))
  refine Ends.eq (b158_7 l1 (by omega)) ?_
  refine key 4 0 h1 _ _ _ _ rfl l1 m1 s1 R1 e17 bs (by rw [L1, g1.us]) (cel.agr g1) (g1.ext.sub (fun c k _ w => Or.inl w) (Nat.le_refl _) (Nat.zero_le _)) (fun f' hf' => absurd hf' (Nat.not_lt_zero _)) (fun f' _ hf' => g1.at _ _ (by unfold nbW; omega))
end FBG
