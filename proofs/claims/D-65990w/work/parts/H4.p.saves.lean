/-! L3: a fill's tool kept for others (desk) -/
noncomputable section SAV
variable {gv : Nat → Int} {B n d f tl mo xe sv : Nat} {h : AH} {T : Nat → Bool}
/-- no place's solid is Flood's -/
theorem rg_noF {i a : Nat} (R : Reg B n h) (F : FlI B n h) (hi : i < 37) (e : rgV B h i = rf a) : ¬ FlO B h a := by
  intro ⟨k, z1, z2, z3⟩
  obtain ⟨y2, y3, y4⟩ : B + 246 ≤ a ∧ a < hnx h ∧ hk h a = (3, 24 * n * n) := by
    rcases R.1 i (by omega) with y | ⟨e', y1, y2, y3, y4⟩
    · rw [e] at y; have := rf_pos a; omega
    · rw [e] at y1
      have : a = e' := by unfold rf at y1; omega
      rw [this]; exact ⟨y2, y3, y4⟩
  have k4 : k = 2 ∨ k = 3 ∨ k = 4 ∨ k = 5 := by omega
  have a0 := rf_pos a
  rcases k4 with rfl | rfl | rfl | rfl
  · have := R.2 i 37 (by omega) (by decide) (by omega) (by rw [e]; exact z3.symm)
    omega
  · have := R.2 i 38 (by omega) (by decide) (by omega) (by rw [e]; exact z3.symm)
    omega
  · rcases F with ⟨f2, f3, f4, f5, _⟩ | ⟨se', fs', qu', qd', _, ⟨f2, f3, f4, f5⟩, ⟨k1, k2, k3⟩, _⟩
    · omega
    · rw [f4] at z3
      have : a = qu' := by unfold rf at z3; omega
      rw [← this, y4] at k2
      exact absurd (congrArg Prod.fst k2) (by show ¬ (3 : Nat) = 2; decide)
  · rcases F with ⟨f2, f3, f4, f5, _⟩ | ⟨se', fs', qu', qd', _, ⟨f2, f3, f4, f5⟩, ⟨k1, k2, k3⟩, _⟩
    · omega
    · rw [f5] at z3
      have : a = qd' := by unfold rf at z3; omega
      rw [← this, y4] at k3
      exact absurd (congrArg Prod.fst k3) (by show ¬ (3 : Nat) = 5; decide)
/-- where keeping writes -/
def svW (B : Nat) (h : AH) (sv f : Nat) : Nat → Nat → Prop := fun c k => (c = B + 94 ∧ k = sv) ∨ (c = B + 95 ∧ k = f) ∨ (c = B + 92 ∧ k = 18) ∨ hv h (B + 94) sv = rf c
theorem rgV_94 (hv0 : sv < 12) : rgV B h (21 + sv) = hv h (B + 94) sv := by
  unfold rgV
  have c1 : rgC (21 + sv) = 94 := by unfold rgC; rw [if_neg (by omega), if_neg (by omega), if_neg (by omega), if_pos (by omega)]
  have c2 : rgK (21 + sv) = sv := by unfold rgK; rw [if_neg (by omega), if_neg (by omega), if_neg (by omega), if_pos (by omega), Nat.add_sub_cancel_left]
  rw [c1, c2]
theorem rg_ne94 {j k : Nat} (hj : j < 39) (hk : k < 12) (ne : j ≠ 21 + k) (w1 : B + rgC j = B + 94) (w2 : rgK j = k) : False := by
  have c1 : rgC (21 + k) = 94 := by unfold rgC; rw [if_neg (by omega), if_neg (by omega), if_neg (by omega), if_pos (by omega)]
  have c2 : rgK (21 + k) = k := by unfold rgK; rw [if_neg (by omega), if_neg (by omega), if_neg (by omega), if_pos (by omega), Nat.add_sub_cancel_left]
  have := rgCK ⟨j, hj⟩ ⟨21 + k, by omega⟩ (show rgC j = rgC (21 + k) by omega) (show rgK j = rgK (21 + k) by omega)
  exact ne (congrArg Fin.val this)
theorem c_save305 (l : LX B n h) (hd : 14 ≤ d) (hn : n ≤ 52) (P : PtD B n h tl mo xe) (R : Reg B n h) (F : FlI B n h) (st : SG n h tl T) (hf : f < 24) (e18 : hv h (B + 92) 18 = (sv : Int)) (hs : sv < 12) :
    Vd (cll PP (ev PP (gsF gv) B) d 305 [(2, rf (B + 92)), (0, (f : Int))] h) (fun h' => FlE B n (svW B h sv f) 1 (24 * n * n) h h' ∧ ∃ cl, hv h' (B + 94) sv = rf cl ∧ SG n h' cl T ∧ (hnx h ≤ cl ∨ hv h (B + 94) sv = rf cl) ∧ hv h' (B + 95) f = (sv : Int) ∧ hv h' (B + 92) 18 = ((sv + 1 : Nat) : Int)) := by
  have hb := l.2.2
  obtain ⟨e12, -, -, ⟨t1, t2, t3, t4⟩, -, -, -⟩ := P
  refine Vd.inq (D := 13) hd (Nat.le_of_ble_eq_true rfl) rfl (fun d hd Q K => ?_)
  refine Ends.eq (b305_0 l (by omega)) ?_
  rw [e18]
  refine Ends.g ⟨by omega, by omega⟩ ?_
  rw [tn]
  -- the copy
  have rest : ∀ (q : AH) (cl : Nat), LX B n q → FlE B n (svW B h sv f) 1 (24 * n * n) h q → hv q (B + 94) sv = rf cl → B + 246 ≤ cl → hk q cl = (3, 24 * n * n) → (hnx h ≤ cl ∨ hv h (B + 94) sv = rf cl) → cl ≠ tl → SG n q tl T → hv q (B + 92) 18 = (sv : Int) → hv q (B + 92) 12 = rf tl → Ends (ev PP (gsF gv) B d 305 28 [(2, rf (B + 92)), (0, (f : Int))] [] q) Q := fun q cl lq X ec bc kc old ne sq e18q e12q => by
    refine Ends.eq (b305_28 lq (by omega)) ?_
    rw [e18q]
    refine Ends.g ⟨by omega, by omega⟩ ?_
    rw [tn, e12q, ec]
    refine Ends.cv lq (by decide +kernel) (c_copy lq (by omega) sq kc (by omega)) (fun q2 l2 _ _ _ ⟨f2, s2⟩ => ?_)
    have g2 := f2.agr
    refine Ends.eq (b305_48 l2 (by omega)) (Ends.g ⟨by omega, by omega⟩ (Ends.sm ?_))
    have e18' : hv q2 (B + 92) 18 = (sv : Int) := by rw [g2.at _ _ (by omega)]; exact e18q
    rw [e18', tn, an0, show bop32 96 (sv : Int) 1 = ((sv + 1 : Nat) : Int) from addNN (y := 1) (by omega)]
    obtain ⟨x1, x2, x3, x4, x5⟩ := X
    have g3 : Agr (fun c k => c = cl ∨ (c = B + 95 ∧ k = f) ∨ (c = B + 92 ∧ k = 18)) q (hset (hset q2 (B + 95) f (sv : Int)) (B + 92) 18 ((sv + 1 : Nat) : Int)) := ((g2.sub (fun c k z => Or.inl z)).set (Or.inr (Or.inl ⟨rfl, rfl⟩))).set (Or.inr (Or.inr ⟨rfl, rfl⟩))
    have hbq : B + 246 ≤ hnx q := lq.2.2
    have ecq : rgV B q (21 + sv) = rf cl := by rw [rgV_94 hs]; exact ec
    obtain ⟨R2, L2⟩ := x2.ext hbq g3.ext (fun i hi w => by
      have := rgi hi
      omega)
    obtain ⟨F2, L3⟩ := x3.ext hbq g3.ext (fun k w => by omega) (fun a k z w => by
      have := x3.own z
      rcases w with w | w | w
      · rw [w] at z; exact rg_noF x2 x3 (by omega) ecq z
      · omega
      · omega)
    refine K _ ⟨⟨x1.tr g3.ext (fun c k hc w => ?_), R2, F2, by rw [L2, L3]; rw [show hus (hset (hset q2 (B + 95) f (sv : Int)) (B + 92) 18 ((sv + 1 : Nat) : Int)) = hus q from g3.us]; exact x4, fun c hc z => x5 c hc ((FlO.keep hbq g3.ext (fun k w => by omega)).mp z)⟩, cl, ?_, ?_, old, ?_, ?_⟩
    · rcases w with w | w | w
      · rcases old with y | y
        · omega
        · rw [w]; exact Or.inr (Or.inr (Or.inr y))
      · exact Or.inr (Or.inl w)
      · exact Or.inr (Or.inr (Or.inl w))
    · rw [hv_set_ne (by omega), hv_set_ne (by omega), g2.at _ _ (by omega)]; exact ec
    · exact SG.agr (S := T) s2 (((Agr.rf (W := fun c _ => c = B + 95 ∨ c = B + 92)).set (Or.inl rfl)).set (Or.inr rfl)) (fun _ z => by omega)
    · rw [hv_set_ne (by omega), hv_set_at]
    · exact hv_set_at ..
  have tlr : ∃ i, i < 16 ∧ rgV B h i = rf tl := by
    obtain ⟨k, hk6, e⟩ := t3
    exact ⟨10 + k, by omega, by rw [rgV_s hk6]; exact e⟩
  refine Ends.b0 (fun z => ?_) (fun z => ?_)
  · refine Ends.ct l (by decide +kernel) (by decide) (c_made l (by omega) hn) (fun v h2 l2 _ _ _ ⟨e1, e2⟩ => ?_)
    subst e1
    subst e2
    refine Ends.eq (b305_27 l2 (by omega)) ?_
    have hk3 : hk (hnew h (3, 24 * n * n) (24 * n * n)) (B + 94) = (1 + 4 + 2, 12) := l2.1 94 _ rfl
    rw [ad_rf, ad_rf, tn, hk3]
    refine Ends.g ⟨by unfold rf; omega, rfl, by omega, by show (sv : Int) < ((12 : Nat) : Int); omega, by omega, Or.inr ⟨by unfold rf; omega, by rw [hk_new, if_pos rfl]; rfl⟩⟩ ?_
    have l3 : LX B n (hset (hnew h (3, 24 * n * n) (24 * n * n)) (B + 94) sv (rf (hnx h))) := LX.setA (t := 5) l2 (by rw [hk3])
    obtain ⟨q, eq⟩ : ∃ q, q = hset (hnew h (3, 24 * n * n) (24 * n * n)) (B + 94) sv (rf (hnx h)) := ⟨_, rfl⟩
    have X : Ext (fun c j => c = B + 94 ∧ j = sv) 1 (24 * n * n) h q := by rw [eq]; exact Ext.set Ext.new (fun _ => ⟨rfl, rfl⟩)
    have n1 : hnx q = hnx h + 1 := by rw [eq]; rfl
    have u1 : hus q = hus h + 24 * n * n := by rw [eq]; rfl
    have e1 : hv q (B + 94) sv = rf (hnx h) := by rw [eq]; exact hv_set_at ..
    have e2 : hk q (hnx h) = (3, 24 * n * n) := by rw [eq]; show hk (hnew h (3, 24 * n * n) (24 * n * n)) (hnx h) = _; rw [hk_new, if_pos rfl]
    obtain ⟨R', L⟩ := R.put (i := 21 + sv) hb (by omega) (by rw [rgV_94 hs]; exact z) X (fun j hj hji w => rg_ne94 hj hs hji w.1 w.2) (by rw [rgV_94 hs]; exact e1) e2 (by omega)
    obtain ⟨F', L'⟩ := F.ext hb X (fun k w => by omega) (fun a k y w => by have := F.own y; omega)
    rw [← eq] at l3 ⊢
    exact rest q (hnx h) l3 ⟨X.sub (fun c k _ w => Or.inl w) (Nat.le_refl _) (Nat.le_refl _), R', F', by omega, fun c hc y => (FlO.keep hb X (fun k w => by omega)).mp y⟩ e1 hb e2 (Or.inl (Nat.le_refl _)) (by omega) (st.ext X t2 (fun k w => by omega)) (by rw [X.at _ (by omega) (by omega)]; exact e18) (by rw [X.at _ (by omega) (by omega)]; exact e12)
  · rcases R.1 (21 + sv) (by omega) with y | ⟨cl, y1, y2, y3, y4⟩
    · rw [rgV_94 hs] at y; exact absurd y z
    · obtain ⟨i, hi, ei⟩ := tlr
      have y1' := y1
      rw [rgV_94 hs] at y1'
      refine rest h cl l ⟨Ext.rf, R, F, rfl, fun c _ y => y⟩ y1' y2 y4 (Or.inr y1') (fun w => ?_) st e18 e12
      have := R.2 i (21 + sv) (by omega) (by omega) (by omega) (by rw [ei, y1, w])
      have := rf_pos tl
      omega
end SAV
