/-! L3: sketches asked (model) -/
section ASKM
variable {gv : Nat → Int} {B n d w1 nk np q s : Nat} {h : AH} {cs : Nat → Cst} {w xa xb xc dr : Nat → Int} {isC gk sel : Nat → Bool} {Inv : AH → Prop}
/-- what a sketch of the model needs -/
def MdH (gv : Nat → Int) (B n w1 nk np : Nat) (h : AH) (cs : Nat → Cst) (w xa xb xc dr : Nat → Int) (isC gk : Nat → Bool) (Inv : AH → Prop) : Prop :=
  (YS B w1 h ∧ CsM B h w1 nk cs xa xb xc ∧ DrM h w1 np dr ∧ ∀ k, k < nk → hv h (w1 + 12) k = b2i (isC k)) ∧ ((∀ q q', Inv q → Agr (skW B) q q' → Inv q') ∧ ∀ q q', Inv q → Agr (fun c k => c = B + 149 ∧ k = 0) q q' → Inv q') ∧ GvF gv B n w1 nk h cs w isC gk Inv
/-- where the model's sketch is -/
def MdC (B q s w1 : Nat) (h : AH) : Prop := hv h (B + 149) 19 = rf q ∧ YD B q h ∧ w1 = q + (8 + 14 * s) ∧ s < 6 ∧ v764 q h (s : Int) = 0
/-- what solving writes, and how it fails -/
def hlF (B : Nat) : Nat → Nat → Prop := fun c k => hlW B c k ∨ (c = B + 149 ∧ k = 0)
theorem hlF_lo {c k : Nat} (z : hlF B c k) : c < B + 246 := by
  rcases z with z | z
  · exact ho_lo z
  · omega
theorem CsM.far {t : AH} {W : Nat → Nat → Prop} (C : CsM B h w1 nk cs xa xb xc) (S : YS B w1 h) (g : Agr W h t) (hW : ∀ c k, W c k → c < B + 246) : CsM B t w1 nk cs xa xb xc := by
  have lo := S.lo
  have at_ : ∀ j k, hv t (w1 + j) k = hv h (w1 + j) k := fun j k => g.at _ _ (fun z => by have := hW _ _ z; omega)
  obtain ⟨c1, c2, c3⟩ := C
  refine ⟨by rw [show w1 = w1 + 0 from rfl, at_]; exact c1, c2, fun k hk => ?_⟩
  obtain ⟨a1, a2, a3, a4, a5, a6⟩ := c3 k hk
  exact ⟨by rw [at_]; exact a1, a2, by rw [at_]; exact a3, by rw [at_]; exact a4, by rw [at_]; exact a5, a6.agr (at_ 3) (at_ 4)⟩
theorem MdH.far {t : AH} {W : Nat → Nat → Prop} (H : MdH gv B n w1 nk np h cs w xa xb xc dr isC gk Inv) (g : Agr W h t) (hW : ∀ c k, W c k → c < B + 246) : MdH gv B n w1 nk np t cs w xa xb xc dr isC gk Inv := by
  obtain ⟨⟨S, C, D, e⟩, hI, HG⟩ := H
  have lo := S.lo
  have at_ : ∀ j k, hv t (w1 + j) k = hv h (w1 + j) k := fun j k => g.at _ _ (fun z => by have := hW _ _ z; omega)
  refine ⟨⟨S.agr g (fun k _ z => by have := hW _ _ z; omega), C.far S g hW, ?_, fun k hk => by rw [at_]; exact e k hk⟩, hI, fun k d' q a b c => ?_⟩
  · obtain ⟨a, b, c, e⟩ := D
    exact ⟨by rw [show w1 = w1 + 0 from rfl, at_]; exact a, b, fun p hp => by rw [at_, at_]; exact c p hp, e⟩
  · rw [at_]; exact HG k d' q a b c
theorem MdC.far {t : AH} (M : MdC B q s w1 h) (g : Agr (hlF B) h t) : MdC B q s w1 t := by
  obtain ⟨a, b, c, e, f⟩ := M
  have lo := b.lo
  refine ⟨?_, b.far g (fun c k h1 _ z => by have := hlF_lo z; omega), c, e, ?_⟩
  · rw [g.at _ _ (fun z => by
      rcases z with (z | z) | z
      · unfold skW at z; omega
      · unfold wvW mfW at z; omega
      · omega)]
    exact a
  · unfold v764 at f ⊢
    rw [g.at _ _ (fun z => by have := hlF_lo z; omega)]
    exact f
theorem f0_ok {x : Int} : Agr (hlF B) h (hset h (B + 149) 0 x) := Agr.rf.set (Or.inr ⟨rfl, rfl⟩)
theorem hl_0 {t : AH} (g : Agr (hlW B) h t) : hv t (B + 149) 0 = hv h (B + 149) 0 := g.at _ _ (fun z => by
  rcases z with z | z
  · unfold skW at z; omega
  · unfold wvW mfW at z; omega)
/-- behind the question whether there is such a sketch: solving -/
theorem c_solveM (l : LX B n h) (hd : 996 ≤ d) (M : MdC B q s w1 h) (H : MdH gv B n w1 nk np h cs w xa xb xc dr isC gk Inv) (i0 : Inv h) : Vt 0 (cll PP (ev PP (gsF gv) B) d 837 [(2, rf (B + 149)), (2, rf w1)] h) (fun x h' => Agr (hlW B) h h' ∧ Inv h' ∧ SolM B h' nk np isC gk cs w dr x) := by
  obtain ⟨⟨S, C, D, e⟩, hI, HG⟩ := H
  exact c_solved837 l hd S C e D hI.1 i0 HG
theorem c_solve836 (l : LX B n h) (hd : 998 ≤ d) (M : MdC B q s w1 h) (H : MdH gv B n w1 nk np h cs w xa xb xc dr isC gk Inv) (i0 : Inv h) :
    Vt 0 (cll PP (ev PP (gsF gv) B) d 836 [(2, rf (B + 149)), (0, (s : Int))] h) (fun x h' => Agr (hlF B) h h' ∧ Inv h' ∧ hv h' (B + 149) 0 = 0 ∧ x = slS nk np isC gk cs w) := by
  obtain ⟨hq, D, e1, hs, e7⟩ := id M
  refine Vt.inq (D := 997) hd (Nat.le_of_ble_eq_true rfl) rfl (fun d hd Q K => ?_)
  refine Ends.eq (b836_0 l (by omega) hq D) ?_
  rw [e7, ct0, if_pos rfl]
  refine Ends.ct l (by decide +kernel) (by decide) (c_fails l (by omega)) (fun x q1 l1 _ _ _ ⟨ex, eq1⟩ => ?_)
  have M1 : MdC B q s w1 q1 := by rw [eq1]; exact M.far f0_ok
  have H1 : MdH gv B n w1 nk np q1 cs w xa xb xc dr isC gk Inv := by rw [eq1]; exact H.far f0_ok (fun c k z => hlF_lo z)
  have i1 : Inv q1 := by rw [eq1]; exact H.2.1.2 _ _ i0 (Agr.rf.set ⟨rfl, rfl⟩)
  have g1 : Agr (hlF B) h q1 := by rw [eq1]; exact f0_ok
  have z1 : hv q1 (B + 149) 0 = 0 := by rw [eq1, hv_set_at]
  rw [ex, if_neg (Int.lt_irrefl 0)]
  refine Ends.eq (b836_17 l1 (by omega) M1.1 M1.2.1) (Ends.b0 (fun _ => Ends.g ⟨by omega, by omega⟩ ?_) (fun z => absurd rfl z))
  rw [tn, ← e1]
  refine Ends.ct l1 (by decide +kernel) (by decide) (c_solveM l1 (by omega) M1 H1 i1) (fun y q2 l2 _ _ _ ⟨g2, i2, S2⟩ => ?_)
  refine Ends.eq (b836_35 l2 (by omega)) (Ends.sm (K _ _ ⟨g1.tr g2 (fun _ _ z => Or.inl z), i2, by rw [hl_0 g2]; exact z1, S2.x⟩))
theorem c_freedom651 (l : LX B n h) (hd : 998 ≤ d) (M : MdC B q s w1 h) (H : MdH gv B n w1 nk np h cs w xa xb xc dr isC gk Inv) (i0 : Inv h) :
    Vt 0 (cll PP (ev PP (gsF gv) B) d 651 [(2, rf (B + 149)), (0, (s : Int))] h) (fun x h' => Agr (hlF B) h h' ∧ Inv h' ∧ hv h' (B + 149) 0 = 0 ∧ x = fdS nk np isC gk cs w) := by
  obtain ⟨hq, D, e1, hs, e7⟩ := id M
  refine Vt.inq (D := 997) hd (Nat.le_of_ble_eq_true rfl) rfl (fun d hd Q K => ?_)
  refine Ends.eq (b651_0 l (by omega) hq D) ?_
  rw [e7, ct0, if_pos rfl]
  refine Ends.ct l (by decide +kernel) (by decide) (c_fails l (by omega)) (fun x q1 l1 _ _ _ ⟨ex, eq1⟩ => ?_)
  have M1 : MdC B q s w1 q1 := by rw [eq1]; exact M.far f0_ok
  have H1 : MdH gv B n w1 nk np q1 cs w xa xb xc dr isC gk Inv := by rw [eq1]; exact H.far f0_ok (fun c k z => hlF_lo z)
  have i1 : Inv q1 := by rw [eq1]; exact H.2.1.2 _ _ i0 (Agr.rf.set ⟨rfl, rfl⟩)
  have g1 : Agr (hlF B) h q1 := by rw [eq1]; exact f0_ok
  have z1 : hv q1 (B + 149) 0 = 0 := by rw [eq1, hv_set_at]
  rw [ex, if_neg (Int.lt_irrefl 0)]
  refine Ends.eq (b651_17 l1 (by omega) M1.1 M1.2.1) (Ends.b0 (fun _ => Ends.g ⟨by omega, by omega⟩ ?_) (fun z => absurd rfl z))
  rw [tn, ← e1]
  refine Ends.ct l1 (by decide +kernel) (by decide) (c_solveM l1 (by omega) M1 H1 i1) (fun y q2 l2 _ _ _ ⟨g2, i2, S2⟩ => ?_)
  refine Ends.eq (b651_35 l2 (by omega)) (Ends.sm (K _ _ ⟨g1.tr g2 (fun _ _ z => Or.inl z), i2, by rw [hl_0 g2]; exact z1, ?_⟩))
  have ey := S2.x
  unfold fdS
  rw [← ey, ct2]
  by_cases z : 1 < y
  · rw [if_neg (by omega), if_pos z]
  · rw [if_pos (by omega), if_neg z]
    rcases S2 with ⟨a, -⟩ | ⟨a, -⟩ | ⟨-, -, -, a, -⟩
    · omega
    · omega
    · exact a
theorem fr_uniq {E : (Nat → Int) → Int → Prop} {X X' : Nat → Int} {t t' : Int} (p : Sln E (2 * np) dr X t) (p' : Sln E (2 * np) dr X' t') {k : Nat} (hk : k < 2 * np) : mN (X k) t = mN (X' k) t' ∧ mD (X k) t = mD (X' k) t' := frq_uniq p.1 p'.1 (p.uniq p' k hk)
/-- only the first of them -/
theorem EqE.lim {k : Nat} (hk : k ≤ nk) : EqE nk (fun i => isC i && decide (i < k)) cs w = EqE k isC cs w := funext (fun x => funext (fun y => propext ⟨fun ⟨k', i, h1, h2, h3⟩ => by
  rw [Bool.and_eq_true, decide_eq_true_eq] at h2
  exact ⟨k', i, h2.2, h2.1, h3⟩, fun ⟨k', i, h1, h2, h3⟩ => ⟨k', i, by omega, by show (isC k' && decide (k' < k)) = true; rw [h2, decide_eq_true h1]; rfl, h3⟩⟩))
theorem rd_165 {i : Nat} (l : LX B n h) (hi : i < 32) : 0 < rf (B + 165) ∧ (hk h (ad (rf (B + 165)))).1 = 3 + 2 ∧ 0 ≤ (i : Int) ∧ (i : Int) < (hk h (ad (rf (B + 165)))).2 := ⟨rf_pos _, by rw [ad_rf, lk_165 l], by omega, by rw [ad_rf, lk_165 l]; show (i : Int) < ((32 : Nat) : Int); omega⟩
theorem wr_165 {i : Nat} (l : LX B n h) (hi : i < 32) : 0 < rf (B + 165) ∧ (hk h (ad (rf (B + 165)))).1 = 3 + 2 ∧ 0 ≤ (i : Int) ∧ (i : Int) < (hk h (ad (rf (B + 165)))).2 ∧ B ≤ ad (rf (B + 165)) := ⟨rf_pos _, by rw [ad_rf, lk_165 l], by omega, by rw [ad_rf, lk_165 l]; show (i : Int) < ((32 : Nat) : Int); omega, by rw [ad_rf]; omega⟩
set_option maxHeartbeats 2000000 in
theorem c_conflict577 {k : Int} (l : LX B n h) (hd : 998 ≤ d) (M : MdC B q s w1 h) (H : MdH gv B n w1 nk np h cs w xa xb xc dr isC gk Inv) (i0 : Inv h) (hk : k < 2147483648) :
    Vt 0 (cll PP (ev PP (gsF gv) B) d 577 [(2, rf (B + 149)), (0, (s : Int)), (0, k)] h) (fun x h' => Agr (hlF B) h h' ∧ Inv h' ∧ hv h' (B + 149) 0 = 0 ∧ x = cfS nk np isC gk cs w k) := by
  obtain ⟨hq, D, e1, hs, e7⟩ := id M
  have kn := H.1.2.1.2.1
  refine Vt.inq (D := 997) hd (Nat.le_of_ble_eq_true rfl) rfl (fun d hd Q K => ?_)
  refine Ends.eq (b577_0 l (by omega) hq D) ?_
  rw [e7, ct0, if_pos rfl]
  refine Ends.ct l (by decide +kernel) (by decide) (c_fails l (by omega)) (fun x q1 l1 _ _ _ ⟨ex, eq1⟩ => ?_)
  have M1 : MdC B q s w1 q1 := by rw [eq1]; exact M.far f0_ok
  have H1 : MdH gv B n w1 nk np q1 cs w xa xb xc dr isC gk Inv := by rw [eq1]; exact H.far f0_ok (fun c k z => hlF_lo z)
  have i1 : Inv q1 := by rw [eq1]; exact H.2.1.2 _ _ i0 (Agr.rf.set ⟨rfl, rfl⟩)
  have g1 : Agr (hlF B) h q1 := by rw [eq1]; exact f0_ok
  have z1 : hv q1 (B + 149) 0 = 0 := by rw [eq1, hv_set_at]
  rw [ex, if_neg (Int.lt_irrefl 0)]
  refine Ends.eq (b577_17 l1 (by omega) M1.1 M1.2.1) (Ends.b0 (fun _ => Ends.g ⟨by omega, by omega⟩ ?_) (fun z => absurd rfl z))
  rw [tn, ← e1]
  refine Ends.ct l1 (by decide +kernel) (by decide) (c_solveM l1 (by omega) M1 H1 i1) (fun y q2 l2 _ _ _ ⟨g2, i2, S2⟩ => ?_)
  have ey := S2.x
  -- at the end
  have fin : ∀ (t : AH) (x : Int), Agr (hlW B) q2 t → Inv t → x = cfS nk np isC gk cs w k → Q ((0, (0, x)), t) := fun t x g i e => K _ _ ⟨(g1.tr g2 (fun _ _ z => Or.inl z)).tr g (fun _ _ z => Or.inl z), i, by rw [hl_0 g, hl_0 g2]; exact z1, e⟩
  have at_ : ∀ {t : AH}, Agr (hlW B) q2 t → MdH gv B n w1 nk np t cs w xa xb xc dr isC gk Inv := fun {t} g => (H1.far g2 (fun c k z => ho_lo z)).far g (fun c k z => ho_lo z)
  have S2' : YS B w1 q2 := (at_ Agr.rf).1.1
  refine Ends.eq (b577_37 l2 (by omega)) ?_
  refine Ends.b1 (fun z3 => Ends.b2 (fun z2 => ?_) (fun z2 => Ends.b3 (fun zk => ?_) (fun zk => ?_))) (fun z3 => Ends.b1 (fun zk => ?_) (fun zk => ?_))
  · refine Ends.eq (b577_69 l2 (by omega)) (Ends.sm (fin q2 _ Agr.rf i2 ?_))
    unfold cfS
    rw [← ey, if_pos (Or.inl z2)]
  · -- they contradict
    have ff : fstB (flC cs isC gk) nk 0 < 0 := by
      rcases S2 with ⟨a, -⟩ | ⟨-, a, -⟩ | ⟨a, -⟩
      · exact absurd a z3
      · exact a
      · exact a
    have hf : ∀ i, i < nk → flC cs isC gk i = false := fun i hi => fstB_neg nk 0 ff i (Nat.zero_le i) (by omega)
    have cfe : cfS nk np isC gk cs w k = kth (cfN nk cs w nk isC) nk 0 k := by
      unfold cfS
      rw [← ey, if_neg (by omega), if_neg z3]
    obtain ⟨⟨Sa, Ca, Da, ea⟩, hIa, HGa⟩ := at_ Agr.rf
    refine Ends.ct l2 (by decide +kernel) (by decide) (c_constraintsOf579 (isC := isC) l2 (by omega) Sa Ca ea) (fun y3 q3 l3 _ _ _ ⟨g3, ey3, e165⟩ => ?_)
    subst ey3
    have g3' : Agr (hlW B) q2 q3 := g3.sub (fun c k z => Or.inl (by unfold skW; omega))
    have i3 := hIa.1 _ _ i2 (g3.sub (fun c k z => by unfold skW; omega))
    have e5 : ∀ {t : AH}, Agr (hlW B) q2 t → hv t w1 5 = (nk : Int) := fun {t} g => (at_ g).1.2.1.1
    -- the one with that number
    have last : ∀ (r i : Nat) (t : AH) (T : Nat → Bool) (j x4 : Int), i + r = nk → LX B n t → Agr (hlW B) q2 t → Inv t → (∀ k, k < nk → hv t (B + 165) k = b2i (T k)) → 0 ≤ j → j < 2147483648 → kth T r i j = cfS nk np isC gk cs w k → Ends (ev PP (gsF gv) B d 577 136 [(2, rf (B + 149)), (0, (s : Int)), (0, k), (2, rf w1), (0, x4), (2, rf (B + 165)), (0, j), (0, (i : Int))] [] t) Q := by
      intro r
      induction r with
      | zero =>
        intro i t T j x4 ei lt g it e6 j0 j1 e
        have St := (at_ g).1.1
        refine Ends.eq (b577_136 (n := n) (by (repeat' first | assumption | refine LX.setF _ _ ?_ (by decide +kernel) | refine LX.setS ?_ rfl | refine LX.setA ?_ (by first | assumption | omega))) (by first | assumption | omega) (by first | assumption | omega)) ?_
        rw [e5 g]
        refine Ends.b3 (fun _ => Ends.sm (fin t _ g it e)) (fun z => absurd z (by omega))
      | succ r ih =>
        intro i t T j x4 ei lt g it e6 j0 j1 e
        have St := (at_ g).1.1
        rw [show kth T (r + 1) i j = if T i = true then (if j = 0 then (i : Int) else kth T r (i + 1) (j - 1)) else kth T r (i + 1) j from rfl] at e
        have next : ∀ j' : Int, 0 ≤ j' → j' < 2147483648 → kth T r (i + 1) j' = cfS nk np isC gk cs w k → j' = (if T i = true then w32 (j + (-1)) else j) → Ends (ev PP (gsF gv) B d 577 161 [(2, rf (B + 149)), (0, (s : Int)), (0, k), (2, rf w1), (0, x4), (2, rf (B + 165)), (0, j), (0, (i : Int))] [] t) Q := fun j' a b c ej => by
          refine Ends.eq (b577_161 (n := n) (by (repeat' first | assumption | refine LX.setF _ _ ?_ (by decide +kernel) | refine LX.setS ?_ rfl | refine LX.setA ?_ (by first | assumption | omega))) (by first | assumption | omega)) ?_
          rw [ad_rf, tn, e6 i (by omega), ct0, w_succ (by omega)]
          refine Ends.g (by have := rd_165 (i := i) lt (by omega); rw [ad_rf] at this; exact this) ?_
          rw [show (if b2i (T i) = 0 then j else w32 (j + (-1))) = j' from by
            rw [ej]
            cases T i <;> rfl]
          exact ih (i + 1) t T j' x4 (by omega) lt g it e6 a b c
        refine Ends.eq (b577_136 (n := n) (by (repeat' first | assumption | refine LX.setF _ _ ?_ (by decide +kernel) | refine LX.setS ?_ rfl | refine LX.setA ?_ (by first | assumption | omega))) (by first | assumption | omega) (by first | assumption | omega)) ?_
        rw [e5 g, ad_rf, tn, e6 i (by omega)]
        refine Ends.b3 (fun z => absurd z (by omega)) (fun _ => Ends.g (by have := rd_165 (i := i) lt (by omega); rw [ad_rf] at this; exact this) ?_)
        cases et : T i
        · rw [if_neg (by rw [et]; exact Bool.false_ne_true)] at e
          refine Ends.b0 (fun _ => next j j0 j1 e (by rw [et]; rfl)) (fun z => absurd rfl z)
        · rw [if_pos et] at e
          refine Ends.b0 (fun z => absurd z (by decide)) (fun _ => Ends.b1 (fun zj => ?_) (fun zj => ?_))
          · rw [if_neg zj] at e
            exact next (j - 1) (by omega) (by omega) e (by rw [et, if_pos rfl]; exact (w32_id ⟨by omega, by omega⟩).symm)
          · rw [if_pos zj] at e
            exact Ends.sm (fin t _ g it e)
    -- one by one, from the last
    have down : ∀ (i : Nat) (t : AH) (T : Nat → Bool) (x4 : Int) (u7 : AV), i ≤ nk → LX B n t → Agr (hlW B) q2 t → Inv t → (∀ k, k < nk → hv t (B + 165) k = b2i (T k)) → (∀ k, k < nk → T k = true → isC k = true) → kth (cfN nk cs w i T) nk 0 k = cfS nk np isC gk cs w k → Ends (ev PP (gsF gv) B d 577 86 [(2, rf (B + 149)), (0, (s : Int)), (0, k), (2, rf w1), (0, x4), (2, rf (B + 165)), (0, (i : Int) - 1), u7] [] t) Q := by
      intro i
      induction i with
      | zero =>
        intro t T x4 u7 hi lt g it e6 sub e
        have St := (at_ g).1.1
        refine Ends.eq (b577_86 (n := n) (by (repeat' first | assumption | refine LX.setF _ _ ?_ (by decide +kernel) | refine LX.setS ?_ rfl | refine LX.setA ?_ (by first | assumption | omega))) (by first | assumption | omega)) ?_
        refine Ends.b2 (fun _ => ?_) (fun z => absurd z (by omega))
        exact last nk 0 t T k x4 (by omega) lt g it e6 zk hk e
      | succ i ih =>
        intro t T x4 u7 hi lt g it e6 sub e
        have St := (at_ g).1.1
        rw [show ((i + 1 : Nat) : Int) - 1 = (i : Int) from by omega]
        have next : ∀ (t' : AH) (T' : Nat → Bool), LX B n t' → Agr (hlW B) q2 t' → Inv t' → (∀ k, k < nk → hv t' (B + 165) k = b2i (T' k)) → T' = rmv nk cs w T i → Ends (ev PP (gsF gv) B d 577 124 [(2, rf (B + 149)), (0, (s : Int)), (0, k), (2, rf w1), (0, x4), (2, rf (B + 165)), (0, (i : Int)), u7] [] t') Q := fun t' T' l' g' i' e' eS => by
          refine Ends.eq (b577_124 (n := n) (by (repeat' first | assumption | refine LX.setF _ _ ?_ (by decide +kernel) | refine LX.setS ?_ rfl | refine LX.setA ?_ (by first | assumption | omega))) (by first | assumption | omega)) ?_
          rw [show w32 ((i : Int) + (-1)) = (i : Int) - 1 from w32_id ⟨by omega, by omega⟩]
          refine ih t' T' x4 u7 (by omega) l' g' i' e' (fun k hk z => sub k hk ?_) ?_
          · rw [eS] at z; exact rmv_sub z
          · rw [eS]; exact e
        refine Ends.eq (b577_86 (n := n) (by (repeat' first | assumption | refine LX.setF _ _ ?_ (by decide +kernel) | refine LX.setS ?_ rfl | refine LX.setA ?_ (by first | assumption | omega))) (by first | assumption | omega)) ?_
        rw [ad_rf, tn, e6 i (by omega)]
        refine Ends.b2 (fun z => absurd z (by omega)) (fun _ => Ends.g (by have := rd_165 (i := i) lt (by omega); rw [ad_rf] at this; exact this) ?_)
        cases es : T i
        · refine Ends.b1 (fun z => absurd rfl z) (fun _ => next t T lt g it e6 ?_)
          unfold rmv
          rw [if_neg (fun z => by rw [es] at z; exact Bool.false_ne_true z.1)]
        · refine Ends.b1 (fun _ => Ends.g (by have := wr_165 (i := i) lt (by omega); rw [ad_rf] at this; exact this) ?_) (fun z => absurd z (by decide))
          rw [an3 (Or.inl rfl)]
          have g4s : Agr (skW B) t (hset t (B + 165) i 0) := Agr.rf.set (Or.inr ⟨by omega, by omega⟩)
          have g4 : Agr (hlW B) q2 (hset t (B + 165) i 0) := g.tr g4s (fun _ _ z => Or.inl z)
          have l4 : LX B n (hset t (B + 165) i 0) := lt.setS rfl
          have i4 := hIa.1 _ _ it g4s
          have m6 : ∀ k, k < nk → hv (hset t (B + 165) i 0) (B + 165) k = b2i (mnB T i k) := fun k hk => by
            unfold mnB
            by_cases y : k = i
            · rw [y, hv_set_at, decide_eq_true rfl, Bool.not_true, Bool.and_false]; rfl
            · rw [hv_set_ne (by omega), decide_eq_false y, Bool.not_false, Bool.and_true]; exact e6 k hk
          obtain ⟨q4, eq4⟩ : ∃ q4, q4 = hset t (B + 165) i 0 := ⟨_, rfl⟩
          rw [← eq4] at g4 l4 i4 m6 ⊢
          obtain ⟨⟨Sb, Cb, Db, eb⟩, hIb, HGb⟩ := at_ g4
          refine Ends.ct l4 (by decide +kernel) (by decide) (c_holds672 (sel := mnB T i) l4 (by omega) Sb Cb hIb.1 i4 (HGb.c (fun k hk z => sub k hk (by unfold mnB at z; rw [Bool.and_eq_true] at z; exact z.1)) hf) m6) (fun y q5 l5 _ _ _ ⟨g5, i5, e65, r5⟩ => ?_)
          have G5 : Agr (hlW B) q2 q5 := g4.tr g5 (fun _ _ z => z)
          have e5' : ∀ k, k < nk → hv q5 (B + 165) k = b2i (mnB T i k) := fun k hk => by rw [e65]; exact m6 k hk
          have Sc := (at_ G5).1.1
          refine Ends.eq (b577_115 (n := n) (by (repeat' first | assumption | refine LX.setF _ _ ?_ (by decide +kernel) | refine LX.setS ?_ rfl | refine LX.setA ?_ (by first | assumption | omega))) (by first | assumption | omega)) ?_
          rcases r5 with ⟨ey5, sat, -⟩ | ⟨ey5, ns⟩
          · rw [ey5]
            refine Ends.b0 (fun z => absurd z (by decide)) (fun _ => Ends.g (by have := wr_165 (i := i) l5 (by omega); rw [ad_rf] at this ⊢; exact this) ?_)
            rw [ad_rf, tn, an3 (Or.inr rfl)]
            have g6s : Agr (skW B) q5 (hset q5 (B + 165) i 1) := Agr.rf.set (Or.inr ⟨by omega, by omega⟩)
            refine next _ T (l5.setS rfl) (G5.tr g6s (fun _ _ z => Or.inl z)) (hIa.1 _ _ i5 g6s) (fun k hk => ?_) ?_
            · by_cases y : k = i
              · rw [y, hv_set_at, es]; rfl
              · rw [hv_set_ne (by omega), e5' k hk]
                unfold mnB
                rw [decide_eq_false y, Bool.not_false, Bool.and_true]
            · unfold rmv
              rw [if_neg (fun z => by rw [satB_iff.mpr sat] at z; exact Bool.false_ne_true z.2.symm)]
          · rw [ey5]
            refine Ends.b0 (fun _ => next q5 (mnB T i) l5 G5 i5 e5' ?_) (fun z => absurd rfl z)
            unfold rmv
            rw [if_pos ⟨es, satB_f ns⟩]
    have S3 := (at_ g3').1.1
    refine Ends.eq (b577_76 (n := n) (by (repeat' first | assumption | refine LX.setF _ _ ?_ (by decide +kernel) | refine LX.setS ?_ rfl | refine LX.setA ?_ (by first | assumption | omega))) (by first | assumption | omega) (by first | assumption | omega)) ?_
    rw [e5 g3', show bop32 100 (nk : Int) 1 = (nk : Int) - 1 from w32_id ⟨by omega, by omega⟩]
    exact down nk q3 isC y _ (Nat.le_refl nk) l3 g3' i3 e165 (fun _ _ z => z) cfe.symm
  · refine Ends.eq (b577_69 l2 (by omega)) (Ends.sm (fin q2 _ Agr.rf i2 ?_))
    unfold cfS
    rw [← ey, if_pos (Or.inr zk)]
  · refine Ends.eq (b577_58 l2 (by omega)) (Ends.sm (fin q2 _ Agr.rf i2 ?_))
    unfold cfS
    rw [← ey]
    by_cases z : k < 0
    · rw [if_pos (Or.inr z)]
    · rw [if_neg (by omega), if_pos z3, if_neg zk]
  · obtain ⟨⟨Sa, Ca, Da, ea⟩, hIa, HGa⟩ := at_ Agr.rf
    refine Ends.ct l2 (by decide +kernel) (by decide) (c_firstFaulty637 (h0 := q2) l2 (by omega) Sa Ca ea hIa.1 i2 HGa (fun _ => rfl)) (fun y3 q3 l3 _ _ _ ⟨g3, i3, ey3⟩ => ?_)
    have g3' : Agr (hlW B) q2 q3 := g3.sub (fun c k z => Or.inr z)
    have S3 := (at_ g3').1.1
    refine Ends.eq (b577_54 l3 (by omega)) (Ends.eq (b577_58 l3 (by omega)) (Ends.sm (fin q3 _ g3' i3 ?_)))
    unfold cfS
    rw [← ey, if_neg (by omega), if_pos z3, if_pos zk, ey3]
end ASKM
