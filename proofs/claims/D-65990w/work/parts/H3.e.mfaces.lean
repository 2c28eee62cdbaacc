/-! L3: the FACES of a solid, asked for (model) -/
noncomputable section FCM
variable {gv : Nat → Int} {B n d s : Nat} {h t : AH} {mk : Nat → Nat} {is : Nat → Bool} {SS : Nat → Nat → Bool}
/-- the model's faces between calls -/
def FoM (B n : Nat) (h : AH) (SS : Nat → Nat → Bool) : Prop := BtM n h (B + 239) (fun _ => false) ∧ ∀ s : Nat, s < 12 → hv h (B + 149) 86 = (s : Int) → s < 11 ∧ ∃ mm F, MFc B n h s (SS s) mm F
theorem FoM.at (f : FoM B n h SS) {s : Nat} (hs : s < 11) : hv h (B + 149) 86 = (s : Int) → ∃ mm F, MFc B n h s (SS s) mm F := fun e => (f.2 s (by omega) e).2
theorem MFc.foM {s mm : Nat} {F : Nat → Nat} (m : MFc B n h s (SS s) mm F) (hs : s < 11) (b : BtM n h (B + 239) (fun _ => false)) : FoM B n h SS := ⟨b, fun s' h' e => by
  have : s' = s := by have := m.2.2.1; omega
  subst this
  exact ⟨hs, mm, F, m⟩⟩
theorem FoM.agr {W : Nat → Nat → Prop} (f : FoM B n h SS) (g : Agr W h t) (h0 : ∀ k, ¬ W (B + 239) k) (h1 : ¬ W (B + 149) 85) (h2 : ¬ W (B + 149) 86) (h3 : ∀ k, ¬ W (B + 190) k) : FoM B n t SS := ⟨f.1.agr g h0, fun s hs e => by
  rw [g.at _ _ h2] at e
  obtain ⟨a, mm, F, b⟩ := f.2 s hs e
  exact ⟨a, mm, F, b.agr g h1 h2 h3⟩⟩
/-- what asking for faces writes (model) -/
def sfM (B : Nat) : Nat → Nat → Prop := fun c k => fgoW B c k ∨ (c = B + 149 ∧ k = 0)
theorem sfM_in {c k : Nat} (z : sfM B c k) : c = B + 188 ∨ c = B + 189 ∨ c = B + 190 ∨ c = B + 238 ∨ c = B + 239 ∨ (c = B + 149 ∧ (k = 0 ∨ k = 74 ∨ k = 75 ∨ k = 76 ∨ k = 85 ∨ k = 86 ∨ k = 88 ∨ k = 89)) := by
  unfold sfM fgoW fdfW at z; omega
theorem c_faces620 {o : Int} (l : LX B n h) (hd : 32 ≤ d) (hn0 : 0 < n) (hn : n ≤ 52) (m : TbM B h) (bd : BdM B n h is SS) (f : FoM B n h SS) :
    Vt 0 (cll PP (ev PP (gsF gv) B) d 620 [(2, rf (B + 149)), (0, o)] h) (fun x h' => (thS is o = false ∧ MdA B h 1 x h') ∨ (thS is o = true ∧ hv h' (B + 149) 0 = 0 ∧ ∃ mm F, MFc B n h' (rwS o) (SS (rwS o)) mm F ∧ FoM B n h' SS ∧ Agr (sfM B) h h' ∧ x = (mm : Int))) := by
  refine Vt.inq (D := 31) hd (Nat.le_of_ble_eq_true rfl) rfl (fun d hd P K => ?_)
  refine Ends.eq (b620_0 (n := n) (by (repeat' first | assumption | refine LX.setF _ _ ?_ (by decide +kernel) | refine LX.setS ?_ rfl | refine LX.setA ?_ (by first | assumption | omega))) (by first | assumption | omega)) ?_
  obtain ⟨v1, v2⟩ := v765_is (o := o) (fun i hi => (bd.1 i hi).1)
  refine Ends.g v1 ?_
  rw [v2]
  cases ho : thS is o
  · rw [if_neg Bool.false_ne_true, show cond (tst 0 (1 : Int) 0) (0 : Int) 1 = 1 from rfl]
    refine Ends.mbad l (by omega) (c := 1) (by decide) rfl ?_
    have l2 : LX B n (hset h (B + 149) 0 ((1 : Nat) : Int)) := LX.setF 149 0 l (by decide +kernel)
    exact Ends.eq (b620_17 l2 (by omega)) (Ends.b0 (fun z => absurd z (by decide)) (fun _ => Ends.sm (K _ _ (Or.inl ⟨ho, rfl, rfl⟩))))
  rw [if_pos rfl, show cond (tst 0 (0 : Int) 0) (0 : Int) 1 = 0 from rfl]
  refine Ends.mok l (by omega) rfl ?_
  have l2 : LX B n (hset h (B + 149) 0 0) := LX.setF 149 0 l (by decide +kernel)
  have g2 : Agr (fun c k => c = B + 149 ∧ k = 0) h (hset h (B + 149) 0 0) := Agr.rf.set ⟨rfl, rfl⟩
  have e0 : hv (hset h (B + 149) 0 0) (B + 149) 0 = 0 := hv_set_at ..
  obtain ⟨s1, s2⟩ := (bd.fset 0 0).sol ho
  have f2 : FoM B n (hset h (B + 149) 0 0) SS := f.agr g2 (fun k => by omega) (by omega) (by omega) (fun k => by omega)
  generalize hset h (B + 149) 0 0 = h2 at *
  refine Ends.eq (b620_17 l2 (by omega)) (Ends.b0 (fun _ => ?_) (fun z => absurd rfl z))
  rw [v806_is ho]
  refine Ends.cv l2 (by decide +kernel) (c_makeFaces740 l2 (by omega) hn0 hn (m.agr g2 (fun c k _ _ _ w => by omega)) (by omega) s1 f2.1 (f2.at s2)) (fun h3 l3 _ _ _ ⟨⟨mm, F, t1⟩, t2, t3⟩ => ?_)
  refine Ends.eq (b620_30 l3 (by omega)) (Ends.sm (K _ _ (Or.inr ⟨ho, ?_, mm, F, t1, t1.foM s2 t2, (g2.sub (fun c k z => Or.inr z)).tr t3 (fun c k z => Or.inl z), t1.2.1⟩)))
  rw [t3.at _ _ (by unfold fgoW fdfW; omega)]; exact e0
theorem c_noFace759 {k : Int} {S : Nat → Bool} (l : LX B n h) (hd : 31 ≤ d) (hn0 : 0 < n) (hn : n ≤ 52) (m : TbM B h) (hs : s < 19) (bS : MB B n h s S) (b9 : BtM n h (B + 239) (fun _ => false)) (u : hv h (B + 149) 86 = (s : Int) → ∃ mm F, MFc B n h s S mm F) :
    Vt 0 (cll PP (ev PP (gsF gv) B) d 759 [(2, rf (B + 149)), (0, (s : Int)), (0, k)] h) (fun x h' => ∃ mm F, MFc B n h' s S mm F ∧ BtM n h' (B + 239) (fun _ => false) ∧ Agr (fgoW B) h h' ∧ x = (if 0 ≤ k ∧ k < ((min mm 4096 : Nat) : Int) then 0 else 1)) := by
  refine Vt.inq (D := 30) hd (Nat.le_of_ble_eq_true rfl) rfl (fun d hd Q K => ?_)
  refine Ends.eq (b759_0 l (by omega)) ?_
  refine Ends.cv l (by decide +kernel) (c_makeFaces740 l (by omega) hn0 hn m hs bS b9 u) (fun h2 l2 _ _ _ ⟨⟨mm, F, f2⟩, b2, g2⟩ => ?_)
  refine Ends.eq (b759_5 l2 (by omega)) (Ends.sm (K _ _ ⟨mm, F, f2, b2, g2, ?_⟩))
  rw [v727_is f2, ct2, ct2]
  by_cases z : k < 0
  · rw [if_pos z, if_neg (by omega)]
  · rw [if_neg z]
    by_cases y : k < ((min mm 4096 : Nat) : Int)
    · rw [if_pos y, if_pos (by omega)]
    · rw [if_neg y, if_neg (by omega)]
/-- the counts of sorts while a face is gone over -/
def SrI (B n : Nat) (V : Nat → Bool) (q : AH) : Prop := ∀ f, f < 4 → hv q (B + 191) f = ((cnQ n V f : Nat) : Int)
theorem c_visitSorts {K : Nat} {V : Nat → Bool} {face : Int} (l : LX B n h) (hd : 20 ≤ d) (hn : n ≤ 52) (I : SrI B n V h) (hK : K < 4 * gN n) (hV : V K = false) : Vd (cll PP (ev PP (gsF gv) B) d 864 [(2, rf (B + 149)), (0, 2), (0, (K : Int)), (0, face)] h) (fun h' => Agr (fun c k => c = B + 191 ∧ k < 4) h h' ∧ SrI B n (fun k => V k || decide (k = K)) h') := by
  have gl := gN_lt hn
  have e4 : bop32 112 (K : Int) (4 : Int) = ((K % 4 : Nat) : Int) := modNN (y := 4) (by decide) (by decide)
  have cb := cnF_le (n := n) (V := V) (f := K % 4)
  have k4 : K % 4 < 4 := Nat.mod_lt _ (by decide)
  refine Vd.inq (D := 19) hd (Nat.le_of_ble_eq_true rfl) rfl (fun d hd Q KK => ?_)
  refine Ends.eq (b864_0 l (by omega)) ?_
  rw [show sw864_1 (2 : Int) = 41 from rfl]
  refine Ends.eq (b864_41 l (by omega)) ?_
  rw [e4, tn, an0, I _ k4, show bop32 96 ((cnQ n V (K % 4) : Nat) : Int) (1 : Int) = ((cnQ n V (K % 4) + 1 : Nat) : Int) from addNN (y := 1) (by omega)]
  refine Ends.g ⟨by omega, by omega⟩ ?_
  refine Ends.eq (b864_107 (LX.setS l rfl) (by omega)) (Ends.sm (KK _ ⟨Agr.rf.set ⟨rfl, k4⟩, fun f hf => ?_⟩))
  rw [cnF_put hK hV]
  by_cases z : f = K % 4
  · rw [z, hv_set_at, if_pos rfl]
  · rw [hv_set_ne (by omega), if_neg (fun y => z y.symm), Nat.add_zero]; exact I f hf
set_option maxHeartbeats 2000000 in
theorem c_face617 {o k w : Int} (l : LX B n h) (hd : 36 ≤ d) (hn0 : 0 < n) (hn : n ≤ 52) (m : TbM B h) (bd : BdM B n h is SS) (f : FoM B n h SS) :
    Vt 0 (cll PP (ev PP (gsF gv) B) d 617 [(2, rf (B + 149)), (0, o), (0, k), (0, w)] h) (fun x h' => (thS is o = false ∧ MdA B h 1 x h') ∨ (thS is o = true ∧ ∃ mm F, MFc B n h' (rwS o) (SS (rwS o)) mm F ∧ FoM B n h' SS ∧ Agr (fun c k => sfM B c k ∨ (c = B + 191 ∧ k < 4)) h h' ∧ ((¬ (0 ≤ k ∧ k < ((min mm 4096 : Nat) : Int)) ∧ x = 0 ∧ hv h' (B + 149) 0 = 1) ∨ ((0 ≤ k ∧ k < ((min mm 4096 : Nat) : Int)) ∧ ¬ (0 ≤ w ∧ w ≤ 8) ∧ x = 0 ∧ hv h' (B + 149) 0 = 2) ∨ ((0 ≤ k ∧ k < ((min mm 4096 : Nat) : Int)) ∧ (0 ≤ w ∧ w ≤ 8) ∧ x = faQ n (bdr n (SS (rwS o))) (F k.toNat) w ∧ hv h' (B + 149) 0 = 0)))) := by
  refine Vt.inq (D := 35) hd (Nat.le_of_ble_eq_true rfl) rfl (fun d hd P K => ?_)
  have hb0 := l.2.2
  refine Ends.eq (b617_0 (n := n) (by (repeat' first | assumption | refine LX.setF _ _ ?_ (by decide +kernel) | refine LX.setS ?_ rfl | refine LX.setA ?_ (by first | assumption | omega))) (by first | assumption | omega)) ?_
  obtain ⟨v1, v2⟩ := v765_is (o := o) (fun i hi => (bd.1 i hi).1)
  refine Ends.g v1 ?_
  rw [v2]
  cases ho : thS is o
  · rw [if_neg Bool.false_ne_true]
    refine Ends.b1 (fun _ => Ends.eq (b617_21 l (by omega)) (Ends.eq (b617_40 l (by omega)) ?_)) (fun z => absurd z (by decide))
    refine Ends.mbad l (by omega) (c := 1) (by decide) rfl ?_
    have l2 : LX B n (hset h (B + 149) 0 ((1 : Nat) : Int)) := LX.setF 149 0 l (by decide +kernel)
    exact Ends.eq (b617_43 l2 (by omega)) (Ends.b0 (fun z => absurd z (by decide)) (fun _ => Ends.sm (K _ _ (Or.inl ⟨ho, rfl, rfl⟩))))
  rw [if_pos rfl]
  refine Ends.b1 (fun z => absurd rfl z) (fun _ => ?_)
  obtain ⟨s1, s2⟩ := bd.sol ho
  rw [v806_is ho]
  refine Ends.ct l (by decide +kernel) (by decide) (c_noFace759 l (by omega) hn0 hn m (by omega) s1 f.1 (f.at s2)) (fun x h2 l2 _ _ _ ⟨mm, F, t1, t2, t3, t4⟩ => ?_)
  have m4 : min mm 4096 ≤ 4096 := Nat.min_le_right _ _
  refine Ends.eq (b617_18 l2 (by omega)) ?_
  rw [t4]
  have G : ∀ {v : Int}, Agr (fun c k => sfM B c k ∨ (c = B + 191 ∧ k < 4)) h (hset h2 (B + 149) 0 v) := fun {v} => (t3.sub (fun c k z => Or.inl (Or.inl z))).set (Or.inl (Or.inr ⟨rfl, rfl⟩))
  have T : ∀ {v : Int}, MFc B n (hset h2 (B + 149) 0 v) (rwS o) (SS (rwS o)) mm F ∧ FoM B n (hset h2 (B + 149) 0 v) SS := fun {v} => by
    have g : Agr (fun c k => c = B + 149 ∧ k = 0) h2 (hset h2 (B + 149) 0 v) := Agr.rf.set ⟨rfl, rfl⟩
    have a := t1.agr g (by omega) (by omega) (fun k => by omega)
    exact ⟨a, a.foM s2 (t2.agr g (fun k => by omega))⟩
  by_cases hk : 0 ≤ k ∧ k < ((min mm 4096 : Nat) : Int)
  rotate_left
  · rw [if_neg hk, show cond (tst 0 (1 : Int) 0) (cond (tst 2 w 0) (2 : Int) (cond (tst 5 w (8 : Int)) (0 : Int) 2)) (1 : Int) = 1 from rfl]
    refine Ends.mbad l2 (by omega) (c := 1) (by decide) rfl ?_
    have l3 : LX B n (hset h2 (B + 149) 0 ((1 : Nat) : Int)) := LX.setF 149 0 l2 (by decide +kernel)
    exact Ends.eq (b617_43 l3 (by omega)) (Ends.b0 (fun z => absurd z (by decide)) (fun _ => Ends.sm (K _ _ (Or.inr ⟨ho, mm, F, T.1, T.2, G, Or.inl ⟨hk, rfl, hv_set_at ..⟩⟩))))
  rw [if_pos hk, show cond (tst 0 (0 : Int) 0) (cond (tst 2 w 0) (2 : Int) (cond (tst 5 w (8 : Int)) (0 : Int) 2)) (1 : Int) = cond (tst 2 w 0) (2 : Int) (cond (tst 5 w (8 : Int)) (0 : Int) 2) from rfl, ct2, ct5]
  by_cases hw : 0 ≤ w ∧ w ≤ 8
  rotate_left
  · rw [show (if w < 0 then (2 : Int) else if 8 < w then 2 else 0) = ((2 : Nat) : Int) from by
      by_cases y : w < 0
      · rw [if_pos y]; rfl
      · rw [if_neg y, if_pos (by omega)]; rfl]
    refine Ends.mbad l2 (by omega) (c := 2) (by decide) rfl ?_
    have l3 : LX B n (hset h2 (B + 149) 0 ((2 : Nat) : Int)) := LX.setF 149 0 l2 (by decide +kernel)
    exact Ends.eq (b617_43 l3 (by omega)) (Ends.b0 (fun z => absurd z (by decide)) (fun _ => Ends.sm (K _ _ (Or.inr ⟨ho, mm, F, T.1, T.2, G, Or.inr (Or.inl ⟨hk, hw, rfl, hv_set_at ..⟩)⟩))))
  rw [if_neg (show ¬ w < 0 by omega), if_neg (show ¬ 8 < w by omega)]
  refine Ends.mok l2 (by omega) rfl ?_
  have l3 : LX B n (hset h2 (B + 149) 0 0) := LX.setF 149 0 l2 (by decide +kernel)
  obtain ⟨T1, T2⟩ := T (v := 0)
  have G3 := G (v := 0)
  have e0 : hv (hset h2 (B + 149) 0 0) (B + 149) 0 = 0 := hv_set_at ..
  generalize hset h2 (B + 149) 0 0 = h3 at *
  clear G T
  obtain ⟨i, rfl⟩ : ∃ i : Nat, k = (i : Int) := ⟨k.toNat, by omega⟩
  obtain ⟨y, rfl⟩ : ∃ y : Nat, w = (y : Int) := ⟨w.toNat, by omega⟩
  have hi : i < min mm 4096 := by omega
  obtain ⟨f1, f2, f3⟩ := T1.fst hi
  have gl := gN_lt hn
  have fin : ∀ h' x, Agr (fun c k => fdfW B c k ∨ (c = B + 191 ∧ k < 4)) h3 h' → BtM n h' (B + 239) (fun _ => false) → x = faQ n (bdr n (SS (rwS o))) (F i) (y : Int) → P ((0, (0, x)), h') := fun h' x g b e => by
    have a := T1.agr g (by unfold fdfW; omega) (by unfold fdfW; omega) (fun k => by unfold fdfW; omega)
    refine K _ _ (Or.inr ⟨ho, mm, F, a, a.foM s2 b, G3.tr g (fun c k z => ?_), Or.inr (Or.inr ⟨hk, hw, by rw [tn]; exact e, by rw [g.at _ _ (by unfold fdfW; omega)]; exact e0⟩)⟩)
    rcases z with z | z
    · exact Or.inl (Or.inl (Or.inl z))
    · exact Or.inr z
  clear K
  refine Ends.eq (b617_43 l3 (by omega)) (Ends.b0 (fun _ => Ends.g ⟨by omega, by omega⟩ ?_) (fun z => absurd rfl z))
  rw [tn, f1]
  have m3 : TbM B h3 := m.agr G3 (fun c k a b _ z => by have := z; rcases this with z | z; have := sfM_in z; omega; omega)
  refine Ends.ct l3 (by decide +kernel) (by decide) (c_direction593 l3 (by omega) hn m3 f2) (fun v h4 l4 _ _ _ ⟨ev', I4, g4⟩ => ?_)
  have m4' : TbM B h4 := m3.agr g4 (fun c k a b _ z => by omega)
  have g4' : Agr (fun c k => fdfW B c k ∨ (c = B + 191 ∧ k < 4)) h3 h4 := g4.sub (fun c k z => Or.inl (Or.inl z.1))
  have b94 : BtM n h4 (B + 239) (fun _ => false) := T2.1.agr g4 (fun k => by omega)
  refine Ends.eq (b617_62 l4 (by omega)) ?_
  refine Ends.b1 (fun z0 => ?_) (fun z0 => ?_)
  rotate_left
  · refine Ends.sm (fin h4 _ g4' b94 ?_)
    have y0 : y = 0 := by omega
    subst y0
    rw [code_at f2 I4]
    unfold faQ kpV
    rw [if_pos (by decide), if_pos (by decide)]
  refine Ends.b1 (fun z1 => ?_) (fun z1 => ?_)
  rotate_left
  · refine Ends.sm (fin h4 _ g4' b94 ?_)
    have y1 : y = 1 := by omega
    subst y1
    rw [ev']
    unfold faQ kpV
    rw [if_pos (by decide), if_neg (by decide), if_pos (by decide)]
  refine Ends.b1 (fun z8 => ?_) (fun z8 => ?_)
  rotate_left
  · refine Ends.sm (fin h4 _ g4' b94 ?_)
    have y8 : y = 8 := by omega
    subst y8
    unfold faQ
    rw [if_neg (by decide), if_neg (by decide)]
    exact modNN (y := 4) (by decide) (by decide)
  refine Ends.b2 (fun z5 => ?_) (fun z5 => ?_)
  rotate_left
  · have d4 : bop32 108 ((F i : Nat) : Int) (4 : Int) = ((F i / 4 : Nat) : Int) := divNN (y := 4) (by omega) (by decide)
    obtain ⟨a, ea⟩ : ∃ a, y = 5 + a := ⟨y - 5, by omega⟩
    have ha : a < 3 := by omega
    have s5 : bop32 100 (y : Int) (5 : Int) = (a : Int) := by rw [sub32 (by omega) (by omega)]; omega
    obtain ⟨c1, c2⟩ := coord_is m4' hn (K4_lt f2) ha
    rw [d4, s5, c2]
    refine Ends.g c1 (Ends.sm (fin h4 _ g4' b94 ?_))
    unfold faQ
    rw [if_neg (by omega), if_pos (by omega), tn, ea, show 5 + a - 5 = a by omega]
  -- sorts
  have zero : ∀ (r j : Nat) (q : AH), j + r = 4 → LX B n q → Agr (fun c k => c = B + 191 ∧ k < 4) h4 q → (∀ f, f < j → hv q (B + 191) f = 0) → (∀ q, LX B n q → Agr (fun c k => c = B + 191 ∧ k < 4) h4 q → (∀ f, f < 4 → hv q (B + 191) f = 0) → Ends (aft PP 617 139 142 [(2, rf (B + 149)), (0, o), (0, (i : Int)), (0, (y : Int)), (0, ((F i : Nat) : Int)), (0, v), (0, 4)] [] (ev PP (gsF gv) B d 617) (cll PP (ev PP (gsF gv) B) d 657 [(2, rf (B + 149)), (0, (v806 o)), (0, (i : Int)), (0, 2)] q)) P) → Ends (ev PP (gsF gv) B d 617 112 [(2, rf (B + 149)), (0, o), (0, (i : Int)), (0, (y : Int)), (0, ((F i : Nat) : Int)), (0, v), (0, (j : Int))] [] q) P := by
    intro r
    induction r with
    | zero =>
      intro j q e lq g I k
      obtain rfl : j = 4 := by omega
      exact Ends.eq (b617_112 lq (by omega)) (Ends.b3 (fun _ => k q lq g I) (fun z => absurd z (by decide)))
    | succ r ih =>
      intro j q e lq g I k
      refine Ends.eq (b617_112 lq (by omega)) (Ends.b3 (fun z => by omega) (fun _ => Ends.g ⟨by omega, by omega⟩ ?_))
      rw [tn, an0, w_succ (by omega)]
      refine ih (j + 1) _ (by omega) (LX.setS lq rfl) (g.set ⟨rfl, by omega⟩) (fun f hf => ?_) k
      by_cases x : f = j
      · rw [x, hv_set_at]
      · rw [hv_set_ne (by omega)]; exact I f (by omega)
  refine zero 4 0 h4 rfl l4 Agr.rf (fun f hf => absurd hf (Nat.not_lt_zero f)) (fun q lq gq Iq => ?_)
  rw [v806_is ho]
  have bq : MB B n q (rwS o) (SS (rwS o)) := ((s1.agr G3 (fun k _ z => by rcases z with z | z; have := sfM_in z; omega; omega)).agr g4 (fun k _ z => by omega)).agr gq (fun k _ z => by omega)
  have b9q : BtM n q (B + 239) (fun _ => false) := (T2.1.agr g4 (fun k => by omega)).agr gq (fun k => by omega)
  have T1q : MFc B n q (rwS o) (SS (rwS o)) mm F := (T1.agr g4 (by omega) (by omega) (fun k => by omega)).agr gq (by omega) (by omega) (fun k => by omega)
  have wt : MWat gv B n (bdr n (SS (rwS o))) (F i) 2 (i : Int) (fun c k => c = B + 191 ∧ k < 4) (SrI B n) := fun d hd V K q lq I hK hV _ => c_visitSorts lq hd hn I hK hV
  refine Ends.cv lq (by decide +kernel) (c_goOver657 lq (by omega) hn (m4'.agr gq (fun c k a b _ z => by omega)) (by omega) bq b9q (by omega) (T1q.fst hi).1 f2 f3 wt (fun f hf => by rw [cnF_0]; exact Iq f hf) (fun c k z y => by unfold flN fdfW at y; omega) (fun V q q' I g f hf => by rw [g.at _ _ (by unfold fdfW; omega)]; exact I f hf)) (fun t lt _ _ _ ⟨V, u1, u2, u3, u4⟩ => ?_)
  have g5 : Agr (fun c k => fdfW B c k ∨ (c = B + 191 ∧ k < 4)) h3 t := (g4'.tr gq (fun c k z => Or.inr z)).tr u3 (fun c k z => z)
  have cq : ∀ f, f < 4 → hv t (B + 191) f = ((cnQ n (FRb n (bdr n (SS (rwS o))) (F i)) f : Nat) : Int) := fun f hf => by rw [u4 f hf, cnQ_re u1]
  refine Ends.eq (b617_142 lt (by omega)) (Ends.sm (fin t _ g5 u2 ?_))
  have t0 : Int.toNat (0 : Int) = 0 := rfl
  have t1 : Int.toNat (1 : Int) = 1 := rfl
  have t2' : Int.toNat (2 : Int) = 2 := rfl
  have t3' : Int.toNat (3 : Int) = 3 := rfl
  rw [t0, t1, t2', t3', cq 0 (by decide), cq 1 (by decide), cq 2 (by decide), cq 3 (by decide), ct1, ct1, addNN (by have := cnF_le (n := n) (V := FRb n (bdr n (SS (rwS o))) (F i)) (f := 2); have := cnF_le (n := n) (V := FRb n (bdr n (SS (rwS o))) (F i)) (f := 3); omega)]
  unfold faQ kpV
  rcases (by omega : y = 2 ∨ y = 3 ∨ y = 4) with e | e | e
  · subst e; rw [if_pos (by decide), if_pos (by decide), tn, if_neg (by decide), if_neg (by decide), if_pos rfl]
  · subst e; rw [if_neg (by decide), if_pos (by decide), if_pos (by decide), tn, if_neg (by decide), if_neg (by decide), if_neg (by decide), if_pos rfl]
  · subst e; rw [if_neg (by decide), if_neg (by decide), if_pos (by decide), tn, if_neg (by decide), if_neg (by decide), if_neg (by decide), if_neg (by decide), if_pos rfl]
/-- a face's name (model) -/
theorem c_name754 {k i : Int} (l : LX B n h) (hd : 36 ≤ d) (hn0 : 0 < n) (hn : n ≤ 52) (m : TbM B h) (bd : BdM B n h is SS) (f : FoM B n h SS) (M : MkM B n h mk) :
    Vt 0 (cll PP (ev PP (gsF gv) B) d 754 [(2, rf (B + 149)), (0, k), (0, i)] h) (fun x h' => ∃ mm F, MFc B n h' 10 (SS 10) mm F ∧ FoM B n h' SS ∧ Agr (fun c k => sfM B c k ∨ clW' B c k) h h' ∧ ((¬ (0 ≤ k ∧ k < ((min mm 4096 : Nat) : Int)) ∧ x = 0 ∧ hv h' (B + 149) 0 = 1) ∨ ((0 ≤ k ∧ k < ((min mm 4096 : Nat) : Int)) ∧ ¬ 0 ≤ i ∧ x = 0 ∧ hv h' (B + 149) 0 = 2) ∨ ((0 ≤ k ∧ k < ((min mm 4096 : Nat) : Int)) ∧ 0 ≤ i ∧ x = nmS (mk (F k.toNat)) (drT (F k.toNat % 96)) (rkF (mmk mk F) (mdr F) k.toNat) i.toNat ∧ hv h' (B + 149) 0 = 0))) := by
  refine Vt.inq (D := 35) hd (Nat.le_of_ble_eq_true rfl) rfl (fun d hd P K => ?_)
  have hb0 := l.2.2
  obtain ⟨s1, s2⟩ := bd.sol (o := -1) (by unfold thS; rfl)
  have s1 : MB B n h 10 (SS 10) := s1
  refine Ends.eq (b754_0 l (by omega)) ?_
  refine Ends.ct l (by decide +kernel) (by decide) (c_noFace759 (s := 10) l (by omega) hn0 hn m (by decide) s1 f.1 (f.at (by decide))) (fun x h2 l2 _ _ _ ⟨mm, F, t1, t2, t3, t4⟩ => ?_)
  have m4 : min mm 4096 ≤ 4096 := Nat.min_le_right _ _
  refine Ends.eq (b754_8 l2 (by omega)) ?_
  rw [t4]
  have G : ∀ {v : Int}, Agr (fun c k => sfM B c k ∨ clW' B c k) h (hset h2 (B + 149) 0 v) := fun {v} => (t3.sub (fun c k z => Or.inl (Or.inl z))).set (Or.inl (Or.inr ⟨rfl, rfl⟩))
  have T : ∀ {v : Int}, MFc B n (hset h2 (B + 149) 0 v) 10 (SS 10) mm F ∧ FoM B n (hset h2 (B + 149) 0 v) SS := fun {v} => by
    have g : Agr (fun c k => c = B + 149 ∧ k = 0) h2 (hset h2 (B + 149) 0 v) := Agr.rf.set ⟨rfl, rfl⟩
    have a := t1.agr g (by omega) (by omega) (fun k => by omega)
    exact ⟨a, a.foM (by decide) (t2.agr g (fun k => by omega))⟩
  by_cases hk : 0 ≤ k ∧ k < ((min mm 4096 : Nat) : Int)
  rotate_left
  · rw [if_neg hk, show cond (tst 0 (1 : Int) 0) (cond (tst 3 i 0) (0 : Int) 2) (1 : Int) = 1 from rfl]
    refine Ends.mbad l2 (by omega) (c := 1) (by decide) rfl ?_
    have l3 : LX B n (hset h2 (B + 149) 0 ((1 : Nat) : Int)) := LX.setF 149 0 l2 (by decide +kernel)
    exact Ends.eq (b754_27 l3 (by omega)) (Ends.b0 (fun z => absurd z (by decide)) (fun _ => Ends.sm (K _ _ ⟨mm, F, T.1, T.2, G, Or.inl ⟨hk, rfl, hv_set_at ..⟩⟩)))
  rw [if_pos hk, show cond (tst 0 (0 : Int) 0) (cond (tst 3 i 0) (0 : Int) 2) (1 : Int) = cond (tst 3 i 0) (0 : Int) 2 from rfl, ct3]
  by_cases hi : 0 ≤ i
  rotate_left
  · rw [if_pos (show i < 0 by omega)]
    refine Ends.mbad l2 (by omega) (c := 2) (by decide) rfl ?_
    have l3 : LX B n (hset h2 (B + 149) 0 ((2 : Nat) : Int)) := LX.setF 149 0 l2 (by decide +kernel)
    exact Ends.eq (b754_27 l3 (by omega)) (Ends.b0 (fun z => absurd z (by decide)) (fun _ => Ends.sm (K _ _ ⟨mm, F, T.1, T.2, G, Or.inr (Or.inl ⟨hk, hi, rfl, hv_set_at ..⟩)⟩)))
  rw [if_neg (show ¬ i < 0 by omega)]
  refine Ends.mok l2 (by omega) rfl ?_
  have l3 : LX B n (hset h2 (B + 149) 0 0) := LX.setF 149 0 l2 (by decide +kernel)
  obtain ⟨T1, T2⟩ := T (v := 0)
  have G3 := G (v := 0)
  have e0 : hv (hset h2 (B + 149) 0 0) (B + 149) 0 = 0 := hv_set_at ..
  generalize hset h2 (B + 149) 0 0 = h3 at *
  clear G T
  obtain ⟨j, rfl⟩ : ∃ j : Nat, k = (j : Int) := ⟨k.toNat, by omega⟩
  obtain ⟨y, rfl⟩ : ∃ y : Nat, i = (y : Int) := ⟨i.toNat, by omega⟩
  have hj : j < min mm 4096 := by omega
  obtain ⟨f1, f2, f3⟩ := T1.fst hj
  have gl := gN_lt hn
  have nin : ∀ {c k : Nat}, (sfM B c k ∨ clW' B c k) → c ≠ B + 237 ∧ ¬ (B + 178 ≤ c ∧ c ≤ B + 187) := fun {c k} z => by
    rcases z with z | z
    · have := sfM_in z; omega
    · unfold clW' at z; omega
  have m3 : TbM B h3 := m.agr G3 (fun c k a b _ z => (nin z).2 ⟨a, b⟩)
  have M3 : MkM B n h3 mk := M.agr G3 (fun k z => (nin z).1 rfl)
  obtain ⟨a, ea⟩ : ∃ a, a = mk (F j) := ⟨_, rfl⟩
  obtain ⟨b, eb⟩ : ∃ b, b = drT (F j % 96) := ⟨_, rfl⟩
  obtain ⟨c, ec⟩ : ∃ c, c = rkF (mmk mk F) (mdr F) j := ⟨_, rfl⟩
  have ha : a < 32 := by rw [ea]; exact (M3 _ f2).1
  have hb' : b < 27 := by rw [eb]; exact (fcC_le (k := F j % 96) (i := 0) K96_lt (by decide)).2
  have hc : c < 10000 := by rw [ec]; have := cntN_le (fun m => decide (mmk mk F m = mmk mk F j) && decide (mdr F m = mdr F j)) j; unfold rkF; omega
  obtain ⟨p1, p2⟩ := dgN_le a
  obtain ⟨p3, p4⟩ := dgN_le b
  obtain ⟨p5, p6⟩ := dgN_le c
  have W : Nat → Nat → Prop := fun c k => (c = B + 188 ∧ k < 3) ∨ clW' B c k
  have fin : ∀ h' x, Agr (fun c k => (c = B + 188 ∧ k < 3) ∨ clW' B c k) h3 h' → x = nmS a b c y → P ((0, (0, x)), h') := fun h' x g e => by
    have a' := T1.agr g (by unfold clW'; omega) (by unfold clW'; omega) (fun k => by unfold clW'; omega)
    refine K _ _ ⟨mm, F, a', a'.foM (by decide) (T2.1.agr g (fun k => by unfold clW'; omega)), G3.tr g (fun c k z => ?_), Or.inr (Or.inr ⟨hk, hi, by rw [tn, tn, ← ea, ← eb, ← ec]; exact e, by rw [g.at _ _ (by unfold clW'; omega)]; exact e0⟩)⟩
    rcases z with z | z
    · exact Or.inl (Or.inl (Or.inl (Or.inl z.1)))
    · exact Or.inr z
  clear K W
  have l4 : LX B n (hset h3 (B + 149) 117 0) := LX.setF 149 117 l3 (by decide +kernel)
  have g4 : Agr (clW' B) h3 (hset h3 (B + 149) 117 0) := Agr.rf.set (Or.inl ⟨rfl, rfl⟩)
  have c4 : ClS B (hset h3 (B + 149) 117 0) 0 (nmS a b c) := ⟨hv_set_at .., fun i hi => absurd hi (Nat.not_lt_zero i)⟩
  obtain ⟨q1, q2⟩ := v743_is hn (M3.agr g4 (fun k z => by unfold clW' at z; omega)) f2
  refine Ends.eq (b754_27 l3 (by omega)) (Ends.b0 (fun _ => Ends.g ⟨by omega, by omega⟩ ?_) (fun z => absurd rfl z))
  rw [tn, f1, q2, ← ea]
  refine Ends.g q1 ?_
  generalize hset h3 (B + 149) 117 0 = h4 at *
  clear q1 q2
  refine Ends.cv l4 (by decide +kernel) (c_callNumber564 4 (p := 0) (v := a) (f := nmS a b c) l4 (by omega) c4 (by omega) (by decide) (by omega) (fun i hi => by rw [Nat.zero_add]; unfold nmS; rw [if_pos hi])) (fun h5 l5 _ _ _ ⟨g5, c5⟩ => ?_)
  rw [Nat.zero_add] at c5
  refine Ends.eq (b754_51 l5 (by omega)) ?_
  refine Ends.cv l5 (by decide +kernel) (c_call563 (f := nmS a b c) l5 (by omega) c5 (by omega) (by unfold nmS; rw [if_neg (by omega), if_pos rfl])) (fun h6 l6 _ _ _ ⟨g6, c6⟩ => ?_)
  have G6 : Agr (fun c k => (c = B + 188 ∧ k < 3) ∨ clW' B c k) h3 h6 := ((g4.tr g5 (fun _ _ z => z)).tr g6 (fun _ _ z => z)).sub (fun c k z => Or.inr z)
  have F6 : MFc B n h6 10 (SS 10) mm F := T1.agr G6 (by unfold clW'; omega) (by unfold clW'; omega) (fun k => by unfold clW'; omega)
  refine Ends.eq (b754_57 l6 (by omega)) (Ends.g ⟨by omega, by omega⟩ ?_)
  rw [tn, (F6.fst hj).1]
  have m6 : TbM B h6 := m3.agr G6 (fun c k a b _ z => by unfold clW' at z; omega)
  refine Ends.ct l6 (by decide +kernel) (by decide) (c_direction593 l6 (by omega) hn m6 f2) (fun v h7 l7 _ _ _ ⟨_, I7, g7⟩ => ?_)
  have G7 : Agr (fun c k => (c = B + 188 ∧ k < 3) ∨ clW' B c k) h3 h7 := G6.tr g7 (fun c k z => Or.inl z)
  have c7 : ClS B h7 (dgN a + 1) (nmS a b c) := ⟨by rw [g7.at _ _ (by omega)]; exact c6.1, fun i hi => by rw [g7.at _ _ (by omega)]; exact c6.2 i hi⟩
  refine Ends.eq (b754_67 l7 (by omega)) ?_
  rw [code_at f2 I7, ← eb]
  refine Ends.cv l7 (by decide +kernel) (c_callNumber564 4 (p := dgN a + 1) (v := b) (f := nmS a b c) l7 (by omega) c7 (by omega) (by decide) (by omega) (fun i hi => by unfold nmS; rw [if_neg (by omega), if_neg (by omega), if_pos (by omega), show dgN a + 1 + i - dgN a - 1 = i by omega])) (fun h8 l8 _ _ _ ⟨g8', c8⟩ => ?_)
  refine Ends.eq (b754_76 l8 (by omega)) ?_
  refine Ends.cv l8 (by decide +kernel) (c_call563 (f := nmS a b c) l8 (by omega) c8 (by omega) (by unfold nmS; rw [if_neg (by omega), if_neg (by omega), if_neg (by omega), if_pos rfl])) (fun h9 l9 _ _ _ ⟨g9, c9⟩ => ?_)
  have G9 : Agr (fun c k => (c = B + 188 ∧ k < 3) ∨ clW' B c k) h3 h9 := (G7.tr g8' (fun c k z => Or.inr z)).tr g9 (fun c k z => Or.inr z)
  have F9 : MFc B n h9 10 (SS 10) mm F := T1.agr G9 (by unfold clW'; omega) (by unfold clW'; omega) (fun k => by unfold clW'; omega)
  refine Ends.eq (b754_82 l9 (by omega)) ?_
  refine Ends.ct l9 (by decide +kernel) (by decide) (c_indexOf676 l9 (by omega) hn (m3.agr G9 (fun c k a b _ z => by unfold clW' at z; omega)) F9 (M3.agr G9 (fun k z => by unfold clW' at z; omega)) hj) (fun x10 h10 l10 _ _ _ ⟨e10, g10⟩ => ?_)
  rw [e10, ← ec]
  have c10 : ClS B h10 (dgN a + 1 + dgN b + 1) (nmS a b c) := ⟨by rw [g10.at _ _ (by omega)]; exact c9.1, fun i hi => by rw [g10.at _ _ (by omega)]; exact c9.2 i hi⟩
  refine Ends.eq (b754_88 l10 (by omega)) ?_
  refine Ends.cv l10 (by decide +kernel) (c_callNumber564 4 (p := dgN a + 1 + dgN b + 1) (v := c) (f := nmS a b c) l10 (by omega) c10 (by omega) (by decide) (by omega) (fun i hi => by unfold nmS; rw [if_neg (by omega), if_neg (by omega), if_neg (by omega), if_neg (by omega), if_pos (by omega), show dgN a + 1 + dgN b + 1 + i - dgN a - dgN b - 2 = i by omega])) (fun t lt _ _ _ ⟨gt, ct⟩ => ?_)
  have Gt : Agr (fun c k => (c = B + 188 ∧ k < 3) ∨ clW' B c k) h3 t := (G9.tr g10 (fun c k z => Or.inl z)).tr gt (fun c k z => Or.inr z)
  refine Ends.eq (b754_91 lt (by omega)) ?_
  rw [ct.1, tn, ct3]
  by_cases w : y < dgN a + 1 + dgN b + 1 + dgN c
  · refine Ends.g (by rw [if_pos (by omega)]; omega) (Ends.sm (fin t _ Gt ?_))
    rw [ct3, if_pos (by omega)]
    exact ct.2 y w
  · refine Ends.g (by rw [if_neg (by omega)]; trivial) (Ends.sm (fin t _ Gt ?_))
    rw [ct3, if_neg (by omega)]
    unfold nmS
    rw [if_neg (by omega), if_neg (by omega), if_neg (by omega), if_neg (by omega), if_neg (by omega)]
end FCM
