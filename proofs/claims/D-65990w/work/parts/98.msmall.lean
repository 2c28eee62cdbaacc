/-! L3: the model's reader: texts, fail, need, enter, signs of a level -/
def mtL : List (Nat × List Int) := [(1, [61]), (12, [59]), (15, [41]), (16, [44]), (51, [40]), (52, [63]), (53, [58]), (54, [45]), (55, [33]), (56, [60]), (57, [60, 61]), (58, [62]), (59, [62, 61]), (60, [43]), (61, [124, 124]), (62, [42]), (63, [47]), (64, [38, 38]), (65, [61, 61]), (66, [33, 61])]
/-- the texts that the model's reader needs -/
def MTX (gv : Nat → Int) (B : Nat) (h : AH) : Prop := FnB gv B h ∧ ∀ i s, (i, s) ∈ mtL → StB gv B h (gv i) s
theorem MTX.agr {gv : Nat → Int} {B : Nat} {W : Nat → Nat → Prop} {h t : AH} (T : MTX gv B h) (g : Agr W h t) (hW : ∀ c k, c < B → ¬ W c k) : MTX gv B t := ⟨T.1.agr g hW, fun i s hm => (T.2 i s hm).agr g hW⟩
section MSMALL
variable {gv : Nat → Int} {B n d m : Nat} {h : AH} {u : Nat → Int}
/-- one sign, two signs -/
theorem c_is1 (l : LX B n h) (hd : 17 ≤ d) (S : MgP B h m u) (T : MTX gv B h) {p : Nat} (R : MgT B h u m p) (hp : p ≤ m) (i : Nat) (c : Int) (hm : (i, [c]) ∈ mtL) (h1 : 0 ≤ c) (h2 : c < 256) :
    Vt 0 (cll PP (ev PP (gsF gv) B) d 678 [(2, rf (B + 149)), (2, (gv i))] h) (fun v h' => h' = h ∧ ((isSg u m p c = true ∧ v = 1) ∨ (¬ isSg u m p c = true ∧ v = 0))) := by
  obtain ⟨x, h', e, k1, k2⟩ := c_isM l hd S R hp (T.2 i [c] hm).1
  rw [is1 S.2.2.1 h1 h2] at k2
  exact ⟨x, h', e, k1, k2⟩
theorem c_is2 (l : LX B n h) (hd : 17 ≤ d) (S : MgP B h m u) (T : MTX gv B h) {p : Nat} (R : MgT B h u m p) (hp : p ≤ m) (i : Nat) (c e : Int) (hm : (i, [c, e]) ∈ mtL) (h1 : 0 < c) (h2 : c < 256) (h3 : 0 ≤ e) (h4 : e < 256) :
    Vt 0 (cll PP (ev PP (gsF gv) B) d 678 [(2, rf (B + 149)), (2, (gv i))] h) (fun v h' => h' = h ∧ ((isSg u m p (c * 256 + e) = true ∧ v = 1) ∨ (¬ isSg u m p (c * 256 + e) = true ∧ v = 0))) := by
  obtain ⟨x, h', e', k1, k2⟩ := c_isM l hd S R hp (T.2 i [c, e] hm).1
  rw [is2 S.2.2.1 h1 h2 h3 h4] at k2
  exact ⟨x, h', e', k1, k2⟩
theorem c_failM (l : LX B n h) (hd : 10 ≤ d) {w pl : Int} (h11 : hv h (B + 149) 11 = w) (h5 : hv h (B + 149) 5 = pl) :
    Vt 2 (cll PP (ev PP (gsF gv) B) d 621 [(2, rf (B + 149))] h) (fun v h' => v = 0 ∧ ((w < 0 ∧ h' = hset h (B + 149) 11 pl) ∨ (0 ≤ w ∧ h' = h))) := by
  refine Vt.into (D := 9) hd (Nat.le_of_ble_eq_true rfl) rfl (fun d hd => ?_)
  refine Ends.eq (b621_0 (n := n) (by (repeat' first | assumption | refine LX.setF _ _ ?_ (by decide +kernel) | refine LX.setS ?_ rfl | refine LX.setA ?_ (by first | assumption | omega))) (by first | assumption | omega)) ?_
  rw [h11, h5]
  refine Ends.b3 (fun z => ?_) (fun z => ?_)
  · refine Ends.eq (b621_15 (n := n) (by (repeat' first | assumption | refine LX.setF _ _ ?_ (by decide +kernel) | refine LX.setS ?_ rfl | refine LX.setA ?_ (by first | assumption | omega))) (by first | assumption | omega)) ?_
    exact Ends.sm ⟨_, _, rfl, rfl, Or.inr ⟨z, rfl⟩⟩
  · have l1 : LX B n (hset h (B + 149) 11 pl) := (by (repeat' first | assumption | refine LX.setF _ _ ?_ (by decide +kernel) | refine LX.setS ?_ rfl | refine LX.setA ?_ (by assumption)))
    refine Ends.eq (b621_15 (n := n) (by (repeat' first | assumption | refine LX.setF _ _ ?_ (by decide +kernel) | refine LX.setS ?_ rfl | refine LX.setA ?_ (by first | assumption | omega))) (by first | assumption | omega)) ?_
    exact Ends.sm ⟨_, _, rfl, rfl, Or.inl ⟨z, rfl⟩⟩
/-- a sign is wanted -/
theorem c_needM (l : LX B n h) (hd : 20 ≤ d) (S : MgP B h m u) (T : MTX gv B h) {p : Nat} (R : MgT B h u m p) (hp : p ≤ m) (i : Nat) (c : Int) (hm : (i, [c]) ∈ mtL) (h1 : 0 ≤ c) (h2 : c < 256) (h11 : hv h (B + 149) 11 = -1) :
    Vt 0 (cll PP (ev PP (gsF gv) B) d 755 [(2, rf (B + 149)), (2, (gv i))] h) (fun v h' => (isSg u m p c = true ∧ v = 1 ∧ Agr (mgW B) h h' ∧ MgT B h' u m (tkT u m p)) ∨ (¬ isSg u m p c = true ∧ v = 0 ∧ h' = hset h (B + 149) 11 (tkF u m p : Int))) := by
  obtain ⟨t1, t2, t3⟩ := tk_le (u := u) hp
  refine Vt.into (D := 19) hd (Nat.le_of_ble_eq_true rfl) rfl (fun d hd => ?_)
  refine Ends.eq (b755_0 (n := n) (by (repeat' first | assumption | refine LX.setF _ _ ?_ (by decide +kernel) | refine LX.setS ?_ rfl | refine LX.setA ?_ (by first | assumption | omega))) (by first | assumption | omega)) ?_
  refine Ends.ct l (by decide +kernel) (by decide) (c_is1 l (by omega) S T R hp i c hm h1 h2) (fun v q1 l1 _ _ _ ⟨eh, w⟩ => ?_)
  subst eh
  refine Ends.eq (b755_5 (n := n) (by (repeat' first | assumption | refine LX.setF _ _ ?_ (by decide +kernel) | refine LX.setS ?_ rfl | refine LX.setA ?_ (by first | assumption | omega))) (by first | assumption | omega)) ?_
  rcases w with ⟨w, rfl⟩ | ⟨w, rfl⟩
  · refine Ends.b1 (fun _ => ?_) (fun z => absurd z (by decide))
    refine Ends.cv l (by decide +kernel) (c_nextM l (by omega) S R.1 t2) (fun h2 l2 _ _ _ ⟨g2, R2⟩ => ?_)
    refine Ends.eq (b755_25 (n := n) (by (repeat' first | assumption | refine LX.setF _ _ ?_ (by decide +kernel) | refine LX.setS ?_ rfl | refine LX.setA ?_ (by first | assumption | omega))) (by first | assumption | omega)) ?_
    exact Ends.sm ⟨_, _, rfl, Or.inl ⟨w, rfl, g2, R2⟩⟩
  · refine Ends.b1 (fun z => absurd rfl z) (fun _ => ?_)
    refine Ends.ct l (by decide +kernel) (by decide) (c_failM l (by omega) h11 R.2.1) (fun v h2 l2 _ _ _ ⟨ev, w2⟩ => ?_)
    subst ev
    refine Ends.eq (b755_12 (n := n) (by (repeat' first | assumption | refine LX.setF _ _ ?_ (by decide +kernel) | refine LX.setS ?_ rfl | refine LX.setA ?_ (by first | assumption | omega))) (by first | assumption | omega)) ?_
    rcases w2 with ⟨_, e⟩ | ⟨z, _⟩
    · exact Ends.sm ⟨_, _, rfl, Or.inr ⟨w, rfl, e⟩⟩
    · omega
theorem c_enterM (l : LX B n h) (hd : 20 ≤ d) (S : MgP B h m u) {p : Nat} (R : MgT B h u m p) (hp : p ≤ m) {dp : Nat} (h12 : hv h (B + 149) 12 = (dp : Int)) (hdp : dp ≤ 24) (h11 : hv h (B + 149) 11 = -1) :
    Vt 0 (cll PP (ev PP (gsF gv) B) d 612 [(2, rf (B + 149))] h) (fun v h' => ∃ h1, Agr (mgW B) h h1 ∧ MgT B h1 u m (tkT u m p) ∧ ((dp < 24 ∧ v = 1 ∧ h' = hset h1 (B + 149) 12 ((dp + 1 : Nat) : Int)) ∨ (dp = 24 ∧ v = 0 ∧ h' = hset (hset h1 (B + 149) 12 ((dp + 1 : Nat) : Int)) (B + 149) 11 (tkF u m (tkT u m p) : Int)))) := by
  obtain ⟨t1, t2, t3⟩ := tk_le (u := u) hp
  refine Vt.into (D := 19) hd (Nat.le_of_ble_eq_true rfl) rfl (fun d hd => ?_)
  refine Ends.eq (b612_0 (n := n) (by (repeat' first | assumption | refine LX.setF _ _ ?_ (by decide +kernel) | refine LX.setS ?_ rfl | refine LX.setA ?_ (by first | assumption | omega))) (by first | assumption | omega)) ?_
  refine Ends.cv l (by decide +kernel) (c_nextM l (by omega) S R.1 t2) (fun h1 l1 _ _ _ ⟨g1, R1⟩ => ?_)
  have a12 : hv h1 (B + 149) 12 = (dp : Int) := by rw [g1.at _ _ (by unfold mgW; omega)]; exact h12
  have a11 : hv h1 (B + 149) 11 = -1 := by rw [g1.at _ _ (by unfold mgW; omega)]; exact h11
  refine Ends.eq (b612_4 (n := n) (by (repeat' first | assumption | refine LX.setF _ _ ?_ (by decide +kernel) | refine LX.setS ?_ rfl | refine LX.setA ?_ (by first | assumption | omega))) (by first | assumption | omega)) ?_
  rw [a12, b96_1 (by omega)]
  have l2 : LX B n (hset h1 (B + 149) 12 ((dp + 1 : Nat) : Int)) := (by (repeat' first | assumption | refine LX.setF _ _ ?_ (by decide +kernel) | refine LX.setS ?_ rfl | refine LX.setA ?_ (by assumption)))
  refine Ends.b5 (fun z => ?_) (fun z => ?_)
  · refine Ends.eq (b612_30 (n := n) (by (repeat' first | assumption | refine LX.setF _ _ ?_ (by decide +kernel) | refine LX.setS ?_ rfl | refine LX.setA ?_ (by first | assumption | omega))) (by first | assumption | omega)) ?_
    refine Ends.eq (b612_35 (n := n) (by (repeat' first | assumption | refine LX.setF _ _ ?_ (by decide +kernel) | refine LX.setS ?_ rfl | refine LX.setA ?_ (by first | assumption | omega))) (by first | assumption | omega)) ?_
    exact Ends.g (Or.inr rfl) (Ends.sm ⟨_, _, rfl, h1, g1, R1, Or.inl ⟨by omega, rfl, rfl⟩⟩)
  · refine Ends.ct l2 (by decide +kernel) (by decide) (c_failM (w := -1) (pl := (tkF u m (tkT u m p) : Int)) l2 (by omega) (by rw [hv_set_ne (by omega)]; exact a11) (by rw [hv_set_ne (by omega)]; exact R1.2.1)) (fun v h2 l2 _ _ _ ⟨ev, w2⟩ => ?_)
    subst ev
    refine Ends.eq (b612_27 (n := n) (by (repeat' first | assumption | refine LX.setF _ _ ?_ (by decide +kernel) | refine LX.setS ?_ rfl | refine LX.setA ?_ (by first | assumption | omega))) (by first | assumption | omega)) ?_
    rcases w2 with ⟨_, e⟩ | ⟨z, _⟩
    · exact Ends.sm ⟨_, _, rfl, h1, g1, R1, Or.inr ⟨by omega, rfl, e⟩⟩
    · omega
/-- what the model's TWO does -/
def opC : List Int := [31868, 9766, 15677, 8509, 60, 15421, 62, 15933, 43, 45, 42, 47]
theorem lev_sg {p : Nat} {c : Int} (h : isSg u m p c = true) : levF u m p = lvS c := by
  obtain ⟨k3, ks⟩ := isSg_iff.mp h
  unfold levF
  rw [if_pos k3, ks]
theorem lev_no {p : Nat} {L : Int} (h : levF u m p = L) (h0 : 0 ≤ L) : ∃ c, isSg u m p c = true ∧ lvS c = L := by
  unfold levF at h
  split at h
  · next k3 => exact ⟨tkS u m p, isSg_iff.mpr ⟨k3, rfl⟩, h⟩
  · omega
theorem lvS_is (c : Int) : (lvS c = 0 ↔ c = 31868) ∧ (lvS c = 1 ↔ c = 9766) ∧ (lvS c = 2 ↔ c = 15677 ∨ c = 8509) ∧ (lvS c = 3 ↔ c = 60 ∨ c = 15421 ∨ c = 62 ∨ c = 15933) ∧ (lvS c = 4 ↔ c = 43 ∨ c = 45) ∧ (lvS c = 5 ↔ c = 42 ∨ c = 47) := by
  unfold lvS
  repeat' split
  all_goals omega
def SgO (u : Nat → Int) (m p : Nat) (L v : Int) : Prop := (levF u m p = L ∧ ∃ s : Nat, v = (s : Int) ∧ opC[s]? = some (tkS u m p)) ∨ (levF u m p ≠ L ∧ v = -1)
theorem SgO.y {p s : Nat} {L v c : Int} (h : isSg u m p c = true) (h1 : lvS c = L) (h2 : v = (s : Int)) (h3 : opC[s]? = some c) : SgO u m p L v := Or.inl ⟨by rw [lev_sg h, h1], s, h2, by rw [(isSg_iff.mp h).2]; exact h3⟩
theorem e_sgo0 (l : LX B n h) (hd : 18 ≤ d) (S : MgP B h m u) (T : MTX gv B h) {p : Nat} (R : MgT B h u m p) (hp : p ≤ m) :
    Ends (ev PP (gsF gv) B d 831 36 [(2, rf (B + 149)), (0, 0)] [] h) (fun r => ∃ x h', r = ((0, (0, x)), h') ∧ h' = h ∧ SgO u m p 0 x) := by
  refine Ends.eq (b831_36 (n := n) (by (repeat' first | assumption | refine LX.setF _ _ ?_ (by decide +kernel) | refine LX.setS ?_ rfl | refine LX.setA ?_ (by first | assumption | omega))) (by first | assumption | omega)) ?_
  refine Ends.ct l (by decide +kernel) (by decide) (c_is2 l (by omega) S T R hp 61 124 124 (by decide) (by decide) (by decide) (by decide) (by decide)) (fun v0 q1 l1 _ _ _ ⟨eh, w⟩ => ?_)
  subst eh
  refine Ends.eq (b831_42 (n := n) (by (repeat' first | assumption | refine LX.setF _ _ ?_ (by decide +kernel) | refine LX.setS ?_ rfl | refine LX.setA ?_ (by first | assumption | omega))) (by first | assumption | omega)) ?_
  rcases w with ⟨w, rfl⟩ | ⟨w0, rfl⟩
  · exact Ends.sm ⟨_, _, rfl, rfl, SgO.y (s := 0) w (by decide) rfl rfl⟩
  refine Ends.sm ⟨_, _, rfl, rfl, Or.inr ⟨fun e => ?_, rfl⟩⟩
  obtain ⟨c, c1, c2⟩ := lev_no e (by decide)
  have c3 := (lvS_is c).1.mp c2
  exact w0 (by rw [c3] at c1; exact c1)
theorem e_sgo1 (l : LX B n h) (hd : 18 ≤ d) (S : MgP B h m u) (T : MTX gv B h) {p : Nat} (R : MgT B h u m p) (hp : p ≤ m) :
    Ends (ev PP (gsF gv) B d 831 51 [(2, rf (B + 149)), (0, 1)] [] h) (fun r => ∃ x h', r = ((0, (0, x)), h') ∧ h' = h ∧ SgO u m p 1 x) := by
  refine Ends.eq (b831_51 (n := n) (by (repeat' first | assumption | refine LX.setF _ _ ?_ (by decide +kernel) | refine LX.setS ?_ rfl | refine LX.setA ?_ (by first | assumption | omega))) (by first | assumption | omega)) ?_
  refine Ends.ct l (by decide +kernel) (by decide) (c_is2 l (by omega) S T R hp 64 38 38 (by decide) (by decide) (by decide) (by decide) (by decide)) (fun v0 q1 l1 _ _ _ ⟨eh, w⟩ => ?_)
  subst eh
  refine Ends.eq (b831_57 (n := n) (by (repeat' first | assumption | refine LX.setF _ _ ?_ (by decide +kernel) | refine LX.setS ?_ rfl | refine LX.setA ?_ (by first | assumption | omega))) (by first | assumption | omega)) ?_
  rcases w with ⟨w, rfl⟩ | ⟨w0, rfl⟩
  · exact Ends.sm ⟨_, _, rfl, rfl, SgO.y (s := 1) w (by decide) rfl rfl⟩
  refine Ends.sm ⟨_, _, rfl, rfl, Or.inr ⟨fun e => ?_, rfl⟩⟩
  obtain ⟨c, c1, c2⟩ := lev_no e (by decide)
  have c3 := (lvS_is c).2.1.mp c2
  exact w0 (by rw [c3] at c1; exact c1)
theorem e_sgo2 (l : LX B n h) (hd : 18 ≤ d) (S : MgP B h m u) (T : MTX gv B h) {p : Nat} (R : MgT B h u m p) (hp : p ≤ m) :
    Ends (ev PP (gsF gv) B d 831 66 [(2, rf (B + 149)), (0, 2)] [] h) (fun r => ∃ x h', r = ((0, (0, x)), h') ∧ h' = h ∧ SgO u m p 2 x) := by
  refine Ends.eq (b831_66 (n := n) (by (repeat' first | assumption | refine LX.setF _ _ ?_ (by decide +kernel) | refine LX.setS ?_ rfl | refine LX.setA ?_ (by first | assumption | omega))) (by first | assumption | omega)) ?_
  refine Ends.ct l (by decide +kernel) (by decide) (c_is2 l (by omega) S T R hp 65 61 61 (by decide) (by decide) (by decide) (by decide) (by decide)) (fun v0 q1 l1 _ _ _ ⟨eh, w⟩ => ?_)
  subst eh
  refine Ends.eq (b831_72 (n := n) (by (repeat' first | assumption | refine LX.setF _ _ ?_ (by decide +kernel) | refine LX.setS ?_ rfl | refine LX.setA ?_ (by first | assumption | omega))) (by first | assumption | omega)) ?_
  rcases w with ⟨w, rfl⟩ | ⟨w0, rfl⟩
  · refine Ends.b0 (fun z => absurd z (by decide)) (fun _ => ?_)
    refine Ends.eq (b831_93 (n := n) (by (repeat' first | assumption | refine LX.setF _ _ ?_ (by decide +kernel) | refine LX.setS ?_ rfl | refine LX.setA ?_ (by first | assumption | omega))) (by first | assumption | omega)) ?_
    exact Ends.sm ⟨_, _, rfl, rfl, SgO.y (s := 2) w (by decide) rfl rfl⟩
  refine Ends.b0 (fun _ => ?_) (fun z => absurd rfl z)
  refine Ends.ct l (by decide +kernel) (by decide) (c_is2 l (by omega) S T R hp 66 33 61 (by decide) (by decide) (by decide) (by decide) (by decide)) (fun v1 q1 l1 _ _ _ ⟨eh, w⟩ => ?_)
  subst eh
  refine Ends.eq (b831_85 (n := n) (by (repeat' first | assumption | refine LX.setF _ _ ?_ (by decide +kernel) | refine LX.setS ?_ rfl | refine LX.setA ?_ (by first | assumption | omega))) (by first | assumption | omega)) ?_
  rcases w with ⟨w, rfl⟩ | ⟨w1, rfl⟩
  · refine Ends.eq (b831_93 (n := n) (by (repeat' first | assumption | refine LX.setF _ _ ?_ (by decide +kernel) | refine LX.setS ?_ rfl | refine LX.setA ?_ (by first | assumption | omega))) (by first | assumption | omega)) ?_
    exact Ends.sm ⟨_, _, rfl, rfl, SgO.y (s := 3) w (by decide) rfl rfl⟩
  refine Ends.eq (b831_93 (n := n) (by (repeat' first | assumption | refine LX.setF _ _ ?_ (by decide +kernel) | refine LX.setS ?_ rfl | refine LX.setA ?_ (by first | assumption | omega))) (by first | assumption | omega)) ?_
  refine Ends.sm ⟨_, _, rfl, rfl, Or.inr ⟨fun e => ?_, rfl⟩⟩
  obtain ⟨c, c1, c2⟩ := lev_no e (by decide)
  have c3 := (lvS_is c).2.2.1.mp c2
  rcases c3 with e | e
  · exact w0 (by rw [e] at c1; exact c1)
  · exact w1 (by rw [e] at c1; exact c1)
theorem e_sgo3 (l : LX B n h) (hd : 18 ≤ d) (S : MgP B h m u) (T : MTX gv B h) {p : Nat} (R : MgT B h u m p) (hp : p ≤ m) :
    Ends (ev PP (gsF gv) B d 831 94 [(2, rf (B + 149)), (0, 3)] [] h) (fun r => ∃ x h', r = ((0, (0, x)), h') ∧ h' = h ∧ SgO u m p 3 x) := by
  refine Ends.eq (b831_94 (n := n) (by (repeat' first | assumption | refine LX.setF _ _ ?_ (by decide +kernel) | refine LX.setS ?_ rfl | refine LX.setA ?_ (by first | assumption | omega))) (by first | assumption | omega)) ?_
  refine Ends.ct l (by decide +kernel) (by decide) (c_is1 l (by omega) S T R hp 56 60 (by decide) (by decide) (by decide)) (fun v0 q1 l1 _ _ _ ⟨eh, w⟩ => ?_)
  subst eh
  refine Ends.eq (b831_100 (n := n) (by (repeat' first | assumption | refine LX.setF _ _ ?_ (by decide +kernel) | refine LX.setS ?_ rfl | refine LX.setA ?_ (by first | assumption | omega))) (by first | assumption | omega)) ?_
  rcases w with ⟨w, rfl⟩ | ⟨w0, rfl⟩
  · refine Ends.b0 (fun z => absurd z (by decide)) (fun _ => ?_)
    refine Ends.eq (b831_149 (n := n) (by (repeat' first | assumption | refine LX.setF _ _ ?_ (by decide +kernel) | refine LX.setS ?_ rfl | refine LX.setA ?_ (by first | assumption | omega))) (by first | assumption | omega)) ?_
    exact Ends.sm ⟨_, _, rfl, rfl, SgO.y (s := 4) w (by decide) rfl rfl⟩
  refine Ends.b0 (fun _ => ?_) (fun z => absurd rfl z)
  refine Ends.ct l (by decide +kernel) (by decide) (c_is2 l (by omega) S T R hp 57 60 61 (by decide) (by decide) (by decide) (by decide) (by decide)) (fun v1 q1 l1 _ _ _ ⟨eh, w⟩ => ?_)
  subst eh
  refine Ends.eq (b831_113 (n := n) (by (repeat' first | assumption | refine LX.setF _ _ ?_ (by decide +kernel) | refine LX.setS ?_ rfl | refine LX.setA ?_ (by first | assumption | omega))) (by first | assumption | omega)) ?_
  rcases w with ⟨w, rfl⟩ | ⟨w1, rfl⟩
  · refine Ends.b0 (fun z => absurd z (by decide)) (fun _ => ?_)
    refine Ends.eq (b831_149 (n := n) (by (repeat' first | assumption | refine LX.setF _ _ ?_ (by decide +kernel) | refine LX.setS ?_ rfl | refine LX.setA ?_ (by first | assumption | omega))) (by first | assumption | omega)) ?_
    exact Ends.sm ⟨_, _, rfl, rfl, SgO.y (s := 5) w (by decide) rfl rfl⟩
  refine Ends.b0 (fun _ => ?_) (fun z => absurd rfl z)
  refine Ends.ct l (by decide +kernel) (by decide) (c_is1 l (by omega) S T R hp 58 62 (by decide) (by decide) (by decide)) (fun v2 q1 l1 _ _ _ ⟨eh, w⟩ => ?_)
  subst eh
  refine Ends.eq (b831_126 (n := n) (by (repeat' first | assumption | refine LX.setF _ _ ?_ (by decide +kernel) | refine LX.setS ?_ rfl | refine LX.setA ?_ (by first | assumption | omega))) (by first | assumption | omega)) ?_
  rcases w with ⟨w, rfl⟩ | ⟨w2, rfl⟩
  · refine Ends.b0 (fun z => absurd z (by decide)) (fun _ => ?_)
    refine Ends.eq (b831_149 (n := n) (by (repeat' first | assumption | refine LX.setF _ _ ?_ (by decide +kernel) | refine LX.setS ?_ rfl | refine LX.setA ?_ (by first | assumption | omega))) (by first | assumption | omega)) ?_
    exact Ends.sm ⟨_, _, rfl, rfl, SgO.y (s := 6) w (by decide) rfl rfl⟩
  refine Ends.b0 (fun _ => ?_) (fun z => absurd rfl z)
  refine Ends.ct l (by decide +kernel) (by decide) (c_is2 l (by omega) S T R hp 59 62 61 (by decide) (by decide) (by decide) (by decide) (by decide)) (fun v3 q1 l1 _ _ _ ⟨eh, w⟩ => ?_)
  subst eh
  refine Ends.eq (b831_140 (n := n) (by (repeat' first | assumption | refine LX.setF _ _ ?_ (by decide +kernel) | refine LX.setS ?_ rfl | refine LX.setA ?_ (by first | assumption | omega))) (by first | assumption | omega)) ?_
  rcases w with ⟨w, rfl⟩ | ⟨w3, rfl⟩
  · refine Ends.eq (b831_149 (n := n) (by (repeat' first | assumption | refine LX.setF _ _ ?_ (by decide +kernel) | refine LX.setS ?_ rfl | refine LX.setA ?_ (by first | assumption | omega))) (by first | assumption | omega)) ?_
    exact Ends.sm ⟨_, _, rfl, rfl, SgO.y (s := 7) w (by decide) rfl rfl⟩
  refine Ends.eq (b831_149 (n := n) (by (repeat' first | assumption | refine LX.setF _ _ ?_ (by decide +kernel) | refine LX.setS ?_ rfl | refine LX.setA ?_ (by first | assumption | omega))) (by first | assumption | omega)) ?_
  refine Ends.sm ⟨_, _, rfl, rfl, Or.inr ⟨fun e => ?_, rfl⟩⟩
  obtain ⟨c, c1, c2⟩ := lev_no e (by decide)
  have c3 := (lvS_is c).2.2.2.1.mp c2
  rcases c3 with e | e | e | e
  · exact w0 (by rw [e] at c1; exact c1)
  · exact w1 (by rw [e] at c1; exact c1)
  · exact w2 (by rw [e] at c1; exact c1)
  · exact w3 (by rw [e] at c1; exact c1)
theorem e_sgo4 (l : LX B n h) (hd : 18 ≤ d) (S : MgP B h m u) (T : MTX gv B h) {p : Nat} (R : MgT B h u m p) (hp : p ≤ m) :
    Ends (ev PP (gsF gv) B d 831 150 [(2, rf (B + 149)), (0, 4)] [] h) (fun r => ∃ x h', r = ((0, (0, x)), h') ∧ h' = h ∧ SgO u m p 4 x) := by
  refine Ends.eq (b831_150 (n := n) (by (repeat' first | assumption | refine LX.setF _ _ ?_ (by decide +kernel) | refine LX.setS ?_ rfl | refine LX.setA ?_ (by first | assumption | omega))) (by first | assumption | omega)) ?_
  refine Ends.ct l (by decide +kernel) (by decide) (c_is1 l (by omega) S T R hp 60 43 (by decide) (by decide) (by decide)) (fun v0 q1 l1 _ _ _ ⟨eh, w⟩ => ?_)
  subst eh
  refine Ends.eq (b831_156 (n := n) (by (repeat' first | assumption | refine LX.setF _ _ ?_ (by decide +kernel) | refine LX.setS ?_ rfl | refine LX.setA ?_ (by first | assumption | omega))) (by first | assumption | omega)) ?_
  rcases w with ⟨w, rfl⟩ | ⟨w0, rfl⟩
  · refine Ends.b0 (fun z => absurd z (by decide)) (fun _ => ?_)
    refine Ends.eq (b831_179 (n := n) (by (repeat' first | assumption | refine LX.setF _ _ ?_ (by decide +kernel) | refine LX.setS ?_ rfl | refine LX.setA ?_ (by first | assumption | omega))) (by first | assumption | omega)) ?_
    exact Ends.sm ⟨_, _, rfl, rfl, SgO.y (s := 8) w (by decide) rfl rfl⟩
  refine Ends.b0 (fun _ => ?_) (fun z => absurd rfl z)
  refine Ends.ct l (by decide +kernel) (by decide) (c_is1 l (by omega) S T R hp 54 45 (by decide) (by decide) (by decide)) (fun v1 q1 l1 _ _ _ ⟨eh, w⟩ => ?_)
  subst eh
  refine Ends.eq (b831_170 (n := n) (by (repeat' first | assumption | refine LX.setF _ _ ?_ (by decide +kernel) | refine LX.setS ?_ rfl | refine LX.setA ?_ (by first | assumption | omega))) (by first | assumption | omega)) ?_
  rcases w with ⟨w, rfl⟩ | ⟨w1, rfl⟩
  · refine Ends.eq (b831_179 (n := n) (by (repeat' first | assumption | refine LX.setF _ _ ?_ (by decide +kernel) | refine LX.setS ?_ rfl | refine LX.setA ?_ (by first | assumption | omega))) (by first | assumption | omega)) ?_
    exact Ends.sm ⟨_, _, rfl, rfl, SgO.y (s := 9) w (by decide) rfl rfl⟩
  refine Ends.eq (b831_179 (n := n) (by (repeat' first | assumption | refine LX.setF _ _ ?_ (by decide +kernel) | refine LX.setS ?_ rfl | refine LX.setA ?_ (by first | assumption | omega))) (by first | assumption | omega)) ?_
  refine Ends.sm ⟨_, _, rfl, rfl, Or.inr ⟨fun e => ?_, rfl⟩⟩
  obtain ⟨c, c1, c2⟩ := lev_no e (by decide)
  have c3 := (lvS_is c).2.2.2.2.1.mp c2
  rcases c3 with e | e
  · exact w0 (by rw [e] at c1; exact c1)
  · exact w1 (by rw [e] at c1; exact c1)
theorem e_sgo5 (l : LX B n h) (hd : 18 ≤ d) (S : MgP B h m u) (T : MTX gv B h) {p : Nat} (R : MgT B h u m p) (hp : p ≤ m) :
    Ends (ev PP (gsF gv) B d 831 180 [(2, rf (B + 149)), (0, 5)] [] h) (fun r => ∃ x h', r = ((0, (0, x)), h') ∧ h' = h ∧ SgO u m p 5 x) := by
  refine Ends.eq (b831_180 (n := n) (by (repeat' first | assumption | refine LX.setF _ _ ?_ (by decide +kernel) | refine LX.setS ?_ rfl | refine LX.setA ?_ (by first | assumption | omega))) (by first | assumption | omega)) ?_
  refine Ends.ct l (by decide +kernel) (by decide) (c_is1 l (by omega) S T R hp 62 42 (by decide) (by decide) (by decide)) (fun v0 q1 l1 _ _ _ ⟨eh, w⟩ => ?_)
  subst eh
  refine Ends.eq (b831_186 (n := n) (by (repeat' first | assumption | refine LX.setF _ _ ?_ (by decide +kernel) | refine LX.setS ?_ rfl | refine LX.setA ?_ (by first | assumption | omega))) (by first | assumption | omega)) ?_
  rcases w with ⟨w, rfl⟩ | ⟨w0, rfl⟩
  · refine Ends.b0 (fun z => absurd z (by decide)) (fun _ => ?_)
    refine Ends.eq (b831_209 (n := n) (by (repeat' first | assumption | refine LX.setF _ _ ?_ (by decide +kernel) | refine LX.setS ?_ rfl | refine LX.setA ?_ (by first | assumption | omega))) (by first | assumption | omega)) ?_
    exact Ends.sm ⟨_, _, rfl, rfl, SgO.y (s := 10) w (by decide) rfl rfl⟩
  refine Ends.b0 (fun _ => ?_) (fun z => absurd rfl z)
  refine Ends.ct l (by decide +kernel) (by decide) (c_is1 l (by omega) S T R hp 63 47 (by decide) (by decide) (by decide)) (fun v1 q1 l1 _ _ _ ⟨eh, w⟩ => ?_)
  subst eh
  refine Ends.eq (b831_200 (n := n) (by (repeat' first | assumption | refine LX.setF _ _ ?_ (by decide +kernel) | refine LX.setS ?_ rfl | refine LX.setA ?_ (by first | assumption | omega))) (by first | assumption | omega)) ?_
  rcases w with ⟨w, rfl⟩ | ⟨w1, rfl⟩
  · refine Ends.eq (b831_209 (n := n) (by (repeat' first | assumption | refine LX.setF _ _ ?_ (by decide +kernel) | refine LX.setS ?_ rfl | refine LX.setA ?_ (by first | assumption | omega))) (by first | assumption | omega)) ?_
    exact Ends.sm ⟨_, _, rfl, rfl, SgO.y (s := 11) w (by decide) rfl rfl⟩
  refine Ends.eq (b831_209 (n := n) (by (repeat' first | assumption | refine LX.setF _ _ ?_ (by decide +kernel) | refine LX.setS ?_ rfl | refine LX.setA ?_ (by first | assumption | omega))) (by first | assumption | omega)) ?_
  refine Ends.sm ⟨_, _, rfl, rfl, Or.inr ⟨fun e => ?_, rfl⟩⟩
  obtain ⟨c, c1, c2⟩ := lev_no e (by decide)
  have c3 := (lvS_is c).2.2.2.2.2.mp c2
  rcases c3 with e | e
  · exact w0 (by rw [e] at c1; exact c1)
  · exact w1 (by rw [e] at c1; exact c1)
theorem c_signOf (l : LX B n h) (hd : 20 ≤ d) (S : MgP B h m u) (T : MTX gv B h) {p : Nat} (R : MgT B h u m p) (hp : p ≤ m) {L : Nat} (hL : L ≤ 5) :
    Vt 0 (cll PP (ev PP (gsF gv) B) d 831 [(2, rf (B + 149)), (0, (L : Int))] h) (fun v h' => h' = h ∧ SgO u m p (L : Int) v) := by
  refine Vt.into (D := 19) hd (Nat.le_of_ble_eq_true rfl) rfl (fun d hd => ?_)
  refine Ends.eq (b831_0 (n := n) (by (repeat' first | assumption | refine LX.setF _ _ ?_ (by decide +kernel) | refine LX.setS ?_ rfl | refine LX.setA ?_ (by first | assumption | omega))) (by first | assumption | omega)) ?_
  have : L = 0 ∨ L = 1 ∨ L = 2 ∨ L = 3 ∨ L = 4 ∨ L = 5 := by omega
  rcases this with rfl | rfl | rfl | rfl | rfl | rfl
  · exact e_sgo0 l (by omega) S T R hp
  · exact e_sgo1 l (by omega) S T R hp
  · exact e_sgo2 l (by omega) S T R hp
  · exact e_sgo3 l (by omega) S T R hp
  · exact e_sgo4 l (by omega) S T R hp
  · exact e_sgo5 l (by omega) S T R hp
end MSMALL
