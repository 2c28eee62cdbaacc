/-! L3: the model's reader: functions, numbers -/
section MFUN
variable {gv : Nat → Int} {B n d m : Nat} {h : AH} {u : Nat → Int}
theorem isWd_rd {p : Nat} {s : List Int} (k1 : tkK u m p = 1) : isWd u m p s ↔ rdP u m p s := ⟨fun w => w.2, fun w => ⟨k1, w⟩⟩
theorem c_functionM (l : LX B n h) (hd : 18 ≤ d) (S : MgP B h m u) (T : FnB gv B h) {p : Nat} (R : MgT B h u m p) (hp : p ≤ m) (k1 : tkK u m p = 1) : Vt 0 (cll PP (ev PP (gsF gv) B) d 653 [(2, rf (B + 149))] h) (fun v h' => v = fnW u m p ∧ h' = h) := by
  refine Vt.into (D := 17) hd (Nat.le_of_ble_eq_true rfl) rfl (fun d hd => ?_)
  generalize hW : fnW u m p = W
  have go := fun (i : Nat) (s : List Int) (hs : fnS[i]? = some s) => c_readsM (gv := gv) (d := d) l (by omega) S R hp (T.2.1 i s hs).1
  unfold fnW fnS at hW
  refine Ends.eq (b653_0 (n := n) (by (repeat' first | assumption | refine LX.setF _ _ ?_ (by decide +kernel) | refine LX.setS ?_ rfl | refine LX.setA ?_ (by first | assumption | omega))) (by first | assumption | omega)) ?_
  refine Ends.ct l (by decide +kernel) (by decide) (go 0 [109, 105, 110] rfl) (fun v q1 l1 _ _ _ ⟨eh, w⟩ => ?_)
  subst eh
  refine Ends.eq (b653_6 (n := n) (by (repeat' first | assumption | refine LX.setF _ _ ?_ (by decide +kernel) | refine LX.setS ?_ rfl | refine LX.setA ?_ (by first | assumption | omega))) (by first | assumption | omega)) ?_
  rw [← isWd_rd k1] at w
  unfold fnI at hW
  rcases w with ⟨w, rfl⟩ | ⟨w, rfl⟩
  · exact Ends.b0 (fun z => absurd z (by decide)) (fun _ => Ends.sm ⟨_, _, rfl, (show (0 : Int) = 0 by decide).trans ((itP_t w).symm.trans hW), rfl⟩)
  refine Ends.b0 (fun _ => ?_) (fun z => absurd rfl z)
  rw [itP_f w] at hW
  refine Ends.ct l (by decide +kernel) (by decide) (go 1 [109, 97, 120] rfl) (fun v q1 l1 _ _ _ ⟨eh, w⟩ => ?_)
  subst eh
  refine Ends.eq (b653_17 (n := n) (by (repeat' first | assumption | refine LX.setF _ _ ?_ (by decide +kernel) | refine LX.setS ?_ rfl | refine LX.setA ?_ (by first | assumption | omega))) (by first | assumption | omega)) ?_
  rw [← isWd_rd k1] at w
  unfold fnI at hW
  rcases w with ⟨w, rfl⟩ | ⟨w, rfl⟩
  · exact Ends.b0 (fun z => absurd z (by decide)) (fun _ => Ends.sm ⟨_, _, rfl, (show (1 : Int) = 0 + 1 by decide).trans ((itP_t w).symm.trans hW), rfl⟩)
  refine Ends.b0 (fun _ => ?_) (fun z => absurd rfl z)
  rw [itP_f w] at hW
  refine Ends.ct l (by decide +kernel) (by decide) (go 2 [109, 111, 100] rfl) (fun v q1 l1 _ _ _ ⟨eh, w⟩ => ?_)
  subst eh
  refine Ends.eq (b653_28 (n := n) (by (repeat' first | assumption | refine LX.setF _ _ ?_ (by decide +kernel) | refine LX.setS ?_ rfl | refine LX.setA ?_ (by first | assumption | omega))) (by first | assumption | omega)) ?_
  rw [← isWd_rd k1] at w
  unfold fnI at hW
  rcases w with ⟨w, rfl⟩ | ⟨w, rfl⟩
  · exact Ends.b0 (fun z => absurd z (by decide)) (fun _ => Ends.sm ⟨_, _, rfl, (show (2 : Int) = 0 + 1 + 1 by decide).trans ((itP_t w).symm.trans hW), rfl⟩)
  refine Ends.b0 (fun _ => ?_) (fun z => absurd rfl z)
  rw [itP_f w] at hW
  refine Ends.ct l (by decide +kernel) (by decide) (go 3 [100, 105, 118] rfl) (fun v q1 l1 _ _ _ ⟨eh, w⟩ => ?_)
  subst eh
  refine Ends.eq (b653_39 (n := n) (by (repeat' first | assumption | refine LX.setF _ _ ?_ (by decide +kernel) | refine LX.setS ?_ rfl | refine LX.setA ?_ (by first | assumption | omega))) (by first | assumption | omega)) ?_
  rw [← isWd_rd k1] at w
  unfold fnI at hW
  rcases w with ⟨w, rfl⟩ | ⟨w, rfl⟩
  · exact Ends.b0 (fun z => absurd z (by decide)) (fun _ => Ends.sm ⟨_, _, rfl, (show (3 : Int) = 0 + 1 + 1 + 1 by decide).trans ((itP_t w).symm.trans hW), rfl⟩)
  refine Ends.b0 (fun _ => ?_) (fun z => absurd rfl z)
  rw [itP_f w] at hW
  refine Ends.ct l (by decide +kernel) (by decide) (go 4 [109, 105, 100] rfl) (fun v q1 l1 _ _ _ ⟨eh, w⟩ => ?_)
  subst eh
  refine Ends.eq (b653_50 (n := n) (by (repeat' first | assumption | refine LX.setF _ _ ?_ (by decide +kernel) | refine LX.setS ?_ rfl | refine LX.setA ?_ (by first | assumption | omega))) (by first | assumption | omega)) ?_
  rw [← isWd_rd k1] at w
  unfold fnI at hW
  rcases w with ⟨w, rfl⟩ | ⟨w, rfl⟩
  · exact Ends.b0 (fun z => absurd z (by decide)) (fun _ => Ends.sm ⟨_, _, rfl, (show (4 : Int) = 0 + 1 + 1 + 1 + 1 by decide).trans ((itP_t w).symm.trans hW), rfl⟩)
  refine Ends.b0 (fun _ => ?_) (fun z => absurd rfl z)
  rw [itP_f w] at hW
  refine Ends.ct l (by decide +kernel) (by decide) (go 5 [97, 98, 115] rfl) (fun v q1 l1 _ _ _ ⟨eh, w⟩ => ?_)
  subst eh
  refine Ends.eq (b653_61 (n := n) (by (repeat' first | assumption | refine LX.setF _ _ ?_ (by decide +kernel) | refine LX.setS ?_ rfl | refine LX.setA ?_ (by first | assumption | omega))) (by first | assumption | omega)) ?_
  rw [← isWd_rd k1] at w
  unfold fnI at hW
  rcases w with ⟨w, rfl⟩ | ⟨w, rfl⟩
  · exact Ends.b0 (fun z => absurd z (by decide)) (fun _ => Ends.sm ⟨_, _, rfl, (show (5 : Int) = 0 + 1 + 1 + 1 + 1 + 1 by decide).trans ((itP_t w).symm.trans hW), rfl⟩)
  refine Ends.b0 (fun _ => ?_) (fun z => absurd rfl z)
  rw [itP_f w] at hW
  refine Ends.ct l (by decide +kernel) (by decide) (go 6 [102, 108, 111, 111, 114] rfl) (fun v q1 l1 _ _ _ ⟨eh, w⟩ => ?_)
  subst eh
  refine Ends.eq (b653_72 (n := n) (by (repeat' first | assumption | refine LX.setF _ _ ?_ (by decide +kernel) | refine LX.setS ?_ rfl | refine LX.setA ?_ (by first | assumption | omega))) (by first | assumption | omega)) ?_
  rw [← isWd_rd k1] at w
  unfold fnI at hW
  rcases w with ⟨w, rfl⟩ | ⟨w, rfl⟩
  · exact Ends.b0 (fun z => absurd z (by decide)) (fun _ => Ends.sm ⟨_, _, rfl, (show (6 : Int) = 0 + 1 + 1 + 1 + 1 + 1 + 1 by decide).trans ((itP_t w).symm.trans hW), rfl⟩)
  refine Ends.b0 (fun _ => ?_) (fun z => absurd rfl z)
  rw [itP_f w] at hW
  refine Ends.ct l (by decide +kernel) (by decide) (go 7 [99, 101, 105, 108] rfl) (fun v q1 l1 _ _ _ ⟨eh, w⟩ => ?_)
  subst eh
  refine Ends.eq (b653_84 (n := n) (by (repeat' first | assumption | refine LX.setF _ _ ?_ (by decide +kernel) | refine LX.setS ?_ rfl | refine LX.setA ?_ (by first | assumption | omega))) (by first | assumption | omega)) ?_
  rw [← isWd_rd k1] at w
  unfold fnI at hW
  rcases w with ⟨w, rfl⟩ | ⟨w, rfl⟩
  · exact Ends.b0 (fun z => absurd z (by decide)) (fun _ => Ends.sm ⟨_, _, rfl, (show (7 : Int) = 0 + 1 + 1 + 1 + 1 + 1 + 1 + 1 by decide).trans ((itP_t w).symm.trans hW), rfl⟩)
  refine Ends.b0 (fun _ => ?_) (fun z => absurd rfl z)
  rw [itP_f w] at hW
  refine Ends.ct l (by decide +kernel) (by decide) (go 8 [114, 111, 117, 110, 100] rfl) (fun v q1 l1 _ _ _ ⟨eh, w⟩ => ?_)
  subst eh
  refine Ends.eq (b653_96 (n := n) (by (repeat' first | assumption | refine LX.setF _ _ ?_ (by decide +kernel) | refine LX.setS ?_ rfl | refine LX.setA ?_ (by first | assumption | omega))) (by first | assumption | omega)) ?_
  rw [← isWd_rd k1] at w
  unfold fnI at hW
  rcases w with ⟨w, rfl⟩ | ⟨w, rfl⟩
  · exact Ends.b0 (fun z => absurd z (by decide)) (fun _ => Ends.sm ⟨_, _, rfl, (show (8 : Int) = 0 + 1 + 1 + 1 + 1 + 1 + 1 + 1 + 1 by decide).trans ((itP_t w).symm.trans hW), rfl⟩)
  refine Ends.b0 (fun _ => ?_) (fun z => absurd rfl z)
  rw [itP_f w] at hW
  refine Ends.ct l (by decide +kernel) (by decide) (go 9 [115, 105, 103, 110] rfl) (fun v q1 l1 _ _ _ ⟨eh, w⟩ => ?_)
  subst eh
  refine Ends.eq (b653_108 (n := n) (by (repeat' first | assumption | refine LX.setF _ _ ?_ (by decide +kernel) | refine LX.setS ?_ rfl | refine LX.setA ?_ (by first | assumption | omega))) (by first | assumption | omega)) ?_
  rw [← isWd_rd k1] at w
  unfold fnI at hW
  rcases w with ⟨w, rfl⟩ | ⟨w, rfl⟩
  · exact Ends.b0 (fun z => absurd z (by decide)) (fun _ => Ends.sm ⟨_, _, rfl, (show (9 : Int) = 0 + 1 + 1 + 1 + 1 + 1 + 1 + 1 + 1 + 1 by decide).trans ((itP_t w).symm.trans hW), rfl⟩)
  refine Ends.b0 (fun _ => ?_) (fun z => absurd rfl z)
  rw [itP_f w] at hW
  refine Ends.ct l (by decide +kernel) (by decide) (go 10 [115, 113, 114] rfl) (fun v q1 l1 _ _ _ ⟨eh, w⟩ => ?_)
  subst eh
  refine Ends.eq (b653_120 (n := n) (by (repeat' first | assumption | refine LX.setF _ _ ?_ (by decide +kernel) | refine LX.setS ?_ rfl | refine LX.setA ?_ (by first | assumption | omega))) (by first | assumption | omega)) ?_
  rw [← isWd_rd k1] at w
  unfold fnI at hW
  rcases w with ⟨w, rfl⟩ | ⟨w, rfl⟩
  · exact Ends.sm ⟨_, _, rfl, (show (10 : Int) = 0 + 1 + 1 + 1 + 1 + 1 + 1 + 1 + 1 + 1 + 1 by decide).trans ((itP_t w).symm.trans hW), rfl⟩
  · exact Ends.sm ⟨_, _, rfl, (itP_f w).symm.trans hW, rfl⟩
/-- a word that no VALUE may be called -/
def kept (u : Nat → Int) (m p : Nat) : Prop := 0 ≤ fnW u m p ∨ isWd u m p [109, 109] ∨ isWd u m p [99, 109] ∨ isWd u m p [105, 110]
theorem c_isTaken (l : LX B n h) (hd : 20 ≤ d) (S : MgP B h m u) (T : FnB gv B h) {p : Nat} (R : MgT B h u m p) (hp : p ≤ m) (k1 : tkK u m p = 1) : Vt 0 (cll PP (ev PP (gsF gv) B) d 718 [(2, rf (B + 149))] h) (fun v h' => h' = h ∧ ((kept u m p ∧ v = 1) ∨ (¬ kept u m p ∧ v = 0))) := by
  refine Vt.into (D := 19) hd (Nat.le_of_ble_eq_true rfl) rfl (fun d hd => ?_)
  have yes : kept u m p → Ends (ev PP (gsF gv) B d 718 34 [(2, rf (B + 149))] [] h) (fun r => ∃ v h', r = ((0, (0, v)), h') ∧ h' = h ∧ ((kept u m p ∧ v = 1) ∨ (¬ kept u m p ∧ v = 0))) := by
    intro y
    refine Ends.eq (b718_34 (n := n) (by (repeat' first | assumption | refine LX.setF _ _ ?_ (by decide +kernel) | refine LX.setS ?_ rfl | refine LX.setA ?_ (by first | assumption | omega))) (by first | assumption | omega)) ?_
    refine Ends.eq (b718_39 (n := n) (by (repeat' first | assumption | refine LX.setF _ _ ?_ (by decide +kernel) | refine LX.setS ?_ rfl | refine LX.setA ?_ (by first | assumption | omega))) (by first | assumption | omega)) ?_
    exact Ends.g (Or.inr rfl) (Ends.sm ⟨_, _, rfl, rfl, Or.inl ⟨y, rfl⟩⟩)
  refine Ends.eq (b718_0 (n := n) (by (repeat' first | assumption | refine LX.setF _ _ ?_ (by decide +kernel) | refine LX.setS ?_ rfl | refine LX.setA ?_ (by first | assumption | omega))) (by first | assumption | omega)) ?_
  refine Ends.ct l (by decide +kernel) (by decide) (c_functionM l (by omega) S T R hp k1) (fun v q1 l1 _ _ _ ⟨ev, eh⟩ => ?_)
  subst ev eh
  refine Ends.eq (b718_4 (n := n) (by (repeat' first | assumption | refine LX.setF _ _ ?_ (by decide +kernel) | refine LX.setS ?_ rfl | refine LX.setA ?_ (by first | assumption | omega))) (by first | assumption | omega)) ?_
  refine Ends.b3 (fun z => yes (Or.inl z)) (fun z => ?_)
  refine Ends.ct l (by decide +kernel) (by decide) (c_readsM l (by omega) S R hp T.2.2.1.1) (fun v q1 l1 _ _ _ ⟨eh, w⟩ => ?_)
  subst eh
  refine Ends.eq (b718_13 (n := n) (by (repeat' first | assumption | refine LX.setF _ _ ?_ (by decide +kernel) | refine LX.setS ?_ rfl | refine LX.setA ?_ (by first | assumption | omega))) (by first | assumption | omega)) ?_
  rw [← isWd_rd k1] at w
  rcases w with ⟨w, rfl⟩ | ⟨w1, rfl⟩
  · exact Ends.b1 (fun _ => yes (Or.inr (Or.inl w))) (fun z => absurd z (by decide))
  refine Ends.b1 (fun z => absurd rfl z) (fun _ => ?_)
  refine Ends.ct l (by decide +kernel) (by decide) (c_readsM l (by omega) S R hp T.2.2.2.1.1) (fun v q1 l1 _ _ _ ⟨eh, w⟩ => ?_)
  subst eh
  refine Ends.eq (b718_22 (n := n) (by (repeat' first | assumption | refine LX.setF _ _ ?_ (by decide +kernel) | refine LX.setS ?_ rfl | refine LX.setA ?_ (by first | assumption | omega))) (by first | assumption | omega)) ?_
  rw [← isWd_rd k1] at w
  rcases w with ⟨w, rfl⟩ | ⟨w2, rfl⟩
  · exact Ends.b1 (fun _ => yes (Or.inr (Or.inr (Or.inl w)))) (fun z => absurd z (by decide))
  refine Ends.b1 (fun z => absurd rfl z) (fun _ => ?_)
  refine Ends.ct l (by decide +kernel) (by decide) (c_readsM l (by omega) S R hp T.2.2.2.2.1) (fun v q1 l1 _ _ _ ⟨eh, w⟩ => ?_)
  subst eh
  refine Ends.eq (b718_31 (n := n) (by (repeat' first | assumption | refine LX.setF _ _ ?_ (by decide +kernel) | refine LX.setS ?_ rfl | refine LX.setA ?_ (by first | assumption | omega))) (by first | assumption | omega)) ?_
  rw [← isWd_rd k1] at w
  rcases w with ⟨w, rfl⟩ | ⟨w3, rfl⟩
  · exact Ends.sm ⟨_, _, rfl, rfl, Or.inl ⟨Or.inr (Or.inr (Or.inr w)), rfl⟩⟩
  · exact Ends.sm ⟨_, _, rfl, rfl, Or.inr ⟨fun y => by rcases y with y | y | y | y; omega; exact w1 y; exact w2 y; exact w3 y, rfl⟩⟩
theorem isWd_uni {p : Nat} {s s' : List Int} (a : isWd u m p s) (b : isWd u m p s') : s = s' := by
  obtain ⟨_, a1, a2⟩ := a
  obtain ⟨_, b1, b2⟩ := b
  refine List.ext_getElem? (fun i => ?_)
  by_cases hi : i < s.length
  · have e1 : s[i]? = some s[i] := List.getElem?_eq_getElem hi
    have hi' : i < s'.length := by omega
    have e2 : s'[i]? = some s'[i] := List.getElem?_eq_getElem hi'
    rw [e1, e2, ← a2 i _ e1, ← b2 i _ e2]
  · rw [List.getElem?_eq_none (by omega), List.getElem?_eq_none (by omega)]
/-- the unit behind a number counts -/
theorem e_unit {Q : Rs → Prop} {s : AH} {a0 q : Nat} {t b : Int} {u2 u3 : AV} (hd : 30 ≤ d) (l : LX B n s) (S : MgP B s m u) (T : FnB gv B s) (R : MgT B s u m q) (hq : q ≤ m) (k1 : tkK u m q = 1) (hk0 : hk s a0 = (1, 24)) (ha0 : B + 246 ≤ a0) (e2 : hv s a0 2 = t) (e3 : hv s a0 3 = b) (t1 : 0 ≤ t) (t2 : t ≤ 10000000000) (b1 : 1 ≤ b) (b2 : b ≤ 10000)
    (K : ∀ s' : AH, LX B n s' → Agr (fun c k => mgW B c k ∨ (c = a0 ∧ 1 ≤ k ∧ k ≤ 3)) s s' → MgT B s' u m (tkT u m q) → hv s' a0 1 = 1 → hv s' a0 2 = itP (isWd u m q [99, 109]) (t * 10) (itP (isWd u m q [105, 110]) (t * 127) t) → hv s' a0 3 = itP (isWd u m q [105, 110]) (b * 5) b → Ends (ev PP (gsF gv) B d 795 275 [(2, rf (B + 149)), (2, rf a0), u2, u3] [] s') Q) :
    Ends (ev PP (gsF gv) B d 795 190 [(2, rf (B + 149)), (2, rf a0), u2, u3] [] s) Q := by
  obtain ⟨t3, t4⟩ := k_lt (u := u) hq (by rw [k1]; decide)
  refine Ends.eq (b795_190 (n := n) (by (repeat' first | assumption | refine LX.setF _ _ ?_ (by decide +kernel) | refine LX.setS ?_ rfl | refine LX.setA ?_ (by first | assumption | omega))) (by first | assumption | omega)) ?_
  rw [ad_rf]
  refine Ends.g ⟨rf_pos _, hk0, by omega, rfl⟩ ?_
  have g1 : Agr (fun c k => mgW B c k ∨ (c = a0 ∧ 1 ≤ k ∧ k ≤ 3)) s (hset s a0 1 1) := Agr.rf.set (Or.inr ⟨rfl, by decide, by decide⟩)
  have l1 : LX B n (hset s a0 1 1) := lx_na l ha0
  have no : ∀ k, 4 ≤ k → k ≤ 10 → ¬ (B + 149 = a0) := fun _ _ _ => by omega
  have S1 : MgP B (hset s a0 1 1) m u := S.agr g1 (by unfold mgW; omega) (fun i hi => by unfold mgW; omega)
  have T1 : FnB gv B (hset s a0 1 1) := T.agr g1 (fun c k hc => by unfold mgW; omega)
  have R1 : MgT B (hset s a0 1 1) u m q := by
    obtain ⟨c1, c2, c3, c4, c5, c6⟩ := R
    exact ⟨by rw [hv_na (by omega)]; exact c1, by rw [hv_na (by omega)]; exact c2, by rw [hv_na (by omega)]; exact c3, by rw [hv_na (by omega)]; exact c4, by rw [hv_na (by omega)]; exact c5, fun k2 => by rw [hv_na (by omega), hv_na (by omega)]; exact c6 k2⟩
  have f1 : hv (hset s a0 1 1) a0 1 = 1 := hv_set_at ..
  have f2 : hv (hset s a0 1 1) a0 2 = t := by rw [hv_set_ne (by omega)]; exact e2
  have f3 : hv (hset s a0 1 1) a0 3 = b := by rw [hv_set_ne (by omega)]; exact e3
  have kq : hk (hset s a0 1 1) a0 = (1, 24) := hk0
  generalize hset s a0 1 1 = s1 at *
  -- behind the numerator
  have low : ∀ (t' : Int), t' = itP (isWd u m q [99, 109]) (t * 10) (itP (isWd u m q [105, 110]) (t * 127) t) → Ends (ev PP (gsF gv) B d 795 240 [(2, rf (B + 149)), (2, rf a0), u2, u3] [(1, t'), (2, rf a0)] s1) Q := by
    intro t' et
    refine Ends.eq (b795_240 (n := n) (by (repeat' first | assumption | refine LX.setF _ _ ?_ (by decide +kernel) | refine LX.setS ?_ rfl | refine LX.setA ?_ (by first | assumption | omega))) (by first | assumption | omega)) ?_
    rw [ad_rf]
    refine Ends.g ⟨rf_pos _, kq, by omega, rfl⟩ ?_
    have g2 : Agr (fun c k => mgW B c k ∨ (c = a0 ∧ 1 ≤ k ∧ k ≤ 3)) s (hset s1 a0 2 t') := g1.set (Or.inr ⟨rfl, by decide, by decide⟩)
    have l2 : LX B n (hset s1 a0 2 t') := lx_na l1 ha0
    have S2 : MgP B (hset s1 a0 2 t') m u := S.agr g2 (by unfold mgW; omega) (fun i hi => by unfold mgW; omega)
    have T2 : FnB gv B (hset s1 a0 2 t') := T.agr g2 (fun c k hc => by unfold mgW; omega)
    have R2 : MgT B (hset s1 a0 2 t') u m q := by
      obtain ⟨c1, c2, c3, c4, c5, c6⟩ := R1
      exact ⟨by rw [hv_na (by omega)]; exact c1, by rw [hv_na (by omega)]; exact c2, by rw [hv_na (by omega)]; exact c3, by rw [hv_na (by omega)]; exact c4, by rw [hv_na (by omega)]; exact c5, fun k2 => by rw [hv_na (by omega), hv_na (by omega)]; exact c6 k2⟩
    refine Ends.eq (b795_243 (n := n) (by (repeat' first | assumption | refine LX.setF _ _ ?_ (by decide +kernel) | refine LX.setS ?_ rfl | refine LX.setA ?_ (by first | assumption | omega))) (by first | assumption | omega)) ?_
    refine Ends.ct l2 (by decide +kernel) (by decide) (c_isWordM l2 (by omega) S2 R2 hq T2.2.2.2.2.1) (fun v q1 l3 _ _ _ ⟨eh, w⟩ => ?_)
    subst eh
    have kq2 : hk (hset s1 a0 2 t') a0 = (1, 24) := kq
    have h3 : hv (hset s1 a0 2 t') a0 3 = b := by rw [hv_set_ne (by omega)]; exact f3
    have h1 : hv (hset s1 a0 2 t') a0 1 = 1 := by rw [hv_set_ne (by omega)]; exact f1
    have h2 : hv (hset s1 a0 2 t') a0 2 = t' := hv_set_at ..
    generalize hset s1 a0 2 t' = s2 at *
    refine Ends.eq (b795_250 (n := n) (by (repeat' first | assumption | refine LX.setF _ _ ?_ (by decide +kernel) | refine LX.setS ?_ rfl | refine LX.setA ?_ (by first | assumption | omega))) (by first | assumption | omega)) ?_
    rw [ad_rf, h3]
    have eb : cond (tst 0 v 0) b (bop64 105 5 b) = itP (isWd u m q [105, 110]) (b * 5) b := by
      rcases w with ⟨w, rfl⟩ | ⟨w, rfl⟩
      · rw [itP_t w, mul64 (by omega) (by omega)]
        show 5 * b = b * 5
        omega
      · rw [itP_f w]; rfl
    rw [eb]
    refine Ends.g (by cases tst 0 v 0 <;> exact ⟨rf_pos _, kq2⟩) (Ends.g ⟨rf_pos _, kq2, by omega, rfl⟩ ?_)
    generalize hbb : itP (isWd u m q [105, 110]) (b * 5) b = b' at *
    have g3 : Agr (fun c k => mgW B c k ∨ (c = a0 ∧ 1 ≤ k ∧ k ≤ 3)) s (hset s2 a0 3 b') := g2.set (Or.inr ⟨rfl, by decide, by decide⟩)
    have l4 : LX B n (hset s2 a0 3 b') := lx_na l2 ha0
    have S3 : MgP B (hset s2 a0 3 b') m u := S.agr g3 (by unfold mgW; omega) (fun i hi => by unfold mgW; omega)
    have a4 : hv (hset s2 a0 3 b') (B + 149) 4 = (tkT u m q : Int) := by rw [hv_na (by omega)]; exact R2.1
    refine Ends.eq (b795_271 (n := n) (by (repeat' first | assumption | refine LX.setF _ _ ?_ (by decide +kernel) | refine LX.setS ?_ rfl | refine LX.setA ?_ (by first | assumption | omega))) (by first | assumption | omega)) ?_
    refine Ends.cv l4 (by decide +kernel) (c_nextM l4 (by omega) S3 a4 t4) (fun s5 l5 _ _ _ ⟨g5, R5⟩ => ?_)
    refine K s5 l5 (g3.tr g5 (fun c k w => Or.inl w)) R5 ?_ ?_ ?_
    · rw [g5.at _ _ (by unfold mgW; omega), hv_set_ne (by omega)]; exact h1
    · rw [g5.at _ _ (by unfold mgW; omega), hv_set_ne (by omega), h2]; exact et
    · rw [g5.at _ _ (by unfold mgW; omega)]; exact hv_set_at ..
  refine Ends.eq (b795_195 (n := n) (by (repeat' first | assumption | refine LX.setF _ _ ?_ (by decide +kernel) | refine LX.setS ?_ rfl | refine LX.setA ?_ (by first | assumption | omega))) (by first | assumption | omega)) ?_
  refine Ends.ct l1 (by decide +kernel) (by decide) (c_isWordM l1 (by omega) S1 R1 hq T1.2.2.2.1.1) (fun v q1 l3 _ _ _ ⟨eh, w⟩ => ?_)
  subst eh
  refine Ends.eq (b795_202 (n := n) (by (repeat' first | assumption | refine LX.setF _ _ ?_ (by decide +kernel) | refine LX.setS ?_ rfl | refine LX.setA ?_ (by first | assumption | omega))) (by first | assumption | omega)) ?_
  rcases w with ⟨w, rfl⟩ | ⟨w, rfl⟩
  · refine Ends.b0 (fun z => absurd z (by decide)) (fun _ => ?_)
    rw [ad_rf, f2]
    refine Ends.g ⟨rf_pos _, kq⟩ (low _ ?_)
    rw [itP_t w, mul64 (by omega) (by omega)]; omega
  · refine Ends.b0 (fun _ => ?_) (fun z => absurd rfl z)
    refine Ends.ct l1 (by decide +kernel) (by decide) (c_isWordM l1 (by omega) S1 R1 hq T1.2.2.2.2.1) (fun v q1 l3 _ _ _ ⟨eh, w2⟩ => ?_)
    subst eh
    refine Ends.eq (b795_222 (n := n) (by (repeat' first | assumption | refine LX.setF _ _ ?_ (by decide +kernel) | refine LX.setS ?_ rfl | refine LX.setA ?_ (by first | assumption | omega))) (by first | assumption | omega)) ?_
    rw [ad_rf, f2]
    refine Ends.g (by cases tst 0 v 0 <;> exact ⟨rf_pos _, kq⟩) (low _ ?_)
    rw [itP_f w]
    rcases w2 with ⟨w2, rfl⟩ | ⟨w2, rfl⟩
    · rw [itP_t w2, mul64 (by omega) (by omega)]
      show 127 * t = t * 127
      omega
    · rw [itP_f w2]; rfl
end MFUN
