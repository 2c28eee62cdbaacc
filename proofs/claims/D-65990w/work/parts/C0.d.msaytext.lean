/-! L3: texts and numbers said: the model -/
section SAYD
variable {gv : Nat → Int} {B n d : Nat} {h : AH} {a N : Nat} {bs s : List Int} {c x : Int}
/-- a text is said -/
theorem c_sayS809 (l : LX B n h) (hd : 16 ≤ d) (T : TxS gv B h x s) (o : OutM B h a N bs) (hm : bs.length + s.length ≤ 30001) :
    Vd (cll PP (ev PP (gsF gv) B) d 809 [(2, rf (B + 149)), (2, x)] h) (fun h' => ∃ a' N', OutM B h' a' N' (bs ++ s) ∧ Wrs (outV B) a N h h' a' N') := by
  have hb0 := l.2.2
  refine Vd.inq (D := 15) hd (Nat.le_of_ble_eq_true rfl) rfl (fun d hd P K => ?_)
  have key : ∀ (m i : Nat) (q : AH) (a' N' : Nat), i + m = s.length → LX B n q → OutM B q a' N' (bs ++ s.take i) → Wrs (outV B) a N h q a' N' → Ends (ev PP (gsF gv) B d 809 2 [(2, rf (B + 149)), (2, x), (0, (i : Int))] [] q) P := by
    intro m
    induction m with
    | zero =>
      intro i q a' N' hi lq oq wq
      obtain rfl : i = s.length := by omega
      have Tq := T.ext wq.2.2 hb0 (fun b k hb w => by have := o.2.2.1; unfold outV at w; omega)
      refine Ends.eq (b809_2 (n := n) (by (repeat' first | assumption | refine LX.setF _ _ ?_ (by decide +kernel) | refine LX.setS ?_ rfl | refine LX.setA ?_ (by first | assumption | omega))) (by first | assumption | omega)) ?_
      rw [Tq.1.v901]
      refine Ends.g ⟨⟨Tq.1.1, Tq.1.2.1⟩, Tq.1.q901⟩ (Ends.b3 (fun _ => Ends.sm (K _ ⟨a', N', ?_, wq⟩)) (fun z => by omega))
      rw [List.take_length] at oq
      exact oq
    | succ m ih =>
      intro i q a' N' hi lq oq wq
      have Tq := T.ext wq.2.2 hb0 (fun b k hb w => by have := o.2.2.1; unfold outV at w; omega)
      obtain ⟨e, he⟩ : ∃ e, s[i]? = some e := ⟨s[i], List.getElem?_eq_getElem (by omega)⟩
      obtain ⟨_, e2, e3⟩ := Tq.1.2.2.2.2.1 i e he
      refine Ends.eq (b809_2 (n := n) (by (repeat' first | assumption | refine LX.setF _ _ ?_ (by decide +kernel) | refine LX.setS ?_ rfl | refine LX.setA ?_ (by first | assumption | omega))) (by first | assumption | omega)) ?_
      rw [Tq.1.v901]
      refine Ends.g ⟨⟨Tq.1.1, Tq.1.2.1⟩, Tq.1.q901⟩ (Ends.b3 (fun z => by omega) (fun _ => Ends.g ⟨Tq.1.1, Tq.1.2.1⟩ ?_))
      refine Ends.ct lq (by decide +kernel) (by decide) (c_charAt lq (by omega) Tq.1 he) (fun v q1 l1 _ _ _ ⟨ev_, e1⟩ => ?_)
      subst e1
      rw [ev_]
      refine Ends.eq (b809_16 (n := n) (by (repeat' first | assumption | refine LX.setF _ _ ?_ (by decide +kernel) | refine LX.setS ?_ rfl | refine LX.setA ?_ (by first | assumption | omega))) (by first | assumption | omega)) ?_
      refine Ends.cv l1 (by decide +kernel) (c_say808 l1 (by omega) oq (by rw [List.length_append, List.length_take]; omega) e2 e3) (fun q2 l2 _ _ _ ⟨a2, N2, o2, w2⟩ => ?_)
      refine Ends.eq (b809_19 (n := n) (by (repeat' first | assumption | refine LX.setF _ _ ?_ (by decide +kernel) | refine LX.setS ?_ rfl | refine LX.setA ?_ (by first | assumption | omega))) (by first | assumption | omega)) ?_
      rw [w_succ (by have := Tq.1.2.2.2.2.2.2.2; omega)]
      refine ih (i + 1) q2 a2 N2 (by omega) l2 ?_ (wq.tr w2 outV_tr)
      rw [tk1 he, ← List.append_assoc]
      exact o2
  refine Ends.eq (b809_0 (n := n) (by (repeat' first | assumption | refine LX.setF _ _ ?_ (by decide +kernel) | refine LX.setS ?_ rfl | refine LX.setA ?_ (by first | assumption | omega))) (by first | assumption | omega)) ?_
  exact key s.length 0 h a N (by omega) l (by rw [List.take_zero, List.append_nil]; exact o) Wrs.rf
/-- a number is said -/
theorem c_sayN810 : ∀ (k v : Nat) {d a N : Nat} {h : AH} {bs : List Int}, LX B n h → v < 10 ^ (k + 1) → k ≤ 3 → 14 + k ≤ d → OutM B h a N bs → bs.length + k ≤ 30000 →
    Vd (cll PP (ev PP (gsF gv) B) d 810 [(2, rf (B + 149)), (0, (v : Int))] h) (fun h' => ∃ a' N', OutM B h' a' N' (bs ++ digF (k + 1) v) ∧ Wrs (outV B) a N h h' a' N') := by
  intro k
  induction k with
  | zero =>
    intro v d a N h bs l hv _ hd o hm
    have hb0 := l.2.2
    refine Vd.inq (D := 13) hd (Nat.le_of_ble_eq_true rfl) rfl (fun d hd P K => ?_)
    have v10 : v < 10 := by simpa using hv
    refine Ends.eq (b810_0 (n := n) (by (repeat' first | assumption | refine LX.setF _ _ ?_ (by decide +kernel) | refine LX.setS ?_ rfl | refine LX.setA ?_ (by first | assumption | omega))) (by first | assumption | omega)) ?_
    refine Ends.b5 (fun _ => ?_) (fun z => by omega)
    refine Ends.eq (b810_14 (n := n) (by (repeat' first | assumption | refine LX.setF _ _ ?_ (by decide +kernel) | refine LX.setS ?_ rfl | refine LX.setA ?_ (by first | assumption | omega))) (by first | assumption | omega)) ?_
    rw [dig_c v10 v10]
    refine Ends.cv l (by decide +kernel) (c_say808 l (by omega) o (by omega) (by omega) (by omega)) (fun q2 l2 _ _ _ ⟨a2, N2, o2, w2⟩ => ?_)
    refine Ends.eq (b810_25 (n := n) (by (repeat' first | assumption | refine LX.setF _ _ ?_ (by decide +kernel) | refine LX.setS ?_ rfl | refine LX.setA ?_ (by first | assumption | omega))) (by first | assumption | omega)) ?_
    refine Ends.sm (K _ ⟨a2, N2, ?_, w2⟩)
    rw [dig_0 v10]
    exact o2
  | succ k ih =>
    intro v d a N h bs l hv hk3 hd o hm
    have hb0 := l.2.2
    have v5 : v < 100000 := by
      have : 10 ^ (k + 1 + 1) ≤ 10 ^ 5 := Nat.pow_le_pow_right (by decide) (by omega)
      omega
    refine Vd.inq (D := 13 + (k + 1)) (by omega) (Nat.le_of_ble_eq_true rfl) rfl (fun d hd P K => ?_)
    have last : ∀ (q : AH) (a1 N1 : Nat) (bq : List Int), LX B n q → OutM B q a1 N1 bq → bq.length ≤ 30000 → bq = bs ++ (if 10 ≤ v then digF (k + 1) (v / 10) else []) → Wrs (outV B) a N h q a1 N1 → Ends (ev PP (gsF gv) B d 810 14 [(2, rf (B + 149)), (0, (v : Int))] [] q) P := fun q a1 N1 bq lq oq hq eq_ wq => by
      refine Ends.eq (b810_14 (n := n) (by (repeat' first | assumption | refine LX.setF _ _ ?_ (by decide +kernel) | refine LX.setS ?_ rfl | refine LX.setA ?_ (by first | assumption | omega))) (by first | assumption | omega)) ?_
      rw [show bop32 112 (v : Int) 10 = ((v % 10 : Nat) : Int) from modNN (y := 10) (by decide) (by decide), show bop32 96 (48 : Int) ((v % 10 : Nat) : Int) = 48 + ((v % 10 : Nat) : Int) from add32 (by omega) (by omega)]
      refine Ends.cv lq (by decide +kernel) (c_say808 lq (by omega) oq hq (by omega) (by omega)) (fun q2 l2 _ _ _ ⟨a2, N2, o2, w2⟩ => ?_)
      refine Ends.eq (b810_25 (n := n) (by (repeat' first | assumption | refine LX.setF _ _ ?_ (by decide +kernel) | refine LX.setS ?_ rfl | refine LX.setA ?_ (by first | assumption | omega))) (by first | assumption | omega)) ?_
      refine Ends.sm (K _ ⟨a2, N2, ?_, wq.tr w2 outV_tr⟩)
      rw [dig_s, ← List.append_assoc, ← eq_]
      exact o2
    refine Ends.eq (b810_0 (n := n) (by (repeat' first | assumption | refine LX.setF _ _ ?_ (by decide +kernel) | refine LX.setS ?_ rfl | refine LX.setA ?_ (by first | assumption | omega))) (by first | assumption | omega)) ?_
    by_cases z : v < 10
    · refine Ends.b5 (fun _ => last h a N bs l o (by omega) (by rw [if_neg (by omega), List.append_nil]) Wrs.rf) (fun z => by omega)
    · refine Ends.b5 (fun z => by omega) (fun _ => ?_)
      rw [show bop32 108 (v : Int) 10 = ((v / 10 : Nat) : Int) from divNN (y := 10) (by omega) (by decide)]
      have hv' : v / 10 < 10 ^ (k + 1) := by
        rw [Nat.pow_succ] at hv
        omega
      refine Ends.cv l (by decide +kernel) (ih (v / 10) l hv' (by omega) (by omega) o (by omega)) (fun q1 l1 _ _ _ ⟨a1, N1, o1, w1⟩ => ?_)
      refine last q1 a1 N1 _ l1 o1 ?_ (by rw [if_pos (by omega)]) w1
      rw [List.length_append]
      have := dig_len (k + 1) (v / 10)
      omega
end SAYD
