/-! L3: texts and numbers said: the desk -/
section SAYB
variable {gv : Nat → Int} {B n d : Nat} {h : AH} {a N : Nat} {bs s : List Int} {c x : Int}
theorem tk1 : ∀ {s : List Int} {i : Nat} {c : Int}, s[i]? = some c → s.take (i + 1) = s.take i ++ [c]
  | [], _, _, e => by simp at e
  | y :: t, 0, c, e => by
    simp at e
    simp [e]
  | y :: t, i + 1, c, e => by
    have e' : t[i]? = some c := by simpa using e
    have := tk1 e'
    simp [this]
/-- a text whose cells are not the program's -/
def TxS (gv : Nat → Int) (B : Nat) (h : AH) (x : Int) (s : List Int) : Prop := StrA gv h x s ∧ ad x < B ∧ ad (hv h (ad x) 0) < B
theorem TxS.ext {W : Nat → Nat → Prop} {cc ss : Nat} {t : AH} (T : TxS gv B h x s) (g : Ext W cc ss h t) (hb : B + 246 ≤ hnx h) (hW : ∀ a k, a < B → ¬ W a k) : TxS gv B t x s :=
  ⟨T.1.ext (by omega) T.2.1 T.2.2 g hW, T.2.1, by rw [g.at _ (by have := T.2.1; omega) (hW _ _ T.2.1)]; exact T.2.2⟩
/-- the signs of a number of at most k digits -/
def digF : Nat → Nat → List Int
  | 0, _ => []
  | k + 1, v => (if 10 ≤ v then digF k (v / 10) else []) ++ [48 + ((v % 10 : Nat) : Int)]
theorem dig_s {k v : Nat} : digF (k + 1 + 1) v = (if 10 ≤ v then digF (k + 1) (v / 10) else []) ++ [48 + ((v % 10 : Nat) : Int)] := rfl
theorem dig_0 {v : Nat} (hv : v < 10) : digF (0 + 1) v = [48 + (v : Int)] := by
  show (if 10 ≤ v then digF 0 (v / 10) else []) ++ [48 + ((v % 10 : Nat) : Int)] = _
  rw [if_neg (by omega), Nat.mod_eq_of_lt hv]; rfl
theorem dig_len : ∀ (k v : Nat), (digF k v).length ≤ k
  | 0, _ => Nat.le_refl _
  | k + 1, v => by
    show ((if 10 ≤ v then digF k (v / 10) else []) ++ [48 + ((v % 10 : Nat) : Int)]).length ≤ k + 1
    rw [List.length_append]
    split
    · have := dig_len k (v / 10)
      show _ + 1 ≤ k + 1
      omega
    · show 0 + 1 ≤ k + 1
      omega
theorem dig_c {v w : Nat} (hv : v < 10) (hw : w < 10) : bop32 96 (48 : Int) (bop32 112 (v : Int) 10) = 48 + (v : Int) := by
  rw [show bop32 112 (v : Int) 10 = ((v % 10 : Nat) : Int) from modNN (y := 10) (by decide) (by decide), Nat.mod_eq_of_lt hv]
  exact add32 (by omega) (by omega)
/-- a text is said -/
theorem c_sayS151 (l : LX B n h) (hd : 16 ≤ d) (T : TxS gv B h x s) (o : OutC B h a N bs) (hm : bs.length + s.length ≤ 30001) :
    Vd (cll PP (ev PP (gsF gv) B) d 151 [(2, rf (B + 143)), (2, x)] h) (fun h' => ∃ a' N', OutC B h' a' N' (bs ++ s) ∧ Wrs (outW B) a N h h' a' N') := by
  have hb0 := l.2.2
  refine Vd.inq (D := 15) hd (Nat.le_of_ble_eq_true rfl) rfl (fun d hd P K => ?_)
  have key : ∀ (m i : Nat) (q : AH) (a' N' : Nat), i + m = s.length → LX B n q → OutC B q a' N' (bs ++ s.take i) → Wrs (outW B) a N h q a' N' → Ends (ev PP (gsF gv) B d 151 2 [(2, rf (B + 143)), (2, x), (0, (i : Int))] [] q) P := by
    intro m
    induction m with
    | zero =>
      intro i q a' N' hi lq oq wq
      obtain rfl : i = s.length := by omega
      have Tq := T.ext wq.2.2 hb0 (fun b k hb w => by have := o.2.2.1; unfold outW at w; omega)
      refine Ends.eq (b151_2 (n := n) (by (repeat' first | assumption | refine LX.setF _ _ ?_ (by decide +kernel) | refine LX.setS ?_ rfl | refine LX.setA ?_ (by first | assumption | omega))) (by first | assumption | omega)) ?_
      rw [Tq.1.v901]
      refine Ends.g ⟨⟨Tq.1.1, Tq.1.2.1⟩, Tq.1.q901⟩ (Ends.b3 (fun _ => Ends.sm (K _ ⟨a', N', ?_, wq⟩)) (fun z => by omega))
      rw [List.take_length] at oq
      exact oq
    | succ m ih =>
      intro i q a' N' hi lq oq wq
      have Tq := T.ext wq.2.2 hb0 (fun b k hb w => by have := o.2.2.1; unfold outW at w; omega)
      obtain ⟨e, he⟩ : ∃ e, s[i]? = some e := ⟨s[i], List.getElem?_eq_getElem (by omega)⟩
      obtain ⟨_, e2, e3⟩ := Tq.1.2.2.2.2.1 i e he
      refine Ends.eq (b151_2 (n := n) (by (repeat' first | assumption | refine LX.setF _ _ ?_ (by decide +kernel) | refine LX.setS ?_ rfl | refine LX.setA ?_ (by first | assumption | omega))) (by first | assumption | omega)) ?_
      rw [Tq.1.v901]
      refine Ends.g ⟨⟨Tq.1.1, Tq.1.2.1⟩, Tq.1.q901⟩ (Ends.b3 (fun z => by omega) (fun _ => Ends.g ⟨Tq.1.1, Tq.1.2.1⟩ ?_))
      refine Ends.ct lq (by decide +kernel) (by decide) (c_charAt lq (by omega) Tq.1 he) (fun v q1 l1 _ _ _ ⟨ev_, e1⟩ => ?_)
      subst e1
      rw [ev_]
      refine Ends.eq (b151_16 (n := n) (by (repeat' first | assumption | refine LX.setF _ _ ?_ (by decide +kernel) | refine LX.setS ?_ rfl | refine LX.setA ?_ (by first | assumption | omega))) (by first | assumption | omega)) ?_
      refine Ends.cv l1 (by decide +kernel) (c_say150 l1 (by omega) oq (by rw [List.length_append, List.length_take]; omega) e2 e3) (fun q2 l2 _ _ _ ⟨a2, N2, o2, w2⟩ => ?_)
      refine Ends.eq (b151_19 (n := n) (by (repeat' first | assumption | refine LX.setF _ _ ?_ (by decide +kernel) | refine LX.setS ?_ rfl | refine LX.setA ?_ (by first | assumption | omega))) (by first | assumption | omega)) ?_
      rw [w_succ (by have := Tq.1.2.2.2.2.2.2.2; omega)]
      refine ih (i + 1) q2 a2 N2 (by omega) l2 ?_ (wq.tr w2 outW_tr)
      rw [tk1 he, ← List.append_assoc]
      exact o2
  refine Ends.eq (b151_0 (n := n) (by (repeat' first | assumption | refine LX.setF _ _ ?_ (by decide +kernel) | refine LX.setS ?_ rfl | refine LX.setA ?_ (by first | assumption | omega))) (by first | assumption | omega)) ?_
  exact key s.length 0 h a N (by omega) l (by rw [List.take_zero, List.append_nil]; exact o) Wrs.rf
/-- a number is said -/
theorem c_sayN152 : ∀ (k v : Nat) {d a N : Nat} {h : AH} {bs : List Int}, LX B n h → v < 10 ^ (k + 1) → k ≤ 3 → 14 + k ≤ d → OutC B h a N bs → bs.length + k ≤ 30000 →
    Vd (cll PP (ev PP (gsF gv) B) d 152 [(2, rf (B + 143)), (0, (v : Int))] h) (fun h' => ∃ a' N', OutC B h' a' N' (bs ++ digF (k + 1) v) ∧ Wrs (outW B) a N h h' a' N') := by
  intro k
  induction k with
  | zero =>
    intro v d a N h bs l hv _ hd o hm
    have hb0 := l.2.2
    refine Vd.inq (D := 13) hd (Nat.le_of_ble_eq_true rfl) rfl (fun d hd P K => ?_)
    have v10 : v < 10 := by simpa using hv
    refine Ends.eq (b152_0 (n := n) (by (repeat' first | assumption | refine LX.setF _ _ ?_ (by decide +kernel) | refine LX.setS ?_ rfl | refine LX.setA ?_ (by first | assumption | omega))) (by first | assumption | omega)) ?_
    refine Ends.b2 (fun _ => ?_) (fun z => by omega)
    refine Ends.eq (b152_14 (n := n) (by (repeat' first | assumption | refine LX.setF _ _ ?_ (by decide +kernel) | refine LX.setS ?_ rfl | refine LX.setA ?_ (by first | assumption | omega))) (by first | assumption | omega)) ?_
    rw [dig_c v10 v10]
    refine Ends.cv l (by decide +kernel) (c_say150 l (by omega) o (by omega) (by omega) (by omega)) (fun q2 l2 _ _ _ ⟨a2, N2, o2, w2⟩ => ?_)
    refine Ends.eq (b152_25 (n := n) (by (repeat' first | assumption | refine LX.setF _ _ ?_ (by decide +kernel) | refine LX.setS ?_ rfl | refine LX.setA ?_ (by first | assumption | omega))) (by first | assumption | omega)) ?_
    refine Ends.sm (K _ ⟨a2, N2, ?_, w2⟩)
    rw [dig_0 v10]
    exact o2
  | succ k ih =>
    intro v d a N h bs l hv hk3 hd o hm
    have hb0 := l.2.2
    have v5 : v < 100000 := by
      have : 10 ^ (k + 1 + 1) ≤ 10 ^ 5 := Nat.pow_le_pow_right (by decide) (by omega)
      omega
    refine Vd.inq (D := 13 + (k + 1)) (by omega) (Nat.le_of_ble_eq_true rfl) rfl (fun d hd P K => ?_)
    have last : ∀ (q : AH) (a1 N1 : Nat) (bq : List Int), LX B n q → OutC B q a1 N1 bq → bq.length ≤ 30000 → bq = bs ++ (if 10 ≤ v then digF (k + 1) (v / 10) else []) → Wrs (outW B) a N h q a1 N1 → Ends (ev PP (gsF gv) B d 152 14 [(2, rf (B + 143)), (0, (v : Int))] [] q) P := fun q a1 N1 bq lq oq hq eq_ wq => by
      refine Ends.eq (b152_14 (n := n) (by (repeat' first | assumption | refine LX.setF _ _ ?_ (by decide +kernel) | refine LX.setS ?_ rfl | refine LX.setA ?_ (by first | assumption | omega))) (by first | assumption | omega)) ?_
      rw [show bop32 112 (v : Int) 10 = ((v % 10 : Nat) : Int) from modNN (y := 10) (by decide) (by decide), show bop32 96 (48 : Int) ((v % 10 : Nat) : Int) = 48 + ((v % 10 : Nat) : Int) from add32 (by omega) (by omega)]
      refine Ends.cv lq (by decide +kernel) (c_say150 lq (by omega) oq hq (by omega) (by omega)) (fun q2 l2 _ _ _ ⟨a2, N2, o2, w2⟩ => ?_)
      refine Ends.eq (b152_25 (n := n) (by (repeat' first | assumption | refine LX.setF _ _ ?_ (by decide +kernel) | refine LX.setS ?_ rfl | refine LX.setA ?_ (by first | assumption | omega))) (by first | assumption | omega)) ?_
      refine Ends.sm (K _ ⟨a2, N2, ?_, wq.tr w2 outW_tr⟩)
      rw [dig_s, ← List.append_assoc, ← eq_]
      exact o2
    refine Ends.eq (b152_0 (n := n) (by (repeat' first | assumption | refine LX.setF _ _ ?_ (by decide +kernel) | refine LX.setS ?_ rfl | refine LX.setA ?_ (by first | assumption | omega))) (by first | assumption | omega)) ?_
    by_cases z : v < 10
    · refine Ends.b2 (fun _ => last h a N bs l o (by omega) (by rw [if_neg (by omega), List.append_nil]) Wrs.rf) (fun z => by omega)
    · refine Ends.b2 (fun z => by omega) (fun _ => ?_)
      rw [show bop32 108 (v : Int) 10 = ((v / 10 : Nat) : Int) from divNN (y := 10) (by omega) (by decide)]
      have hv' : v / 10 < 10 ^ (k + 1) := by
        rw [Nat.pow_succ] at hv
        omega
      refine Ends.cv l (by decide +kernel) (ih (v / 10) l hv' (by omega) (by omega) o (by omega)) (fun q1 l1 _ _ _ ⟨a1, N1, o1, w1⟩ => ?_)
      refine last q1 a1 N1 _ l1 o1 ?_ (by rw [if_pos (by omega)]) w1
      rw [List.length_append]
      have := dig_len (k + 1) (v / 10)
      omega
end SAYB
