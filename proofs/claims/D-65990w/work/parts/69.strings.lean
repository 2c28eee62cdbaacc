/-! L3: String.length, charAt, indexOf, of the program's texts -/
/-- x is a text of small signs -/
def StrA (gv : Nat → Int) (h : AH) (x : Int) (s : List Int) : Prop := 0 < x ∧ hk h (ad x) = (1, 29) ∧ 0 < hv h (ad x) 0 ∧ hk h (ad (hv h (ad x) 0)) = (4, s.length) ∧ (∀ i c, s[i]? = some c → hv h (ad (hv h (ad x) 0)) i = c ∧ 0 ≤ c ∧ c < 128) ∧ hv h (ad x) 1 = 0 ∧ gv 68 = 1 ∧ s.length < 1000
section STR
variable {gv : Nat → Int} {B n d : Nat} {h : AH} {x : Int} {s : List Int}
theorem StrA.ext {W : Nat → Nat → Prop} {cc ss : Nat} {t : AH} (S : StrA gv h x s) (hb : B ≤ hnx h) (h1 : ad x < B) (h2 : ad (hv h (ad x) 0) < B) (g : Ext W cc ss h t) (hW : ∀ a k, a < B → ¬ W a k) : StrA gv t x s := by
  obtain ⟨a1, a2, a3, a4, a5, a6, a7, a8⟩ := S
  have e0 := g.at (a := ad x) 0 (by omega) (hW _ _ h1)
  refine ⟨a1, by rw [g.hk (by omega)]; exact a2, by rw [e0]; exact a3, by rw [e0, g.hk (by omega)]; exact a4, fun i c hc => ?_, by rw [g.at _ (by omega) (hW _ _ h1)]; exact a6, a7, a8⟩
  rw [e0, g.at _ (by omega) (hW _ _ h2)]; exact a5 i c hc
theorem StrA.cs (S : StrA gv h x s) : tst 0 (gv 68) 0 = false := by rw [S.2.2.2.2.2.2.1]; rfl
theorem StrA.q897 (S : StrA gv h x s) : q897 gv h x := by
  unfold Jvm.Pilot.CPartDesignerLaw_law_r7324_a227e6.q897
  rw [S.cs, cond_false, cond_false, S.2.2.2.2.2.1]
  exact ⟨⟨S.1, S.2.1⟩, rfl⟩
theorem StrA.q900 (S : StrA gv h x s) : q900 gv h x := by
  unfold Jvm.Pilot.CPartDesignerLaw_law_r7324_a227e6.q900
  rw [S.cs]; exact ⟨S.1, S.2.1⟩
theorem StrA.v900 (S : StrA gv h x s) : v900 gv h x = 1 := by
  unfold Jvm.Pilot.CPartDesignerLaw_law_r7324_a227e6.v900
  rw [S.cs, S.2.2.2.2.2.1]; rfl
theorem StrA.q901 (S : StrA gv h x s) : q901 gv h x := ⟨⟨S.1, S.2.1⟩, ⟨S.2.2.1, by rw [S.2.2.2.1]; exact Nat.le_add_left 2 2⟩, S.q897⟩
theorem StrA.v901 (S : StrA gv h x s) : v901 gv h x = (s.length : Int) := by
  unfold Jvm.Pilot.CPartDesignerLaw_law_r7324_a227e6.v901 v897
  rw [S.cs, cond_false, S.2.2.2.2.2.1, S.2.2.2.1]
  have := S.2.2.2.2.2.2.2
  show bop32 122 (s.length : Int) ((0 : Nat) : Int) = _
  rw [shrN (by omega) (by decide)]; simp
theorem c_check (l : LX B n h) (hd : 10 ≤ d) {i m : Nat} (hi : i < m) : Vt 0 (cll PP (ev PP (gsF gv) B) d 909 [(0, (i : Int)), (0, (m : Int)), (2, (gv 67))] h) (fun v h' => h' = h) := by
  refine Vt.into (D := 9) hd (Nat.le_of_ble_eq_true rfl) rfl (fun d hd => ?_)
  refine Ends.eq (b909_0 (n := n) (by (repeat' first | assumption | refine LX.setF _ _ ?_ (by decide +kernel) | refine LX.setS ?_ rfl | refine LX.setA ?_ (by first | assumption | omega))) (by first | assumption | omega)) ?_
  exact Ends.b2 (fun _ => by omega) (fun _ => Ends.b2 (fun _ => Ends.sm ⟨_, _, rfl, rfl⟩) (fun _ => by omega))
theorem c_checkIndex (l : LX B n h) (hd : 11 ≤ d) {i m : Nat} (hi : i < m) : Vd (cll PP (ev PP (gsF gv) B) d 896 [(0, (i : Int)), (0, (m : Int))] h) (fun h' => h' = h) := by
  refine Vd.into (D := 10) hd (Nat.le_of_ble_eq_true rfl) rfl (fun d hd => ?_)
  refine Ends.eq (b896_0 (n := n) (by (repeat' first | assumption | refine LX.setF _ _ ?_ (by decide +kernel) | refine LX.setS ?_ rfl | refine LX.setA ?_ (by first | assumption | omega))) (by first | assumption | omega)) ?_
  refine Ends.ct l (by decide +kernel) (by decide) (c_check l (by omega) hi) (fun v h1 l1 _ _ _ e => ?_)
  subst e
  refine Ends.eq (b896_8 (n := n) (by (repeat' first | assumption | refine LX.setF _ _ ?_ (by decide +kernel) | refine LX.setS ?_ rfl | refine LX.setA ?_ (by first | assumption | omega))) (by first | assumption | omega)) ?_
  exact Ends.sm ⟨_, rfl, rfl⟩
theorem c_charAt (l : LX B n h) (hd : 13 ≤ d) (S : StrA gv h x s) {i : Nat} {c : Int} (hi : s[i]? = some c) : Vt 0 (cll PP (ev PP (gsF gv) B) d 894 [(2, x), (0, (i : Int))] h) (fun v h' => v = c ∧ h' = h) := by
  obtain ⟨e1, e2, e3⟩ := S.2.2.2.2.1 i c hi
  have hl : i < s.length := (List.getElem?_eq_some_iff.mp hi).1
  have hs := S.2.2.2.2.2.2.2
  refine Vt.into (D := 12) hd (Nat.le_of_ble_eq_true rfl) rfl (fun d hd => ?_)
  refine Ends.eq (b894_0 (n := n) (by (repeat' first | assumption | refine LX.setF _ _ ?_ (by decide +kernel) | refine LX.setS ?_ rfl | refine LX.setA ?_ (by first | assumption | omega))) (by first | assumption | omega)) ?_
  rw [S.v900]
  refine Ends.g ⟨⟨S.1, S.2.1⟩, S.q900⟩ (Ends.b0 (fun z => absurd z (by decide)) (fun _ => Ends.g ⟨S.1, S.2.1⟩ ?_))
  have inner : Vt 0 (cll PP (ev PP (gsF gv) B) d 903 [(2, hv h (ad x) 0), (0, (i : Int))] h) (fun v h' => v = c ∧ h' = h) := by
    refine Vt.into (D := 11) hd (Nat.le_of_ble_eq_true rfl) rfl (fun d hd => ?_)
    refine Ends.eq (b903_0 (n := n) (by (repeat' first | assumption | refine LX.setF _ _ ?_ (by decide +kernel) | refine LX.setS ?_ rfl | refine LX.setA ?_ (by first | assumption | omega))) (by first | assumption | omega)) ?_
    rw [S.2.2.2.1]
    refine Ends.g ⟨S.2.2.1, Nat.le_add_left 2 2⟩ ?_
    refine Ends.cv l (by decide +kernel) (c_checkIndex l (by omega) hl) (fun h1 l1 _ _ _ e => ?_)
    subst e
    refine Ends.eq (b903_6 (n := n) (by (repeat' first | assumption | refine LX.setF _ _ ?_ (by decide +kernel) | refine LX.setS ?_ rfl | refine LX.setA ?_ (by first | assumption | omega))) (by first | assumption | omega)) ?_
    rw [S.2.2.2.1, tn, e1, and255]
    have e4 : uop 5 (c % 256) = c := by show (c % 256).emod 65536 = c; rw [show (c % 256).emod 65536 = (c % 256) % 65536 from rfl]; omega
    have e5 : uop 5 c = c := by show c.emod 65536 = c; rw [show c.emod 65536 = c % 65536 from rfl]; omega
    rw [e4, e5]
    exact Ends.g ⟨S.2.2.1, rfl, by omega, by show (i : Int) < ((s.length : Nat) : Int); omega⟩ (Ends.g rfl (Ends.sm ⟨_, _, rfl, rfl, rfl⟩))
  refine Ends.ct l (by decide +kernel) (by decide) inner (fun v h1 l1 _ _ _ ⟨ev, eh⟩ => ?_)
  subst ev eh
  refine Ends.eq (b894_15 (n := n) (by (repeat' first | assumption | refine LX.setF _ _ ?_ (by decide +kernel) | refine LX.setS ?_ rfl | refine LX.setA ?_ (by first | assumption | omega))) (by first | assumption | omega)) ?_
  have e5 : uop 5 v = v := by show v.emod 65536 = v; rw [show v.emod 65536 = v % 65536 from rfl]; omega
  rw [e5]
  exact Ends.g rfl (Ends.sm ⟨_, _, rfl, rfl, rfl⟩)
theorem c_indexOf (l : LX B n h) (hd : 14 ≤ d) (S : StrA gv h x s) {c : Int} (hc0 : 0 ≤ c) (hc : c < 256) : Vt 0 (cll PP (ev PP (gsF gv) B) d 898 [(2, x), (0, c)] h) (fun v h' => h' = h ∧ ((c ∈ s → 0 ≤ v) ∧ (¬ c ∈ s → v = -1))) := by
  have hs := S.2.2.2.2.2.2.2
  refine Vt.into (D := 13) hd (Nat.le_of_ble_eq_true rfl) rfl (fun d hd => ?_)
  refine Ends.eq (b898_0 (n := n) (by (repeat' first | assumption | refine LX.setF _ _ ?_ (by decide +kernel) | refine LX.setS ?_ rfl | refine LX.setA ?_ (by first | assumption | omega))) (by first | assumption | omega)) ?_
  refine Ends.g ⟨S.1, S.2.1⟩ ?_
  have i905 : ∀ d, 10 ≤ d → Vt 0 (cll PP (ev PP (gsF gv) B) d 905 [(2, hv h (ad x) 0), (0, c), (0, 0), (0, (s.length : Int))] h) (fun v h' => h' = h ∧ ((c ∈ s → 0 ≤ v) ∧ (¬ c ∈ s → v = -1))) := by
    intro d hd
    refine Vt.into (D := 9) hd (Nat.le_of_ble_eq_true rfl) rfl (fun d hd => ?_)
    refine Ends.eq (b905_0 (n := n) (by (repeat' first | assumption | refine LX.setF _ _ ?_ (by decide +kernel) | refine LX.setS ?_ rfl | refine LX.setA ?_ (by first | assumption | omega))) (by first | assumption | omega)) ?_
    refine lp (s.length) (fun i L q => L = [(2, hv h (ad x) 0), (0, c), (0, 0), (0, (s.length : Int)), (0, uop 4 c), (0, (i : Int))] ∧ q = h ∧ i ≤ s.length ∧ ∀ j e, j < i → s[j]? = some e → e ≠ c) ?_ ?_ 0 ⟨rfl, rfl, Nat.zero_le _, fun j e hj => absurd hj (by omega)⟩
    · rintro i _ q hi ⟨rfl, rfl, -, w⟩ ih
      obtain ⟨e, he⟩ : ∃ e, s[i]? = some e := ⟨s[i], List.getElem?_eq_getElem hi⟩
      obtain ⟨e1, e2, e3⟩ := S.2.2.2.2.1 i e he
      refine Ends.eq (b905_7 (n := n) (by (repeat' first | assumption | refine LX.setF _ _ ?_ (by decide +kernel) | refine LX.setS ?_ rfl | refine LX.setA ?_ (by first | assumption | omega))) (by first | assumption | omega)) ?_
      rw [S.2.2.2.1, tn, e1]
      refine Ends.b3 (fun _ => by omega) (fun _ => Ends.g ⟨S.2.2.1, rfl, by omega, by show (i : Int) < ((s.length : Nat) : Int); omega⟩ (Ends.b1 (fun ne => ?_) (fun eq => ?_)))
      · rw [w_succ (by omega)]
        refine ih _ _ ⟨rfl, rfl, hi, fun j e' hj hje => ?_⟩
        by_cases ej : j = i
        · intro h2
          rw [ej, he] at hje
          have : e = e' := Option.some.inj hje
          refine ne ?_
          rw [this, h2]
          exact (bm256 rfl (by omega) (by omega)).symm
        · exact w j e' (by omega) hje
      · refine Ends.sm ⟨_, _, rfl, rfl, fun _ => by omega, fun hn => absurd ?_ hn⟩
        have e6 : c = e := by
          have eq : e = c.bmod 256 := eq
          rw [Int.bmod_def] at eq
          split at eq <;> omega
        rw [e6]; exact List.mem_of_getElem? he
    · rintro i _ q hi ⟨rfl, rfl, hi2, w⟩
      obtain rfl : i = s.length := by omega
      refine Ends.eq (b905_7 (n := n) (by (repeat' first | assumption | refine LX.setF _ _ ?_ (by decide +kernel) | refine LX.setS ?_ rfl | refine LX.setA ?_ (by first | assumption | omega))) (by first | assumption | omega)) ?_
      refine Ends.b3 (fun _ => Ends.sm ⟨_, _, rfl, rfl, fun hm => ?_, fun _ => rfl⟩) (fun _ => by omega)
      exfalso
      obtain ⟨j, hj⟩ := List.mem_iff_getElem?.mp hm
      exact w j c (List.getElem?_eq_some_iff.mp hj).1 hj rfl
  have i904 : ∀ d, 11 ≤ d → Vt 0 (cll PP (ev PP (gsF gv) B) d 904 [(2, hv h (ad x) 0), (0, c), (0, 0), (0, (s.length : Int))] h) (fun v h' => h' = h ∧ ((c ∈ s → 0 ≤ v) ∧ (¬ c ∈ s → v = -1))) := by
    intro d hd
    refine Vt.into (D := 10) hd (Nat.le_of_ble_eq_true rfl) rfl (fun d hd => ?_)
    refine Ends.eq (b904_0 (n := n) (by (repeat' first | assumption | refine LX.setF _ _ ?_ (by decide +kernel) | refine LX.setS ?_ rfl | refine LX.setA ?_ (by first | assumption | omega))) (by first | assumption | omega)) ?_
    have e1 : v902 c = 1 := by
      unfold v902
      rw [tst2, tst4, decide_eq_false (by omega), decide_eq_false (by omega)]; rfl
    have e2 : v891 0 0 = 0 := rfl
    rw [e1, e2, S.2.2.2.1, min32 (by show (s.length : Int) ≤ ((s.length : Nat) : Int); omega)]
    refine Ends.b1 (fun _ => Ends.g ⟨S.2.2.1, Nat.le_add_left 2 2⟩ (Ends.b2 (fun _ => ?_) (fun z => ?_))) (fun z => absurd z (by decide))
    · refine Ends.ct l (by decide +kernel) (by decide) (i905 d (by omega)) (fun v h1 l1 _ _ _ ⟨eh, ev⟩ => ?_)
      subst eh
      refine Ends.eq (b904_36 (n := n) (by (repeat' first | assumption | refine LX.setF _ _ ?_ (by decide +kernel) | refine LX.setS ?_ rfl | refine LX.setA ?_ (by first | assumption | omega))) (by first | assumption | omega)) ?_
      exact Ends.sm ⟨_, _, rfl, rfl, ev⟩
    · refine Ends.sm ⟨_, _, rfl, rfl, fun hm => ?_, fun _ => rfl⟩
      have : s = [] := List.eq_nil_of_length_eq_zero (by omega)
      rw [this] at hm; cases hm
  have i899 : Vt 0 (cll PP (ev PP (gsF gv) B) d 899 [(2, x), (0, c), (0, 0)] h) (fun v h' => h' = h ∧ ((c ∈ s → 0 ≤ v) ∧ (¬ c ∈ s → v = -1))) := by
    refine Vt.into (D := 12) hd (Nat.le_of_ble_eq_true rfl) rfl (fun d hd => ?_)
    refine Ends.eq (b899_0 (n := n) (by (repeat' first | assumption | refine LX.setF _ _ ?_ (by decide +kernel) | refine LX.setS ?_ rfl | refine LX.setA ?_ (by first | assumption | omega))) (by first | assumption | omega)) ?_
    rw [S.v900, S.v901]
    refine Ends.g ⟨⟨S.1, S.2.1⟩, S.q900⟩ (Ends.b0 (fun z => absurd z (by decide)) (fun _ => Ends.g ⟨S.1, S.2.1⟩ (Ends.g S.q901 ?_)))
    refine Ends.ct l (by decide +kernel) (by decide) (i904 d (by omega)) (fun v h1 l1 _ _ _ ⟨eh, ev⟩ => ?_)
    subst eh
    refine Ends.eq (b899_20 (n := n) (by (repeat' first | assumption | refine LX.setF _ _ ?_ (by decide +kernel) | refine LX.setS ?_ rfl | refine LX.setA ?_ (by first | assumption | omega))) (by first | assumption | omega)) ?_
    exact Ends.sm ⟨_, _, rfl, rfl, ev⟩
  refine Ends.ct l (by decide +kernel) (by decide) i899 (fun v h1 l1 _ _ _ ⟨eh, ev⟩ => ?_)
  subst eh
  refine Ends.eq (b898_6 (n := n) (by (repeat' first | assumption | refine LX.setF _ _ ?_ (by decide +kernel) | refine LX.setS ?_ rfl | refine LX.setA ?_ (by first | assumption | omega))) (by first | assumption | omega)) ?_
  exact Ends.sm ⟨_, _, rfl, rfl, ev⟩
end STR
