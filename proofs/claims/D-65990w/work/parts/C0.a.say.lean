/-! L3: texts of solids: what is said, on both sides -/
section SAYC
variable {gv : Nat → Int} {B n d : Nat} {h : AH} {a N : Nat} {bs s : List Int} {c : Int}
theorem up4 {c : Int} (h0 : 0 ≤ c) (h1 : c < 128) : uop 4 c = c := by
  show c.bmod 256 = c
  exact bm256 rfl (by omega) (by omega)
theorem snoc_at {l : List Int} {x : Int} {i : Nat} {c : Int} (e : (l ++ [x])[i]? = some c) : (i < l.length ∧ l[i]? = some c) ∨ (i = l.length ∧ c = x) := by
  by_cases w : i < l.length
  · rw [List.getElem?_append_left w] at e
    exact Or.inl ⟨w, e⟩
  · rw [List.getElem?_append_right (by omega)] at e
    have : i - l.length = 0 := by
      by_cases z : i - l.length = 0
      · exact z
      · obtain ⟨k, hk⟩ : ∃ k, i - l.length = k + 1 := ⟨i - l.length - 1, by omega⟩
        rw [hk] at e
        simp at e
    rw [this] at e
    simp at e
    exact Or.inr ⟨by omega, e.symm⟩
/-- Arrays.copyOf of bytes -/
theorem c_copyOfB (l : LX B n h) (hd : 10 ≤ d) {x m N : Nat} (hx : hk h x = (4, m)) (hxb : x < hnx h) (hm : m < N) (hN : N ≤ 16777216) :
    Vt 2 (cll PP (ev PP (gsF gv) B) d 906 [(2, (rf x)), (0, (N : Int))] h) (fun v h' => v = rf (hnx h) ∧ h' = hcpy (hnew h (4, N) N) x (hnx h) 0 0 m) := by
  refine Vt.into (D := 9) hd (Nat.le_of_ble_eq_true rfl) rfl (fun d hd => ?_)
  refine Ends.eq (b906_0 (n := n) (by (repeat' first | assumption | refine LX.setF _ _ ?_ (by decide +kernel) | refine LX.setS ?_ rfl | refine LX.setA ?_ (by first | assumption | omega))) (by first | assumption | omega)) ?_
  rw [ad_rf, hx]
  refine Ends.g ⟨rf_pos _, Nat.le_add_left 2 2⟩ (Ends.b1 (fun _ => Ends.g ⟨by omega, by omega⟩ ?_) (fun z => absurd z (by show ¬ (N : Int) = (m : Int); omega)))
  have l1 : LX B n (hnew h (2 + 2, Int.toNat (N : Int)) (Int.toNat (N : Int))) := l.new
  refine Ends.eq (b906_17 (n := n) l1 (by omega)) ?_
  rw [ad_rf, ad_rf, hk_new, hk_new, if_pos rfl]
  have e : ¬ x = hnx h := by omega
  rw [if_neg e, hx]
  have e2 : v892 ((((4, m) : Nat × Nat).2 : Nat) : Int) (N : Int) = (m : Int) := min32 (by show (m : Int) ≤ N; omega)
  rw [e2]
  refine Ends.g ⟨rf_pos _, Nat.le_add_left 2 2⟩ (Ends.g ⟨rf_pos _, rf_pos _, rfl, rfl, by omega, by omega, by omega, by show 0 + (m : Int) ≤ (m : Nat); omega, by show 0 + (m : Int) ≤ ((Int.toNat (N : Int) : Nat) : Int); omega, by have := l.2.2; omega⟩ ?_)
  refine Ends.eq (b906_31 (n := n) (l1.cpy (t := 2) (by rw [hk_new, if_pos rfl])) (by omega)) ?_
  exact Ends.sm ⟨_, _, rfl, rfl, rfl⟩
/-- what the desk has said so far -/
def OutC (B : Nat) (h : AH) (a N : Nat) (bs : List Int) : Prop := hv h (B + 143) 6 = rf a ∧ hk h a = (4, N) ∧ (B + 144 ≤ a ∧ (a ≤ B + 145 ∨ B + 246 ≤ a)) ∧ a < hnx h ∧ hv h (B + 143) 7 = (bs.length : Int) ∧ bs.length ≤ N ∧ 1024 ≤ N ∧ N ≤ 65536 ∧ ∀ i c, bs[i]? = some c → hv h a i = c
def outW (B a : Nat) : Nat → Nat → Prop := fun c k => (c = B + 143 ∧ (k = 6 ∨ k = 7)) ∨ c = a
/-- from saying to saying -/
def Wrs (W : Nat → Nat → Nat → Prop) (a N : Nat) (h h' : AH) (a' N' : Nat) : Prop := N ≤ N' ∧ (a' = a ∨ hnx h ≤ a') ∧ Ext (W a) (N' - N) (2 * N' - 2 * N) h h'
theorem Wrs.rf {W : Nat → Nat → Nat → Prop} : Wrs W a N h h a N := ⟨Nat.le_refl _, Or.inl rfl, Ext.rf⟩
theorem Wrs.tr {W : Nat → Nat → Nat → Prop} {h1 h2 : AH} {a1 N1 a2 N2 : Nat} (x : Wrs W a N h h1 a1 N1) (y : Wrs W a1 N1 h1 h2 a2 N2) (hW : ∀ c k, c < hnx h → W a1 c k → (a1 = a ∨ hnx h ≤ a1) → W a c k) : Wrs W a N h h2 a2 N2 := by
  obtain ⟨x1, x2, x3⟩ := x
  obtain ⟨y1, y2, y3⟩ := y
  have nx := x3.2.2.1
  exact ⟨by omega, by omega, (x3.tr y3 (fun c k hc w => hW c k hc w x2)).sub (fun c k _ w => w) (by omega) (by omega)⟩
theorem outW_tr {a1 : Nat} : ∀ c k, c < hnx h → outW B a1 c k → (a1 = a ∨ hnx h ≤ a1) → outW B a c k := fun c k hc w e => by unfold outW at *; omega
theorem c_say150 (l : LX B n h) (hd : 12 ≤ d) (o : OutC B h a N bs) (hm : bs.length ≤ 30000) (c0 : 0 ≤ c) (c1 : c < 128) :
    Vd (cll PP (ev PP (gsF gv) B) d 150 [(2, rf (B + 143)), (0, c)] h) (fun h' => ∃ a' N', OutC B h' a' N' (bs ++ [c]) ∧ Wrs (outW B) a N h h' a' N') := by
  have hb0 := l.2.2
  obtain ⟨o1, o2, o3, o4, o5, o6, o7, o8, o9⟩ := o
  refine Vd.inq (D := 11) hd (Nat.le_of_ble_eq_true rfl) rfl (fun d hd P K => ?_)
  have fin : ∀ (q : AH) (a' N' : Nat), LX B n q → hv q (B + 143) 6 = rf a' → hk q a' = (4, N') → (B + 144 ≤ a' ∧ (a' ≤ B + 145 ∨ B + 246 ≤ a')) → a' < hnx q → hv q (B + 143) 7 = (bs.length : Int) → bs.length < N' → 1024 ≤ N' → N' ≤ 65536 → (∀ i c, bs[i]? = some c → hv q a' i = c) → Wrs (outW B) a N h q a' N' → Ends (ev PP (gsF gv) B d 150 29 [(2, rf (B + 143)), (0, c)] [] q) P := fun q a' N' lq h1 h2 h3 h4 h5 h6 h7 h8 h9 ⟨w1, w2, w3⟩ => by
    refine Ends.eq (b150_29 (n := n) (by (repeat' first | assumption | refine LX.setF _ _ ?_ (by decide +kernel) | refine LX.setS ?_ rfl | refine LX.setA ?_ (by first | assumption | omega))) (by first | assumption | omega)) ?_
    rw [h1, h5, ad_rf, h2, tn, up4 c0 c1, an2 ⟨by omega, c1⟩, show bop32 96 (bs.length : Int) 1 = ((bs.length + 1 : Nat) : Int) from addNN (y := 1) (by omega)]
    refine Ends.g ⟨rf_pos _, rfl, by omega, by show ((bs.length : Nat) : Int) < ((N' : Nat) : Int); omega, by omega⟩ (Ends.sm (K _ ⟨a', N', ⟨?_, h2, h3, h4, ?_, ?_, h7, h8, fun i e hi => ?_⟩, w1, w2, ?_⟩))
    · rw [hv_set_ne (by omega), hv_na (by omega)]; exact h1
    · rw [hv_set_at, List.length_append]; rfl
    · rw [List.length_append]; show bs.length + 1 ≤ N'; omega
    · rw [hv_na (by omega)]
      rcases snoc_at hi with ⟨z1, z2⟩ | ⟨z1, z2⟩
      · rw [hv_set_ne (by omega)]; exact h9 i e z2
      · rw [z1, z2]; exact hv_set_at ..
    · exact (w3.set (fun w => Or.inr (by omega))).set (fun _ => Or.inl ⟨rfl, Or.inr rfl⟩)
  refine Ends.eq (b150_0 (n := n) (by (repeat' first | assumption | refine LX.setF _ _ ?_ (by decide +kernel) | refine LX.setS ?_ rfl | refine LX.setA ?_ (by first | assumption | omega))) (by first | assumption | omega)) ?_
  rw [o1, o5, ad_rf, o2]
  refine Ends.g ⟨rf_pos _, by show 2 ≤ 4; decide⟩ ?_
  by_cases full : bs.length = N
  rotate_left
  · exact Ends.b1 (fun _ => fin h a N l o1 o2 o3 o4 o5 (by omega) o7 o8 o9 Wrs.rf) (fun w => absurd w (by show ¬ ((bs.length : Nat) : Int) = ((N : Nat) : Int); omega))
  refine Ends.b1 (fun w => absurd (show ((bs.length : Nat) : Int) = ((N : Nat) : Int) by omega) w) (fun _ => ?_)
  rw [show bop32 104 (2 : Int) (bs.length : Int) = ((2 * N : Nat) : Int) from by rw [full]; exact mulNN (x := 2) (by omega)]
  refine Ends.ct l (by decide +kernel) (by decide) (c_copyOfB l (by omega) o2 o4 (show N < 2 * N by omega) (by omega)) (fun v h1 l1 _ _ _ ⟨ev_, eh⟩ => ?_)
  have E1 : Ext (outW B a) 1 (2 * N) h h1 := by
    rw [eh]
    exact (Ext.new.cpy (fun w => absurd w (by omega)))
  have n1 : hnx h1 = hnx h + 1 := by rw [eh]; rfl
  have k1 : hk h1 (hnx h) = (4, 2 * N) := by
    rw [eh]
    show hk (hnew h (4, 2 * N) (2 * N)) (hnx h) = _
    rw [hk_new, if_pos rfl]
  have v1 : ∀ i, i < N → hv h1 (hnx h) i = hv h a i := fun i hi => by
    rw [eh, hv_cpy, if_pos ⟨rfl, by omega, by omega⟩, hv_new, if_neg (by omega), show 0 + (i - 0) = i by omega]
  rw [ev_]
  refine Ends.eq (b150_26 (n := n) (by (repeat' first | assumption | refine LX.setF _ _ ?_ (by decide +kernel) | refine LX.setS ?_ rfl | refine LX.setA ?_ (by first | assumption | omega))) (by first | assumption | omega)) ?_
  have l2 : LX B n (hset h1 (B + 143) 6 (rf (hnx h))) := LX.setF 143 6 l1 (by decide +kernel)
  refine fin _ (hnx h) (2 * N) l2 (hv_set_at ..) k1 ⟨by omega, Or.inr (by omega)⟩ (by show hnx h < hnx h1; omega) ?_ (by omega) (by omega) (by omega) (fun i e hi => ?_) ⟨by omega, Or.inr (Nat.le_refl _), ?_⟩
  · rw [hv_set_ne (by omega), eh, hv_cpy, if_neg (by omega), hv_new, if_neg (by omega)]; exact o5
  · have := (List.getElem?_eq_some_iff.mp hi).1
    rw [hv_na (by omega), v1 i (by omega)]; exact o9 i e hi
  · exact (E1.set (fun _ => Or.inl ⟨rfl, Or.inl rfl⟩)).sub (fun c k _ w => w) (by omega) (by omega)
end SAYC
