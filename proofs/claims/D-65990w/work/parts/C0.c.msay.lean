/-! L3: what the model says -/
section SAYM
variable {gv : Nat → Int} {B n d : Nat} {h : AH} {a N : Nat} {bs s : List Int} {c : Int}
/-- what the model has said so far -/
def OutM (B : Nat) (h : AH) (a N : Nat) (bs : List Int) : Prop := hv h (B + 149) 164 = rf a ∧ hk h a = (2, N) ∧ (a = B + 232 ∨ B + 246 ≤ a) ∧ a < hnx h ∧ hv h (B + 149) 165 = (bs.length : Int) ∧ bs.length ≤ N ∧ 64 ≤ N ∧ N ≤ 65536 ∧ ∀ i c, bs[i]? = some c → hv h a i = c
def outV (B a : Nat) : Nat → Nat → Prop := fun c k => (c = B + 149 ∧ (k = 164 ∨ k = 165)) ∨ c = a
theorem outV_tr {a1 : Nat} : ∀ c k, c < hnx h → outV B a1 c k → (a1 = a ∨ hnx h ≤ a1) → outV B a c k := fun c k hc w e => by unfold outV at *; omega
theorem c_say808 (l : LX B n h) (hd : 12 ≤ d) (o : OutM B h a N bs) (hm : bs.length ≤ 30000) (c0 : 0 ≤ c) (c1 : c < 128) :
    Vd (cll PP (ev PP (gsF gv) B) d 808 [(2, rf (B + 149)), (0, c)] h) (fun h' => ∃ a' N', OutM B h' a' N' (bs ++ [c]) ∧ Wrs (outV B) a N h h' a' N') := by
  have hb0 := l.2.2
  obtain ⟨o1, o2, o3, o4, o5, o6, o7, o8, o9⟩ := o
  refine Vd.inq (D := 11) hd (Nat.le_of_ble_eq_true rfl) rfl (fun d hd P K => ?_)
  have fin : ∀ (q : AH) (a' N' : Nat) (u2 u3 : AV), LX B n q → hv q (B + 149) 164 = rf a' → hk q a' = (2, N') → (a' = B + 232 ∨ B + 246 ≤ a') → a' < hnx q → hv q (B + 149) 165 = (bs.length : Int) → bs.length < N' → 64 ≤ N' → N' ≤ 65536 → (∀ i c, bs[i]? = some c → hv q a' i = c) → Wrs (outV B) a N h q a' N' → Ends (ev PP (gsF gv) B d 808 51 [(2, rf (B + 149)), (0, c), u2, u3] [] q) P := fun q a' N' u2 u3 lq h1 h2 h3 h4 h5 h6 h7 h8 h9 ⟨w1, w2, w3⟩ => by
    refine Ends.eq (b808_51 (n := n) (by (repeat' first | assumption | refine LX.setF _ _ ?_ (by decide +kernel) | refine LX.setS ?_ rfl | refine LX.setA ?_ (by first | assumption | omega))) (by first | assumption | omega)) ?_
    rw [h1, h5, ad_rf, h2, tn, an0, show bop32 96 (bs.length : Int) 1 = ((bs.length + 1 : Nat) : Int) from addNN (y := 1) (by omega)]
    refine Ends.g ⟨rf_pos _, rfl, by omega, by show ((bs.length : Nat) : Int) < ((N' : Nat) : Int); omega, by omega⟩ (Ends.sm (K _ ⟨a', N', ⟨?_, h2, h3, h4, ?_, ?_, h7, h8, fun i e hi => ?_⟩, w1, w2, ?_⟩))
    · rw [hv_set_ne (by omega), hv_na (by omega)]; exact h1
    · rw [hv_set_at, List.length_append]; rfl
    · rw [List.length_append]; show bs.length + 1 ≤ N'; omega
    · rw [hv_na (by omega)]
      rcases snoc_at hi with ⟨z1, z2⟩ | ⟨z1, z2⟩
      · rw [hv_set_ne (by omega)]; exact h9 i e z2
      · rw [z1, z2]; exact hv_set_at ..
    · exact (w3.set (fun w => Or.inr (by omega))).set (fun _ => Or.inl ⟨rfl, Or.inr rfl⟩)
  refine Ends.eq (b808_0 (n := n) (by (repeat' first | assumption | refine LX.setF _ _ ?_ (by decide +kernel) | refine LX.setS ?_ rfl | refine LX.setA ?_ (by first | assumption | omega))) (by first | assumption | omega)) ?_
  rw [o1, o5, ad_rf, o2]
  refine Ends.g ⟨rf_pos _, by show 2 ≤ 2; decide⟩ ?_
  by_cases full : bs.length = N
  rotate_left
  · exact Ends.b1 (fun _ => fin h a N _ _ l o1 o2 o3 o4 o5 (by omega) o7 o8 o9 Wrs.rf) (fun w => absurd w (by show ¬ ((bs.length : Nat) : Int) = ((N : Nat) : Int); omega))
  refine Ends.b1 (fun w => absurd (show ((bs.length : Nat) : Int) = ((N : Nat) : Int) by omega) w) (fun _ => ?_)
  rw [show bop32 104 (2 : Int) (bs.length : Int) = ((2 * N : Nat) : Int) from by rw [full]; exact mulNN (x := 2) (by omega), tn]
  refine Ends.g ⟨by omega, by omega⟩ ?_
  have l1 : LX B n (hnew h (0 + 2, 2 * N) (2 * N)) := l.new
  have E1 : Ext (outV B a) 1 (2 * N) h (hnew h (0 + 2, 2 * N) (2 * N)) := Ext.new
  have nn : hnx (hnew h (0 + 2, 2 * N) (2 * N)) = hnx h + 1 := rfl
  have kn : hk (hnew h (0 + 2, 2 * N) (2 * N)) (hnx h) = (2, 2 * N) := by rw [hk_new, if_pos rfl]
  have ka : hk (hnew h (0 + 2, 2 * N) (2 * N)) a = (2, N) := by rw [hk_new, if_neg (by omega)]; exact o2
  refine Ends.eq (b808_20 (n := n) (by (repeat' first | assumption | refine LX.setF _ _ ?_ (by decide +kernel) | refine LX.setS ?_ rfl | refine LX.setA ?_ (by first | assumption | omega))) (by first | assumption | omega)) ?_
  have cp : ∀ (m i : Nat) (q : AH), i + m = N → LX B n q → Agr (fun c _ => c = hnx h) (hnew h (0 + 2, 2 * N) (2 * N)) q → (∀ k, k < i → hv q (hnx h) k = hv h a k) → Ends (ev PP (gsF gv) B d 808 23 [(2, rf (B + 149)), (0, c), (2, rf (hnx h)), (0, (i : Int))] [] q) P := by
    intro m
    induction m with
    | zero =>
      intro i q hi lq gq lo
      have hiN : i = N := by omega
      have q5 : hv q (B + 149) 165 = (bs.length : Int) := by rw [gq.at _ _ (by omega), hv_new, if_neg (by omega)]; exact o5
      refine Ends.eq (b808_23 (n := n) (by (repeat' first | assumption | refine LX.setF _ _ ?_ (by decide +kernel) | refine LX.setS ?_ rfl | refine LX.setA ?_ (by first | assumption | omega))) (by first | assumption | omega)) ?_
      rw [q5]
      refine Ends.b3 (fun _ => ?_) (fun z => by omega)
      have l2 : LX B n (hset q (B + 149) 164 (rf (hnx h))) := LX.setF 149 164 lq (by decide +kernel)
      refine fin _ (hnx h) (2 * N) _ _ l2 (hv_set_at ..) ?_ (Or.inr (by omega)) ?_ ?_ (by omega) (by omega) (by omega) (fun i' e hi' => ?_) ⟨by omega, Or.inr (Nat.le_refl _), ?_⟩
      · show hk q (hnx h) = _
        rw [gq.hk]; exact kn
      · show hnx h < hnx q
        rw [gq.nx, nn]; omega
      · rw [hv_set_ne (by omega)]; exact q5
      · have := (List.getElem?_eq_some_iff.mp hi').1
        rw [hv_na (by omega), lo i' (by omega)]; exact o9 i' e hi'
      · have E2 := (E1.tr (c' := 0) (s' := 0) gq.ext (fun c k hc w => absurd w (by omega))).set (a := B + 149) (k := 164) (v := rf (hnx h)) (fun _ => Or.inl ⟨rfl, Or.inl rfl⟩)
        exact E2.sub (fun c k _ w => w) (by omega) (by omega)
    | succ m ih =>
      intro i q hi lq gq lo
      have q4 : hv q (B + 149) 164 = rf a := by rw [gq.at _ _ (by omega), hv_new, if_neg (by omega)]; exact o1
      have q5 : hv q (B + 149) 165 = (bs.length : Int) := by rw [gq.at _ _ (by omega), hv_new, if_neg (by omega)]; exact o5
      refine Ends.eq (b808_23 (n := n) (by (repeat' first | assumption | refine LX.setF _ _ ?_ (by decide +kernel) | refine LX.setS ?_ rfl | refine LX.setA ?_ (by first | assumption | omega))) (by first | assumption | omega)) ?_
      rw [q4, q5, ad_rf, ad_rf, show hk q a = (2, N) from by rw [gq.hk]; exact ka, show hk q (hnx h) = (2, 2 * N) from by rw [gq.hk]; exact kn, tn, an0, w_succ (by omega), gq.at a _ (by omega), hv_new, if_neg (by omega)]
      refine Ends.b3 (fun z => by omega) (fun _ => Ends.g ⟨rf_pos _, rfl, by omega, by show (i : Int) < ((N : Nat) : Int); omega⟩ (Ends.g ⟨rf_pos _, rfl, by omega, by show (i : Int) < ((2 * N : Nat) : Int); omega, by omega⟩ ?_))
      refine ih (i + 1) _ (by omega) (lxA lq (by rw [gq.hk]; exact kn)) (gq.set rfl) (fun k hk => ?_)
      by_cases w : k = i
      · rw [w]; exact hv_set_at ..
      · rw [hv_set_ne (by omega)]; exact lo k (by omega)
  exact cp N 0 _ (by omega) l1 Agr.rf (fun k hk => absurd hk (by omega))
end SAYM
