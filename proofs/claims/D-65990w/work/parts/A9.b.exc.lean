/-! L3: exceptions of the desk; what is caught -/
/-- a call returns a value, or throws -/
def Vtx (t : Nat) (o : Option Rs) (R : Int → AH → Prop) (E : Int → AH → Prop) : Prop := ∃ r, o = some r ∧ ((∃ x h', r = ((0, (t, x)), h') ∧ R x h') ∨ ∃ x h', r = ((1, (2, x)), h') ∧ E x h')
section VTX
variable {gs : Nat → AV} {B n d j pc nx j' t : Nat} {L rest av : List AV} {h : AH} {Q : Rs → Prop} {R : Int → AH → Prop} {R0 : AH → Prop} {E : Int → AH → Prop}
theorem Vtx.into {L' : List AV} {D : Nat} (hd : D + 1 ≤ d) (hl : (entL av).length ≤ pNl PP j) (hL : ent (pNl PP j) av = L') (k : ∀ d, D ≤ d → Ends (ev PP gs B d j 0 L' [] h) (fun r => (∃ x h', r = ((0, (t, x)), h') ∧ R x h') ∨ ∃ x h', r = ((1, (2, x)), h') ∧ E x h')) : Vtx t (cll PP (ev PP gs B) d j av h) R E := by
  obtain ⟨d', rfl⟩ : ∃ d', d = d' + 1 := ⟨d - 1, by omega⟩
  obtain ⟨r, e, q⟩ := k d' (by omega)
  refine ⟨r, ?_, q⟩
  rw [cll_in hl, hL, e]
/-- a call that may throw; the thrown is met by handlers or goes on -/
theorem Ends.ctx (l : LX B n h) (hm : mkT j' &&& fxM = 0) (ht : ¬ t = 9) (v : Vtx t (cll PP (ev PP gs B) d j' av h) R E) (k : ∀ x h', LX B n h' → hnx h ≤ hnx h' → hus h ≤ hus h' → R x h' → Ends (ev PP gs B d j nx L ((t, x) :: rest) h') Q) (ke : ∀ x h', LX B n h' → hnx h ≤ hnx h' → hus h ≤ hus h' → E x h' → Ends (thr PP j pc L x h' (ev PP gs B d j)) Q) : Ends (aft PP j pc nx L rest (ev PP gs B d j) (cll PP (ev PP gs B) d j' av h)) Q := by
  obtain ⟨r, e, q⟩ := v
  obtain ⟨⟨m1, m2⟩, rl⟩ := rel_call e
  rcases q with ⟨x, h', rfl, hR⟩ | ⟨x, h', rfl, hx⟩
  · rw [aft_ret e ht]
    exact k x h' (l.rel rl hm m1) m1 m2 hR
  · rw [aft_thr e]
    exact ke x h' (l.rel rl hm m1) m1 m2 hx
theorem Ends.cvx (l : LX B n h) (hm : mkT j' &&& fxM = 0) (v : Vx (cll PP (ev PP gs B) d j' av h) R0 E) (k : ∀ h', LX B n h' → hnx h ≤ hnx h' → hus h ≤ hus h' → R0 h' → Ends (ev PP gs B d j nx L rest h') Q) (ke : ∀ x h', LX B n h' → hnx h ≤ hnx h' → hus h ≤ hus h' → E x h' → Ends (thr PP j pc L x h' (ev PP gs B d j)) Q) : Ends (aft PP j pc nx L rest (ev PP gs B d j) (cll PP (ev PP gs B) d j' av h)) Q := by
  obtain ⟨r, e, q⟩ := v
  obtain ⟨⟨m1, m2⟩, rl⟩ := rel_call e
  rcases q with ⟨h', rfl, hR⟩ | ⟨x, h', rfl, hx⟩
  · rw [aft_void e]
    exact k h' (l.rel rl hm m1) m1 m2 hR
  · rw [aft_thr e]
    exact ke x h' (l.rel rl hm m1) m1 m2 hx
/-- it is caught -/
theorem Ends.tc {x : Int} {k : Nat → List AV → List AV → AH → Option Rs} {c q : Nat} (hc : (hk h (ad x)).2 = c) (hp : pHn PP j pc c = some (some q)) (e : Ends (k q L [(2, x)] h) Q) : Ends (thr PP j pc L x h k) Q := by
  unfold thr
  rw [hc, hp]
  exact e
end VTX
section EXC
variable {gv : Nat → Int} {B n d : Nat} {h : AH}
/-- an exception of class c is thrown -/
def ThX (c : Nat) (h : AH) (x : Int) (h' : AH) : Prop := x = rf (hnx h) ∧ h' = hnew h (1, c) 6
theorem ThX.c {c : Nat} {x : Int} {h' : AH} (w : ThX c h x h') : (hk h' (ad x)).2 = c := by
  obtain ⟨rfl, rfl⟩ := w
  rw [ad_rf, hk_new, if_pos rfl]
theorem c_need64 {v : Int} (l : LX B n h) (hd : 10 ≤ d) : Vx (cll PP (ev PP (gsF gv) B) d 64 [(0, v)] h) (fun h' => v ≠ 0 ∧ h' = h) (fun x h' => v = 0 ∧ ThX 27 h x h') := by
  refine Vx.into (D := 9) hd (Nat.le_of_ble_eq_true rfl) rfl (fun d hd => ?_)
  refine Ends.eq (b64_0 (n := n) (by (repeat' first | assumption | refine LX.setF _ _ ?_ (by decide +kernel) | refine LX.setS ?_ rfl | refine LX.setA ?_ (by first | assumption | omega))) (by first | assumption | omega)) ?_
  refine Ends.b1 (fun z => Ends.sm (Or.inl ⟨_, rfl, z, rfl⟩)) (fun z => ?_)
  have l1 : LX B n (hnew h (1, 27) 6) := l.new
  refine Ends.eq (b64_11 (n := n) (by (repeat' first | assumption | refine LX.setF _ _ ?_ (by decide +kernel) | refine LX.setS ?_ rfl | refine LX.setA ?_ (by first | assumption | omega))) (by first | assumption | omega)) ?_
  exact Ends.g ⟨rf_pos _, by rw [ad_rf, hk_new, if_pos rfl]⟩ (Ends.th (c := 27) (by rw [ad_rf, hk_new, if_pos rfl]) rfl (Or.inr ⟨_, _, rfl, z, rfl, rfl⟩))
theorem c_state93 {v : Int} (l : LX B n h) (hd : 10 ≤ d) : Vx (cll PP (ev PP (gsF gv) B) d 93 [(0, v)] h) (fun h' => v ≠ 0 ∧ h' = h) (fun x h' => v = 0 ∧ ThX 28 h x h') := by
  refine Vx.into (D := 9) hd (Nat.le_of_ble_eq_true rfl) rfl (fun d hd => ?_)
  refine Ends.eq (b93_0 (n := n) (by (repeat' first | assumption | refine LX.setF _ _ ?_ (by decide +kernel) | refine LX.setS ?_ rfl | refine LX.setA ?_ (by first | assumption | omega))) (by first | assumption | omega)) ?_
  refine Ends.b1 (fun z => Ends.sm (Or.inl ⟨_, rfl, z, rfl⟩)) (fun z => ?_)
  have l1 : LX B n (hnew h (1, 28) 6) := l.new
  refine Ends.eq (b93_11 (n := n) (by (repeat' first | assumption | refine LX.setF _ _ ?_ (by decide +kernel) | refine LX.setS ?_ rfl | refine LX.setA ?_ (by first | assumption | omega))) (by first | assumption | omega)) ?_
  exact Ends.g ⟨rf_pos _, by rw [ad_rf, hk_new, if_pos rfl]⟩ (Ends.th (c := 28) (by rw [ad_rf, hk_new, if_pos rfl]) rfl (Or.inr ⟨_, _, rfl, z, rfl, rfl⟩))
theorem c_there98 {v : Int} (l : LX B n h) (hd : 10 ≤ d) : Vx (cll PP (ev PP (gsF gv) B) d 98 [(0, v)] h) (fun h' => v ≠ 0 ∧ h' = h) (fun x h' => v = 0 ∧ ThX 31 h x h') := by
  refine Vx.into (D := 9) hd (Nat.le_of_ble_eq_true rfl) rfl (fun d hd => ?_)
  refine Ends.eq (b98_0 (n := n) (by (repeat' first | assumption | refine LX.setF _ _ ?_ (by decide +kernel) | refine LX.setS ?_ rfl | refine LX.setA ?_ (by first | assumption | omega))) (by first | assumption | omega)) ?_
  refine Ends.b1 (fun z => Ends.sm (Or.inl ⟨_, rfl, z, rfl⟩)) (fun z => ?_)
  have l1 : LX B n (hnew h (1, 31) 6) := l.new
  refine Ends.eq (b98_11 (n := n) (by (repeat' first | assumption | refine LX.setF _ _ ?_ (by decide +kernel) | refine LX.setS ?_ rfl | refine LX.setA ?_ (by first | assumption | omega))) (by first | assumption | omega)) ?_
  exact Ends.g ⟨rf_pos _, by rw [ad_rf, hk_new, if_pos rfl]⟩ (Ends.th (c := 31) (by rw [ad_rf, hk_new, if_pos rfl]) rfl (Or.inr ⟨_, _, rfl, z, rfl, rfl⟩))
/-- whether the sign is a word that is kept -/
theorem c_isKept {a m : Nat} {u : Nat → Int} (l : LX B n h) (hd : 17 ≤ d) (S : SgP B h (B + 8) a m u) (T : FnB gv B h) {p : Nat} (R : SgT h (B + 8) u m p) (hp : p ≤ m) (hw : ∀ i, i < m → -128 ≤ hv h a i ∧ hv h a i < 128) :
    Vt 0 (cll PP (ev PP (gsF gv) B) d 203 [(2, rf (B + 7))] h) (fun v h' => h' = h ∧ ((kept u m p ∧ v = 1) ∨ (¬ kept u m p ∧ v = 0))) := by
  have T0 : FnT gv h := ⟨T.1.1, fun i s hs => (T.2.1 i s hs).1, T.2.2.1.1, T.2.2.2.1.1, T.2.2.2.2.1⟩
  refine Vt.into (D := 16) hd (Nat.le_of_ble_eq_true rfl) rfl (fun d hd => ?_)
  have yes : kept u m p → Ends (ev PP (gsF gv) B d 203 43 [(2, rf (B + 7))] [] h) (fun r => ∃ v h', r = ((0, (0, v)), h') ∧ h' = h ∧ ((kept u m p ∧ v = 1) ∨ (¬ kept u m p ∧ v = 0))) := by
    intro y
    refine Ends.eq (b203_43 (n := n) (by (repeat' first | assumption | refine LX.setF _ _ ?_ (by decide +kernel) | refine LX.setS ?_ rfl | refine LX.setA ?_ (by first | assumption | omega))) (by first | assumption | omega)) ?_
    refine Ends.eq (b203_48 (n := n) (by (repeat' first | assumption | refine LX.setF _ _ ?_ (by decide +kernel) | refine LX.setS ?_ rfl | refine LX.setA ?_ (by first | assumption | omega))) (by first | assumption | omega)) ?_
    exact Ends.g (Or.inr rfl) (Ends.sm ⟨_, _, rfl, rfl, Or.inl ⟨y, rfl⟩⟩)
  refine Ends.eq (b203_0 (n := n) (by (repeat' first | assumption | refine LX.setF _ _ ?_ (by decide +kernel) | refine LX.setS ?_ rfl | refine LX.setA ?_ (by first | assumption | omega))) (by first | assumption | omega)) ?_
  refine Ends.ct l (by decide +kernel) (by decide) (c_function l (by omega) S T0 R hp hw) (fun x h1 l1 _ _ _ ⟨ex, e1⟩ => ?_)
  subst e1
  rw [ex]
  refine Ends.eq (b203_4 (n := n) (by (repeat' first | assumption | refine LX.setF _ _ ?_ (by decide +kernel) | refine LX.setS ?_ rfl | refine LX.setA ?_ (by first | assumption | omega))) (by first | assumption | omega)) ?_
  refine Ends.b3 (fun z => yes (Or.inl (by omega))) (fun z => ?_)
  refine Ends.ct l (by decide +kernel) (by decide) (c_isWord l (by omega) S T.2.2.1.1 R hp hw) (fun x h1 l1 _ _ _ ⟨e1, w1⟩ => ?_)
  subst e1
  refine Ends.eq (b203_16 (n := n) (by (repeat' first | assumption | refine LX.setF _ _ ?_ (by decide +kernel) | refine LX.setS ?_ rfl | refine LX.setA ?_ (by first | assumption | omega))) (by first | assumption | omega)) ?_
  rcases w1 with ⟨w1, rfl⟩ | ⟨w1, rfl⟩
  · exact Ends.b1 (fun _ => yes (Or.inr (Or.inl w1))) (fun z => absurd z (by decide))
  refine Ends.b1 (fun z => absurd rfl z) (fun _ => ?_)
  refine Ends.ct l (by decide +kernel) (by decide) (c_isWord l (by omega) S T.2.2.2.1.1 R hp hw) (fun x h1 l1 _ _ _ ⟨e1, w2⟩ => ?_)
  subst e1
  refine Ends.eq (b203_28 (n := n) (by (repeat' first | assumption | refine LX.setF _ _ ?_ (by decide +kernel) | refine LX.setS ?_ rfl | refine LX.setA ?_ (by first | assumption | omega))) (by first | assumption | omega)) ?_
  rcases w2 with ⟨w2, rfl⟩ | ⟨w2, rfl⟩
  · exact Ends.b1 (fun _ => yes (Or.inr (Or.inr (Or.inl w2)))) (fun z => absurd z (by decide))
  refine Ends.b1 (fun z => absurd rfl z) (fun _ => ?_)
  refine Ends.ct l (by decide +kernel) (by decide) (c_isWord l (by omega) S T.2.2.2.2.1 R hp hw) (fun x h1 l1 _ _ _ ⟨e1, w3⟩ => ?_)
  subst e1
  refine Ends.eq (b203_40 (n := n) (by (repeat' first | assumption | refine LX.setF _ _ ?_ (by decide +kernel) | refine LX.setS ?_ rfl | refine LX.setA ?_ (by first | assumption | omega))) (by first | assumption | omega)) ?_
  rcases w3 with ⟨w3, rfl⟩ | ⟨w3, rfl⟩
  · exact Ends.sm ⟨_, _, rfl, rfl, Or.inl ⟨Or.inr (Or.inr (Or.inr w3)), by rw [tst0]; rfl⟩⟩
  · refine Ends.sm ⟨_, _, rfl, rfl, Or.inr ⟨?_, by rw [tst0]; rfl⟩⟩
    rintro (y | y | y | y)
    · omega
    · exact w1 y
    · exact w2 y
    · exact w3 y
end EXC
