/-! L3: calls that may throw; Signs.open, wrong, need, isWord; Formulas.enter -/
/-- a call returns nothing, or throws -/
def Vx (o : Option Rs) (R : AH → Prop) (E : Int → AH → Prop) : Prop := ∃ r, o = some r ∧ ((∃ h', r = ((0, (9, 0)), h') ∧ R h') ∨ ∃ x h', r = ((1, (2, x)), h') ∧ E x h')
section VX
variable {gs : Nat → AV} {B n d j pc nx j' : Nat} {L rest av : List AV} {h : AH} {Q : Rs → Prop} {R : AH → Prop} {E : Int → AH → Prop}
theorem Vx.into {L' : List AV} {D : Nat} (hd : D + 1 ≤ d) (hl : (entL av).length ≤ pNl PP j) (hL : ent (pNl PP j) av = L') (k : ∀ d, D ≤ d → Ends (ev PP gs B d j 0 L' [] h) (fun r => (∃ h', r = ((0, (9, 0)), h') ∧ R h') ∨ ∃ x h', r = ((1, (2, x)), h') ∧ E x h')) : Vx (cll PP (ev PP gs B) d j av h) R E := by
  obtain ⟨d', rfl⟩ : ∃ d', d = d' + 1 := ⟨d - 1, by omega⟩
  obtain ⟨r, e, q⟩ := k d' (by omega)
  refine ⟨r, ?_, q⟩
  rw [cll_in hl, hL, e]
theorem Ends.th {x : Int} {k : Nat → List AV → List AV → AH → Option Rs} {c : Nat} (hc : (hk h (ad x)).2 = c) (hp : pHn PP j pc c = some none) (q : Q ((1, (2, x)), h)) : Ends (thr PP j pc L x h k) Q := by
  refine ⟨((1, (2, x)), h), ?_, q⟩
  unfold thr
  rw [hc, hp]
theorem Ends.cx {c : Nat} (l : LX B n h) (hm : mkT j' &&& fxM = 0) (v : Vx (cll PP (ev PP gs B) d j' av h) R E) (hE : ∀ x h', E x h' → (hk h' (ad x)).2 = c) (hp : pHn PP j pc c = some none) (k : ∀ h', LX B n h' → hnx h ≤ hnx h' → hus h ≤ hus h' → Rel foT (mkT j') h h' → R h' → Ends (ev PP gs B d j nx L rest h') Q) (ke : ∀ x h', LX B n h' → hnx h ≤ hnx h' → E x h' → Q ((1, (2, x)), h')) : Ends (aft PP j pc nx L rest (ev PP gs B d j) (cll PP (ev PP gs B) d j' av h)) Q := by
  obtain ⟨r, e, q⟩ := v
  obtain ⟨⟨m1, m2⟩, rl⟩ := rel_call e
  rcases q with ⟨h', rfl, hR⟩ | ⟨x, h', rfl, hx⟩
  · rw [aft_void e]
    exact k h' (l.rel rl hm m1) m1 m2 rl hR
  · rw [aft_thr e]
    exact Ends.th (hE x h' hx) hp (ke x h' (l.rel rl hm m1) m1 hx)
theorem Vd.x (v : Vd (cll PP (ev PP gs B) d j av h) R) : Vx (cll PP (ev PP gs B) d j av h) R E := by
  obtain ⟨h', e, r⟩ := v
  exact ⟨_, e, Or.inl ⟨h', rfl, r⟩⟩
end VX
section SG2
variable {gv : Nat → Int} {B n d o a m : Nat} {h : AH} {u : Nat → Int}
/-- a new Wrong with a place -/
def wrg (h : AH) (pl : Int) : AH := hset (hnew h (1, 19) 7) (hnx h) 0 pl
theorem c_wrong (l : LX B n h) (hd : 11 ≤ d) (ho : YO B o h) (hx : o < hnx h) {pl : Int} (h3 : hv h o 3 = pl) : Vt 2 (cll PP (ev PP (gsF gv) B) d 376 [(2, (rf o))] h) (fun v h' => v = rf (hnx h) ∧ h' = wrg h pl) := by
  have hb := l.2.2
  refine Vt.into (D := 10) hd (Nat.le_of_ble_eq_true rfl) rfl (fun d hd => ?_)
  refine Ends.eq (b376_0 (n := n) (by (repeat' first | assumption | refine LX.setF _ _ ?_ (by decide +kernel) | refine LX.setS ?_ rfl | refine LX.setA ?_ (by first | assumption | omega))) (by first | assumption | omega)) ?_
  have l1 : LX B n (hnew h (1, 19) 7) := l.new
  have ho1 : YO B o (hnew h (1, 19) 7) := ⟨by rw [hk_new, if_neg (by omega)]; exact ho.1, ho.2⟩
  refine Ends.eq (b376_3 (n := n) l1 (by omega) ho1) (Ends.g (rf_pos _) ?_)
  rw [hv_new, if_neg (show ¬ o = hnx h by omega), h3]
  have kk : hk (hnew h (1, 19) 7) (hnx h) = (1, 19) := by rw [hk_new, if_pos rfl]
  have inner : Vd (cll PP (ev PP (gsF gv) B) d 477 [(2, rf (hnx h)), (0, pl)] (hnew h (1, 19) 7)) (fun h' => h' = wrg h pl) := by
    refine Vd.into (D := 9) (by omega) (Nat.le_of_ble_eq_true rfl) rfl (fun d hd => ?_)
    refine Ends.eq (b477_0 (n := n)) ?_
    rw [ad_rf, kk]
    refine Ends.g ⟨rf_pos _, rfl, (by rw [hv_new, if_pos rfl]), by omega⟩ (Ends.g ⟨rf_pos _, rfl, by omega, rfl⟩ ?_)
    refine Ends.eq (b477_9 (n := n)) ?_
    exact Ends.sm ⟨_, rfl, rfl⟩
  refine Ends.cv l1 (by decide +kernel) inner (fun q2 l2 _ _ _ e => ?_)
  subst e
  have ho2 : YO B o (wrg h pl) := ⟨ho1.1, ho.2⟩
  refine Ends.eq (b376_11 (n := n) l2 (by omega)) (Ends.sm ⟨_, _, rfl, rfl, rfl⟩)
/-- a Wrong is thrown -/
def WrX (h : AH) (pl : Int) (x : Int) (h' : AH) : Prop := x = rf (hnx h) ∧ h' = wrg h pl
theorem WrX.c {pl x : Int} {h' : AH} (w : WrX h pl x h') : (hk h' (ad x)).2 = 19 := by
  obtain ⟨e1, e2⟩ := w
  subst e1 e2
  rw [ad_rf]
  show (hk (hnew h (1, 19) 7) (hnx h)).2 = 19
  rw [hk_new, if_pos rfl]
theorem v368_is {s : Int} : v368 o h s = if hv h o 2 = 3 ∧ hv h o 5 = s then 1 else 0 := by
  unfold v368
  rw [tst1, tst1]
  by_cases e1 : hv h o 2 = 3 <;> by_cases e2 : hv h o 5 = s <;> simp [e1, e2]
/-- a sign is wanted -/
theorem c_need (l : LX B n h) (hd : 18 ≤ d) (S : SgP B h o a m u) (hx : o < hnx h) (T : StrA gv h (gv 47) oneL) {p : Nat} (R : SgT h o u m p) (hp : tkT u m p ≤ m) {s : Int} :
    Vx (cll PP (ev PP (gsF gv) B) d 372 [(2, (rf o)), (0, s)] h) (fun h' => (tkK u m p = 3 ∧ tkS u m p = s) ∧ Agr (sgW o) h h' ∧ SgT h' o u m (tkT u m p)) (fun x h' => ¬ (tkK u m p = 3 ∧ tkS u m p = s) ∧ WrX h (tkF u m p : Int) x h') := by
  have ho := S.1
  refine Vx.into (D := 17) hd (Nat.le_of_ble_eq_true rfl) rfl (fun d hd => ?_)
  refine Ends.eq (b372_0 (n := n) (by (repeat' first | assumption | refine LX.setF _ _ ?_ (by decide +kernel) | refine LX.setS ?_ rfl | refine LX.setA ?_ (by first | assumption | omega))) (by first | assumption | omega) (by first | assumption | omega)) ?_
  rw [v368_is, R.1, R.2.2.2.1]
  by_cases e : tkK u m p = 3 ∧ tkS u m p = s
  · rw [if_pos ⟨by rw [e.1]; rfl, e.2⟩]
    refine Ends.b1 (fun _ => ?_) (fun z => absurd z (by decide))
    refine Ends.cv l (by decide +kernel) (c_sgNext l (by omega) S T R.2.2.1 hp) (fun q2 l2 _ _ _ ⟨g1, g2⟩ => ?_)
    have ho := (S.agr g1).1
    refine Ends.eq (b372_17 (n := n) (by (repeat' first | assumption | refine LX.setF _ _ ?_ (by decide +kernel) | refine LX.setS ?_ rfl | refine LX.setA ?_ (by first | assumption | omega))) (by first | assumption | omega)) ?_
    exact Ends.sm (Or.inl ⟨_, rfl, e, g1, g2⟩)
  · rw [if_neg (fun z => e ⟨by omega, z.2⟩)]
    refine Ends.b1 (fun z => absurd rfl z) (fun _ => ?_)
    refine Ends.ct l (by decide +kernel) (by decide) (c_wrong l (by omega) S.1 hx R.2.1) (fun v q2 l2 _ _ _ ⟨e1, e2⟩ => ?_)
    subst e1
    have ho : YO B o q2 := by rw [e2]; exact ⟨by show hk (hnew h (1, 19) 7) o = _; rw [hk_new, if_neg (by omega)]; exact S.1.1, S.1.2⟩
    refine Ends.eq (b372_12 (n := n) (by (repeat' first | assumption | refine LX.setF _ _ ?_ (by decide +kernel) | refine LX.setS ?_ rfl | refine LX.setA ?_ (by first | assumption | omega))) (by first | assumption | omega)) ?_
    have w : WrX h (tkF u m p : Int) (rf (hnx h)) q2 := ⟨rfl, e2⟩
    have kk : (hk q2 (ad (rf (hnx h)))).1 = 1 := by
      rw [ad_rf, e2]
      show (hk (hnew h (1, 19) 7) (hnx h)).1 = 1
      rw [hk_new, if_pos rfl]
    exact Ends.g ⟨rf_pos _, kk⟩ (Ends.th w.c rfl (Or.inr ⟨_, _, rfl, e, w⟩))
/-- the word that was read is s -/
def isWd (u : Nat → Int) (m p : Nat) (s : List Int) : Prop := tkK u m p = 1 ∧ tkT u m p - tkF u m p = s.length ∧ ∀ i c, s[i]? = some c → u (tkF u m p + i) = c
theorem tk_le {p : Nat} (hp : p ≤ m) : tkF u m p ≤ tkT u m p ∧ tkT u m p ≤ m ∧ p ≤ tkF u m p := by
  have f1 : p ≤ tkF u m p := en_ge
  have f2 : tkF u m p ≤ m := en_le hp
  refine ⟨?_, ?_, f1⟩
  · unfold tkT
    split
    · exact Nat.le_refl _
    · split
      · exact en_ge
      · split
        · unfold nE2 nE1
          split
          · exact Nat.le_trans (Nat.le_trans (en_ge (P := isD)) (Nat.le_succ _)) en_ge
          · exact en_ge
        · omega
  · unfold tkT
    split
    · exact f2
    · next c0 =>
      have lt : tkF u m p < m := by
        by_cases q : tkF u m p < m
        · exact q
        · exfalso; apply c0; unfold chr; rw [if_neg q]; decide
      split
      · exact en_le f2
      · split
        · unfold nE2 nE1
          split
          · next hp2 =>
            refine en_le ?_
            have : en isD u m (tkF u m p) < m := by
              by_cases q : en isD u m (tkF u m p) < m
              · exact q
              · exfalso
                unfold nPt nE1 chr at hp2
                rw [if_neg q] at hp2
                exact absurd hp2 (by simp)
            omega
          · exact en_le f2
        · split
          · next h2 =>
            have : tkF u m p + 1 < m := by
              by_cases q : tkF u m p + 1 < m
              · exact q
              · exfalso
                unfold two2 at h2
                rw [show chr u m (tkF u m p + 1) = -1 from if_neg q] at h2
                exact absurd h2 (by simp)
            omega
          · omega
theorem sg_byte {x : Int} {i : Nat} (S : SgP B h o a m u) (hi : i < m) (w : -128 ≤ hv h a i ∧ hv h a i < 128) (h0 : 0 ≤ x) (h1 : x < 128) : hv h a i = x ↔ u i = x := by
  have := S.2.2.2.2.1 i hi
  constructor <;> intro e <;> omega
theorem c_isWord (l : LX B n h) (hd : 15 ≤ d) (S : SgP B h o a m u) {x : Int} {s : List Int} (T : StrA gv h x s) {p : Nat} (R : SgT h o u m p) (hp : p ≤ m) (hw : ∀ i, i < m → -128 ≤ hv h a i ∧ hv h a i < 128) :
    Vt 0 (cll PP (ev PP (gsF gv) B) d 371 [(2, (rf o)), (2, x)] h) (fun v h' => h' = h ∧ ((isWd u m p s ∧ v = 1) ∨ (¬ isWd u m p s ∧ v = 0))) := by
  have ho := S.1
  have hm := S.2.2.2.2.2
  obtain ⟨tl1, tl2, tl3⟩ := tk_le (u := u) hp
  obtain ⟨N, kN, hN⟩ := S.2.2.1
  have hs := T.2.2.2.2.2.2.2
  refine Vt.into (D := 14) hd (Nat.le_of_ble_eq_true rfl) rfl (fun d hd => ?_)
  refine Ends.eq (b371_0 (n := n) (by (repeat' first | assumption | refine LX.setF _ _ ?_ (by decide +kernel) | refine LX.setS ?_ rfl | refine LX.setA ?_ (by first | assumption | omega))) (by first | assumption | omega) (by first | assumption | omega)) ?_
  rw [R.1, R.2.1, R.2.2.1, T.v901]
  have no : ¬ isWd u m p s → ∀ u2 : AV, Ends (ev PP (gsF gv) B d 371 24 [(2, rf o), (2, x), u2] [] h) (fun r => ∃ v h', r = ((0, (0, v)), h') ∧ h' = h ∧ ((isWd u m p s ∧ v = 1) ∨ (¬ isWd u m p s ∧ v = 0))) := by
    intro q u2
    refine Ends.eq (b371_24 (n := n) (by (repeat' first | assumption | refine LX.setF _ _ ?_ (by decide +kernel) | refine LX.setS ?_ rfl | refine LX.setA ?_ (by first | assumption | omega))) (by first | assumption | omega)) ?_
    exact Ends.sm ⟨_, _, rfl, rfl, Or.inr ⟨q, rfl⟩⟩
  refine Ends.b1 (fun z => no (fun w => z (by rw [w.1]; rfl)) _) (fun k1 => Ends.g ⟨⟨T.1, T.2.1⟩, T.q901⟩ ?_)
  rw [subNN (by omega) tl1]
  refine Ends.b0 (fun ln => ?_) (fun z => no (fun w => z (by rw [w.2.1])) _)
  have ln : tkT u m p - tkF u m p = s.length := by omega
  have kk : tkK u m p = 1 := by omega
  refine lp (s.length) (fun i L q => L = [(2, rf o), (2, x), (0, (i : Int))] ∧ q = h ∧ i ≤ s.length ∧ ∀ j c, j < i → s[j]? = some c → u (tkF u m p + j) = c) ?_ ?_ 0 ⟨rfl, rfl, Nat.zero_le _, fun j e hj => absurd hj (by omega)⟩
  · rintro i _ q hi ⟨rfl, rfl, -, w⟩ ih
    obtain ⟨c, hc⟩ : ∃ c, s[i]? = some c := ⟨s[i], List.getElem?_eq_getElem hi⟩
    obtain ⟨c1, c2, c3⟩ := T.2.2.2.2.1 i c hc
    refine Ends.eq (b371_28 (n := n) (by (repeat' first | assumption | refine LX.setF _ _ ?_ (by decide +kernel) | refine LX.setS ?_ rfl | refine LX.setA ?_ (by first | assumption | omega))) (by first | assumption | omega) (by first | assumption | omega)) ?_
    rw [T.v901, R.2.1, addNN (by omega), S.2.1, ad_rf, kN, tn]
    refine Ends.g ⟨⟨T.1, T.2.1⟩, T.q901⟩ (Ends.b3 (fun _ => by omega) (fun _ => Ends.g ⟨rf_pos _, rfl, by omega, by show _ < ((N : Nat) : Int); omega⟩ (Ends.g ⟨T.1, T.2.1⟩ ?_)))
    refine Ends.ct l (by decide +kernel) (by decide) (c_charAt l (by omega) T hc) (fun v q2 l2 _ _ _ ⟨e1, e2⟩ => ?_)
    subst e1 e2
    refine Ends.eq (b371_52 (n := n) (by (repeat' first | assumption | refine LX.setF _ _ ?_ (by decide +kernel) | refine LX.setS ?_ rfl | refine LX.setA ?_ (by first | assumption | omega))) (by first | assumption | omega)) ?_
    have hb := sg_byte (x := v) (i := tkF u m p + i) S (by omega) (hw _ (by omega)) c2 c3
    refine Ends.b0 (fun e => ?_) (fun e => Ends.sm ⟨_, _, rfl, rfl, Or.inr ⟨fun z => e (hb.mpr (z.2.2 i v hc)), rfl⟩⟩)
    rw [w_succ (by omega)]
    refine ih _ _ ⟨rfl, rfl, hi, fun j c' hj hjc => ?_⟩
    by_cases ej : j = i
    · subst ej
      rw [hc] at hjc
      rw [← Option.some.inj hjc]; exact hb.mp e
    · exact w j c' (by omega) hjc
  · rintro i _ q hi ⟨rfl, rfl, hi2, w⟩
    obtain rfl : i = s.length := by omega
    refine Ends.eq (b371_28 (n := n) (by (repeat' first | assumption | refine LX.setF _ _ ?_ (by decide +kernel) | refine LX.setS ?_ rfl | refine LX.setA ?_ (by first | assumption | omega))) (by first | assumption | omega) (by first | assumption | omega)) ?_
    rw [T.v901]
    refine Ends.g ⟨⟨T.1, T.2.1⟩, T.q901⟩ (Ends.b3 (fun _ => Ends.sm ⟨_, _, rfl, rfl, Or.inl ⟨⟨kk, ln, fun i c hc => w i c (List.getElem?_eq_some_iff.mp hc).1 hc⟩, rfl⟩⟩) (fun _ => by omega))
/-- all of a cell -/
def oW (o : Nat) : Nat → Nat → Prop := fun c _ => c = o
/-- a reader begins a text -/
theorem c_open (l : LX B n h) (hd : 18 ≤ d) (ho : YO B o h) (T : StrA gv h (gv 47) oneL) {N : Nat} (ha : hk h a = (4, N)) (hm : m ≤ N) (hm8 : m ≤ 8192) (hu : ∀ i, i < m → hv h a i % 256 = u i) :
    Vd (cll PP (ev PP (gsF gv) B) d 375 [(2, (rf o)), (2, (rf a)), (0, (m : Int))] h) (fun h' => Agr (oW o) h h' ∧ SgP B h' o a m u ∧ SgT h' o u m 0) := by
  have ne : a ≠ o := fun e => by rw [e, ho.1] at ha; exact absurd (congrArg Prod.fst ha) (by show ¬ (1 : Nat) = 4; decide)
  refine Vd.into (D := 17) hd (Nat.le_of_ble_eq_true rfl) rfl (fun d hd => ?_)
  refine Ends.eq (b375_0 (n := n) (by (repeat' first | assumption | refine LX.setF _ _ ?_ (by decide +kernel) | refine LX.setS ?_ rfl | refine LX.setA ?_ (by first | assumption | omega))) (by first | assumption | omega) (by first | assumption | omega)) ?_
  have g1 : Agr (oW o) h (hset (hset (hset h o 0 (rf a)) o 1 (m : Int)) o 4 0) := ((Agr.rf.set (show oW o o 0 from rfl)).set (show oW o o 1 from rfl)).set (show oW o o 4 from rfl)
  have l1 : LX B n (hset (hset (hset h o 0 (rf a)) o 1 (m : Int)) o 4 0) := LX.setO (LX.setO (LX.setO l ho.1 (by decide +kernel)) ho.1 (by decide +kernel)) ho.1 (by decide +kernel)
  have S1 : SgP B (hset (hset (hset h o 0 (rf a)) o 1 (m : Int)) o 4 0) o a m u := by
    refine ⟨ho, ?_, ⟨N, ha, hm⟩, ?_, fun i hi => ?_, hm8⟩
    · rw [hv_set_ne (by omega), hv_set_ne (by omega)]; exact hv_set_at ..
    · rw [hv_set_ne (by omega)]; exact hv_set_at ..
    · rw [g1.at _ _ ne]; exact hu i hi
  have T1 : StrA gv (hset (hset (hset h o 0 (rf a)) o 1 (m : Int)) o 4 0) (gv 47) oneL := by
    obtain ⟨a1, a2, a3, a4, a5, a6, a7, a8⟩ := T
    have n1 : ad (gv 47) ≠ o := fun e => by rw [e, ho.1] at a2; exact absurd (congrArg Prod.snd a2) (by show ¬ (12 : Nat) = 29; decide)
    have n2 : ad (hv h (ad (gv 47)) 0) ≠ o := fun e => by rw [e, ho.1] at a4; exact absurd (congrArg Prod.fst a4) (by show ¬ (1 : Nat) = 4; decide)
    have e0 : hv (hset (hset (hset h o 0 (rf a)) o 1 (m : Int)) o 4 0) (ad (gv 47)) 0 = hv h (ad (gv 47)) 0 := g1.at _ _ n1
    refine ⟨a1, by rw [g1.hk]; exact a2, by rw [e0]; exact a3, by rw [e0, g1.hk]; exact a4, fun i c hc => ?_, by rw [g1.at _ _ n1]; exact a6, a7, a8⟩
    rw [e0, g1.at _ _ n2]; exact a5 i c hc
  refine Ends.cv l1 (by decide +kernel) (c_sgNext l1 (by omega) S1 T1 (p := 0) (hv_set_at ..) (Nat.zero_le _)) (fun q2 l2 _ _ _ ⟨g2, g3⟩ => ?_)
  have ho := (S1.agr g2).1
  refine Ends.eq (b375_19 (n := n) (by (repeat' first | assumption | refine LX.setF _ _ ?_ (by decide +kernel) | refine LX.setS ?_ rfl | refine LX.setA ?_ (by first | assumption | omega))) (by first | assumption | omega)) ?_
  exact Ends.sm ⟨_, rfl, g1.tr g2 (fun c k z => z.1), S1.agr g2, g3⟩
end SG2
