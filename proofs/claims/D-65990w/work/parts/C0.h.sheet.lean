/-! L3: the desk's sheet -/
section SHEET
variable {gv : Nat → Int} {B n d : Nat} {h : AH} {a N a0 sh Ns mk Nm : Nat} {bs : List Int} {R : Nat → Nat → Bool}
/-- the text of a solid -/
def shtT (n : Nat) (R : Nat → Nat → Bool) : List Int := sGr ++ digF 4 (cntR n (fun k => begB (R k)) (24 * n * n)) ++ [59] ++ [10] ++ runsT n R (24 * n * n) ++ sFin ++ [10]
/-- the desk's sheet and the cell that it writes into -/
def ShC (B : Nat) (h : AH) (sh Ns mk Nm : Nat) (bs : List Int) : Prop := (hv h (B + 143) 4 = rf sh ∧ hv h (B + 143) 5 = (bs.length : Int) ∧ hv h (B + 143) 6 = rf mk) ∧ (hk h sh = (4, Ns) ∧ hk h mk = (4, Nm)) ∧ ((B + 144 ≤ sh ∧ (sh ≤ B + 145 ∨ B + 246 ≤ sh)) ∧ B + 144 ≤ mk ∧ (mk ≤ B + 145 ∨ B + 246 ≤ mk)) ∧ (sh < hnx h ∧ mk < hnx h ∧ sh ≠ mk) ∧ (bs.length ≤ Ns ∧ 1024 ≤ Ns ∧ Ns ≤ 65536 ∧ 1024 ≤ Nm ∧ Nm ≤ 65536) ∧ ∀ i c, bs[i]? = some c → hv h sh i = c
def exW (B mk : Nat) : Nat → Nat → Prop := fun c k => (c = B + 143 ∧ 4 ≤ k ∧ k ≤ 7) ∨ c = mk
theorem shtT_len (few : cntR n (fun k => begB (R k)) (24 * n * n) ≤ 1000) : (shtT n R).length ≤ 25000 := by
  have a1 := dig_len 4 (cntR n (fun k => begB (R k)) (24 * n * n))
  have a2 := runsT_len (n := n) (R := R) (24 * n * n)
  unfold shtT
  simp only [List.length_append]
  show 7 + _ + 1 + 1 + _ + 4 + 1 ≤ 25000
  omega
theorem c_export139 (l : LX B n h) (hd : 28 ≤ d) (hn : n ≤ 52) (T : TxO gv B h) (sa : Sol n h a0 R) (ha : a0 = B + 117 ∨ B + 246 ≤ a0) (hah : a0 < hnx h) (x : ShC B h sh Ns mk Nm bs) :
    Vt 0 (cll PP (ev PP (gsF gv) B) d 139 [(2, rf (B + 143)), (2, rf a0)] h) (fun v h' => (1000 < cntR n (fun k => begB (R k)) (24 * n * n) ∧ v = -1 ∧ h' = h) ∨ (cntR n (fun k => begB (R k)) (24 * n * n) ≤ 1000 ∧ v = ((shtT n R).length : Int) ∧ ∃ mk' Nm', ShC B h' mk' Nm' sh Ns (shtT n R) ∧ Nm ≤ Nm' ∧ (mk' = mk ∨ hnx h ≤ mk') ∧ Ext (exW B mk) (Nm' - Nm) (2 * Nm' - 2 * Nm) h h')) := by
  have hb0 := l.2.2
  obtain ⟨⟨x1, x2, x3⟩, ⟨x4, x5⟩, ⟨x6, x7⟩, ⟨x8, x9, x10⟩, ⟨x11, x12, x13, x14, x15⟩, x16⟩ := x
  refine Vt.inq (D := 27) hd (Nat.le_of_ble_eq_true rfl) rfl (fun d hd P K => ?_)
  refine Ends.eq (b139_0 (n := n) (by (repeat' first | assumption | refine LX.setF _ _ ?_ (by decide +kernel) | refine LX.setS ?_ rfl | refine LX.setA ?_ (by first | assumption | omega))) (by first | assumption | omega)) ?_
  refine Ends.ct l (by decide +kernel) (by decide) (c_runs0 l (by omega) hn sa) (fun v h1 l1 _ _ _ ⟨e1, w⟩ => ?_)
  subst e1
  refine Ends.eq (b139_6 (n := n) (by (repeat' first | assumption | refine LX.setF _ _ ?_ (by decide +kernel) | refine LX.setS ?_ rfl | refine LX.setA ?_ (by first | assumption | omega))) (by first | assumption | omega)) ?_
  rcases w with ⟨ev_, few⟩ | ⟨big, many⟩
  rotate_left
  · exact Ends.b5 (fun z => by omega) (fun _ => Ends.sm (K _ _ (Or.inl ⟨many, rfl, rfl⟩)))
  obtain ⟨M, eM⟩ : ∃ M, M = cntR n (fun k => begB (R k)) (24 * n * n) := ⟨_, rfl⟩
  rw [ev_, ← eM]
  have few' : M ≤ 1000 := by rw [eM]; exact few
  refine Ends.b5 (fun _ => ?_) (fun z => by omega)
  have l2 : LX B n (hset h1 (B + 143) 7 0) := LX.setF 143 7 l1 (by decide +kernel)
  have g2 : Agr (fun c k => c = B + 143 ∧ k = 7) h1 (hset h1 (B + 143) 7 0) := Agr.rf.set ⟨rfl, rfl⟩
  have o2 : OutC B (hset h1 (B + 143) 7 0) mk Nm [] := ⟨by rw [hv_set_ne (by omega)]; exact x3, x5, x7, x9, hv_set_at .., Nat.zero_le _, x14, x15, fun i c e => by simp at e⟩
  have T2 : TxO gv B (hset h1 (B + 143) 7 0) := T.ext g2.ext hb0 (fun b k hb w => by omega)
  have nx2 : hnx (hset h1 (B + 143) 7 0) = hnx h1 := rfl
  have s2 : Sol n (hset h1 (B + 143) 7 0) a0 R := ⟨sa.1, fun k hk => by rw [hv_na (by omega)]; exact sa.2 k hk⟩
  generalize hset h1 (B + 143) 7 0 = h2 at *
  have hb2 := l2.2.2
  have keepT : ∀ {q : AH} {a' N' : Nat}, Wrs (outW B) mk Nm h2 q a' N' → TxO gv B q := fun w => T2.ext w.2.2 hb2 (fun b k hb w => by unfold outW at w; omega)
  have p4 : (10 : Nat) ^ (3 + 1) = 10000 := by decide
  refine Ends.cv l2 (by decide +kernel) (c_sayS151 l2 (by omega) T2.1 o2 (by decide)) (fun q1 m1 _ _ _ ⟨a1, N1, o1, w1⟩ => ?_)
  have lb1 : ([] ++ sGr : List Int).length = 7 := rfl
  refine Ends.eq (b139_27 (n := n) (by (repeat' first | assumption | refine LX.setF _ _ ?_ (by decide +kernel) | refine LX.setS ?_ rfl | refine LX.setA ?_ (by first | assumption | omega))) (by first | assumption | omega)) ?_
  refine Ends.cv m1 (by decide +kernel) (c_sayN152 3 M m1 (by omega) (by decide) (by omega) o1 (by omega)) (fun q3 m3 _ _ _ ⟨a3, N3, o3, v3⟩ => ?_)
  have w3 := w1.tr v3 outW_tr
  have lb3 : ([] ++ sGr ++ digF (3 + 1) M : List Int).length ≤ 11 := by rw [List.length_append]; have := dig_len (3 + 1) M; omega
  refine Ends.eq (b139_32 (n := n) (by (repeat' first | assumption | refine LX.setF _ _ ?_ (by decide +kernel) | refine LX.setS ?_ rfl | refine LX.setA ?_ (by first | assumption | omega))) (by first | assumption | omega)) ?_
  refine Ends.cv m3 (by decide +kernel) (c_say150 (c := 59) m3 (by omega) o3 (by omega) (by decide) (by decide)) (fun q4 m4 _ _ _ ⟨a4, N4, o4, v4⟩ => ?_)
  have w4 := w3.tr v4 outW_tr
  have lb4 : ([] ++ sGr ++ digF (3 + 1) M ++ [59] : List Int).length ≤ 12 := by rw [List.length_append]; show _ + 1 ≤ 12; omega
  refine Ends.eq (b139_38 (n := n) (by (repeat' first | assumption | refine LX.setF _ _ ?_ (by decide +kernel) | refine LX.setS ?_ rfl | refine LX.setA ?_ (by first | assumption | omega))) (by first | assumption | omega)) ?_
  refine Ends.cv m4 (by decide +kernel) (c_say150 (c := 10) m4 (by omega) o4 (by omega) (by decide) (by decide)) (fun q5 m5 _ _ _ ⟨a5, N5, o5, v5⟩ => ?_)
  have w5 := w4.tr v5 outW_tr
  have lb5 : ([] ++ sGr ++ digF (3 + 1) M ++ [59] ++ [10] : List Int).length ≤ 13 := by rw [List.length_append]; show _ + 1 ≤ 13; omega
  have ne5 : a0 ≠ mk := fun e => by
    have := sa.1
    rw [e, x5] at this
    exact absurd (show (4 : Nat) = 3 from congrArg Prod.fst this) (by decide)
  have s5 : Sol n q5 a0 R := ⟨by rw [w5.2.2.hk (by omega)]; exact s2.1, fun k hk => by rw [w5.2.2.at _ (by omega) (by unfold outW; omega)]; exact s2.2 k hk⟩
  refine Ends.eq (b139_44 (n := n) (by (repeat' first | assumption | refine LX.setF _ _ ?_ (by decide +kernel) | refine LX.setS ?_ rfl | refine LX.setA ?_ (by first | assumption | omega))) (by first | assumption | omega)) ?_
  refine Ends.ct m5 (by decide +kernel) (by decide) (c_runs1 m5 (by omega) hn (keepT w5) s5 ha (by have := w5.2.2.2.2.1; omega) o5 few (by omega)) (fun v6 q6 m6 _ _ _ ⟨ev6, a6, N6, o6, v6'⟩ => ?_)
  have w6 := w5.tr v6' outW_tr
  have rl := runsT_len (n := n) (R := R) (24 * n * n)
  have lb6 : ([] ++ sGr ++ digF (3 + 1) M ++ [59] ++ [10] ++ runsT n R (24 * n * n) : List Int).length ≤ 24100 := by rw [List.length_append]; omega
  refine Ends.eq (b139_50 (n := n) (by (repeat' first | assumption | refine LX.setF _ _ ?_ (by decide +kernel) | refine LX.setS ?_ rfl | refine LX.setA ?_ (by first | assumption | omega))) (by first | assumption | omega)) ?_
  refine Ends.cv m6 (by decide +kernel) (c_sayS151 m6 (by omega) (keepT w6).2.2.2.1 o6 (by show _ + 4 ≤ 30001; omega)) (fun q7 m7 _ _ _ ⟨a7, N7, o7, v7⟩ => ?_)
  have w7 := w6.tr v7 outW_tr
  have lb7 : ([] ++ sGr ++ digF (3 + 1) M ++ [59] ++ [10] ++ runsT n R (24 * n * n) ++ sFin : List Int).length ≤ 24104 := by rw [List.length_append]; show _ + 4 ≤ 24104; omega
  refine Ends.eq (b139_57 (n := n) (by (repeat' first | assumption | refine LX.setF _ _ ?_ (by decide +kernel) | refine LX.setS ?_ rfl | refine LX.setA ?_ (by first | assumption | omega))) (by first | assumption | omega)) ?_
  refine Ends.cv m7 (by decide +kernel) (c_say150 (c := 10) m7 (by omega) o7 (by omega) (by decide) (by decide)) (fun q8 m8 _ _ _ ⟨a8, N8, o8, v8⟩ => ?_)
  have w8 := w7.tr v8 outW_tr
  have et : ([] ++ sGr ++ digF (3 + 1) M ++ [59] ++ [10] ++ runsT n R (24 * n * n) ++ sFin ++ [10] : List Int) = shtT n R := by
    unfold shtT
    rw [← eM, List.nil_append]
  rw [et] at o8
  obtain ⟨y1, y2, y3, y4, y5, y6, y7, y8, y9⟩ := o8
  have f4 : hv q8 (B + 143) 4 = rf sh := by
    rw [w8.2.2.at _ (by omega) (by unfold outW; omega), g2.at _ _ (by omega)]; exact x1
  refine Ends.eq (b139_63 (n := n) (by (repeat' first | assumption | refine LX.setF _ _ ?_ (by decide +kernel) | refine LX.setS ?_ rfl | refine LX.setA ?_ (by first | assumption | omega))) (by first | assumption | omega)) ?_
  rw [y1, y5, f4]
  have X8 := w8.2.2
  have n8 := w8.1
  have o8' := w8.2.1
  have nx8 := X8.2.2.1
  refine Ends.sm (K _ _ (Or.inr ⟨few, rfl, a8, N8, ⟨⟨?_, ?_, ?_⟩, ⟨y2, ?_⟩, ⟨y3, x6⟩, ⟨y4, ?_, ?_⟩, ⟨y6, y7, y8, x12, x13⟩, fun i c e => ?_⟩, n8, by omega, ?_⟩))
  · rw [hv_set_ne (by omega), hv_set_ne (by omega), hv_set_at]
  · exact hv_set_at ..
  · rw [hv_set_ne (by omega), hv_set_at]
  · show hk q8 sh = _
    rw [X8.hk (by omega)]
    exact (g2.hk sh).trans x4
  · show sh < hnx q8
    omega
  · omega
  · rw [hv_na (by omega), hv_na (by omega), hv_na (by omega)]; exact y9 i c e
  · have E0 : Ext (exW B mk) 0 0 h1 h2 := g2.ext.sub (fun c k _ w => Or.inl (by omega)) (Nat.le_refl _) (Nat.le_refl _)
    have E1 := E0.tr X8 (fun c k _ w => by unfold outW at w; unfold exW; omega)
    exact (((E1.sub (fun c k _ w => w) (by omega) (by omega)).set (fun _ => Or.inl (by omega))).set (fun _ => Or.inl (by omega))).set (fun _ => Or.inl (by omega))
theorem ShC.len (x : ShC B h sh Ns mk Nm bs) : bs.length ≤ 65536 := by
  obtain ⟨_, _, _, _, ⟨x11, x12, x13, x14, x15⟩, _⟩ := x
  omega
/-- number i of a sheet -/
def shA (bs : List Int) (i : Int) : Int := if 0 ≤ i ∧ i < (bs.length : Int) then (bs[i.toNat]?).getD (-1) else -1
theorem c_sheet84 {i : Int} (l : LX B n h) (hd : 10 ≤ d) (x : ShC B h sh Ns mk Nm bs) : Vt 0 (cll PP (ev PP (gsF gv) B) d 84 [(2, rf (B + 0)), (0, i)] h) (fun v h' => v = shA bs i ∧ h' = h) := by
  have lb := x.len
  obtain ⟨⟨x1, x2, x3⟩, ⟨x4, x5⟩, ⟨x6, x7⟩, ⟨x8, x9, x10⟩, ⟨x11, x12, x13, x14, x15⟩, x16⟩ := x
  have e := r84 (gv := gv) (x1 := i) l (show 2 ≤ d by omega)
  have v := v42_d (x := i) (lo := 0) (hi := (bs.length : Int) - 1)
  have sb : bop32 100 (bs.length : Int) 1 = (bs.length : Int) - 1 := sub32 (by omega) (by omega)
  by_cases hi : 0 ≤ i ∧ i < (bs.length : Int)
  · obtain ⟨k, rfl⟩ : ∃ k : Nat, i = (k : Int) := ⟨i.toNat, by omega⟩
    obtain ⟨c, hc⟩ : ∃ c, bs[k]? = some c := ⟨bs[k]'(by omega), List.getElem?_eq_getElem (by omega)⟩
    have vv : v84 B h (k : Int) = shA bs (k : Int) := by
      unfold v84 shA
      rw [x2, sb, v, decide_eq_true (by omega), if_pos rfl, ct0, if_neg (by decide), if_pos hi, x1, ad_rf, tn, x16 k c hc]
      show c = (bs[k]?).getD (-1)
      rw [hc]; rfl
    have qq : q84 B h (k : Int) := by
      unfold q84
      rw [x2, sb, v, decide_eq_true (by omega), if_pos rfl, ct0, if_neg (by decide), x1, ad_rf, x4]
      exact ⟨rf_pos _, rfl, by omega, by show (k : Int) < ((Ns : Nat) : Int); omega⟩
    rw [e, gdC_pos qq, vv]
    exact ⟨_, _, rfl, rfl, rfl⟩
  · have vv : v84 B h i = shA bs i := by
      unfold v84 shA
      rw [x2, sb, v, decide_eq_false (by omega), if_neg Bool.false_ne_true, ct0, if_pos rfl, if_neg hi]
    have qq : q84 B h i := by
      unfold q84
      rw [x2, sb, v, decide_eq_false (by omega), if_neg Bool.false_ne_true, ct0, if_pos rfl]
      trivial
    rw [e, gdC_pos qq, vv]
    exact ⟨_, _, rfl, rfl, rfl⟩
variable {is : Nat → Bool} {cl : Nat → Nat} {S : Nat → Nat → Bool} {o : Int}
/-- a solid by its rows -/
def rwG (n : Nat) (T : Nat → Bool) : Nat → Nat → Bool := onK n (fun t z y x => T (gI n x y z t))
theorem c_export28 (l : LX B n h) (hd : 30 ≤ d) (hn : n ≤ 52) (T : TxO gv B h) (b : BdC B n h is cl S) (x : ShC B h sh Ns mk Nm bs) :
    Opx 0 (cll PP (ev PP (gsF gv) B) d 28 [(2, rf (B + 0)), (0, o)] h) (fun v h' => thS is o = true ∧ ((1000 < cntR n (fun k => begB (rwG n (S (rwS o)) k)) (24 * n * n) ∧ v = -1 ∧ h' = h) ∨ (cntR n (fun k => begB (rwG n (S (rwS o)) k)) (24 * n * n) ≤ 1000 ∧ v = ((shtT n (rwG n (S (rwS o)))).length : Int) ∧ ∃ mk' Nm', ShC B h' mk' Nm' sh Ns (shtT n (rwG n (S (rwS o)))) ∧ Nm ≤ Nm' ∧ (mk' = mk ∨ hnx h ≤ mk') ∧ Ext (exW B mk) (Nm' - Nm) (2 * Nm' - 2 * Nm) h h')))
      (fun c q => q = h ∧ c = 31 ∧ thS is o = false) := by
  refine Opx.inq (D := 29) hd (Nat.le_of_ble_eq_true rfl) rfl (fun d hd Q K KE => ?_)
  refine Ends.eq (b28_0 (n := n) (by (repeat' first | assumption | refine LX.setF _ _ ?_ (by decide +kernel) | refine LX.setS ?_ rfl | refine LX.setA ?_ (by first | assumption | omega))) (by first | assumption | omega)) ?_
  refine Ends.sol l (by omega) b (fun ho => ?_) (fun ho => Ends.thn rfl (KE _ _ ⟨rfl, rfl, ho⟩))
  obtain ⟨s1, s2, s3⟩ := b.sol l ho
  refine Ends.eq (b28_9 (n := n) (by (repeat' first | assumption | refine LX.setF _ _ ?_ (by decide +kernel) | refine LX.setS ?_ rfl | refine LX.setA ?_ (by first | assumption | omega))) (by first | assumption | omega)) ?_
  refine Ends.ct l (by decide +kernel) (by decide) (c_export139 l (by omega) hn T s1 s2 s3 x) (fun v h1 l1 _ _ _ w => ?_)
  refine Ends.eq (b28_12 (n := n) (by (repeat' first | assumption | refine LX.setF _ _ ?_ (by decide +kernel) | refine LX.setS ?_ rfl | refine LX.setA ?_ (by first | assumption | omega))) (by first | assumption | omega)) ?_
  exact Ends.sm (K _ _ ⟨ho, w⟩)
end SHEET
