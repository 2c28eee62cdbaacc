/-! L3: the text of a solid -/
def catN (f : Nat → List Int) : Nat → List Int
  | 0 => []
  | k + 1 => catN f k ++ f k
theorem catN_len {f : Nat → List Int} {b : Nat → Bool} : ∀ N, (∀ x, x < N → (f x).length ≤ if b x = true then 24 else 0) → (catN f N).length ≤ 24 * cntN b N
  | 0, _ => Nat.le_refl _
  | N + 1, h => by
    have ih := catN_len N (fun x hx => h x (by omega))
    have h1 := h N (by omega)
    show (catN f N ++ f N).length ≤ _
    rw [List.length_append, cntN_s]
    by_cases e : b N = true
    · rw [if_pos e] at h1 ⊢; omega
    · rw [if_neg e] at h1 ⊢; omega
theorem catN_nil {f : Nat → List Int} {p : Nat} : ∀ m, (∀ x, p ≤ x → x < p + m → f x = []) → catN f (p + m) = catN f p
  | 0, _ => rfl
  | m + 1, h => by
    show catN f (p + m) ++ f (p + m) = _
    rw [catN_nil m (fun x h1 h2 => h x h1 (by omega)), h _ (by omega) (by omega), List.append_nil]
theorem catN_congr {f g : Nat → List Int} : ∀ N, (∀ x, x < N → f x = g x) → catN f N = catN g N
  | 0, _ => rfl
  | N + 1, h => by
    show catN f N ++ f N = catN g N ++ g N
    rw [catN_congr N (fun x hx => h x (by omega)), h N (by omega)]
theorem catN_mono {f : Nat → List Int} {i : Nat} : ∀ j, i ≤ j → (catN f i).length ≤ (catN f j).length
  | 0, h => by rw [Nat.le_zero.mp h]; exact Nat.le_refl _
  | j + 1, h => by
    by_cases e : i = j + 1
    · rw [e]; exact Nat.le_refl _
    · have := catN_mono (f := f) (i := i) j (by omega)
      show _ ≤ (catN f j ++ f j).length
      rw [List.length_append]; omega
def sRun : List Int := [35, 48, 61, 82, 85, 78, 40]
def sEnd : List Int := [41, 59]
def sGr : List Int := [71, 82, 65, 73, 78, 83, 32]
def sFin : List Int := [69, 78, 68, 59]
def sSem : List Int := [59]
/-- how long a run is from x on, within c -/
def lnF (r : Nat → Bool) : Nat → Nat → Nat
  | 0, _ => 0
  | c + 1, x => if r x = true then lnF r c (x + 1) + 1 else 0
theorem lnF_le {r : Nat → Bool} : ∀ c x, lnF r c x ≤ c
  | 0, _ => Nat.le_refl _
  | c + 1, x => by
    have := lnF_le (r := r) c (x + 1)
    show (if r x = true then lnF r c (x + 1) + 1 else 0) ≤ c + 1
    split <;> omega
theorem lnF_is {r : Nat → Bool} : ∀ c x m, m ≤ c → (∀ j, x ≤ j → j < x + m → r j = true) → (m = c ∨ r (x + m) = false) → lnF r c x = m
  | 0, x, m, h, _, _ => by
    have : m = 0 := by omega
    rw [this]; rfl
  | c + 1, x, 0, _, _, h3 => by
    have : r x = false := by
      rcases h3 with h | h
      · exact absurd h (by omega)
      · exact h
    show (if r x = true then lnF r c (x + 1) + 1 else 0) = 0
    rw [this]; rfl
  | c + 1, x, m + 1, h1, h2, h3 => by
    have ih := lnF_is (r := r) c (x + 1) m (by omega) (fun j a b => h2 j (by omega) (by omega)) (by rcases h3 with h | h; exact Or.inl (by omega); exact Or.inr (by rw [show x + 1 + m = x + (m + 1) by omega]; exact h))
    show (if r x = true then lnF r c (x + 1) + 1 else 0) = m + 1
    rw [h2 x (by omega) (by omega), if_pos rfl, ih]
theorem lnF_sp {r : Nat → Bool} : ∀ c x, (∀ j, x ≤ j → j < x + lnF r c x → r j = true) ∧ (lnF r c x = c ∨ r (x + lnF r c x) = false)
  | 0, x => ⟨fun j h1 h2 => absurd h2 (by show ¬ j < x + 0; omega), Or.inl rfl⟩
  | c + 1, x => by
    obtain ⟨i1, i2⟩ := lnF_sp (r := r) c (x + 1)
    cases e : r x
    · have : lnF r (c + 1) x = 0 := by
        show (if r x = true then lnF r c (x + 1) + 1 else 0) = 0
        rw [e]; rfl
      rw [this]
      exact ⟨fun j h1 h2 => by omega, Or.inr e⟩
    · have : lnF r (c + 1) x = lnF r c (x + 1) + 1 := by
        show (if r x = true then lnF r c (x + 1) + 1 else 0) = _
        rw [e]; rfl
      rw [this]
      refine ⟨fun j h1 h2 => ?_, ?_⟩
      · by_cases w : j = x
        · rw [w]; exact e
        · exact i1 j (by omega) (by omega)
      · rcases i2 with i2 | i2
        · exact Or.inl (by omega)
        · exact Or.inr (by rw [show x + (lnF r c (x + 1) + 1) = x + 1 + lnF r c (x + 1) by omega]; exact i2)
/-- a run begins at x -/
def begB (r : Nat → Bool) (x : Nat) : Bool := r x && !(decide (0 < x) && r (x - 1))
/-- a run's line -/
def runT (t z y x m : Nat) : List Int := sRun ++ digF 2 t ++ [44] ++ digF 2 z ++ [44] ++ digF 2 y ++ [44] ++ digF 2 x ++ [44] ++ digF 2 m ++ sEnd ++ [10]
theorem runT_len {t z y x m : Nat} : (runT t z y x m).length ≤ 24 := by
  have a1 := dig_len 2 t
  have a2 := dig_len 2 z
  have a3 := dig_len 2 y
  have a4 := dig_len 2 x
  have a5 := dig_len 2 m
  unfold runT
  simp only [List.length_append]
  show 7 + _ + 1 + _ + 1 + _ + 1 + _ + 1 + _ + 2 + 1 ≤ 24
  omega
/-- what is told of place x of a row -/
def rowX (t z y n : Nat) (r : Nat → Bool) (x : Nat) : List Int := if begB r x = true then runT t z y x (lnF r (n - x) x) else []
theorem rowX_len {t z y n : Nat} {r : Nat → Bool} : ∀ x, (rowX t z y n r x).length ≤ if begB r x = true then 24 else 0 := fun x => by
  unfold rowX
  by_cases e : begB r x = true
  · rw [if_pos e, if_pos e]; exact runT_len
  · rw [if_neg e, if_neg e]; exact Nat.le_refl _
def rowT (n k : Nat) (r : Nat → Bool) : List Int := catN (rowX (k / (n * n)) (k / n % n) (k % n) n r) n
/-- the text of all runs -/
def runsT (n : Nat) (R : Nat → Nat → Bool) (K : Nat) : List Int := catN (fun k => rowT n k (R k)) K
theorem runsT_len {n : Nat} {R : Nat → Nat → Bool} : ∀ K, (runsT n R K).length ≤ 24 * cntR n (fun k => begB (R k)) K
  | 0 => Nat.le_refl _
  | K + 1 => by
    have ih := runsT_len (n := n) (R := R) K
    have h1 : (rowT n K (R K)).length ≤ 24 * cntN (begB (R K)) n := catN_len n (fun x _ => rowX_len x)
    show (runsT n R K ++ rowT n K (R K)).length ≤ 24 * (cntR n (fun k => begB (R k)) K + cntN (begB (R K)) n)
    rw [List.length_append]; omega
/-- the texts that both sides say -/
def TxO (gv : Nat → Int) (B : Nat) (h : AH) : Prop := TxS gv B h (gv 13) sGr ∧ TxS gv B h (gv 18) sRun ∧ TxS gv B h (gv 19) sEnd ∧ TxS gv B h (gv 14) sFin ∧ TxS gv B h (gv 12) sSem
theorem TxO.ext {gv : Nat → Int} {B : Nat} {h t : AH} {W : Nat → Nat → Prop} {cc ss : Nat} (T : TxO gv B h) (g : Ext W cc ss h t) (hb : B + 246 ≤ hnx h) (hW : ∀ a k, a < B → ¬ W a k) : TxO gv B t :=
  ⟨T.1.ext g hb hW, T.2.1.ext g hb hW, T.2.2.1.ext g hb hW, T.2.2.2.1.ext g hb hW, T.2.2.2.2.ext g hb hW⟩
section TELL
variable {gv : Nat → Int} {B n d : Nat} {q : AH} {a N t z y x m : Nat} {bs : List Int}
/-- the desk tells a run -/
theorem tell_run {x4 x6 : Int} {u5 u7 u9 : AV} {P : Rs → Prop} (l : LX B n q) (hd : 18 ≤ d) (T : TxO gv B q) (o : OutC B q a N bs) (hm : bs.length ≤ 29900) (ht : t < 100) (hz : z < 100) (hy : y < 100) (hx : x < 100) (hm1 : m < 100)
    (K : ∀ q' a' N', LX B n q' → OutC B q' a' N' (bs ++ runT t z y x m) → Wrs (outW B) a N q q' a' N' → Ends (ev PP (gsF gv) B d 153 101 [(2, rf (B + 143)), (0, (t : Int)), (0, (z : Int)), (0, (y : Int)), (1, x4), u5, (1, x6), u7, (0, (x : Int)), (0, (m : Int))] [] q') P) :
    Ends (ev PP (gsF gv) B d 153 30 [(2, rf (B + 143)), (0, (t : Int)), (0, (z : Int)), (0, (y : Int)), (1, x4), u5, (1, x6), u7, (0, (x : Int)), u9] [(0, (m : Int))] q) P := by
  have hb0 := l.2.2
  have p2 : (10 : Nat) ^ (1 + 1) = 100 := by decide
  refine Ends.eq (b153_30 (n := n) (by (repeat' first | assumption | refine LX.setF _ _ ?_ (by decide +kernel) | refine LX.setS ?_ rfl | refine LX.setA ?_ (by first | assumption | omega))) (by first | assumption | omega)) ?_
  refine Ends.cv l (by decide +kernel) (c_sayS151 l (by omega) T.2.1 o (by show _ + 7 ≤ 30001; omega)) (fun q1 l1 _ _ _ ⟨a1, N1, o1, v1⟩ => ?_)
  have w1 := v1
  obtain ⟨b1, eb1, lb1⟩ : ∃ b1, b1 = bs ++ sRun ∧ b1.length ≤ bs.length + 7 := ⟨_, rfl, by rw [List.length_append]; exact Nat.le_refl _⟩
  rw [← eb1] at o1
  refine Ends.eq (b153_38 (n := n) (by (repeat' first | assumption | refine LX.setF _ _ ?_ (by decide +kernel) | refine LX.setS ?_ rfl | refine LX.setA ?_ (by first | assumption | omega))) (by first | assumption | omega)) ?_
  refine Ends.cv l1 (by decide +kernel) (c_sayN152 1 t l1 (by omega) (by decide) (by omega) o1 (by omega)) (fun q2 l2 _ _ _ ⟨a2, N2, o2, v2⟩ => ?_)
  have w2 := w1.tr v2 outW_tr
  obtain ⟨b2, eb2, lb2⟩ : ∃ b2, b2 = b1 ++ digF (1 + 1) t ∧ b2.length ≤ b1.length + 2 := ⟨_, rfl, by rw [List.length_append]; have := dig_len (1 + 1) t; omega⟩
  rw [← eb2] at o2
  refine Ends.eq (b153_43 (n := n) (by (repeat' first | assumption | refine LX.setF _ _ ?_ (by decide +kernel) | refine LX.setS ?_ rfl | refine LX.setA ?_ (by first | assumption | omega))) (by first | assumption | omega)) ?_
  refine Ends.cv l2 (by decide +kernel) (c_say150 (c := 44) l2 (by omega) o2 (by omega) (by decide) (by decide)) (fun q3 l3 _ _ _ ⟨a3, N3, o3, v3⟩ => ?_)
  have w3 := w2.tr v3 outW_tr
  obtain ⟨b3, eb3, lb3⟩ : ∃ b3, b3 = b2 ++ [44] ∧ b3.length ≤ b2.length + 1 := ⟨_, rfl, by rw [List.length_append]; exact Nat.le_refl _⟩
  rw [← eb3] at o3
  refine Ends.eq (b153_49 (n := n) (by (repeat' first | assumption | refine LX.setF _ _ ?_ (by decide +kernel) | refine LX.setS ?_ rfl | refine LX.setA ?_ (by first | assumption | omega))) (by first | assumption | omega)) ?_
  refine Ends.cv l3 (by decide +kernel) (c_sayN152 1 z l3 (by omega) (by decide) (by omega) o3 (by omega)) (fun q4 l4 _ _ _ ⟨a4, N4, o4, v4⟩ => ?_)
  have w4 := w3.tr v4 outW_tr
  obtain ⟨b4, eb4, lb4⟩ : ∃ b4, b4 = b3 ++ digF (1 + 1) z ∧ b4.length ≤ b3.length + 2 := ⟨_, rfl, by rw [List.length_append]; have := dig_len (1 + 1) z; omega⟩
  rw [← eb4] at o4
  refine Ends.eq (b153_54 (n := n) (by (repeat' first | assumption | refine LX.setF _ _ ?_ (by decide +kernel) | refine LX.setS ?_ rfl | refine LX.setA ?_ (by first | assumption | omega))) (by first | assumption | omega)) ?_
  refine Ends.cv l4 (by decide +kernel) (c_say150 (c := 44) l4 (by omega) o4 (by omega) (by decide) (by decide)) (fun q5 l5 _ _ _ ⟨a5, N5, o5, v5⟩ => ?_)
  have w5 := w4.tr v5 outW_tr
  obtain ⟨b5, eb5, lb5⟩ : ∃ b5, b5 = b4 ++ [44] ∧ b5.length ≤ b4.length + 1 := ⟨_, rfl, by rw [List.length_append]; exact Nat.le_refl _⟩
  rw [← eb5] at o5
  refine Ends.eq (b153_60 (n := n) (by (repeat' first | assumption | refine LX.setF _ _ ?_ (by decide +kernel) | refine LX.setS ?_ rfl | refine LX.setA ?_ (by first | assumption | omega))) (by first | assumption | omega)) ?_
  refine Ends.cv l5 (by decide +kernel) (c_sayN152 1 y l5 (by omega) (by decide) (by omega) o5 (by omega)) (fun q6 l6 _ _ _ ⟨a6, N6, o6, v6⟩ => ?_)
  have w6 := w5.tr v6 outW_tr
  obtain ⟨b6, eb6, lb6⟩ : ∃ b6, b6 = b5 ++ digF (1 + 1) y ∧ b6.length ≤ b5.length + 2 := ⟨_, rfl, by rw [List.length_append]; have := dig_len (1 + 1) y; omega⟩
  rw [← eb6] at o6
  refine Ends.eq (b153_65 (n := n) (by (repeat' first | assumption | refine LX.setF _ _ ?_ (by decide +kernel) | refine LX.setS ?_ rfl | refine LX.setA ?_ (by first | assumption | omega))) (by first | assumption | omega)) ?_
  refine Ends.cv l6 (by decide +kernel) (c_say150 (c := 44) l6 (by omega) o6 (by omega) (by decide) (by decide)) (fun q7 l7 _ _ _ ⟨a7, N7, o7, v7⟩ => ?_)
  have w7 := w6.tr v7 outW_tr
  obtain ⟨b7, eb7, lb7⟩ : ∃ b7, b7 = b6 ++ [44] ∧ b7.length ≤ b6.length + 1 := ⟨_, rfl, by rw [List.length_append]; exact Nat.le_refl _⟩
  rw [← eb7] at o7
  refine Ends.eq (b153_71 (n := n) (by (repeat' first | assumption | refine LX.setF _ _ ?_ (by decide +kernel) | refine LX.setS ?_ rfl | refine LX.setA ?_ (by first | assumption | omega))) (by first | assumption | omega)) ?_
  refine Ends.cv l7 (by decide +kernel) (c_sayN152 1 x l7 (by omega) (by decide) (by omega) o7 (by omega)) (fun q8 l8 _ _ _ ⟨a8, N8, o8, v8⟩ => ?_)
  have w8 := w7.tr v8 outW_tr
  obtain ⟨b8, eb8, lb8⟩ : ∃ b8, b8 = b7 ++ digF (1 + 1) x ∧ b8.length ≤ b7.length + 2 := ⟨_, rfl, by rw [List.length_append]; have := dig_len (1 + 1) x; omega⟩
  rw [← eb8] at o8
  refine Ends.eq (b153_77 (n := n) (by (repeat' first | assumption | refine LX.setF _ _ ?_ (by decide +kernel) | refine LX.setS ?_ rfl | refine LX.setA ?_ (by first | assumption | omega))) (by first | assumption | omega)) ?_
  refine Ends.cv l8 (by decide +kernel) (c_say150 (c := 44) l8 (by omega) o8 (by omega) (by decide) (by decide)) (fun q9 l9 _ _ _ ⟨a9, N9, o9, v9⟩ => ?_)
  have w9 := w8.tr v9 outW_tr
  obtain ⟨b9, eb9, lb9⟩ : ∃ b9, b9 = b8 ++ [44] ∧ b9.length ≤ b8.length + 1 := ⟨_, rfl, by rw [List.length_append]; exact Nat.le_refl _⟩
  rw [← eb9] at o9
  refine Ends.eq (b153_83 (n := n) (by (repeat' first | assumption | refine LX.setF _ _ ?_ (by decide +kernel) | refine LX.setS ?_ rfl | refine LX.setA ?_ (by first | assumption | omega))) (by first | assumption | omega)) ?_
  refine Ends.cv l9 (by decide +kernel) (c_sayN152 1 m l9 (by omega) (by decide) (by omega) o9 (by omega)) (fun q10 l10 _ _ _ ⟨a10, N10, o10, v10⟩ => ?_)
  have w10 := w9.tr v10 outW_tr
  obtain ⟨b10, eb10, lb10⟩ : ∃ b10, b10 = b9 ++ digF (1 + 1) m ∧ b10.length ≤ b9.length + 2 := ⟨_, rfl, by rw [List.length_append]; have := dig_len (1 + 1) m; omega⟩
  rw [← eb10] at o10
  refine Ends.eq (b153_89 (n := n) (by (repeat' first | assumption | refine LX.setF _ _ ?_ (by decide +kernel) | refine LX.setS ?_ rfl | refine LX.setA ?_ (by first | assumption | omega))) (by first | assumption | omega)) ?_
  have Te := T.ext w10.2.2 hb0 (fun b k hb w => by have := o.2.2.1; unfold outW at w; omega)
  refine Ends.cv l10 (by decide +kernel) (c_sayS151 l10 (by omega) Te.2.2.1 o10 (by show _ + 2 ≤ 30001; omega)) (fun q11 l11 _ _ _ ⟨a11, N11, o11, v11⟩ => ?_)
  have w11 := w10.tr v11 outW_tr
  obtain ⟨b11, eb11, lb11⟩ : ∃ b11, b11 = b10 ++ sEnd ∧ b11.length ≤ b10.length + 2 := ⟨_, rfl, by rw [List.length_append]; exact Nat.le_refl _⟩
  rw [← eb11] at o11
  refine Ends.eq (b153_95 (n := n) (by (repeat' first | assumption | refine LX.setF _ _ ?_ (by decide +kernel) | refine LX.setS ?_ rfl | refine LX.setA ?_ (by first | assumption | omega))) (by first | assumption | omega)) ?_
  refine Ends.cv l11 (by decide +kernel) (c_say150 (c := 10) l11 (by omega) o11 (by omega) (by decide) (by decide)) (fun q12 l12 _ _ _ ⟨a12, N12, o12, v12⟩ => ?_)
  have w12 := w11.tr v12 outW_tr
  obtain ⟨b12, eb12, lb12⟩ : ∃ b12, b12 = b11 ++ [10] ∧ b12.length ≤ b11.length + 1 := ⟨_, rfl, by rw [List.length_append]; exact Nat.le_refl _⟩
  rw [← eb12] at o12
  have eb : b12 = bs ++ runT t z y x m := by
    rw [eb12, eb11, eb10, eb9, eb8, eb7, eb6, eb5, eb4, eb3, eb2, eb1]
    unfold runT
    simp only [List.append_assoc]
  rw [eb] at o12
  exact K q12 a12 N12 l12 o12 w12
end TELL
