/-! L2: the steps of a run as equations -/
def gd {α : Type} (c : Prop) [Decidable c] (t : Option α) : Option α := if c then t else none
theorem gd_pos {α : Type} {c : Prop} [Decidable c] {t : Option α} (h : c) : gd c t = t := if_pos h
theorem gd_neg {α : Type} {c : Prop} [Decidable c] {t : Option α} (h : ¬ c) : gd c t = none := if_neg h
theorem gd_congr {α : Type} {c : Prop} [Decidable c] {t u : Option α} (h : c → t = u) : gd c t = gd c u := by
  by_cases hc : c
  · rw [gd_pos hc, gd_pos hc, h hc]
  · rw [gd_neg hc, gd_neg hc]
theorem gd_of {α : Type} {c : Prop} [Decidable c] {t u : Option α} (hc : c) (h : t = u) : gd c t = u := (gd_pos hc).trans h
theorem gd_some {α : Type} {c : Prop} [Decidable c] {t : Option α} {r : α} : gd c t = some r ↔ c ∧ t = some r := by
  by_cases hc : c
  · rw [gd_pos hc]; exact ⟨fun h => ⟨hc, h⟩, fun h => h.2⟩
  · rw [gd_neg hc]; exact ⟨fun h => (by cases h), fun h => absurd h.1 hc⟩
theorem brc_congr {α : Type} {o : Nat} {x y : Int} {t f t2 f2 : α} (ht : cnd o x y → t = t2) (hf : ¬ cnd o x y → f = f2) : brc o x y t f = brc o x y t2 f2 := by
  by_cases h : cnd o x y
  · rw [brc_cnd.1 h, brc_cnd.1 h, ht h]
  · rw [brc_cnd.2 h, brc_cnd.2 h, hf h]
section STP
variable {P : PT} {gs : Nat → AV} {B d j pc a nx : Nat} {b : Int} {L st : List AV} {h : AH}
/-- a step, as the table has it -/
theorem ev_at {i : Nat × Nat × Int × Nat} (c : pCode P j pc = some i) : ev P gs B d j pc L st h = exec1 P gs B j pc i.1 i.2.1 i.2.2.1 i.2.2.2 L st h (ev P gs B d j) (cll P (ev P gs B) d) := by
  rw [ev_eq]
  unfold stp
  rw [c]
theorem s0 (c : pCode P j pc = some (0, a, b, nx)) : ev P gs B d j pc L st h = ev P gs B d j nx L ((0, b) :: st) h := ev_at c
theorem s1 (c : pCode P j pc = some (1, a, b, nx)) : ev P gs B d j pc L st h = ev P gs B d j nx L ((1, b) :: st) h := ev_at c
theorem s2 (c : pCode P j pc = some (2, a, b, nx)) : ev P gs B d j pc L st h = ev P gs B d j nx L ((2, 0) :: st) h := ev_at c
theorem s3 {t : Nat} {x : Int} (c : pCode P j pc = some (3, a, (t : Int), nx)) (hL : L[a]? = some (t, x)) : ev P gs B d j pc L st h = ev P gs B d j nx L ((t, x) :: st) h := by
  rw [ev_at c]
  show (match L[a]? with
    | some q => if (q.1 : Int) = (t : Int) then ev P gs B d j nx L (q :: st) h else none
    | none => none) = _
  rw [hL]
  exact if_pos rfl
theorem s4 {t : Nat} {x : Int} (c : pCode P j pc = some (4, a, (t : Int), nx)) : ev P gs B d j pc L ((t, x) :: st) h = ev P gs B d j nx (lst1 L a (t, x)) st h := by
  rw [ev_at c]
  unfold exec1
  dsimp only
  exact if_pos rfl
theorem s5 {x : Int} (c : pCode P j pc = some (5, a, b, nx)) : ev P gs B d j pc L ((1, x) :: st) h = ev P gs B d j nx (lst2 L a (1, x)) st h := by
  rw [ev_at c]
  unfold exec1
  dsimp only
  exact if_pos rfl
theorem s6 {x : Int} (c : pCode P j pc = some (6, a, b, nx)) (hL : L[a]? = some (0, x)) : ev P gs B d j pc L st h = ev P gs B d j nx (lst1 L a (0, w32 (x + b))) st h := by
  rw [ev_at c]
  show (match L[a]? with
    | some q => if q.1 = 0 then ev P gs B d j nx (lst1 L a (0, w32 (q.2 + b))) st h else none
    | none => none) = _
  rw [hL]
  exact if_pos rfl
/-- a sum that cannot be a division -/
theorem s7 {x y : Int} (c : pCode P j pc = some (7, a, b, nx)) (hd : ¬ (a = 108 ∨ a = 112)) : ev P gs B d j pc L ((0, y) :: (0, x) :: st) h = ev P gs B d j nx L ((0, bop32 a x y) :: st) h := by
  rw [ev_at c]
  unfold exec1
  dsimp only
  exact (if_pos ⟨rfl, rfl⟩).trans (if_neg (fun q => hd q.1))
theorem s7d {x y : Int} (c : pCode P j pc = some (7, a, b, nx)) (hd : a = 108 ∨ a = 112) : ev P gs B d j pc L ((0, y) :: (0, x) :: st) h = gd (y ≠ 0) (ev P gs B d j nx L ((0, bop32 a x y) :: st) h) := by
  rw [ev_at c]
  unfold exec1
  dsimp only
  refine (if_pos ⟨rfl, rfl⟩).trans ?_
  by_cases hy : y = 0
  · rw [gd_neg (fun q => q hy)]
    exact if_pos ⟨hd, hy⟩
  · rw [gd_pos hy]
    exact if_neg (fun q => hy q.2)
theorem s8 {x y : Int} (c : pCode P j pc = some (8, a, b, nx)) (hd : ¬ (a = 109 ∨ a = 113)) : ev P gs B d j pc L ((1, y) :: (1, x) :: st) h = ev P gs B d j nx L ((1, bop64 a x y) :: st) h := by
  rw [ev_at c]
  unfold exec1
  dsimp only
  exact (if_pos ⟨rfl, rfl⟩).trans (if_neg (fun q => hd q.1))
theorem s8d {x y : Int} (c : pCode P j pc = some (8, a, b, nx)) (hd : a = 109 ∨ a = 113) : ev P gs B d j pc L ((1, y) :: (1, x) :: st) h = gd (y ≠ 0) (ev P gs B d j nx L ((1, bop64 a x y) :: st) h) := by
  rw [ev_at c]
  unfold exec1
  dsimp only
  refine (if_pos ⟨rfl, rfl⟩).trans ?_
  by_cases hy : y = 0
  · rw [gd_neg (fun q => q hy)]
    exact if_pos ⟨hd, hy⟩
  · rw [gd_pos hy]
    exact if_neg (fun q => hy q.2)
theorem s9 {x y : Int} (c : pCode P j pc = some (9, a, b, nx)) : ev P gs B d j pc L ((0, y) :: (1, x) :: st) h = ev P gs B d j nx L ((1, sop64 a x y) :: st) h := by
  rw [ev_at c]
  unfold exec1
  dsimp only
  exact if_pos ⟨rfl, rfl⟩
theorem s10 {t : Nat} {x : Int} (c : pCode P j pc = some (10, a, b, nx)) (ht : t = ufr a) : ev P gs B d j pc L ((t, x) :: st) h = ev P gs B d j nx L ((uto a, uop a x) :: st) h := by
  rw [ev_at c]
  unfold exec1
  dsimp only
  exact if_pos ht
theorem s11 {x y : Int} (c : pCode P j pc = some (11, a, b, nx)) : ev P gs B d j pc L ((1, y) :: (1, x) :: st) h = ev P gs B d j nx L ((0, cmp64 x y) :: st) h := by
  rw [ev_at c]
  unfold exec1
  dsimp only
  exact if_pos ⟨rfl, rfl⟩
theorem s12 {q : AV} (c : pCode P j pc = some (12, a, b, nx)) (hq : ¬ q.1 = 1) : ev P gs B d j pc L (q :: st) h = ev P gs B d j nx L (q :: q :: st) h := by
  rw [ev_at c]
  unfold exec1
  dsimp only
  exact if_neg hq
theorem s13 {q q2 : AV} (c : pCode P j pc = some (13, a, b, nx)) (hq : ¬ (q.1 = 1 ∨ q2.1 = 1)) : ev P gs B d j pc L (q :: q2 :: st) h = ev P gs B d j nx L (q :: q2 :: q :: st) h := by
  rw [ev_at c]
  unfold exec1
  dsimp only
  exact if_neg hq
theorem s14 {x : Int} (c : pCode P j pc = some (14, a, b, nx)) : ev P gs B d j pc L ((1, x) :: st) h = ev P gs B d j nx L ((1, x) :: (1, x) :: st) h := by
  rw [ev_at c]
  unfold exec1
  dsimp only
  exact if_pos rfl
theorem s14b {q q2 : AV} (c : pCode P j pc = some (14, a, b, nx)) (hq : ¬ q.1 = 1) (hq2 : ¬ q2.1 = 1) : ev P gs B d j pc L (q :: q2 :: st) h = ev P gs B d j nx L (q :: q2 :: q :: q2 :: st) h := by
  rw [ev_at c]
  unfold exec1
  dsimp only
  exact (if_neg hq).trans (if_neg hq2)
theorem s15 {q : AV} (c : pCode P j pc = some (15, a, b, nx)) (hq : ¬ q.1 = 1) : ev P gs B d j pc L (q :: st) h = ev P gs B d j nx L st h := by
  rw [ev_at c]
  unfold exec1
  dsimp only
  exact if_neg hq
theorem s16 {x : Int} (c : pCode P j pc = some (16, a, b, nx)) : ev P gs B d j pc L ((0, x) :: st) h = brc a x 0 (ev P gs B d j b.toNat L st h) (ev P gs B d j nx L st h) := by
  rw [ev_at c]
  unfold exec1
  dsimp only
  exact if_pos rfl
theorem s17 {x y : Int} (c : pCode P j pc = some (17, a, b, nx)) : ev P gs B d j pc L ((0, y) :: (0, x) :: st) h = brc a x y (ev P gs B d j b.toNat L st h) (ev P gs B d j nx L st h) := by
  rw [ev_at c]
  unfold exec1
  dsimp only
  exact if_pos ⟨rfl, rfl⟩
theorem s18 {x : Int} (c : pCode P j pc = some (18, a, b, nx)) : ev P gs B d j pc L ((2, x) :: st) h = brc 0 x 0 (ev P gs B d j b.toNat L st h) (ev P gs B d j nx L st h) := by
  rw [ev_at c]
  unfold exec1
  dsimp only
  exact if_pos rfl
theorem s19 {x : Int} (c : pCode P j pc = some (19, a, b, nx)) : ev P gs B d j pc L ((2, x) :: st) h = brc 0 x 0 (ev P gs B d j nx L st h) (ev P gs B d j b.toNat L st h) := by
  rw [ev_at c]
  unfold exec1
  dsimp only
  exact if_pos rfl
theorem s20 (c : pCode P j pc = some (20, a, b, nx)) : ev P gs B d j pc L st h = ev P gs B d j b.toNat L st h := ev_at c
theorem s21 {x : Int} (c : pCode P j pc = some (21, a, b, nx)) : ev P gs B d j pc L ((0, x) :: st) h = ev P gs B d j (pSw P j pc x) L st h := by
  rw [ev_at c]
  unfold exec1
  dsimp only
  exact if_pos rfl
theorem s22 {x : Int} (c : pCode P j pc = some (22, a, b, nx)) : ev P gs B d j pc L ((2, x) :: st) h = gd (0 < x ∧ hk h (ad x) = (1, a)) (ev P gs B d j nx L ((vt (pFt P a b.toNat), hv h (ad x) b.toNat) :: st) h) := by
  rw [ev_at c]
  unfold exec1
  dsimp only
  exact if_pos rfl
theorem s23 {t : Nat} {x v : Int} (c : pCode P j pc = some (23, a, b, nx)) (ht : t = vt (pFt P a b.toNat)) : ev P gs B d j pc L ((t, v) :: (2, x) :: st) h = gd (0 < x ∧ hk h (ad x) = (1, a) ∧ B ≤ ad x ∧ okp (pFt P a b.toNat) v = true) (ev P gs B d j nx L st (hset h (ad x) b.toNat v)) := by
  rw [ev_at c]
  unfold exec1
  dsimp only
  exact if_pos ⟨rfl, ht⟩
theorem s24 {x i : Int} (c : pCode P j pc = some (24, a, b, nx)) : ev P gs B d j pc L ((0, i) :: (2, x) :: st) h = gd (0 < x ∧ (hk h (ad x)).1 = a + 2 ∧ 0 ≤ i ∧ i < (hk h (ad x)).2) (ev P gs B d j nx L ((et a, hv h (ad x) i.toNat) :: st) h) := by
  rw [ev_at c]
  unfold exec1
  dsimp only
  exact if_pos ⟨rfl, rfl⟩
theorem s25 {t : Nat} {x i v : Int} (c : pCode P j pc = some (25, a, b, nx)) (ht : t = et a) : ev P gs B d j pc L ((t, v) :: (0, i) :: (2, x) :: st) h = gd (0 < x ∧ (hk h (ad x)).1 = a + 2 ∧ 0 ≤ i ∧ i < (hk h (ad x)).2 ∧ B ≤ ad x) (ev P gs B d j nx L st (hset h (ad x) i.toNat (anar a v))) := by
  rw [ev_at c]
  unfold exec1
  dsimp only
  exact if_pos ⟨rfl, rfl, ht⟩
theorem s26 {x i v : Int} (c : pCode P j pc = some (26, a, b, nx)) : ev P gs B d j pc L ((2, v) :: (0, i) :: (2, x) :: st) h = gd (0 < x ∧ (hk h (ad x)).1 = a + 4 + 2 ∧ 0 ≤ i ∧ i < (hk h (ad x)).2 ∧ B ≤ ad x ∧ (v = 0 ∨ (0 < v ∧ pRo P a (hk h (ad v)) = true))) (ev P gs B d j nx L st (hset h (ad x) i.toNat v)) := by
  rw [ev_at c]
  unfold exec1
  dsimp only
  exact if_pos ⟨rfl, rfl, rfl⟩
theorem s27 {x : Int} (c : pCode P j pc = some (27, a, b, nx)) : ev P gs B d j pc L ((2, x) :: st) h = gd (0 < x ∧ 2 ≤ (hk h (ad x)).1) (ev P gs B d j nx L ((0, ((hk h (ad x)).2 : Int)) :: st) h) := by
  rw [ev_at c]
  unfold exec1
  dsimp only
  exact if_pos rfl
theorem s28 {n : Int} (c : pCode P j pc = some (28, a, b, nx)) : ev P gs B d j pc L ((0, n) :: st) h = gd (0 ≤ n ∧ n ≤ 16777216) (ev P gs B d j nx L ((2, (hnx h : Int) + 1) :: st) (hnew h (a + 2, n.toNat) n.toNat)) := by
  rw [ev_at c]
  unfold exec1
  dsimp only
  exact if_pos rfl
theorem s29 (c : pCode P j pc = some (29, a, b, nx)) : ev P gs B d j pc L st h = ev P gs B d j nx L ((2, (hnx h : Int) + 1) :: st) (hnew h (1, a) (pNf P a)) := ev_at c
theorem s30 {n : Int} (c : pCode P j pc = some (30, a, b, nx)) : ev P gs B d j pc L ((0, n) :: st) h = gd (0 ≤ n ∧ n ≤ 16777216) (ev P gs B d j nx L ((2, (hnx h : Int) + 1) :: st) (hnew h (a + 4 + 2, n.toNat) n.toNat)) := by
  rw [ev_at c]
  unfold exec1
  dsimp only
  exact if_pos rfl
theorem s31 (c : pCode P j pc = some (31, a, b, nx)) : ev P gs B d j pc L st h = ev P gs B d j nx L (gs a :: st) h := ev_at c
theorem s36 {x : Int} (c : pCode P j pc = some (36, a, b, nx)) (hs : csum st ≤ 8) : ev P gs B d j pc L ((2, x) :: st) h = gd (0 < x) (ev P gs B d j nx L st h) := by
  rw [ev_at c]
  unfold exec1
  dsimp only
  exact if_pos ⟨rfl, hs⟩
theorem s37 (c : pCode P j pc = some (37, a, b, nx)) (hs : csum st ≤ 8) : ev P gs B d j pc L st h = ev P gs B d j nx L ((2, (hnx h : Int) + 1) :: st) (hnew h (1, a) 6) := by
  rw [ev_at c]
  unfold exec1
  dsimp only
  exact if_pos hs
theorem s38 {x : Int} (c : pCode P j pc = some (38, a, b, nx)) : ev P gs B d j pc L ((2, x) :: st) h = gd (0 < x ∧ (hk h (ad x)).1 = 1) (thr P j pc L x h (ev P gs B d j)) := by
  rw [ev_at c]
  unfold exec1
  dsimp only
  exact if_pos rfl
theorem s39 {x : Int} (c : pCode P j pc = some (39, a, b, nx)) : ev P gs B d j pc L [(a, x)] h = some ((0, (a, x)), h) := by
  rw [ev_at c]
  unfold exec1
  dsimp only
  exact if_pos rfl
theorem s40 {x : Int} (c : pCode P j pc = some (40, a, b, nx)) : ev P gs B d j pc L [(0, x)] h = gd (x = 0 ∨ x = 1) (some ((0, (0, x)), h)) := by
  rw [ev_at c]
  unfold exec1
  dsimp only
  exact if_pos rfl
theorem s41 (c : pCode P j pc = some (41, a, b, nx)) : ev P gs B d j pc L [] h = some ((0, (9, 0)), h) := ev_at c
theorem s43 {x : Int} (c : pCode P j pc = some (43, a, b, nx)) (hs : csum st ≤ 8) : ev P gs B d j pc L ((2, x) :: st) h = gd (0 < x ∧ hk h (ad x) = (1, 19) ∧ hv h (ad x) 1 = 0 ∧ B ≤ ad x) (ev P gs B d j nx L st h) := by
  rw [ev_at c]
  unfold exec1
  dsimp only
  exact if_pos ⟨rfl, hs⟩
theorem s32 {av rest : List AV} (c : pCode P j pc = some (32, a, b, nx)) (e : st = av.reverse ++ rest) (hn : av.length = pNa P a) (hs : csum rest ≤ 8) : ev P gs B d j pc L st h = aft P j pc nx L rest (ev P gs B d j) (cll P (ev P gs B) d a av h) := by
  rw [ev_at c]
  unfold exec1
  dsimp only
  have hl : av.reverse.length = pNa P a := by rw [List.length_reverse]; exact hn
  rw [e, ← hl, List.drop_left, List.take_left, List.reverse_reverse]
  exact if_pos ⟨by rw [List.length_append]; omega, hs⟩
theorem s33 {av rest : List AV} {x : Int} (c : pCode P j pc = some (33, a, b, nx)) (e : st = av.reverse ++ (2, x) :: rest) (hn : av.length + 1 = pNa P a) (hs : csum rest ≤ 8) : ev P gs B d j pc L st h = gd (0 < x ∧ hk h (ad x) = (1, pMc P a)) (aft P j pc nx L rest (ev P gs B d j) (cll P (ev P gs B) d a ((2, x) :: av) h)) := by
  rw [ev_at c]
  unfold exec1
  dsimp only
  have hl : av.reverse.length = pNa P a - 1 := by rw [List.length_reverse]; omega
  rw [e, ← hl, List.drop_left, List.take_left, List.reverse_reverse]
  exact if_pos ⟨rfl, by omega, hs⟩
theorem s34 {av rest : List AV} {x : Int} (c : pCode P j pc = some (34, a, b, nx)) (e : st = av.reverse ++ (2, x) :: rest) (hn : av.length + 1 = pNa P a) (hs : csum rest ≤ 8) : ev P gs B d j pc L st h = gd (0 < x) (aft P j pc nx L rest (ev P gs B d j) (cll P (ev P gs B) d a ((2, x) :: av) h)) := by
  rw [ev_at c]
  unfold exec1
  dsimp only
  have hl : av.reverse.length = pNa P a - 1 := by rw [List.length_reverse]; omega
  rw [e, ← hl, List.drop_left, List.take_left, List.reverse_reverse]
  exact if_pos ⟨rfl, by omega, hs⟩
theorem s35 {av rest : List AV} {x : Int} (c : pCode P j pc = some (35, a, b, nx)) (e : st = av.reverse ++ (2, x) :: rest) (hn : av.length + 1 = pNa P a) (hs : csum rest ≤ 8) : ev P gs B d j pc L st h = gd (0 < x ∧ (hk h (ad x)).1 = 1 ∧ pVt P a (hk h (ad x)).2 ≠ 0) (aft P j pc nx L rest (ev P gs B d j) (cll P (ev P gs B) d (pVt P a (hk h (ad x)).2) ((2, x) :: av) h)) := by
  rw [ev_at c]
  unfold exec1
  dsimp only
  have hl : av.reverse.length = pNa P a - 1 := by rw [List.length_reverse]; omega
  rw [e, ← hl, List.drop_left, List.take_left, List.reverse_reverse]
  exact if_pos ⟨rfl, by omega, hs⟩
theorem s44 {av rest : List AV} {x : Int} (c : pCode P j pc = some (44, a, b, nx)) (e : st = av.reverse ++ (2, x) :: rest) (hn : av.length + 1 = pNa P a) (hs : csum rest ≤ 8) : ev P gs B d j pc L st h = gd (0 < x ∧ (hk h (ad x)).1 = 1 ∧ pVt P a (hk h (ad x)).2 ≠ 0) (aft P j pc nx L rest (ev P gs B d j) (cll P (ev P gs B) d (pVt P a (hk h (ad x)).2) ((2, x) :: av) h)) := by
  rw [ev_at c]
  unfold exec1
  dsimp only
  have hl : av.reverse.length = pNa P a - 1 := by rw [List.length_reverse]; omega
  rw [e, ← hl, List.drop_left, List.take_left, List.reverse_reverse]
  exact if_pos ⟨rfl, by omega, hs⟩
theorem s42 {x y n dp sp : Int} (c : pCode P j pc = some (42, a, b, nx)) (hs : csum st ≤ 8) : ev P gs B d j pc L ((0, n) :: (0, dp) :: (2, x) :: (0, sp) :: (2, y) :: st) h = gd (0 < x ∧ 0 < y ∧ (hk h (ad x)).1 = a + 2 ∧ (hk h (ad y)).1 = a + 2 ∧ 0 ≤ n ∧ 0 ≤ dp ∧ 0 ≤ sp ∧ sp + n ≤ (hk h (ad y)).2 ∧ dp + n ≤ (hk h (ad x)).2 ∧ B ≤ ad x) (ev P gs B d j nx L st (hcpy h (ad y) (ad x) sp.toNat dp.toNat n.toNat)) := by
  rw [ev_at c]
  unfold exec1
  dsimp only
  exact if_pos ⟨rfl, rfl, rfl, rfl, rfl, hs⟩
/-- a call's end -/
theorem aft_ret {rest : List AV} {k : Nat → List AV → List AV → AH → Option Rs} {q : Option Rs} {v : AV} {h' : AH} (hq : q = some ((0, v), h')) (hv : ¬ v.1 = 9) : aft P j pc nx L rest k q = k nx L (v :: rest) h' := by
  rw [hq]
  show k nx L (if v.1 = 9 then rest else v :: rest) h' = _
  rw [if_neg hv]
theorem aft_void {rest : List AV} {k : Nat → List AV → List AV → AH → Option Rs} {q : Option Rs} {h' : AH} (hq : q = some ((0, (9, 0)), h')) : aft P j pc nx L rest k q = k nx L rest h' := by
  rw [hq]
  rfl
theorem aft_thr {rest : List AV} {k : Nat → List AV → List AV → AH → Option Rs} {q : Option Rs} {x : Int} {h' : AH} (hq : q = some ((1, (2, x)), h')) : aft P j pc nx L rest k q = thr P j pc L x h' k := by
  rw [hq]
  rfl
/-- a call goes in -/
theorem cll_in {f : Nat → Nat → Nat → List AV → List AV → AH → Option Rs} {av : List AV} (hl : (entL av).length ≤ pNl P j) : cll P f (d + 1) j av h = f d j 0 (ent (pNl P j) av) [] h := if_pos hl
theorem s4g {t : Nat} {x : Int} (c : pCode P j pc = some (4, a + 1, (t : Int), nx)) (hu : ¬ (L.getD a (9, 0)).1 = 1) : ev P gs B d j pc L ((t, x) :: st) h = ev P gs B d j nx (L.set (a + 1) (t, x)) st h := by
  rw [s4 c]
  unfold lst1
  dsimp only
  rw [if_neg hu]
theorem s5g {x : Int} (c : pCode P j pc = some (5, a + 1, b, nx)) (hu : ¬ (L.getD a (9, 0)).1 = 1) : ev P gs B d j pc L ((1, x) :: st) h = ev P gs B d j nx ((L.set (a + 1) (1, x)).set (a + 2) (9, 0)) st h := by
  rw [s5 c]
  unfold lst2 lst1
  dsimp only
  rw [if_neg hu]
theorem s6g {x : Int} (c : pCode P j pc = some (6, a + 1, b, nx)) (hL : L[a + 1]? = some (0, x)) (hu : ¬ (L.getD a (9, 0)).1 = 1) : ev P gs B d j pc L st h = ev P gs B d j nx (L.set (a + 1) (0, w32 (x + b))) st h := by
  rw [s6 c hL]
  unfold lst1
  dsimp only
  rw [if_neg hu]
theorem s22t {t : Nat} {x : Int} (c : pCode P j pc = some (22, a, b, nx)) (hf : vt (pFt P a b.toNat) = t) : ev P gs B d j pc L ((2, x) :: st) h = gd (0 < x ∧ hk h (ad x) = (1, a)) (ev P gs B d j nx L ((t, hv h (ad x) b.toNat) :: st) h) := by
  rw [s22 c, hf]
theorem t32 {av rest : List AV} (n : Nat) (c : pCode P j pc = some (32, a, b, nx)) (hp : pNa P a = n) (e : st = av.reverse ++ rest) (hn : av.length = n) (hs : csum rest ≤ 8) : ev P gs B d j pc L st h = aft P j pc nx L rest (ev P gs B d j) (cll P (ev P gs B) d a av h) := s32 c e (hn.trans hp.symm) hs
theorem t33 {av rest : List AV} {x : Int} (n m : Nat) (c : pCode P j pc = some (33, a, b, nx)) (hp : pNa P a = n) (hm : pMc P a = m) (e : st = av.reverse ++ (2, x) :: rest) (hn : av.length + 1 = n) (hs : csum rest ≤ 8) : ev P gs B d j pc L st h = gd (0 < x ∧ hk h (ad x) = (1, m)) (aft P j pc nx L rest (ev P gs B d j) (cll P (ev P gs B) d a ((2, x) :: av) h)) := by
  rw [s33 c e (hn.trans hp.symm) hs, hm]
theorem t34 {av rest : List AV} {x : Int} (n : Nat) (c : pCode P j pc = some (34, a, b, nx)) (hp : pNa P a = n) (e : st = av.reverse ++ (2, x) :: rest) (hn : av.length + 1 = n) (hs : csum rest ≤ 8) : ev P gs B d j pc L st h = gd (0 < x) (aft P j pc nx L rest (ev P gs B d j) (cll P (ev P gs B) d a ((2, x) :: av) h)) := s34 c e (hn.trans hp.symm) hs
theorem t29 (n : Nat) (c : pCode P j pc = some (29, a, b, nx)) (hp : pNf P a = n) : ev P gs B d j pc L st h = ev P gs B d j nx L ((2, (hnx h : Int) + 1) :: st) (hnew h (1, a) n) := by
  rw [s29 c, hp]
theorem t23 {t : Nat} {x v : Int} (f : Nat) (c : pCode P j pc = some (23, a, b, nx)) (hf : pFt P a b.toNat = f) (ht : t = vt f) : ev P gs B d j pc L ((t, v) :: (2, x) :: st) h = gd (0 < x ∧ hk h (ad x) = (1, a) ∧ B ≤ ad x ∧ okp f v = true) (ev P gs B d j nx L st (hset h (ad x) b.toNat v)) := by
  rw [s23 c (ht.trans (by rw [hf])), hf]
theorem t22 {x : Int} (f : Nat) (c : pCode P j pc = some (22, a, b, nx)) (hf : pFt P a b.toNat = f) : ev P gs B d j pc L ((2, x) :: st) h = gd (0 < x ∧ hk h (ad x) = (1, a)) (ev P gs B d j nx L ((vt f, hv h (ad x) b.toNat) :: st) h) := by
  rw [s22 c, hf]
theorem lst1_g {l : List AV} {v : AV} {k : Nat} (hu : ¬ (l.getD k (9, 0)).1 = 1) : lst1 l (k + 1) v = l.set (k + 1) v := by
  unfold lst1
  dsimp only
  rw [if_neg hu]
theorem lst2_g {l : List AV} {v : AV} {k : Nat} (hu : ¬ (l.getD k (9, 0)).1 = 1) : lst2 l (k + 1) v = (l.set (k + 1) v).set (k + 2) (9, 0) := by
  unfold lst2
  rw [lst1_g hu]
theorem e4 {t : Nat} {x : Int} (L' : List AV) (c : pCode P j pc = some (4, a, (t : Int), nx)) (hl : lst1 L a (t, x) = L') : ev P gs B d j pc L ((t, x) :: st) h = ev P gs B d j nx L' st h := by
  rw [s4 c, hl]
theorem e5 {x : Int} (L' : List AV) (c : pCode P j pc = some (5, a, b, nx)) (hl : lst2 L a (1, x) = L') : ev P gs B d j pc L ((1, x) :: st) h = ev P gs B d j nx L' st h := by
  rw [s5 c, hl]
theorem e6 {x : Int} (L' : List AV) (c : pCode P j pc = some (6, a, b, nx)) (hL : L[a]? = some (0, x)) (hl : lst1 L a (0, w32 (x + b)) = L') : ev P gs B d j pc L st h = ev P gs B d j nx L' st h := by
  rw [s6 c hL, hl]
theorem s45 {x : Int} (c : pCode P j pc = some (45, a, b, nx)) : ev P gs B d j pc L [(0, x)] h = gd (uop a x = x) (some ((0, (0, x)), h)) := by
  rw [ev_at c]
  unfold exec1
  dsimp only
  exact if_pos rfl
end STP
