/-! L3: equations (model): terms and rows of a constraint -/
section TERMS
variable {gv : Nat → Int} {B n d : Nat} {h : AH} {L1 L2 L : List (Nat × Int)} {f : Int}
theorem snoc_get {α : Type} {L : List α} {t x : α} {i : Nat} (h : (L ++ [t])[i]? = some x) : (i < L.length ∧ L[i]? = some x) ∨ (i = L.length ∧ x = t) := by
  rcases Nat.lt_trichotomy i L.length with e | e | e
  · rw [List.getElem?_append_left e] at h
    exact Or.inl ⟨e, h⟩
  · subst e
    rw [List.getElem?_concat_length] at h
    exact Or.inr ⟨rfl, (Option.some.inj h).symm⟩
  · rw [List.getElem?_eq_none (by rw [List.length_append, List.length_singleton]; omega)] at h
    cases h
/-- terms in an array -/
def TmA (h : AH) (a : Nat) (L : List (Nat × Int)) : Prop := ∀ i t, L[i]? = some t → hv h a (2 * i) = ((t.1 : Nat) : Int) ∧ hv h a (2 * i + 1) = t.2
/-- the terms of a constraint: of its first equation, of its second one; f: which of them is written -/
def TmL (B : Nat) (h : AH) (L1 L2 : List (Nat × Int)) (f : Int) : Prop := (hv h (B + 149) 43 = f ∧ hv h (B + 149) 40 = ((2 * L1.length : Nat) : Int) ∧ hv h (B + 149) 41 = ((2 * L2.length : Nat) : Int)) ∧ TmA h (B + 163) L1 ∧ TmA h (B + 164) L2
def teW (B : Nat) : Nat → Nat → Prop := fun c k => (c = B + 149 ∧ (k = 40 ∨ k = 41 ∨ k = 43)) ∨ c = B + 163 ∨ c = B + 164
/-- one term more -/
def adT (f : Int) (L1 L2 : List (Nat × Int)) (t : Nat × Int) : List (Nat × Int) × List (Nat × Int) := if f = 0 then (L1 ++ [t], L2) else (L1, L2 ++ [t])
theorem TmA.snoc {a p : Nat} {y : Int} {t : AH} (T : TmA h a L) (e : ∀ j, hv t a j = if j = 2 * L.length + 1 then y else if j = 2 * L.length then (p : Int) else hv h a j) : TmA t a (L ++ [(p, y)]) := fun i x hx => by
  rcases snoc_get hx with ⟨h1, h2⟩ | ⟨h1, h2⟩
  · obtain ⟨a1, a2⟩ := T i x h2
    rw [e, e, if_neg (by omega), if_neg (by omega), if_neg (by omega), if_neg (by omega)]
    exact ⟨a1, a2⟩
  · subst h1 h2
    rw [e, e, if_neg (by omega), if_pos rfl, if_pos rfl]
    exact ⟨rfl, rfl⟩
theorem c_term848 {p : Nat} {y : Int} (l : LX B n h) (hd : 10 ≤ d) (T : TmL B h L1 L2 f) (h1 : L1.length ≤ 6) (h2 : L2.length ≤ 6) : Vd (cll PP (ev PP (gsF gv) B) d 848 [(2, rf (B + 149)), (0, (p : Int)), (0, y)] h) (fun h' => Agr (teW B) h h' ∧ TmL B h' (adT f L1 L2 (p, y)).1 (adT f L1 L2 (p, y)).2 f) := by
  obtain ⟨⟨t1, t2, t3⟩, t4, t5⟩ := T
  refine Vd.inq (D := 9) hd (Nat.le_of_ble_eq_true rfl) rfl (fun d hd Q K => ?_)
  refine Ends.eq (b848_0 l (by omega)) ?_
  rw [t1, t2, t3]
  have ix : ∀ m : Nat, m ≤ 6 → bop32 96 ((2 * m : Nat) : Int) 1 = ((2 * m + 1 : Nat) : Int) ∧ bop32 96 ((2 * m : Nat) : Int) 2 = ((2 * (m + 1) : Nat) : Int) := fun m hm => ⟨addNN (y := 1) (by omega), by rw [show bop32 96 ((2 * m : Nat) : Int) 2 = ((2 * m + 2 : Nat) : Int) from addNN (y := 2) (by omega)]; rfl⟩
  obtain ⟨i1, i2⟩ := ix L1.length h1
  obtain ⟨j1, j2⟩ := ix L2.length h2
  refine Ends.b0 (fun z => ?_) (fun z => ?_)
  · rw [i1, i2, tn, tn, an0, an0]
    refine Ends.g ⟨by omega, by omega⟩ (Ends.g ⟨by omega, by omega⟩ ?_)
    have l2 : LX B n (hset (hset (hset h (B + 163) (2 * L1.length) (p : Int)) (B + 163) (2 * L1.length + 1) y) (B + 149) 40 ((2 * (L1.length + 1) : Nat) : Int)) := LX.setF 149 40 ((l.setS rfl).setS rfl) (by decide +kernel)
    have ea : adT f L1 L2 (p, y) = (L1 ++ [(p, y)], L2) := if_pos z
    rw [ea] at K
    refine Ends.eq (b848_74 l2 (by omega)) (Ends.sm (K _ ⟨((Agr.rf.set (Or.inr (Or.inl rfl))).set (Or.inr (Or.inl rfl))).set (Or.inl ⟨rfl, by decide⟩), ⟨⟨?_, ?_, ?_⟩, t4.snoc (fun j => ?_), fun i x hx => ?_⟩⟩))
    · rw [hv_set_ne (by omega), hv_set_ne (by omega), hv_set_ne (by omega)]; exact t1
    · rw [hv_set_at, List.length_append, List.length_singleton]
    · rw [hv_set_ne (by omega), hv_set_ne (by omega), hv_set_ne (by omega)]; exact t3
    · rw [hv_set_ne (by omega)]
      by_cases e : j = 2 * L1.length + 1
      · rw [if_pos e, e, hv_set_at]
      · rw [if_neg e, hv_set_ne (by omega)]
        by_cases e2 : j = 2 * L1.length
        · rw [if_pos e2, e2, hv_set_at]
        · rw [if_neg e2, hv_set_ne (by omega)]
    · rw [hv_set_ne (by omega), hv_set_ne (by omega), hv_set_ne (by omega), hv_set_ne (by omega), hv_set_ne (by omega), hv_set_ne (by omega)]; exact t5 i x hx
  · rw [j1, j2, tn, tn, an0, an0]
    refine Ends.g ⟨by omega, by omega⟩ (Ends.g ⟨by omega, by omega⟩ ?_)
    have l2 : LX B n (hset (hset (hset h (B + 164) (2 * L2.length) (p : Int)) (B + 164) (2 * L2.length + 1) y) (B + 149) 41 ((2 * (L2.length + 1) : Nat) : Int)) := LX.setF 149 41 ((l.setS rfl).setS rfl) (by decide +kernel)
    have ea : adT f L1 L2 (p, y) = (L1, L2 ++ [(p, y)]) := if_neg z
    rw [ea] at K
    refine Ends.eq (b848_74 l2 (by omega)) (Ends.sm (K _ ⟨((Agr.rf.set (Or.inr (Or.inr rfl))).set (Or.inr (Or.inr rfl))).set (Or.inl ⟨rfl, by decide⟩), ⟨⟨?_, ?_, ?_⟩, fun i x hx => ?_, t5.snoc (fun j => ?_)⟩⟩))
    · rw [hv_set_ne (by omega), hv_set_ne (by omega), hv_set_ne (by omega)]; exact t1
    · rw [hv_set_ne (by omega), hv_set_ne (by omega), hv_set_ne (by omega)]; exact t2
    · rw [hv_set_at, List.length_append, List.length_singleton]
    · rw [hv_set_ne (by omega), hv_set_ne (by omega), hv_set_ne (by omega), hv_set_ne (by omega), hv_set_ne (by omega), hv_set_ne (by omega)]; exact t4 i x hx
    · rw [hv_set_ne (by omega)]
      by_cases e : j = 2 * L2.length + 1
      · rw [if_pos e, e, hv_set_at]
      · rw [if_neg e, hv_set_ne (by omega)]
        by_cases e2 : j = 2 * L2.length
        · rw [if_pos e2, e2, hv_set_at]
        · rw [if_neg e2, hv_set_ne (by omega)]
theorem c_u858 {p : Nat} {y : Int} (l : LX B n h) (hd : 12 ≤ d) (T : TmL B h L1 L2 f) (h1 : L1.length ≤ 6) (h2 : L2.length ≤ 6) (hp : p < 1000) : Vd (cll PP (ev PP (gsF gv) B) d 858 [(2, rf (B + 149)), (0, (p : Int)), (0, y)] h) (fun h' => Agr (teW B) h h' ∧ TmL B h' (adT f L1 L2 (2 * p, y)).1 (adT f L1 L2 (2 * p, y)).2 f) := by
  refine Vd.inq (D := 11) hd (Nat.le_of_ble_eq_true rfl) rfl (fun d hd Q K => ?_)
  refine Ends.eq (b858_0 l (by omega)) ?_
  rw [show bop32 104 2 (p : Int) = ((2 * p : Nat) : Int) from mulNN (x := 2) (by omega)]
  refine Ends.cv l (by decide +kernel) (c_term848 (p := 2 * p) l (by omega) T h1 h2) (fun t l2 _ _ _ g => ?_)
  exact Ends.eq (b858_8 l2 (by omega)) (Ends.sm (K _ g))
theorem c_v860 {p : Nat} {y : Int} (l : LX B n h) (hd : 12 ≤ d) (T : TmL B h L1 L2 f) (h1 : L1.length ≤ 6) (h2 : L2.length ≤ 6) (hp : p < 1000) : Vd (cll PP (ev PP (gsF gv) B) d 860 [(2, rf (B + 149)), (0, (p : Int)), (0, y)] h) (fun h' => Agr (teW B) h h' ∧ TmL B h' (adT f L1 L2 (2 * p + 1, y)).1 (adT f L1 L2 (2 * p + 1, y)).2 f) := by
  refine Vd.inq (D := 11) hd (Nat.le_of_ble_eq_true rfl) rfl (fun d hd Q K => ?_)
  refine Ends.eq (b860_0 l (by omega)) ?_
  rw [show bop32 104 2 (p : Int) = ((2 * p : Nat) : Int) from mulNN (x := 2) (by omega), show bop32 96 ((2 * p : Nat) : Int) 1 = ((2 * p + 1 : Nat) : Int) from addNN (y := 1) (by omega)]
  refine Ends.cv l (by decide +kernel) (c_term848 (p := 2 * p + 1) l (by omega) T h1 h2) (fun t l2 _ _ _ g => ?_)
  exact Ends.eq (b860_10 l2 (by omega)) (Ends.sm (K _ g))
/-- both terms of a line -/
def adL (f : Int) (x : Nat) (P : List (Nat × Int) × List (Nat × Int)) (to_ fr : Nat) (y : Int) : List (Nat × Int) × List (Nat × Int) := adT f (adT f P.1 P.2 (2 * to_ + x, y)).1 (adT f P.1 P.2 (2 * to_ + x, y)).2 (2 * fr + x, -y)
theorem adT_len {t : Nat × Int} {m : Nat} (h1 : L1.length ≤ m) (h2 : L2.length ≤ m) : (adT f L1 L2 t).1.length ≤ m + 1 ∧ (adT f L1 L2 t).2.length ≤ m + 1 := by
  unfold adT
  split
  · show (L1 ++ [t]).length ≤ m + 1 ∧ L2.length ≤ m + 1
    rw [List.length_append, List.length_singleton]; omega
  · show L1.length ≤ m + 1 ∧ (L2 ++ [t]).length ≤ m + 1
    rw [List.length_append, List.length_singleton]; omega
theorem c_du601 {w1 k fr to_ : Nat} {y : Int} (l : LX B n h) (hd : 14 ≤ d) (S : YS B w1 h) (T : TmL B h L1 L2 f) (h1 : L1.length ≤ 5) (h2 : L2.length ≤ 5) (hk0 : k < 24) (ef : hv h (w1 + 3) k = (fr : Int)) (et : hv h (w1 + 4) k = (to_ : Int)) (hf : fr < 12) (ht : to_ < 12) (hy : y = 1 ∨ y = -1) : Vd (cll PP (ev PP (gsF gv) B) d 601 [(2, rf (B + 149)), (2, rf w1), (0, (k : Int)), (0, y)] h) (fun h' => Agr (teW B) h h' ∧ TmL B h' (adL f 0 (L1, L2) to_ fr y).1 (adL f 0 (L1, L2) to_ fr y).2 f) := by
  have lo := S.lo
  refine Vd.inq (D := 13) hd (Nat.le_of_ble_eq_true rfl) rfl (fun d hd Q K => ?_)
  refine Ends.eq (b601_0 l (by omega) S) (Ends.g ⟨by omega, by omega⟩ ?_)
  rw [tn, et]
  refine Ends.cv l (by decide +kernel) (c_u858 (p := to_) l (by omega) T (by omega) (by omega) (by omega)) (fun t l2 _ _ _ ⟨g, T2⟩ => ?_)
  have S2 : YS B w1 t := S.agr g (fun k hk1 z => by unfold teW at z; omega)
  refine Ends.eq (b601_11 l2 (by omega) S2) (Ends.g ⟨by omega, by omega⟩ ?_)
  obtain ⟨n1, n2⟩ := adT_len (f := f) (t := (2 * to_, y)) h1 h2
  rw [tn, g.at _ _ (fun z => by unfold teW at z; omega), ef, show uop 0 y = -y from neg32 (by omega) (by omega)]
  refine Ends.cv l2 (by decide +kernel) (c_u858 (p := fr) l2 (by omega) T2 n1 n2 (by omega)) (fun t3 l3 _ _ _ ⟨g3, T3⟩ => ?_)
  exact Ends.eq (b601_23 l3 (by omega)) (Ends.sm (K _ ⟨g.tr g3 (fun _ _ z => z), T3⟩))
theorem c_dv602 {w1 k fr to_ : Nat} {y : Int} (l : LX B n h) (hd : 14 ≤ d) (S : YS B w1 h) (T : TmL B h L1 L2 f) (h1 : L1.length ≤ 5) (h2 : L2.length ≤ 5) (hk0 : k < 24) (ef : hv h (w1 + 3) k = (fr : Int)) (et : hv h (w1 + 4) k = (to_ : Int)) (hf : fr < 12) (ht : to_ < 12) (hy : y = 1 ∨ y = -1) : Vd (cll PP (ev PP (gsF gv) B) d 602 [(2, rf (B + 149)), (2, rf w1), (0, (k : Int)), (0, y)] h) (fun h' => Agr (teW B) h h' ∧ TmL B h' (adL f 1 (L1, L2) to_ fr y).1 (adL f 1 (L1, L2) to_ fr y).2 f) := by
  have lo := S.lo
  refine Vd.inq (D := 13) hd (Nat.le_of_ble_eq_true rfl) rfl (fun d hd Q K => ?_)
  refine Ends.eq (b602_0 l (by omega) S) (Ends.g ⟨by omega, by omega⟩ ?_)
  rw [tn, et]
  refine Ends.cv l (by decide +kernel) (c_v860 (p := to_) l (by omega) T (by omega) (by omega) (by omega)) (fun t l2 _ _ _ ⟨g, T2⟩ => ?_)
  have S2 : YS B w1 t := S.agr g (fun k hk1 z => by unfold teW at z; omega)
  refine Ends.eq (b602_11 l2 (by omega) S2) (Ends.g ⟨by omega, by omega⟩ ?_)
  obtain ⟨n1, n2⟩ := adT_len (f := f) (t := (2 * to_ + 1, y)) h1 h2
  rw [tn, g.at _ _ (fun z => by unfold teW at z; omega), ef, show uop 0 y = -y from neg32 (by omega) (by omega)]
  refine Ends.cv l2 (by decide +kernel) (c_v860 (p := fr) l2 (by omega) T2 n1 n2 (by omega)) (fun t3 l3 _ _ _ ⟨g3, T3⟩ => ?_)
  exact Ends.eq (b602_23 l3 (by omega)) (Ends.sm (K _ ⟨g.tr g3 (fun _ _ z => z), T3⟩))
end TERMS
