/-! L3: equations, the plain law: rows of terms -/
section TMS
variable {L L1 : List (Nat × Int)} {t : Nat × Int} {j p : Nat} {y : Int}
/-- the row of some terms -/
def tmS : List (Nat × Int) → Nat → Int
  | [], _ => 0
  | t :: L, j => (if t.1 = j then t.2 else 0) + tmS L j
theorem tmS_snoc : ∀ (L : List (Nat × Int)) (j : Nat), tmS (L ++ [t]) j = tmS L j + if t.1 = j then t.2 else 0
  | [], j => by show (if t.1 = j then t.2 else 0) + 0 = 0 + _; omega
  | s :: L, j => by show (if s.1 = j then s.2 else 0) + tmS (L ++ [t]) j = (if s.1 = j then s.2 else 0) + tmS L j + _; rw [tmS_snoc L j]; omega
theorem tmS_take {i : Nat} (h : L[i]? = some t) : tmS (L.take (i + 1)) j = tmS (L.take i) j + if t.1 = j then t.2 else 0 := by
  have e : L.take (i + 1) = L.take i ++ [t] := by
    rw [List.take_add_one, h]; rfl
  rw [e, tmS_snoc]
/-- how much all terms come to, by size -/
def tmA : List (Nat × Int) → Nat
  | [] => 0
  | t :: L => t.2.natAbs + tmA L
theorem tmS_abs : ∀ (L : List (Nat × Int)) (j : Nat), (tmS L j).natAbs ≤ tmA L
  | [], _ => Nat.le_refl 0
  | t :: L, j => by
    have := tmS_abs L j
    show ((if t.1 = j then t.2 else 0) + tmS L j).natAbs ≤ t.2.natAbs + tmA L
    split <;> omega
theorem tmA_take : ∀ (L : List (Nat × Int)) (i : Nat), tmA (L.take i) ≤ tmA L
  | [], i => by rw [List.take_nil]; exact Nat.le_refl _
  | t :: L, 0 => Nat.zero_le _
  | t :: L, i + 1 => by
    have := tmA_take L i
    show t.2.natAbs + tmA (L.take i) ≤ t.2.natAbs + tmA L
    omega
theorem tmS_hi : ∀ (L : List (Nat × Int)) {m : Nat}, (∀ t, t ∈ L → t.1 < m) → ∀ j, m ≤ j → tmS L j = 0
  | [], _, _, _, _ => rfl
  | t :: L, m, h, j, hj => by
    have h1 := h t (List.mem_cons_self ..)
    have h2 := tmS_hi L (fun t ht => h t (List.mem_cons_of_mem _ ht)) j hj
    show (if t.1 = j then t.2 else 0) + tmS L j = 0
    rw [if_neg (by omega), h2]; rfl
theorem sumN_one {n p c : Nat} : sumN (fun j => if p = j then c else 0) n ≤ c := by
  have key : ∀ n, sumN (fun j => if p = j then c else 0) n = if p < n then c else 0 := by
    intro n
    induction n with
    | zero => rw [if_neg (Nat.not_lt_zero p)]; rfl
    | succ n ih =>
      show sumN (fun j => if p = j then c else 0) n + (if p = n then c else 0) = _
      rw [ih]
      by_cases e : p = n
      · rw [if_neg (by omega), if_pos e, if_pos (by omega)]; omega
      · rw [if_neg e]
        by_cases e2 : p < n
        · rw [if_pos e2, if_pos (by omega)]; rfl
        · rw [if_neg e2, if_neg (by omega)]
  rw [key]
  split <;> omega
theorem sumN_ad {f g : Nat → Nat} : ∀ n, sumN (fun j => f j + g j) n = sumN f n + sumN g n
  | 0 => rfl
  | n + 1 => by
    show sumN (fun j => f j + g j) n + (f n + g n) = (sumN f n + f n) + (sumN g n + g n)
    rw [sumN_ad n]; omega
theorem rl_tmS : ∀ (L : List (Nat × Int)) (n : Nat), rl n (tmS L) ≤ tmA L
  | [], n => by
    have : ∀ n, rl n (tmS []) = 0 := fun n => by
      unfold rl
      induction n with
      | zero => rfl
      | succ n ih => show sumN _ n + 0 = 0; rw [ih]
    rw [this]; exact Nat.zero_le _
  | t :: L, n => by
    have h1 := rl_tmS L n
    have h2 : rl n (tmS (t :: L)) ≤ sumN (fun j => (if t.1 = j then t.2.natAbs else 0) + (tmS L j).natAbs) n := sumN_mn n (fun j _ => by
      show ((if t.1 = j then t.2 else 0) + tmS L j).natAbs ≤ (if t.1 = j then t.2.natAbs else 0) + (tmS L j).natAbs
      split <;> omega)
    rw [sumN_ad] at h2
    have h3 := sumN_one (n := n) (p := t.1) (c := t.2.natAbs)
    show rl n (tmS (t :: L)) ≤ t.2.natAbs + tmA L
    unfold rl at h1 h2 ⊢
    omega
/-- the squares, one term more -/
theorem rnm_cons (n : Nat) : rnm n (tmS (t :: L)) ≤ t.2 * t.2 + 2 * (t.2 * tmS L t.1) + rnm n (tmS L) ∨ n ≤ t.1 := by
  rcases Nat.lt_or_ge t.1 n with h | h
  · left
    have e : rnm n (tmS (t :: L)) = sI (fun j => (if t.1 = j then t.2 * t.2 + 2 * (t.2 * tmS L j) else 0) + tmS L j * tmS L j) n := sI_congr n (fun j _ => by
      show ((if t.1 = j then t.2 else 0) + tmS L j) * ((if t.1 = j then t.2 else 0) + tmS L j) = _
      split
      · grind
      · grind)
    rw [e, sI_add, sI_one (k := t.1) n h (fun i _ hi => if_neg (Ne.symm hi)), if_pos rfl]
    exact Int.le_refl _
  · exact Or.inr h
/-- a row of a constraint: short, or all of it even -/
def RwK (L : List (Nat × Int)) : Prop := tmA L ≤ 4 ∧ (rnm 24 (tmS L) ≤ 6 ∨ ∀ j, tmS L j % 2 = 0) ∧ L.length ≤ 4 ∧ ∀ t, t ∈ L → t.1 < 24 ∧ (t.2 = 1 ∨ t.2 = -1 ∨ t.2 = -2)
theorem rw_1 {p1 : Nat} {y1 : Int} (h1 : p1 < 24) (k1 : y1 = 1 ∨ y1 = -1) : RwK [(p1, y1)] := by
  refine ⟨by rcases k1 with rfl | rfl <;> exact Nat.le_of_ble_eq_true rfl, Or.inl ?_, Nat.le_of_ble_eq_true rfl, fun t ht => ?_⟩
  · rcases rnm_cons (t := (p1, y1)) (L := []) 24 with h | h
    · have e : rnm 24 (tmS []) = 0 := sI_zero 24 (fun _ _ => rfl)
      have e2 : tmS [] p1 = 0 := rfl
      rcases k1 with rfl | rfl <;> simp only [e, e2] at h <;> omega
    · exact absurd h (by show ¬ 24 ≤ p1; omega)
  · rcases List.mem_singleton.mp ht with rfl
    exact ⟨h1, by rcases k1 with e | e <;> simp [e]⟩
theorem rnm_nil : rnm 24 (tmS []) = 0 := sI_zero 24 (fun _ _ => rfl)
theorem rnm_c {p : Nat} {y : Int} (h1 : p < 24) : rnm 24 (tmS ((p, y) :: L)) ≤ y * y + 2 * (y * tmS L p) + rnm 24 (tmS L) := by
  rcases rnm_cons (t := (p, y)) (L := L) 24 with h | h
  · exact h
  · exact absurd h (by show ¬ 24 ≤ p; omega)
theorem mem4 {t a b c e : Nat × Int} (h : t ∈ [a, b, c, e]) : t = a ∨ t = b ∨ t = c ∨ t = e := by simpa using h
theorem mem3 {t a b c : Nat × Int} (h : t ∈ [a, b, c]) : t = a ∨ t = b ∨ t = c := by simpa using h
theorem mem2 {t a b : Nat × Int} (h : t ∈ [a, b]) : t = a ∨ t = b := by simpa using h
/-- one against another -/
theorem rw_2 {p1 p2 : Nat} {y1 y2 : Int} (h1 : p1 < 24) (h2 : p2 < 24) (k : (y1 = 1 ∧ y2 = -1) ∨ (y1 = 1 ∧ y2 = 1 ∧ p1 ≠ p2)) : RwK [(p1, y1), (p2, y2)] := by
  have a1 := rnm_c (L := [(p2, y2)]) (y := y1) h1
  have a2 := rnm_c (L := []) (y := y2) h2
  rw [rnm_nil] at a2
  have e1 : tmS [(p2, y2)] p1 = if p2 = p1 then y2 else 0 := by show (if p2 = p1 then y2 else 0) + 0 = _; omega
  have e2 : tmS [] p2 = 0 := rfl
  rw [e1] at a1
  rw [e2] at a2
  refine ⟨by rcases k with ⟨rfl, rfl⟩ | ⟨rfl, rfl, _⟩ <;> exact Nat.le_of_ble_eq_true rfl, Or.inl ?_, Nat.le_of_ble_eq_true rfl, fun t ht => ?_⟩
  · rcases k with ⟨rfl, rfl⟩ | ⟨rfl, rfl, _⟩ <;> split at a1 <;> omega
  · rcases mem2 ht with rfl | rfl
    · exact ⟨h1, by rcases k with ⟨e, _⟩ | ⟨e, _, _⟩ <;> exact Or.inl e⟩
    · exact ⟨h2, by rcases k with ⟨_, e⟩ | ⟨_, e, _⟩; exact Or.inr (Or.inl e); exact Or.inl e⟩
/-- the middle -/
theorem rw_3 {p1 p2 p3 : Nat} (h1 : p1 < 24) (h2 : p2 < 24) (h3 : p3 < 24) : RwK [(p1, 1), (p2, 1), (p3, -2)] := by
  have a1 := rnm_c (L := [(p2, 1), (p3, -2)]) (y := 1) h1
  have a2 := rnm_c (L := [(p3, -2)]) (y := 1) h2
  have a3 := rnm_c (L := []) (y := -2) h3
  rw [rnm_nil] at a3
  have e1 : tmS [(p2, 1), (p3, -2)] p1 = (if p2 = p1 then 1 else 0) + if p3 = p1 then -2 else 0 := by show (if p2 = p1 then 1 else 0) + ((if p3 = p1 then -2 else 0) + 0) = _; omega
  have e2 : tmS [(p3, -2)] p2 = if p3 = p2 then -2 else 0 := by show (if p3 = p2 then -2 else 0) + 0 = _; omega
  have e3 : tmS [] p3 = 0 := rfl
  rw [e1] at a1
  rw [e2] at a2
  rw [e3] at a3
  refine ⟨Nat.le_of_ble_eq_true rfl, ?_, Nat.le_of_ble_eq_true rfl, fun t ht => ?_⟩
  · by_cases q1 : p2 = p1
    · right
      intro j
      show ((if p1 = j then 1 else 0) + ((if p2 = j then 1 else 0) + ((if p3 = j then -2 else 0) + 0))) % 2 = 0
      rw [q1]
      split <;> split <;> omega
    · left
      rw [if_neg q1] at a1
      split at a1 <;> split at a2 <;> omega
  · rcases mem3 ht with rfl | rfl | rfl
    · exact ⟨h1, Or.inl rfl⟩
    · exact ⟨h2, Or.inl rfl⟩
    · exact ⟨h3, Or.inr (Or.inr rfl)⟩
/-- two against two -/
theorem rw_4 {p1 p2 p3 p4 : Nat} {y1 y2 y3 y4 : Int} (h1 : p1 < 24) (h2 : p2 < 24) (h3 : p3 < 24) (h4 : p4 < 24) (k1 : y1 = 1 ∨ y1 = -1) (k2 : y2 = 1 ∨ y2 = -1) (k3 : y3 = 1 ∨ y3 = -1) (k4 : y4 = 1 ∨ y4 = -1) (k : y1 + y2 + y3 + y4 = 0) : RwK [(p1, y1), (p2, y2), (p3, y3), (p4, y4)] := by
  have a1 := rnm_c (L := [(p2, y2), (p3, y3), (p4, y4)]) (y := y1) h1
  have a2 := rnm_c (L := [(p3, y3), (p4, y4)]) (y := y2) h2
  have a3 := rnm_c (L := [(p4, y4)]) (y := y3) h3
  have a4 := rnm_c (L := []) (y := y4) h4
  rw [rnm_nil] at a4
  have e1 : tmS [(p2, y2), (p3, y3), (p4, y4)] p1 = (if p2 = p1 then y2 else 0) + ((if p3 = p1 then y3 else 0) + if p4 = p1 then y4 else 0) := by show (if p2 = p1 then y2 else 0) + ((if p3 = p1 then y3 else 0) + ((if p4 = p1 then y4 else 0) + 0)) = _; omega
  have e2 : tmS [(p3, y3), (p4, y4)] p2 = (if p3 = p2 then y3 else 0) + if p4 = p2 then y4 else 0 := by show (if p3 = p2 then y3 else 0) + ((if p4 = p2 then y4 else 0) + 0) = _; omega
  have e3 : tmS [(p4, y4)] p3 = if p4 = p3 then y4 else 0 := by show (if p4 = p3 then y4 else 0) + 0 = _; omega
  have e4 : tmS [] p4 = 0 := rfl
  rw [e1] at a1
  rw [e2] at a2
  rw [e3] at a3
  rw [e4] at a4
  have ev : ∀ j, tmS [(p1, y1), (p2, y2), (p3, y3), (p4, y4)] j = (if p1 = j then y1 else 0) + ((if p2 = j then y2 else 0) + ((if p3 = j then y3 else 0) + ((if p4 = j then y4 else 0) + 0))) := fun j => rfl
  refine ⟨?_, ?_, Nat.le_of_ble_eq_true rfl, fun t ht => ?_⟩
  · show y1.natAbs + (y2.natAbs + (y3.natAbs + (y4.natAbs + 0))) ≤ 4
    omega
  · by_cases q : (∀ j, tmS [(p1, y1), (p2, y2), (p3, y3), (p4, y4)] j % 2 = 0)
    · exact Or.inr q
    · left
      -- not both pairs fall together
      have nq : ¬ ((p1 = p2 ∧ p3 = p4) ∨ (p1 = p3 ∧ p2 = p4) ∨ (p1 = p4 ∧ p2 = p3)) := fun z => q (fun j => by
        rw [ev]
        rcases z with ⟨z1, z2⟩ | ⟨z1, z2⟩ | ⟨z1, z2⟩
        · rw [z1, z2]
          split <;> split <;> omega
        · rw [z1, z2]
          split <;> split <;> omega
        · rw [z1, z2]
          split <;> split <;> omega)
      have iI : ∀ p q : Nat, ∃ I : Int, 0 ≤ I ∧ I ≤ 1 ∧ (I = 1 → p = q) ∧ ∀ y : Int, (if p = q then y else 0) = y * I := fun p q => by
        by_cases e : p = q
        · exact ⟨1, by omega, by omega, fun _ => e, fun y => by rw [if_pos e]; omega⟩
        · exact ⟨0, by omega, by omega, fun z => by omega, fun y => by rw [if_neg e]; omega⟩
      obtain ⟨I21, b21, c21, f21, g21⟩ := iI p2 p1
      obtain ⟨I31, b31, c31, f31, g31⟩ := iI p3 p1
      obtain ⟨I41, b41, c41, f41, g41⟩ := iI p4 p1
      obtain ⟨I32, b32, c32, f32, g32⟩ := iI p3 p2
      obtain ⟨I42, b42, c42, f42, g42⟩ := iI p4 p2
      obtain ⟨I43, b43, c43, f43, g43⟩ := iI p4 p3
      rw [g21, g31, g41] at a1
      rw [g32, g42] at a2
      rw [g43] at a3
      have n1 : I21 + I43 ≤ 1 := by
        rcases (by omega : 1 < I21 + I43 ∨ I21 + I43 ≤ 1) with z | z
        · exact absurd (Or.inl ⟨(f21 (by omega)).symm, (f43 (by omega)).symm⟩) nq
        · exact z
      have n2 : I31 + I42 ≤ 1 := by
        rcases (by omega : 1 < I31 + I42 ∨ I31 + I42 ≤ 1) with z | z
        · exact absurd (Or.inr (Or.inl ⟨(f31 (by omega)).symm, (f42 (by omega)).symm⟩)) nq
        · exact z
      have n3 : I41 + I32 ≤ 1 := by
        rcases (by omega : 1 < I41 + I32 ∨ I41 + I32 ≤ 1) with z | z
        · exact absurd (Or.inr (Or.inr ⟨(f41 (by omega)).symm, (f32 (by omega)).symm⟩)) nq
        · exact z
      clear nq f21 f31 f41 f32 f42 f43 g21 g31 g41 g32 g42 g43 iI q e1 e2 e3 ev h1 h2 h3 h4
      rcases k1 with rfl | rfl <;> rcases k2 with rfl | rfl <;> rcases k3 with rfl | rfl <;> rcases k4 with rfl | rfl <;> first
        | (exfalso; omega)
        | omega
  · rcases mem4 ht with rfl | rfl | rfl | rfl
    · exact ⟨h1, by rcases k1 with e | e <;> simp [e]⟩
    · exact ⟨h2, by rcases k2 with e | e <;> simp [e]⟩
    · exact ⟨h3, by rcases k3 with e | e <;> simp [e]⟩
    · exact ⟨h4, by rcases k4 with e | e <;> simp [e]⟩
theorem rw_0 : RwK [] := ⟨by decide, Or.inl (by rw [rnm_nil]; decide), by decide, fun t ht => absurd ht (List.not_mem_nil)⟩
/-- points and lines as the kinds want them -/
def PtN (kd a b c fa ta fb tb : Nat) : Prop := (kd < 17 → a < 12 ∧ (2 ≤ kd → b < 12) ∧ (11 ≤ kd → c < 12)) ∧ (17 ≤ kd → fa < 12 ∧ ta < 12 ∧ fb < 12 ∧ tb < 12)
theorem eqL_ok {kd i a b c fa ta fb tb : Nat} (hk : kd < 24) (P : PtN kd a b c fa ta fb tb) : RwK (eqL kd i a b c fa ta fb tb) := by
  obtain ⟨P1, P2⟩ := P
  unfold eqL
  by_cases z : i = 0
  · rw [if_pos z]
    clear z
    rcases (by omega : kd = 0 ∨ kd = 1 ∨ kd = 2 ∨ kd = 3 ∨ kd = 4 ∨ kd = 5 ∨ kd = 6 ∨ kd = 7 ∨ kd = 8 ∨ kd = 9 ∨ kd = 10 ∨ kd = 11 ∨ kd = 12 ∨ kd = 13 ∨ kd = 14 ∨ kd = 15 ∨ kd = 16 ∨ kd = 17 ∨ kd = 18 ∨ kd = 19 ∨ kd = 20 ∨ kd = 21 ∨ kd = 22 ∨ kd = 23) with e | e | e | e | e | e | e | e | e | e | e | e | e | e | e | e | e | e | e | e | e | e | e | e
    · subst e
      show RwK [(2 * a, 1)]
      obtain ⟨p1, p2, p3⟩ := P1 (by decide)
      exact rw_1 (by omega) (Or.inl rfl)
    · subst e
      show RwK [(2 * a + 1, 1)]
      obtain ⟨p1, p2, p3⟩ := P1 (by decide)
      exact rw_1 (by omega) (Or.inl rfl)
    · subst e
      show RwK [(2 * b, 1), (2 * a, -1)]
      obtain ⟨p1, p2, p3⟩ := P1 (by decide)
      have p2 := p2 (by decide)
      exact rw_2 (by omega) (by omega) (Or.inl ⟨rfl, rfl⟩)
    · subst e
      show RwK [(2 * b + 1, 1), (2 * a + 1, -1)]
      obtain ⟨p1, p2, p3⟩ := P1 (by decide)
      have p2 := p2 (by decide)
      exact rw_2 (by omega) (by omega) (Or.inl ⟨rfl, rfl⟩)
    · subst e
      show RwK [(2 * b + 1, 1), (2 * b, -1), (2 * a + 1, -1), (2 * a, 1)]
      obtain ⟨p1, p2, p3⟩ := P1 (by decide)
      have p2 := p2 (by decide)
      exact rw_4 (by omega) (by omega) (by omega) (by omega) (Or.inl rfl) (Or.inr rfl) (Or.inr rfl) (Or.inl rfl) rfl
    · subst e
      show RwK [(2 * b, 1), (2 * b + 1, 1), (2 * a, -1), (2 * a + 1, -1)]
      obtain ⟨p1, p2, p3⟩ := P1 (by decide)
      have p2 := p2 (by decide)
      exact rw_4 (by omega) (by omega) (by omega) (by omega) (Or.inl rfl) (Or.inl rfl) (Or.inr rfl) (Or.inr rfl) rfl
    · subst e
      show RwK [(2 * a + 1, 1), (2 * b + 1, -1)]
      obtain ⟨p1, p2, p3⟩ := P1 (by decide)
      have p2 := p2 (by decide)
      exact rw_2 (by omega) (by omega) (Or.inl ⟨rfl, rfl⟩)
    · subst e
      show RwK [(2 * a, 1), (2 * b, -1)]
      obtain ⟨p1, p2, p3⟩ := P1 (by decide)
      have p2 := p2 (by decide)
      exact rw_2 (by omega) (by omega) (Or.inl ⟨rfl, rfl⟩)
    · subst e
      show RwK [(2 * b + 1, 1), (2 * a + 1, -1), (2 * b, -1), (2 * a, 1)]
      obtain ⟨p1, p2, p3⟩ := P1 (by decide)
      have p2 := p2 (by decide)
      exact rw_4 (by omega) (by omega) (by omega) (by omega) (Or.inl rfl) (Or.inr rfl) (Or.inr rfl) (Or.inl rfl) rfl
    · subst e
      show RwK [(2 * b + 1, 1), (2 * a + 1, -1), (2 * a, -1), (2 * b, 1)]
      obtain ⟨p1, p2, p3⟩ := P1 (by decide)
      have p2 := p2 (by decide)
      exact rw_4 (by omega) (by omega) (by omega) (by omega) (Or.inl rfl) (Or.inr rfl) (Or.inr rfl) (Or.inl rfl) rfl
    · subst e
      show RwK [(2 * a, 1), (2 * b, -1)]
      obtain ⟨p1, p2, p3⟩ := P1 (by decide)
      have p2 := p2 (by decide)
      exact rw_2 (by omega) (by omega) (Or.inl ⟨rfl, rfl⟩)
    · subst e
      show RwK [(2 * a, 1), (2 * b, 1), (2 * c, -2)]
      obtain ⟨p1, p2, p3⟩ := P1 (by decide)
      have p2 := p2 (by decide)
      have p3 := p3 (by decide)
      exact rw_3 (by omega) (by omega) (by omega)
    · subst e
      show RwK [(2 * a, 1), (2 * b, 1), (2 * c, -2)]
      obtain ⟨p1, p2, p3⟩ := P1 (by decide)
      have p2 := p2 (by decide)
      have p3 := p3 (by decide)
      exact rw_3 (by omega) (by omega) (by omega)
    · subst e
      show RwK [(2 * a, 1), (2 * b, -1)]
      obtain ⟨p1, p2, p3⟩ := P1 (by decide)
      have p2 := p2 (by decide)
      exact rw_2 (by omega) (by omega) (Or.inl ⟨rfl, rfl⟩)
    · subst e
      show RwK [(2 * b, 1), (2 * c, -1), (2 * a + 1, -1), (2 * c + 1, 1)]
      obtain ⟨p1, p2, p3⟩ := P1 (by decide)
      have p2 := p2 (by decide)
      have p3 := p3 (by decide)
      exact rw_4 (by omega) (by omega) (by omega) (by omega) (Or.inl rfl) (Or.inr rfl) (Or.inr rfl) (Or.inl rfl) rfl
    · subst e
      show RwK [(2 * b, 1), (2 * c, -1), (2 * c + 1, -1), (2 * a + 1, 1)]
      obtain ⟨p1, p2, p3⟩ := P1 (by decide)
      have p2 := p2 (by decide)
      have p3 := p3 (by decide)
      exact rw_4 (by omega) (by omega) (by omega) (by omega) (Or.inl rfl) (Or.inr rfl) (Or.inr rfl) (Or.inl rfl) rfl
    · subst e
      show RwK [(2 * b, 1), (2 * c, -1), (2 * c + 1, -1), (2 * a + 1, 1)]
      obtain ⟨p1, p2, p3⟩ := P1 (by decide)
      have p2 := p2 (by decide)
      have p3 := p3 (by decide)
      exact rw_4 (by omega) (by omega) (by omega) (by omega) (Or.inl rfl) (Or.inr rfl) (Or.inr rfl) (Or.inl rfl) rfl
    · subst e
      show RwK [(2 * ta, 1), (2 * fa, -1), (2 * tb, -1), (2 * fb, 1)]
      obtain ⟨p1, p2, p3, p4⟩ := P2 (by decide)
      exact rw_4 (by omega) (by omega) (by omega) (by omega) (Or.inl rfl) (Or.inr rfl) (Or.inr rfl) (Or.inl rfl) rfl
    · subst e
      show RwK [(2 * ta + 1, 1), (2 * fa + 1, -1), (2 * tb + 1, -1), (2 * fb + 1, 1)]
      obtain ⟨p1, p2, p3, p4⟩ := P2 (by decide)
      exact rw_4 (by omega) (by omega) (by omega) (by omega) (Or.inl rfl) (Or.inr rfl) (Or.inr rfl) (Or.inl rfl) rfl
    · subst e
      show RwK [(2 * ta, 1), (2 * fa, -1), (2 * tb + 1, -1), (2 * fb + 1, 1)]
      obtain ⟨p1, p2, p3, p4⟩ := P2 (by decide)
      exact rw_4 (by omega) (by omega) (by omega) (by omega) (Or.inl rfl) (Or.inr rfl) (Or.inr rfl) (Or.inl rfl) rfl
    · subst e
      show RwK [(2 * ta, 1), (2 * fa, -1), (2 * tb + 1, 1), (2 * fb + 1, -1)]
      obtain ⟨p1, p2, p3, p4⟩ := P2 (by decide)
      exact rw_4 (by omega) (by omega) (by omega) (by omega) (Or.inl rfl) (Or.inr rfl) (Or.inl rfl) (Or.inr rfl) rfl
    · subst e
      show RwK [(2 * ta, 1), (2 * fa, -1), (2 * tb, 1), (2 * fb, -1)]
      obtain ⟨p1, p2, p3, p4⟩ := P2 (by decide)
      exact rw_4 (by omega) (by omega) (by omega) (by omega) (Or.inl rfl) (Or.inr rfl) (Or.inl rfl) (Or.inr rfl) rfl
    · subst e
      show RwK [(2 * ta + 1, 1), (2 * fa + 1, -1), (2 * tb + 1, 1), (2 * fb + 1, -1)]
      obtain ⟨p1, p2, p3, p4⟩ := P2 (by decide)
      exact rw_4 (by omega) (by omega) (by omega) (by omega) (Or.inl rfl) (Or.inr rfl) (Or.inl rfl) (Or.inr rfl) rfl
    · subst e
      show RwK [(2 * ta, 1), (2 * fa, -1), (2 * tb, -1), (2 * fb, 1)]
      obtain ⟨p1, p2, p3, p4⟩ := P2 (by decide)
      exact rw_4 (by omega) (by omega) (by omega) (by omega) (Or.inl rfl) (Or.inr rfl) (Or.inr rfl) (Or.inl rfl) rfl
  · rw [if_neg z]
    clear z
    rcases (by omega : kd = 0 ∨ kd = 1 ∨ kd = 2 ∨ kd = 3 ∨ kd = 4 ∨ kd = 5 ∨ kd = 6 ∨ kd = 7 ∨ kd = 8 ∨ kd = 9 ∨ kd = 10 ∨ kd = 11 ∨ kd = 12 ∨ kd = 13 ∨ kd = 14 ∨ kd = 15 ∨ kd = 16 ∨ kd = 17 ∨ kd = 18 ∨ kd = 19 ∨ kd = 20 ∨ kd = 21 ∨ kd = 22 ∨ kd = 23) with e | e | e | e | e | e | e | e | e | e | e | e | e | e | e | e | e | e | e | e | e | e | e | e
    · subst e
      exact rw_0
    · subst e
      exact rw_0
    · subst e
      exact rw_0
    · subst e
      exact rw_0
    · subst e
      exact rw_0
    · subst e
      exact rw_0
    · subst e
      exact rw_0
    · subst e
      exact rw_0
    · subst e
      exact rw_0
    · subst e
      exact rw_0
    · subst e
      show RwK [(2 * a + 1, 1), (2 * b + 1, -1)]
      obtain ⟨p1, p2, p3⟩ := P1 (by decide)
      have p2 := p2 (by decide)
      exact rw_2 (by omega) (by omega) (Or.inl ⟨rfl, rfl⟩)
    · subst e
      show RwK [(2 * a + 1, 1), (2 * b + 1, 1), (2 * c + 1, -2)]
      obtain ⟨p1, p2, p3⟩ := P1 (by decide)
      have p2 := p2 (by decide)
      have p3 := p3 (by decide)
      exact rw_3 (by omega) (by omega) (by omega)
    · subst e
      show RwK [(2 * a + 1, 1), (2 * b + 1, -1)]
      obtain ⟨p1, p2, p3⟩ := P1 (by decide)
      have p2 := p2 (by decide)
      exact rw_2 (by omega) (by omega) (Or.inl ⟨rfl, rfl⟩)
    · subst e
      show RwK [(2 * a + 1, 1), (2 * b + 1, 1), (2 * c + 1, -2)]
      obtain ⟨p1, p2, p3⟩ := P1 (by decide)
      have p2 := p2 (by decide)
      have p3 := p3 (by decide)
      exact rw_3 (by omega) (by omega) (by omega)
    · subst e
      show RwK [(2 * b + 1, 1), (2 * c + 1, -1), (2 * a, -1), (2 * c, 1)]
      obtain ⟨p1, p2, p3⟩ := P1 (by decide)
      have p2 := p2 (by decide)
      have p3 := p3 (by decide)
      exact rw_4 (by omega) (by omega) (by omega) (by omega) (Or.inl rfl) (Or.inr rfl) (Or.inr rfl) (Or.inl rfl) rfl
    · subst e
      show RwK [(2 * b + 1, 1), (2 * c + 1, -1), (2 * c, -1), (2 * a, 1)]
      obtain ⟨p1, p2, p3⟩ := P1 (by decide)
      have p2 := p2 (by decide)
      have p3 := p3 (by decide)
      exact rw_4 (by omega) (by omega) (by omega) (by omega) (Or.inl rfl) (Or.inr rfl) (Or.inr rfl) (Or.inl rfl) rfl
    · subst e
      show RwK [(2 * b + 1, 1), (2 * c + 1, -1), (2 * a, -1), (2 * c, 1)]
      obtain ⟨p1, p2, p3⟩ := P1 (by decide)
      have p2 := p2 (by decide)
      have p3 := p3 (by decide)
      exact rw_4 (by omega) (by omega) (by omega) (by omega) (Or.inl rfl) (Or.inr rfl) (Or.inr rfl) (Or.inl rfl) rfl
    · subst e
      exact rw_0
    · subst e
      exact rw_0
    · subst e
      exact rw_0
    · subst e
      exact rw_0
    · subst e
      exact rw_0
    · subst e
      exact rw_0
    · subst e
      show RwK [(2 * ta + 1, 1), (2 * fa + 1, -1), (2 * tb + 1, -1), (2 * fb + 1, 1)]
      obtain ⟨p1, p2, p3, p4⟩ := P2 (by decide)
      exact rw_4 (by omega) (by omega) (by omega) (by omega) (Or.inl rfl) (Or.inr rfl) (Or.inr rfl) (Or.inl rfl) rfl
end TMS
