/-! L3: Formulas: levelOf, function, enter, find -/
noncomputable def itP {α : Type} (P : Prop) (a b : α) : α := @ite α P (Classical.propDecidable P) a b
theorem itP_t {α : Type} {P : Prop} {a b : α} (h : P) : itP P a b = a := @if_pos P (Classical.propDecidable P) h α a b
theorem itP_f {α : Type} {P : Prop} {a b : α} (h : ¬ P) : itP P a b = b := @if_neg P (Classical.propDecidable P) h α a b
/-- the functions' names -/
def fnS : List (List Int) := [[109, 105, 110], [109, 97, 120], [109, 111, 100], [100, 105, 118], [109, 105, 100], [97, 98, 115], [102, 108, 111, 111, 114], [99, 101, 105, 108], [114, 111, 117, 110, 100], [115, 105, 103, 110], [115, 113, 114]]
noncomputable def fnI (u : Nat → Int) (m p : Nat) : List (List Int) → Int → Int
  | [], _ => -1
  | s :: r, i => itP (isWd u m p s) i (fnI u m p r (i + 1))
noncomputable def fnW (u : Nat → Int) (m p : Nat) : Int := fnI u m p fnS 0
/-- the program's texts that formulas need -/
def FnT (gv : Nat → Int) (h : AH) : Prop := StrA gv h (gv 47) oneL ∧ (∀ i s, fnS[i]? = some s → StrA gv h (gv (21 + i)) s) ∧ StrA gv h (gv 32) [109, 109] ∧ StrA gv h (gv 33) [99, 109] ∧ StrA gv h (gv 34) [105, 110]
def lvS (s : Int) : Int := if s = 42 then 5 else if s = 43 then 4 else if s = 45 then 4 else if s = 47 then 5 else if s = 60 then 3 else if s = 62 then 3 else if s = 8509 then 2 else if s = 9766 then 1 else if s = 15421 then 3 else if s = 15677 then 2 else if s = 15933 then 3 else if s = 31868 then 0 else -1
def levF (u : Nat → Int) (m p : Nat) : Int := if tkK u m p = 3 then lvS (tkS u m p) else -1
theorem lvS_r (s : Int) : -1 ≤ lvS s ∧ lvS s ≤ 5 := by
  unfold lvS
  repeat' split
  all_goals omega
theorem levF_r (u : Nat → Int) (m p : Nat) : -1 ≤ levF u m p ∧ levF u m p ≤ 5 := by
  unfold levF
  split
  · exact lvS_r _
  · omega
section FM
variable {gv : Nat → Int} {B n d a m : Nat} {h : AH} {u : Nat → Int}
theorem c_levelOf (l : LX B n h) (hd : 10 ≤ d) {p : Nat} (R : SgT h (B + 8) u m p) : Vt 0 (cll PP (ev PP (gsF gv) B) d 207 [(2, rf (B + 7))] h) (fun v h' => v = levF u m p ∧ h' = h) := by
  refine Vt.into (D := 9) hd (Nat.le_of_ble_eq_true rfl) rfl (fun d hd => ?_)
  refine Ends.eq (b207_0 (n := n) (by (repeat' first | assumption | refine LX.setF _ _ ?_ (by decide +kernel) | refine LX.setS ?_ rfl | refine LX.setA ?_ (by first | assumption | omega))) (by first | assumption | omega)) ?_
  rw [R.1, R.2.2.2.1]
  unfold levF
  refine Ends.b0 (fun z => ?_) (fun z => Ends.sm ⟨_, _, rfl, by rw [if_neg (by omega)], rfl⟩)
  rw [if_pos (show tkK u m p = 3 by omega)]
  unfold sw207_20 lvS
  by_cases e42 : tkS u m p = 42
  · rw [if_pos e42, if_pos e42]
    refine Ends.eq (b207_138 (n := n) (by (repeat' first | assumption | refine LX.setF _ _ ?_ (by decide +kernel) | refine LX.setS ?_ rfl | refine LX.setA ?_ (by first | assumption | omega))) (by first | assumption | omega)) ?_
    exact Ends.sm ⟨_, _, rfl, rfl, rfl⟩
  rw [if_neg e42, if_neg e42]
  by_cases e43 : tkS u m p = 43
  · rw [if_pos e43, if_pos e43]
    refine Ends.eq (b207_136 (n := n) (by (repeat' first | assumption | refine LX.setF _ _ ?_ (by decide +kernel) | refine LX.setS ?_ rfl | refine LX.setA ?_ (by first | assumption | omega))) (by first | assumption | omega)) ?_
    exact Ends.sm ⟨_, _, rfl, rfl, rfl⟩
  rw [if_neg e43, if_neg e43]
  by_cases e45 : tkS u m p = 45
  · rw [if_pos e45, if_pos e45]
    refine Ends.eq (b207_136 (n := n) (by (repeat' first | assumption | refine LX.setF _ _ ?_ (by decide +kernel) | refine LX.setS ?_ rfl | refine LX.setA ?_ (by first | assumption | omega))) (by first | assumption | omega)) ?_
    exact Ends.sm ⟨_, _, rfl, rfl, rfl⟩
  rw [if_neg e45, if_neg e45]
  by_cases e47 : tkS u m p = 47
  · rw [if_pos e47, if_pos e47]
    refine Ends.eq (b207_138 (n := n) (by (repeat' first | assumption | refine LX.setF _ _ ?_ (by decide +kernel) | refine LX.setS ?_ rfl | refine LX.setA ?_ (by first | assumption | omega))) (by first | assumption | omega)) ?_
    exact Ends.sm ⟨_, _, rfl, rfl, rfl⟩
  rw [if_neg e47, if_neg e47]
  by_cases e60 : tkS u m p = 60
  · rw [if_pos e60, if_pos e60]
    refine Ends.eq (b207_134 (n := n) (by (repeat' first | assumption | refine LX.setF _ _ ?_ (by decide +kernel) | refine LX.setS ?_ rfl | refine LX.setA ?_ (by first | assumption | omega))) (by first | assumption | omega)) ?_
    exact Ends.sm ⟨_, _, rfl, rfl, rfl⟩
  rw [if_neg e60, if_neg e60]
  by_cases e62 : tkS u m p = 62
  · rw [if_pos e62, if_pos e62]
    refine Ends.eq (b207_134 (n := n) (by (repeat' first | assumption | refine LX.setF _ _ ?_ (by decide +kernel) | refine LX.setS ?_ rfl | refine LX.setA ?_ (by first | assumption | omega))) (by first | assumption | omega)) ?_
    exact Ends.sm ⟨_, _, rfl, rfl, rfl⟩
  rw [if_neg e62, if_neg e62]
  by_cases e8509 : tkS u m p = 8509
  · rw [if_pos e8509, if_pos e8509]
    refine Ends.eq (b207_132 (n := n) (by (repeat' first | assumption | refine LX.setF _ _ ?_ (by decide +kernel) | refine LX.setS ?_ rfl | refine LX.setA ?_ (by first | assumption | omega))) (by first | assumption | omega)) ?_
    exact Ends.sm ⟨_, _, rfl, rfl, rfl⟩
  rw [if_neg e8509, if_neg e8509]
  by_cases e9766 : tkS u m p = 9766
  · rw [if_pos e9766, if_pos e9766]
    refine Ends.eq (b207_130 (n := n) (by (repeat' first | assumption | refine LX.setF _ _ ?_ (by decide +kernel) | refine LX.setS ?_ rfl | refine LX.setA ?_ (by first | assumption | omega))) (by first | assumption | omega)) ?_
    exact Ends.sm ⟨_, _, rfl, rfl, rfl⟩
  rw [if_neg e9766, if_neg e9766]
  by_cases e15421 : tkS u m p = 15421
  · rw [if_pos e15421, if_pos e15421]
    refine Ends.eq (b207_134 (n := n) (by (repeat' first | assumption | refine LX.setF _ _ ?_ (by decide +kernel) | refine LX.setS ?_ rfl | refine LX.setA ?_ (by first | assumption | omega))) (by first | assumption | omega)) ?_
    exact Ends.sm ⟨_, _, rfl, rfl, rfl⟩
  rw [if_neg e15421, if_neg e15421]
  by_cases e15677 : tkS u m p = 15677
  · rw [if_pos e15677, if_pos e15677]
    refine Ends.eq (b207_132 (n := n) (by (repeat' first | assumption | refine LX.setF _ _ ?_ (by decide +kernel) | refine LX.setS ?_ rfl | refine LX.setA ?_ (by first | assumption | omega))) (by first | assumption | omega)) ?_
    exact Ends.sm ⟨_, _, rfl, rfl, rfl⟩
  rw [if_neg e15677, if_neg e15677]
  by_cases e15933 : tkS u m p = 15933
  · rw [if_pos e15933, if_pos e15933]
    refine Ends.eq (b207_134 (n := n) (by (repeat' first | assumption | refine LX.setF _ _ ?_ (by decide +kernel) | refine LX.setS ?_ rfl | refine LX.setA ?_ (by first | assumption | omega))) (by first | assumption | omega)) ?_
    exact Ends.sm ⟨_, _, rfl, rfl, rfl⟩
  rw [if_neg e15933, if_neg e15933]
  by_cases e31868 : tkS u m p = 31868
  · rw [if_pos e31868, if_pos e31868]
    refine Ends.eq (b207_128 (n := n) (by (repeat' first | assumption | refine LX.setF _ _ ?_ (by decide +kernel) | refine LX.setS ?_ rfl | refine LX.setA ?_ (by first | assumption | omega))) (by first | assumption | omega)) ?_
    exact Ends.sm ⟨_, _, rfl, rfl, rfl⟩
  rw [if_neg e31868, if_neg e31868]
  refine Ends.eq (b207_140 (n := n) (by (repeat' first | assumption | refine LX.setF _ _ ?_ (by decide +kernel) | refine LX.setS ?_ rfl | refine LX.setA ?_ (by first | assumption | omega))) (by first | assumption | omega)) ?_
  exact Ends.sm ⟨_, _, rfl, rfl, rfl⟩
theorem c_function (l : LX B n h) (hd : 16 ≤ d) (S : SgP B h (B + 8) a m u) (T : FnT gv h) {p : Nat} (R : SgT h (B + 8) u m p) (hp : p ≤ m) (hw : ∀ i, i < m → -128 ≤ hv h a i ∧ hv h a i < 128) : Vt 0 (cll PP (ev PP (gsF gv) B) d 198 [(2, rf (B + 7))] h) (fun v h' => v = fnW u m p ∧ h' = h) := by
  refine Vt.into (D := 15) hd (Nat.le_of_ble_eq_true rfl) rfl (fun d hd => ?_)
  generalize hW : fnW u m p = W
  have fin : ∀ v : Int, v = W → Ends (ev PP (gsF gv) B d 198 182 [(2, rf (B + 7))] [(0, v)] h) (fun r => ∃ x h', r = ((0, (0, x)), h') ∧ x = W ∧ h' = h) := by
    intro v e
    refine Ends.eq (b198_182 (n := n) (by (repeat' first | assumption | refine LX.setF _ _ ?_ (by decide +kernel) | refine LX.setS ?_ rfl | refine LX.setA ?_ (by first | assumption | omega))) (by first | assumption | omega)) ?_
    exact Ends.sm ⟨_, _, rfl, e, rfl⟩
  have go := fun (i : Nat) (s : List Int) (hs : fnS[i]? = some s) => c_isWord (gv := gv) (d := d) l (by omega) S (T.2.1 i s hs) R hp hw
  unfold fnW fnS at hW
  refine Ends.eq (b198_0 (n := n) (by (repeat' first | assumption | refine LX.setF _ _ ?_ (by decide +kernel) | refine LX.setS ?_ rfl | refine LX.setA ?_ (by first | assumption | omega))) (by first | assumption | omega)) ?_
  refine Ends.ct l (by decide +kernel) (by decide) (go 0 [109, 105, 110] rfl) (fun v q1 l1 _ _ _ ⟨eh, w⟩ => ?_)
  subst eh
  refine Ends.eq (b198_9 (n := n) (by (repeat' first | assumption | refine LX.setF _ _ ?_ (by decide +kernel) | refine LX.setS ?_ rfl | refine LX.setA ?_ (by first | assumption | omega))) (by first | assumption | omega)) ?_
  unfold fnI at hW
  rcases w with ⟨w, rfl⟩ | ⟨w, rfl⟩
  · exact Ends.b0 (fun z => absurd z (by decide)) (fun _ => fin 0 ((show (0 : Int) = 0 by decide).trans ((itP_t w).symm.trans hW)))
  refine Ends.b0 (fun _ => ?_) (fun z => absurd rfl z)
  rw [itP_f w] at hW
  refine Ends.ct l (by decide +kernel) (by decide) (go 1 [109, 97, 120] rfl) (fun v q1 l1 _ _ _ ⟨eh, w⟩ => ?_)
  subst eh
  refine Ends.eq (b198_25 (n := n) (by (repeat' first | assumption | refine LX.setF _ _ ?_ (by decide +kernel) | refine LX.setS ?_ rfl | refine LX.setA ?_ (by first | assumption | omega))) (by first | assumption | omega)) ?_
  unfold fnI at hW
  rcases w with ⟨w, rfl⟩ | ⟨w, rfl⟩
  · exact Ends.b0 (fun z => absurd z (by decide)) (fun _ => fin 1 ((show (1 : Int) = 0 + 1 by decide).trans ((itP_t w).symm.trans hW)))
  refine Ends.b0 (fun _ => ?_) (fun z => absurd rfl z)
  rw [itP_f w] at hW
  refine Ends.ct l (by decide +kernel) (by decide) (go 2 [109, 111, 100] rfl) (fun v q1 l1 _ _ _ ⟨eh, w⟩ => ?_)
  subst eh
  refine Ends.eq (b198_41 (n := n) (by (repeat' first | assumption | refine LX.setF _ _ ?_ (by decide +kernel) | refine LX.setS ?_ rfl | refine LX.setA ?_ (by first | assumption | omega))) (by first | assumption | omega)) ?_
  unfold fnI at hW
  rcases w with ⟨w, rfl⟩ | ⟨w, rfl⟩
  · exact Ends.b0 (fun z => absurd z (by decide)) (fun _ => fin 2 ((show (2 : Int) = 0 + 1 + 1 by decide).trans ((itP_t w).symm.trans hW)))
  refine Ends.b0 (fun _ => ?_) (fun z => absurd rfl z)
  rw [itP_f w] at hW
  refine Ends.ct l (by decide +kernel) (by decide) (go 3 [100, 105, 118] rfl) (fun v q1 l1 _ _ _ ⟨eh, w⟩ => ?_)
  subst eh
  refine Ends.eq (b198_57 (n := n) (by (repeat' first | assumption | refine LX.setF _ _ ?_ (by decide +kernel) | refine LX.setS ?_ rfl | refine LX.setA ?_ (by first | assumption | omega))) (by first | assumption | omega)) ?_
  unfold fnI at hW
  rcases w with ⟨w, rfl⟩ | ⟨w, rfl⟩
  · exact Ends.b0 (fun z => absurd z (by decide)) (fun _ => fin 3 ((show (3 : Int) = 0 + 1 + 1 + 1 by decide).trans ((itP_t w).symm.trans hW)))
  refine Ends.b0 (fun _ => ?_) (fun z => absurd rfl z)
  rw [itP_f w] at hW
  refine Ends.ct l (by decide +kernel) (by decide) (go 4 [109, 105, 100] rfl) (fun v q1 l1 _ _ _ ⟨eh, w⟩ => ?_)
  subst eh
  refine Ends.eq (b198_73 (n := n) (by (repeat' first | assumption | refine LX.setF _ _ ?_ (by decide +kernel) | refine LX.setS ?_ rfl | refine LX.setA ?_ (by first | assumption | omega))) (by first | assumption | omega)) ?_
  unfold fnI at hW
  rcases w with ⟨w, rfl⟩ | ⟨w, rfl⟩
  · exact Ends.b0 (fun z => absurd z (by decide)) (fun _ => fin 4 ((show (4 : Int) = 0 + 1 + 1 + 1 + 1 by decide).trans ((itP_t w).symm.trans hW)))
  refine Ends.b0 (fun _ => ?_) (fun z => absurd rfl z)
  rw [itP_f w] at hW
  refine Ends.ct l (by decide +kernel) (by decide) (go 5 [97, 98, 115] rfl) (fun v q1 l1 _ _ _ ⟨eh, w⟩ => ?_)
  subst eh
  refine Ends.eq (b198_89 (n := n) (by (repeat' first | assumption | refine LX.setF _ _ ?_ (by decide +kernel) | refine LX.setS ?_ rfl | refine LX.setA ?_ (by first | assumption | omega))) (by first | assumption | omega)) ?_
  unfold fnI at hW
  rcases w with ⟨w, rfl⟩ | ⟨w, rfl⟩
  · exact Ends.b0 (fun z => absurd z (by decide)) (fun _ => fin 5 ((show (5 : Int) = 0 + 1 + 1 + 1 + 1 + 1 by decide).trans ((itP_t w).symm.trans hW)))
  refine Ends.b0 (fun _ => ?_) (fun z => absurd rfl z)
  rw [itP_f w] at hW
  refine Ends.ct l (by decide +kernel) (by decide) (go 6 [102, 108, 111, 111, 114] rfl) (fun v q1 l1 _ _ _ ⟨eh, w⟩ => ?_)
  subst eh
  refine Ends.eq (b198_105 (n := n) (by (repeat' first | assumption | refine LX.setF _ _ ?_ (by decide +kernel) | refine LX.setS ?_ rfl | refine LX.setA ?_ (by first | assumption | omega))) (by first | assumption | omega)) ?_
  unfold fnI at hW
  rcases w with ⟨w, rfl⟩ | ⟨w, rfl⟩
  · exact Ends.b0 (fun z => absurd z (by decide)) (fun _ => fin 6 ((show (6 : Int) = 0 + 1 + 1 + 1 + 1 + 1 + 1 by decide).trans ((itP_t w).symm.trans hW)))
  refine Ends.b0 (fun _ => ?_) (fun z => absurd rfl z)
  rw [itP_f w] at hW
  refine Ends.ct l (by decide +kernel) (by decide) (go 7 [99, 101, 105, 108] rfl) (fun v q1 l1 _ _ _ ⟨eh, w⟩ => ?_)
  subst eh
  refine Ends.eq (b198_122 (n := n) (by (repeat' first | assumption | refine LX.setF _ _ ?_ (by decide +kernel) | refine LX.setS ?_ rfl | refine LX.setA ?_ (by first | assumption | omega))) (by first | assumption | omega)) ?_
  unfold fnI at hW
  rcases w with ⟨w, rfl⟩ | ⟨w, rfl⟩
  · exact Ends.b0 (fun z => absurd z (by decide)) (fun _ => fin 7 ((show (7 : Int) = 0 + 1 + 1 + 1 + 1 + 1 + 1 + 1 by decide).trans ((itP_t w).symm.trans hW)))
  refine Ends.b0 (fun _ => ?_) (fun z => absurd rfl z)
  rw [itP_f w] at hW
  refine Ends.ct l (by decide +kernel) (by decide) (go 8 [114, 111, 117, 110, 100] rfl) (fun v q1 l1 _ _ _ ⟨eh, w⟩ => ?_)
  subst eh
  refine Ends.eq (b198_139 (n := n) (by (repeat' first | assumption | refine LX.setF _ _ ?_ (by decide +kernel) | refine LX.setS ?_ rfl | refine LX.setA ?_ (by first | assumption | omega))) (by first | assumption | omega)) ?_
  unfold fnI at hW
  rcases w with ⟨w, rfl⟩ | ⟨w, rfl⟩
  · exact Ends.b0 (fun z => absurd z (by decide)) (fun _ => fin 8 ((show (8 : Int) = 0 + 1 + 1 + 1 + 1 + 1 + 1 + 1 + 1 by decide).trans ((itP_t w).symm.trans hW)))
  refine Ends.b0 (fun _ => ?_) (fun z => absurd rfl z)
  rw [itP_f w] at hW
  refine Ends.ct l (by decide +kernel) (by decide) (go 9 [115, 105, 103, 110] rfl) (fun v q1 l1 _ _ _ ⟨eh, w⟩ => ?_)
  subst eh
  refine Ends.eq (b198_156 (n := n) (by (repeat' first | assumption | refine LX.setF _ _ ?_ (by decide +kernel) | refine LX.setS ?_ rfl | refine LX.setA ?_ (by first | assumption | omega))) (by first | assumption | omega)) ?_
  unfold fnI at hW
  rcases w with ⟨w, rfl⟩ | ⟨w, rfl⟩
  · exact Ends.b0 (fun z => absurd z (by decide)) (fun _ => fin 9 ((show (9 : Int) = 0 + 1 + 1 + 1 + 1 + 1 + 1 + 1 + 1 + 1 by decide).trans ((itP_t w).symm.trans hW)))
  refine Ends.b0 (fun _ => ?_) (fun z => absurd rfl z)
  rw [itP_f w] at hW
  refine Ends.ct l (by decide +kernel) (by decide) (go 10 [115, 113, 114] rfl) (fun v q1 l1 _ _ _ ⟨eh, w⟩ => ?_)
  subst eh
  refine Ends.eq (b198_173 (n := n) (by (repeat' first | assumption | refine LX.setF _ _ ?_ (by decide +kernel) | refine LX.setS ?_ rfl | refine LX.setA ?_ (by first | assumption | omega))) (by first | assumption | omega)) ?_
  unfold fnI at hW
  rcases w with ⟨w, rfl⟩ | ⟨w, rfl⟩
  · exact fin 10 ((show (10 : Int) = 0 + 1 + 1 + 1 + 1 + 1 + 1 + 1 + 1 + 1 + 1 by decide).trans ((itP_t w).symm.trans hW))
  · exact fin (-1) ((itP_f w).symm.trans hW)
/-- something is open from here on -/
theorem c_enter (l : LX B n h) (hd : 12 ≤ d) (ho : YO B (B + 8) h) {dp : Nat} {pl : Int} (h10 : hv h (B + 7) 10 = (dp : Int)) (hdp : dp ≤ 24) (h3 : hv h (B + 8) 3 = pl) :
    Vx (cll PP (ev PP (gsF gv) B) d 193 [(2, rf (B + 7))] h) (fun h' => dp < 24 ∧ Agr (fun c k => c = B + 7 ∧ k = 10) h h' ∧ hv h' (B + 7) 10 = ((dp + 1 : Nat) : Int)) (fun x h' => dp = 24 ∧ WrX (hset h (B + 7) 10 ((dp + 1 : Nat) : Int)) pl x h') := by
  have hb := l.2.2
  refine Vx.into (D := 11) hd (Nat.le_of_ble_eq_true rfl) rfl (fun d hd => ?_)
  refine Ends.eq (b193_0 (n := n) (by (repeat' first | assumption | refine LX.setF _ _ ?_ (by decide +kernel) | refine LX.setS ?_ rfl | refine LX.setA ?_ (by first | assumption | omega))) (by first | assumption | omega)) ?_
  rw [h10, b96_1 (by omega)]
  refine Ends.b5 (fun z => Ends.sm (Or.inl ⟨_, rfl, by omega, Agr.rf.set ⟨rfl, rfl⟩, hv_set_at ..⟩)) (fun z => ?_)
  have l1 : LX B n (hset h (B + 7) 10 ((dp + 1 : Nat) : Int)) := LX.setF 7 10 l (by decide +kernel)
  refine Ends.ct l1 (by decide +kernel) (by decide) (c_wrong (pl := pl) l1 (by omega) ho (by show B + 8 < hnx h; omega) (by rw [hv_na (by omega)]; exact h3)) (fun v q2 l2 _ _ _ ⟨e1, e2⟩ => ?_)
  subst e1
  have w : WrX (hset h (B + 7) 10 ((dp + 1 : Nat) : Int)) pl (rf (hnx (hset h (B + 7) 10 ((dp + 1 : Nat) : Int)))) q2 := ⟨rfl, e2⟩
  have kk : (hk q2 (ad (rf (hnx (hset h (B + 7) 10 ((dp + 1 : Nat) : Int)))))).1 = 1 := by
    rw [ad_rf, e2]
    show (hk (hnew (hset h (B + 7) 10 ((dp + 1 : Nat) : Int)) (1, 19) 7) (hnx (hset h (B + 7) 10 ((dp + 1 : Nat) : Int)))).1 = 1
    rw [hk_new, if_pos rfl]
  refine Ends.eq (b193_26 (n := n) (by (repeat' first | assumption | refine LX.setF _ _ ?_ (by decide +kernel) | refine LX.setS ?_ rfl | refine LX.setA ?_ (by first | assumption | omega))) (by first | assumption | omega)) ?_
  exact Ends.g ⟨rf_pos _, kk⟩ (Ends.th w.c rfl (Or.inr ⟨_, _, rfl, by omega, w⟩))
/-- whether the name of VALUE v is the sign (bytes b from f on, n of them) -/
def nmP (c : Nat → Int) (b : Nat → Int) (f n v : Nat) : Prop := c (40 + 248 * v) = (n : Int) ∧ ∀ i, i < n → uop 4 (bop32 122 (c (40 + 248 * v + 1 + i / 4)) ((24 - 8 * (i % 4) : Nat) : Int)) = b (f + i)
noncomputable def fdN (P : Nat → Prop) : Nat → Nat → Int
  | 0, _ => -1
  | k + 1, v => itP (P v) (v : Int) (fdN P k (v + 1))
theorem cl_of {v : Nat} (h : v < 1000) : v187 (v : Int) = ((40 + 248 * v : Nat) : Int) := by
  unfold v187
  rw [show bop32 104 (v : Int) 248 = ((v * 248 : Nat) : Int) from mulNN (y := 248) (by omega), show bop32 96 (40 : Int) ((v * 248 : Nat) : Int) = ((40 + v * 248 : Nat) : Int) from addNN (x := 40) (by omega), Nat.mul_comm]
end FM
