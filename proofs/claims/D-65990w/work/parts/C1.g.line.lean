/-! L3: a line of a text -/
/-- the words that a line may have -/
def kwT (kd : Nat) : List Int := [[82, 85, 78, 40], [66, 76, 79, 67, 75, 40], [72, 79, 76, 69, 40], [85, 78, 73, 84, 69, 40], [76, 69, 83, 83, 40], [67, 79, 77, 77, 79, 78, 40], [77, 79, 86, 69, 40], [87, 65, 89, 40], [71, 82, 79, 87, 40], [83, 72, 82, 73, 78, 75, 40]].getD kd []
/-- a digit of a solid -/
def dgO (c : Int) : Bool := decide (48 ≤ c ∧ c ≤ 51)
/-- which word is there; 10: none -/
def kwI (u : Nat → Int) (m p : Nat) : Nat := if wdS u m p (kwT 0) = true then 0 else if wdS u m p (kwT 1) = true then 1 else if wdS u m p (kwT 2) = true then 2 else if wdS u m p (kwT 3) = true then 3 else if wdS u m p (kwT 4) = true then 4 else if wdS u m p (kwT 5) = true then 5 else if wdS u m p (kwT 6) = true then 6 else if wdS u m p (kwT 7) = true then 7 else if wdS u m p (kwT 8) = true then 8 else if wdS u m p (kwT 9) = true then 9 else 10
def argN (kd : Nat) : Nat := [5, 6, 6, 0, 0, 0, 3, 1, 1, 1].getD kd 0
/-- are the numbers in their bounds -/
def bd200 (nb : Nat → Int) : Nat → Bool
  | 0 => true
  | k + 1 => bd200 nb k && decide (-200 ≤ nb k ∧ nb k ≤ 200)
theorem bd200_iff {nb : Nat → Int} : ∀ {k : Nat}, bd200 nb k = true ↔ ∀ j, j < k → -200 ≤ nb j ∧ nb j ≤ 200
  | 0 => ⟨fun _ j hj => absurd hj (Nat.not_lt_zero _), fun _ => rfl⟩
  | k + 1 => by
    show (bd200 nb k && decide (-200 ≤ nb k ∧ nb k ≤ 200)) = true ↔ _
    rw [Bool.and_eq_true, bd200_iff (k := k), decide_eq_true_eq]
    constructor
    · rintro ⟨a, b⟩ j hj
      by_cases e : j = k
      · rw [e]; exact b
      · exact a j (by omega)
    · intro a
      exact ⟨fun j hj => a j (by omega), a k (by omega)⟩
def bdS (n kd : Nat) (nb : Nat → Int) : Bool := if kd = 0 then runOK n nb else if kd = 1 then bd200 nb 6 else if kd = 2 then bd200 nb 6 && holeOK nb else if kd = 6 then bd200 nb 3 else if kd = 7 then decide (0 ≤ nb 0 ∧ nb 0 ≤ 47) else decide (1 ≤ nb 0 ∧ nb 0 ≤ 8)
/-- what comes behind a word: which solid, which word, which other solid, where it ends -/
def lnR (u : Nat → Int) (m n k kd q : Nat) : Option (Nat × Nat × Nat × Nat) := if kd = 10 then none else if 3 ≤ kd ∧ kd ≤ 5 then (if (wdS u m q [35] && (dgO (ubS u m (q + 1)) && wdS u m (q + 2) [41])) = true then some (k, kd, (ubS u m (q + 1) - 48).toNat, q + 3) else none) else (match nuS u m q (argN kd) with
  | none => none
  | some e => if bdS n kd (nsV u m q) = true then some (k, kd, 0, e) else none)
/-- where a line's numbers begin -/
def lnQ (u : Nat → Int) (m p : Nat) : Nat := p + 3 + (kwT (kwI u m (p + 3))).length
def lnS (u : Nat → Int) (m n p : Nat) : Option (Nat × Nat × Nat × Nat) := if (wdS u m p [35] && (dgO (ubS u m (p + 1)) && wdS u m (p + 2) [61])) = true then lnR u m n (ubS u m (p + 1) - 48).toNat (kwI u m (p + 3)) (lnQ u m p) else none
/-- what a line makes of its solid -/
noncomputable def apS (n kd : Nat) (nb : Nat → Int) (o : Nat) (S : Nat → Nat → Bool) (k : Nat) : Nat → Bool := if kd = 0 then fun g => S k g || runG n nb g else if kd = 1 then fun g => S k g || prG n (bkQ nb) 2 (nb 2) (nb 5) g else if kd = 2 then fun g => S k g || holG n nb g else if kd ≤ 5 then fun g => jn ((kd : Int) - 3) (S k g) (S o g) else if kd = 6 then mvG n (S k) (nb 0) (nb 1) (nb 2) else if kd = 7 then tnG n (nb 0).toNat (S k) else if kd = 8 then grk n (S k) (nb 0).toNat else shK n (nb 0).toNat (S k)
def upS (S : Nat → Nat → Bool) (k : Nat) (T : Nat → Bool) : Nat → Nat → Bool := fun j => if j = k then T else S j
theorem upS_at {S : Nat → Nat → Bool} {k : Nat} {T : Nat → Bool} : upS S k T k = T := if_pos rfl
theorem upS_ne {S : Nat → Nat → Bool} {k j : Nat} {T : Nat → Bool} (h : j ≠ k) : upS S k T j = S j := if_neg h
theorem dgO_c {c : Int} (h : dgO c = true) : 48 ≤ c ∧ c ≤ 51 := of_decide_eq_true h
/-- the texts that are read -/
def TxR (gv : Nat → Int) (B : Nat) (h : AH) : Prop := TxS gv B h (gv 0) [35] ∧ TxS gv B h (gv 1) [61] ∧ (∀ k, k < 10 → TxS gv B h (gv (k + 2)) (kwT k)) ∧ TxS gv B h (gv 12) [59] ∧ TxS gv B h (gv 13) sGr ∧ TxS gv B h (gv 15) [41] ∧ TxS gv B h (gv 16) [44] ∧ TxS gv B h (gv 17) [69, 78, 68]
theorem TxR.ext {gv : Nat → Int} {B : Nat} {h t : AH} {W : Nat → Nat → Prop} {cc ss : Nat} (T : TxR gv B h) (g : Ext W cc ss h t) (hb : B + 246 ≤ hnx h) (hW : ∀ a k, a < B → ¬ W a k) : TxR gv B t :=
  ⟨T.1.ext g hb hW, T.2.1.ext g hb hW, fun k hk => (T.2.2.1 k hk).ext g hb hW, T.2.2.2.1.ext g hb hW, T.2.2.2.2.1.ext g hb hW, T.2.2.2.2.2.1.ext g hb hW, T.2.2.2.2.2.2.1.ext g hb hW, T.2.2.2.2.2.2.2.ext g hb hW⟩
theorem v155_dg {c : Int} : v155 c 48 51 = if dgO c = true then 1 else 0 := v155_d
theorem wd1_le {u : Nat → Int} {m p : Nat} {c : Int} (hp : p ≤ m) (c0 : 0 ≤ c) (h : wdS u m p [c] = true) : p + 1 ≤ m := by
  have := wdS_le (s := [c]) hp (fun i x e => by cases i with | zero => (simp at e; omega) | succ i => simp at e) h
  exact this
theorem nsV_b {u : Nat → Int} {m p k : Nat} : -100000 < nsV u m p k ∧ nsV u m p k < 100000 := by
  unfold nsV
  split
  · exact ⟨by decide, by decide⟩
  · exact nmV_b
