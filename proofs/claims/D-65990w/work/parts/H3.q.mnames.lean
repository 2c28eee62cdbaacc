/-! L3: names at ends (model) -/
noncomputable section MNM
variable {D : Nat} {V : Nat → Nat → Int} {G : Nat → Int} {B n e : Nat} {h : AH}
theorem v610_is (he : e < 64) : v610 ((e / 2 : Nat) : Int) ((e % 2 : Nat) : Int) = ((8 * (e / 2) + 3 * (e % 2) : Nat) : Int) := by
  unfold v610
  rw [show bop32 104 (8 : Int) ((e / 2 : Nat) : Int) = ((8 * (e / 2) : Nat) : Int) from mulNN (x := 8) (by omega), show bop32 104 (3 : Int) ((e % 2 : Nat) : Int) = ((3 * (e % 2) : Nat) : Int) from mulNN (x := 3) (by omega), addNN (by omega)]
theorem is3 {a b c : Int} (hE : Nat → Prop) [Decidable (hE 0)] [Decidable (hE 1)] [Decidable (hE 2)] [Decidable (∀ k, k < 3 → hE k)] : (if hE 0 then (if hE 1 then (if hE 2 then a else b) else b) else b) = if (∀ k, k < 3 → hE k) then a else b := by
  by_cases y : ∀ k, k < 3 → hE k
  · rw [if_pos y, if_pos (y 0 (by decide)), if_pos (y 1 (by decide)), if_pos (y 2 (by decide))]
  · rw [if_neg y]
    by_cases a0 : hE 0
    · rw [if_pos a0]
      by_cases a1 : hE 1
      · rw [if_pos a1]
        by_cases a2 : hE 2
        · exact absurd (fun k hk => by
            rcases (by omega : k = 0 ∨ k = 1 ∨ k = 2) with z | z | z
            · rw [z]; exact a0
            · rw [z]; exact a1
            · rw [z]; exact a2) y
        · rw [if_neg a2]
      · rw [if_neg a1]
    · rw [if_neg a0]
theorem v692_is {a : Nat} (dm : DmM B h D V) (he : e < 2 * D) (ka : hk h a = (0 + 2, 3)) (I : ∀ k, k < 3 → hv h a k = G k) : q692 B h (v610 ((e / 2 : Nat) : Int) ((e % 2 : Nat) : Int)) (rf a) ∧ v692 B h (v610 ((e / 2 : Nat) : Int) ((e % 2 : Nat) : Int)) (rf a) = if isE V e G then 1 else 0 := by
  obtain ⟨d1, d2, d3⟩ := dm
  have p1 : ∀ _ : Unit, bop32 96 ((8 * (e / 2) + 3 * (e % 2) : Nat) : Int) (1 : Int) = ((8 * (e / 2) + (3 * (e % 2) + 1) : Nat) : Int) := fun _ => addNN (y := 1) (by omega)
  have p2 : ∀ _ : Unit, bop32 96 ((8 * (e / 2) + 3 * (e % 2) : Nat) : Int) (2 : Int) = ((8 * (e / 2) + (3 * (e % 2) + 2) : Nat) : Int) := fun _ => addNN (y := 2) (by omega)
  have c0 : hv h (B + 227) (8 * (e / 2) + 3 * (e % 2)) = wyN V e 0 := d3 (e / 2) (3 * (e % 2)) (by omega) (by omega)
  have c1 : hv h (B + 227) (8 * (e / 2) + (3 * (e % 2) + 1)) = wyN V e 1 := d3 (e / 2) (3 * (e % 2) + 1) (by omega) (by omega)
  have c2 : hv h (B + 227) (8 * (e / 2) + (3 * (e % 2) + 2)) = wyN V e 2 := d3 (e / 2) (3 * (e % 2) + 2) (by omega) (by omega)
  refine ⟨?_, ?_⟩
  · unfold q692
    rw [v610_is (by omega), ad_rf, ka, p1 (), p2 ()]
    exact ⟨⟨by omega, by omega⟩, ⟨rf_pos _, rfl, by omega, by decide⟩, cT ⟨⟨by omega, by omega⟩, ⟨rf_pos _, rfl, by omega, by decide⟩, cT ⟨⟨by omega, by omega⟩, rf_pos _, rfl, by omega, by decide⟩⟩⟩
  · unfold v692
    rw [v610_is (by omega), ad_rf, p1 (), p2 (), tn, tn, tn, show Int.toNat (0 : Int) = 0 from rfl, show Int.toNat (1 : Int) = 1 from rfl, show Int.toNat (2 : Int) = 2 from rfl, c0, c1, c2, I 0 (by decide), I 1 (by decide), I 2 (by decide), ct1, ct1, ct1]
    exact is3 (c := 0) (fun k => wyN V e k = G k)
theorem v807_is {k : Nat} (dm : DmM B h D V) (he : e < 2 * D) (hk2 : k < 2 * D) : q807 B h (v610 ((e / 2 : Nat) : Int) ((e % 2 : Nat) : Int)) (v610 ((k / 2 : Nat) : Int) ((k % 2 : Nat) : Int)) ∧ v807 B h (v610 ((e / 2 : Nat) : Int) ((e % 2 : Nat) : Int)) (v610 ((k / 2 : Nat) : Int) ((k % 2 : Nat) : Int)) = if sE V e k then 1 else 0 := by
  obtain ⟨d1, d2, d3⟩ := dm
  have p1 : ∀ e : Nat, e < 64 → bop32 96 ((8 * (e / 2) + 3 * (e % 2) : Nat) : Int) (1 : Int) = ((8 * (e / 2) + (3 * (e % 2) + 1) : Nat) : Int) := fun e he => addNN (y := 1) (by omega)
  have p2 : ∀ e : Nat, e < 64 → bop32 96 ((8 * (e / 2) + 3 * (e % 2) : Nat) : Int) (2 : Int) = ((8 * (e / 2) + (3 * (e % 2) + 2) : Nat) : Int) := fun e he => addNN (y := 2) (by omega)
  have c0 : ∀ e, e < 2 * D → hv h (B + 227) (8 * (e / 2) + 3 * (e % 2)) = wyN V e 0 := fun e he => d3 (e / 2) (3 * (e % 2)) (by omega) (by omega)
  have c1 : ∀ e, e < 2 * D → hv h (B + 227) (8 * (e / 2) + (3 * (e % 2) + 1)) = wyN V e 1 := fun e he => d3 (e / 2) (3 * (e % 2) + 1) (by omega) (by omega)
  have c2 : ∀ e, e < 2 * D → hv h (B + 227) (8 * (e / 2) + (3 * (e % 2) + 2)) = wyN V e 2 := fun e he => d3 (e / 2) (3 * (e % 2) + 2) (by omega) (by omega)
  refine ⟨?_, ?_⟩
  · unfold q807
    rw [v610_is (e := e) (by omega), v610_is (e := k) (by omega), p1 e (by omega), p2 e (by omega), p1 k (by omega), p2 k (by omega)]
    exact ⟨⟨by omega, by omega⟩, ⟨by omega, by omega⟩, cT ⟨⟨by omega, by omega⟩, ⟨by omega, by omega⟩, cT ⟨⟨by omega, by omega⟩, by omega, by omega⟩⟩⟩
  · unfold v807
    rw [v610_is (e := e) (by omega), v610_is (e := k) (by omega), p1 e (by omega), p2 e (by omega), p1 k (by omega), p2 k (by omega)]
    simp only [tn]
    rw [c0 e he, c1 e he, c2 e he, c0 k hk2, c1 k hk2, c2 k hk2, ct1, ct1, ct1]
    exact is3 (c := 0) (fun j => wyN V e j = wyN V k j)
end MNM
