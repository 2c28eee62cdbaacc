/-! L2: a method's bytes, all of them, against its table -/
abbrev CF : Type := Nat → Option (Nat × Nat × Int × Nat)
def chkA (T : DT) (ow rk nl : Nat) (ini : Bool) (f : CF) : List UInt8 → Nat → Bool
  | [], _ => true
  | o :: r, pc => (match f pc with
      | none => true
      | some i => (i.1 == 21 || i.1 == 44) || chk0 T ow rk nl ini o.toNat r pc i.1 i.2.1 i.2.2.1 i.2.2.2) && chkA T ow rk nl ini f r (pc + 1)
theorem DkAt_drop {code : ByteArray} {pc : Nat} {l : List UInt8} (h : code.data.toList.drop pc = l) : DkAt code pc l := by
  intro j b hb
  rw [← h, List.getElem?_drop] at hb
  exact hb
theorem chkA_ok {T : DT} {ow rk nl : Nat} {ini : Bool} {f : CF} {code : ByteArray} : ∀ (l : List UInt8) (pc : Nat), code.data.toList.drop pc = l → chkA T ow rk nl ini f l pc = true → ∀ q i, pc ≤ q → q < pc + l.length → f q = some i → i.1 ≠ 21 → i.1 ≠ 44 → ∃ (x : UInt8) (r : List UInt8), DkAt code q (x :: r) ∧ chk0 T ow rk nl ini x.toNat r q i.1 i.2.1 i.2.2.1 i.2.2.2 = true
  | [], pc, _, _, q, i, h1, h2, _, _, _ => absurd h2 (by simp; omega)
  | o :: r, pc, hd, hc, q, i, h1, h2, h3, h4, h5 => by
    unfold chkA at hc
    obtain ⟨c1, c2⟩ := Bool.and_eq_true_iff.mp hc
    by_cases e : q = pc
    · subst e
      rw [h3] at c1
      have c1 : ((i.1 == 21 || i.1 == 44) || chk0 T ow rk nl ini o.toNat r q i.1 i.2.1 i.2.2.1 i.2.2.2) = true := c1
      refine ⟨o, r, DkAt_drop hd, ?_⟩
      rcases Bool.or_eq_true_iff.mp c1 with c | c
      · rcases Bool.or_eq_true_iff.mp c with c | c
        · exact absurd (beq_iff_eq.mp c) h4
        · exact absurd (beq_iff_eq.mp c) h5
      · exact c
    · refine chkA_ok r (pc + 1) ?_ c2 q i (by omega) (by simp at h2; omega) h3 h4 h5
      rw [← List.drop_drop, hd]
      rfl
section WLK
variable {D : va_G} {cl : List vw_C} {dA : Nat → ClassId} {NT : Nat} {rt : Nat → FieldType} {KX : State → Heap → Prop} {P : PT} {gs : Nat → AV} {B : Nat} {M : MT} {Ts : List Cond} {CT : Nat → String × u_T × Nat × (Nat → FieldType)}
/-- a method whose bytes were looked at -/
theorem meth_ok {T : DT} {j ow rk : Nat} {ini : Bool} {f : CF} (hf : ∀ pc, pCode P j pc = cond (Nat.blt pc (mC M j).data.toList.length) (f pc) none) (hT : TOK D cl dA NT rt KX P gs B M Ts CT T j ow rk ini) (hc : chkA T ow rk (pNl P j) ini f (mC M j).data.toList 0 = true)
    (hsw : ∀ pc i, pCode P j pc = some i → i.1 = 21 ∨ i.1 = 44 → InsOK D cl dA NT rt KX P gs B M Ts CT j pc i.1 i.2.1 i.2.2.1 i.2.2.2) (pc : Nat) (i : Nat × Nat × Int × Nat) (hi : pCode P j pc = some i) : InsOK D cl dA NT rt KX P gs B M Ts CT j pc i.1 i.2.1 i.2.2.1 i.2.2.2 := by
  by_cases e : i.1 = 21 ∨ i.1 = 44
  · exact hsw pc i hi e
  · have h0 := hi
    rw [hf] at hi
    cases hb : Nat.blt pc (mC M j).data.toList.length with
    | false => rw [hb] at hi; cases hi
    | true =>
      rw [hb] at hi
      have hlt : pc < (mC M j).data.toList.length := Nat.le_of_ble_eq_true hb
      obtain ⟨x, r, h1, h2⟩ := chkA_ok (code := mC M j) _ 0 (by simp) hc pc i (Nat.zero_le _) (by omega) hi (fun z => e (Or.inl z)) (fun z => e (Or.inr z))
      exact chk0_ok hT h2 h1
end WLK
/-! L2: what a run comes to, without steps -/
section EV
variable (P : PT) (gs : Nat → AV) (B : Nat)
noncomputable def ev (d j pc : Nat) (L st : List AV) (h : AH) : Option Rs := @dite _ (∃ r n, arun P gs B n d j pc L st h = some r) (Classical.propDecidable _) (fun e => some (Classical.choose e)) (fun _ => none)
end EV
