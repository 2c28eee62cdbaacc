/-! L3: the values' part of both designs with a VALUE told -/
section DVT
variable {gv : Nat → Int} {B n m k q : Nat} {h t : AH} {c c' b : Nat → Int} {nv nv' nc v st : Nat} {x : Int}
theorem ast_dw {q' : Nat} (D : YD B q' h) (g : Agr (tdW q') h t) (X : Dn) (N : Nat → Bool) (y : Int) (A : AstI (B + 246) 240 h y X N) : AstI (B + 246) 240 t y X N :=
  A.e24 g.ext (fun a k la ka w => by
    have dw := td_dW w
    exact D.n24 dw.1 dw.2.1 ka)
theorem DV.told (V : DV B h c q nv nc) (T : Told c c' nv nc k v nv' st m b) (W : DW c nv nc) (hm : m ≤ 240) (I : NmI c nv) (I' : NmI c' nv') (D : YD B q h) (g : Agr (tdW q) h t) (a0 : hv t q 0 = (nv' : Int)) (a2 : ∀ w, w < nv → hv t (q + 2) w = hv h (q + 2) w) (a1 : ∀ w i, w < nv → i < 12 → hv t (q + 1) (12 * w + i) = hv h (q + 1) (12 * w + i)) (a3 : ∀ j, hv t (q + 3) j = if j = 40 * k + v then x else hv h (q + 3) j)
    (name : v = nv → ∃ s : Nat, 1 ≤ s ∧ s ≤ 12 ∧ c' (40 + 248 * nv) = (s : Int) ∧ hv t (q + 2) nv = (s : Int) ∧ ∀ i, i < s → hv t (q + 1) (12 * nv + i) = nbt c' nv i) (F : FmT B t c' nv' (fo v k) x) : DV B t c' q nv' nc := by
  obtain ⟨⟨v1, v2, v3⟩, V2, V3, V4, V5⟩ := V
  have K := T.nmk
  have nle := T.nle
  have n40 := T.n40
  have vlt := T.vlt
  have hk4 : k < 4 := by have := T.klt; have := W.2.2.2.2.1; omega
  have cases : ∀ w, w < nv' → w < nv ∨ (w = nv ∧ v = nv ∧ k = 0) := fun w hw => by
    rcases T.own with ⟨o1, o2⟩ | ⟨o1, o2, o3⟩ <;> omega
  refine ⟨⟨a0, by rw [g.at _ _ (by unfold tdW; omega)]; exact v2, by rw [g.at _ _ (by unfold tdW; omega), T.cs 2 (by decide) (by decide)]; exact v3⟩, fun w hw => ?_, fun j h1 h2 => ?_, fun w j hw hj => ?_, fun w j h1 h2 h3 => ?_⟩
  · rcases cases w hw with z | ⟨z1, z2, z3⟩
    · obtain ⟨s, s1, s2, s3, s4, s5⟩ := V2 w z
      exact ⟨s, s1, s2, by rw [(K w z).1]; exact s3, by rw [a2 w z]; exact s4, fun i hi => by rw [a1 w i z (by omega), (K w z).2 i (by omega)]; exact s5 i hi⟩
    · rw [z1]; exact name z2
  · rw [g.at _ _ (by unfold tdW; omega), T.cs _ (by have := W.2.2.2.2.1; omega) (by omega)]
    exact V3 j h1 h2
  · by_cases e : w = v ∧ j = k
    · rw [a3, if_pos (by rw [e.1, e.2]), e.1, e.2]; exact F
    · have ne : ¬ 40 * j + w = 40 * k + v := fun z => e (by omega)
      rw [a3, if_neg ne]
      rcases cases w hw with z | ⟨z1, z2, z3⟩
      · exact FmT.told T W hm I I' z hj e (V4 w j z hj) (fun X N A => ast_dw D g X N _ A)
      · have hj0 : 1 ≤ j := by
          by_cases j0 : j = 0
          · exact absurd ⟨by omega, by omega⟩ e
          · omega
        rw [z1]
        exact Or.inl ⟨T.fz z2 j hj0 hj, (V5 nv j (Nat.le_refl _) (by omega) hj).2⟩
  · have e := V5 w j (by omega) h2 h3
    have ne : ¬ 40 * j + w = 40 * k + v := by omega
    rw [T.hi _ (by rw [fo_v]; omega), a3, if_neg ne]
    exact e
theorem ds_same (K : ∀ j k, j < 140 → hv t (q + j) k = hv h (q + j) k) : DsEq h q t q := by
  have K0 : ∀ k, hv t q k = hv h q k := fun k => K 0 k (by decide)
  exact ⟨fun k _ => K0 k, fun k _ => K 1 k (by decide), fun k _ => K 2 k (by decide), fun k _ => K 3 k (by decide), fun k _ => K 4 k (by decide), fun s hs _ => ⟨fun k _ => K _ k (by omega), fun j k h1 h2 _ => by rw [Nat.add_assoc]; exact K _ k (by omega)⟩, fun f hf => ⟨fun k _ => K _ k (by omega), fun k _ => by rw [Nat.add_assoc]; exact K _ k (by omega)⟩, fun k _ => K 7 k (by decide)⟩
/-- what the model's define writes ahead of the edit -/
def mdW (B : Nat) : Nat → Nat → Prop := fun c k => (c = B + 149 ∧ (k = 0 ∨ (2 ≤ k ∧ k ≤ 14) ∨ k = 22)) ∨ c = B + 152 ∨ c = B + 153
theorem DV.md {cc ss : Nat} {W : Nat → Nat → Prop} (V : DV B h c q nv nc) (D : YD B q h) (hx : q + 140 ≤ hnx h) (e : Ext W cc ss h t) (hW : ∀ c k, B + 246 ≤ c → ¬ W c k) (hn : nv ≤ 40) (hnc : nc ≤ 4) : DV B t c q nv nc := by
  have lo := D.lo
  exact V.to (ds_same (fun j k hj => e.at k (by omega) (hW _ _ (by omega)))) (fun X N y A => A.e24 e (fun a k la _ => hW a k la)) hn hnc
end DVT
