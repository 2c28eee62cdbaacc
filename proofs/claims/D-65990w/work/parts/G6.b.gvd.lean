/-! L3: the desk works out the texts of a sketch -/
noncomputable section GVDD
variable {gv : Nat → Int} {c : Nat → Int} {B n nv nc k s tof : Nat} {tu : Int} {V : Nat → Fq}
/-- what working out a text needs, and keeps -/
def IvD (gv : Nat → Int) (B : Nat) (c : Nat → Int) (nv k tof : Nat) (tu : Int) (q : AH) : Prop := (∀ z, z < 37368 → hv q (B + 2) z = c z) ∧ FnB gv B q ∧ hv q (B + 7) 13 = (tof : Int) ∧ hv q (B + 1) 8 = tu ∧ (hv q (B + 7) 21 = tu → Vals c nv k (rwA B q))
def gvW (B : Nat) : Nat → Nat → Prop := fun a z => waW B a z ∨ (a = B + 7 ∧ z = 22)
theorem c_givesI {q : AH} {f d : Nat} (l : LX B n q) (hd : 402 ≤ d) (W : DW c nv nc) (hk2 : c 2 = (k : Int)) (hk : k < nc) (ok : OKc c nv k) (A : Vals c nv k V) (I : IvD gv B c nv k tof tu q) (X9 : TX c f) (hf : f + 61 ≤ 37368) {X : Dn} {N : Nat → Bool} {p : Nat} (eX : rdT c nv f = .inr (X, N, p)) :
    Vt 0 (cll PP (ev PP (gsF gv) B) d 201 [(2, rf (B + 7)), (0, (f : Int))] q) (fun x q' => Agr (gvW B) q q' ∧ IvD gv B c nv k tof tu q' ∧ x = b2i (gkT c nv V f) ∧ (gkT c nv V f = true → hv q' (B + 7) 22 = gwT c nv V f)) := by
  obtain ⟨i1, i2, i3, i4, i5⟩ := I
  obtain ⟨x, q', ec, g, e21, V1, ex, e22⟩ := c_gives l hd i1 W i2 i3 i4 hk2 hk ok i5 X9 hf eX
  have ev_ := fvT_is (V := V) (V' := rwA B q') eX (fun w hw => Vals.uniq ok A V1 w hw)
  rw [ev_] at ex e22
  refine ⟨x, q', ec, g, ⟨fun z hz => ?_, i2.agr g (fun a z hz => by unfold waW wkW; omega), ?_, ?_, fun _ => V1⟩, ex, fun z => ?_⟩
  · rw [g.at _ _ (by unfold waW wkW; omega)]; exact i1 z hz
  · rw [g.at _ _ (by unfold waW wkW; omega)]; exact i3
  · rw [g.at _ _ (by unfold waW wkW; omega)]; exact i4
  · unfold gwT
    rw [if_pos z]
    exact e22 z
end GVDD
