/-! L3: the desk works out the texts of a sketch: all of them -/
noncomputable section GVDR
variable {gv : Nat → Int} {c : Nat → Int} {B n nv nc k s w tof : Nat} {tu : Int} {V : Nat → Fq} {h : AH}
theorem FmX.inr {f : Nat} {x : Int} (F : FmX B h c nv f x) : TX c f ∧ ∃ X N p, rdT c nv f = .inr (X, N, p) ∧ AstI (B + 246) 240 h x X N := by
  obtain ⟨X9, F⟩ := F
  refine ⟨X9, ?_⟩
  rcases F with ⟨e, -⟩ | ⟨-, X, N, p, e, A, -, -⟩
  · obtain ⟨m, b, T, -⟩ := X9
    have := T.1
    omega
  · exact ⟨X, N, p, e, A⟩
theorem SkR.gvD (R : SkR B nv c s h w) (Vs : SkV c s) (hs : s < 6) (W : DW c nv nc) (hk2 : c 2 = (k : Int)) (hk : k < nc) (ok : OKc c nv k) (A : Vals c nv k V) : GvD gv B n s (nkF c s) (gvW B) (csF c s) (fun j => gwT c nv V (coA s j + 5)) (isF c s) (fun j => gkT c nv V (coA s j + 5)) (IvD gv B c nv k tof tu) := fun j d' q hj ij kd lq hd I => by
  obtain ⟨k1, k2⟩ := Vs.1.nk
  have lc : coA s j = skA s + 480 + 66 * j := rfl
  have sb := sk_b hs
  have kd' : (c (coA s j)).toNat ≤ 5 := kd
  obtain ⟨X9, X, N, p, e, _⟩ := ((R.2.2.2.2.2 j (by omega)).2.2.2.2.2 (by omega)).inr
  exact ⟨gw_b, c_givesI lq hd W hk2 hk ok A I X9 (by omega) e⟩
theorem SkR.gvR (R : SkR B nv c s h w) (Vs : SkV c s) (hs : s < 6) (W : DW c nv nc) (hk2 : c 2 = (k : Int)) (hk : k < nc) (ok : OKc c nv k) (A : Vals c nv k V) : GvR gv B n s (ndcF c s) (gvW B) (dlF c s) (fun j => gkT c nv V (diA s j + 2)) (fun j => gwT c nv V (diA s j + 2)) (IvD gv B c nv k tof tu) := fun j d' q hj ij lq hd I => by
  obtain ⟨k1, k2⟩ := Vs.1.nd
  have lc : diA s j = skA s + 101 + 63 * j := rfl
  have sb := sk_b hs
  unfold dlF at ij
  have ij := of_decide_eq_true ij
  rcases (R.2.2.2.2.1 j (by omega)).2 with ⟨z, -⟩ | ⟨-, -, F⟩
  · omega
  · obtain ⟨X9, X, N, p, e, _⟩ := F.inr
    exact c_givesI lq hd W hk2 hk ok A I X9 (by omega) e
end GVDR
