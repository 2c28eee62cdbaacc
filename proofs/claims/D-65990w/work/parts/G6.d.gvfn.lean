/-! L3: the model works out the texts of a sketch: all of them -/
noncomputable section GVFN
variable {gv : Nat → Int} {c : Nat → Int} {B n nv nc k s w qd : Nat} {V : Nat → Fq} {h : AH}
/-- what the model's working out needs, and keeps -/
def IvM (B n : Nat) (c : Nat → Int) (qd nv nc k : Nat) (V : Nat → Fq) (h0 q : AH) : Prop := WoB B n q c qd nv nc k V ∧ KnM B q nv V ∧ ∀ x X N, AstI (B + 246) 240 h0 x X N → AstI (B + 246) 240 q x X N
theorem c_givenI {q : AH} {f d : Nat} {x : Int} (l : LX B n q) (hd : 982 ≤ d) (I : IvM B n c qd nv nc k V h q) (F : FmX B h c nv f x) :
    Vt 0 (cll PP (ev PP (gsF gv) B) d 655 [(2, rf (B + 149)), (2, x)] q) (fun v q' => Agr (wvW B) q q' ∧ IvM B n c qd nv nc k V h q' ∧ v = if gkT c nv V f = true then gwT c nv V f else 100000) := by
  obtain ⟨i1, i2, i3⟩ := I
  obtain ⟨X9, X, N, p, e, A⟩ := F.inr
  obtain ⟨v, q', ec, g, K, ev_⟩ := c_given655 l hd i1 i2 (i3 _ _ _ A) (fun w hw => nmB_lt _ _ _ (rdF_nm (show rdF _ _ _ _ _ _ _ _ _ = _ from e) hw))
  rw [fvT_is (V := V) e (fun w hw => rfl)] at ev_
  refine ⟨v, q', ec, g, ⟨i1.wv l g, K, fun x X N A => (i3 x X N A).e24 g.ext (fun a j la ka z => by unfold wvW mfW at z; omega)⟩, ?_⟩
  rw [ev_]
  unfold gwT gkT
  by_cases z : gvs (fvT c nv V f) = true
  · rw [if_pos z, if_pos z, if_pos z]
  · rw [if_neg z, if_neg z]
theorem SkR.gvF (R : SkR B nv c s h w) (Vs : SkV c s) : GvF gv B n w (nkF c s) h (csF c s) (fun j => gwT c nv V (coA s j + 5)) (isF c s) (fun j => gkT c nv V (coA s j + 5)) (IvM B n c qd nv nc k V h) := fun j d' q hj ij kd lq hd I => by
  obtain ⟨k1, k2⟩ := Vs.1.nk
  have kd' : (c (coA s j)).toNat ≤ 5 := kd
  exact ⟨gw_b, c_givenI lq hd I ((R.2.2.2.2.2 j (by omega)).2.2.2.2.2 (by omega))⟩
theorem SkR.gvN (R : SkR B nv c s h w) (Vs : SkV c s) : GvN gv B n w (ndcF c s) h (dlF c s) (fun j => gkT c nv V (diA s j + 2)) (fun j => gwT c nv V (diA s j + 2)) (IvM B n c qd nv nc k V h) := fun j d' q hj ij lq hd I => by
  obtain ⟨k1, k2⟩ := Vs.1.nd
  unfold dlF at ij
  have ij := of_decide_eq_true ij
  rcases (R.2.2.2.2.1 j (by omega)).2 with ⟨z, -⟩ | ⟨-, -, F⟩
  · omega
  · exact c_givenI lq hd I F
end GVFN
