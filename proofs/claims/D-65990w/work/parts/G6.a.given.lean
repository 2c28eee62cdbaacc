/-! L3: what the texts of sketches give: one value on both sides -/
noncomputable section GIVEN
variable {c : Nat → Int} {nv k f : Nat} {V V' : Nat → Fq}
theorem Vals.uniq (ok : OKc c nv k) (A : Vals c nv k V) (A' : Vals c nv k V') : ∀ v, v < nv → V v = V' v := by
  obtain ⟨_, rk, hr⟩ := ok
  have key : ∀ n v, rk v < n → v < nv → V v = V' v := by
    intro n
    induction n with
    | zero => intro v h _; omega
    | succ n ih =>
      intro v h hv
      obtain ⟨X, N, p, e, eV, _⟩ := A v hv
      obtain ⟨X', N', p', e', eV', _⟩ := A' v hv
      rw [e] at e'
      have e1 := Sum.inr.inj e'
      have eX : X = X' := congrArg (fun z => z.1) e1
      rw [eV, eV', ← eX]
      refine rdF_dep (Nat.zero_le _) (show rdF _ _ _ _ _ _ _ _ _ = _ from e) _ _ (fun w hw => ?_)
      have hn : nmT c nv (fo v (efK c v 4 k)) w = true := rdF_nm (show rdF _ _ _ _ _ _ _ _ _ = _ from e) hw
      have hl : w < nv := nmB_lt _ _ _ hn
      rw [ih w (by have := hr v w hv hn; omega) hl]
  exact fun v hv => key (rk v + 1) v (Nat.lt_succ_self _) hv
/-- what the text at f comes to -/
def fvT (c : Nat → Int) (nv : Nat) (V : Nat → Fq) (f : Nat) : Fq := match rdT c nv f with
  | .inr r => r.1 (fun w => nmq (V w))
  | .inl _ => (0, 1, 0, 1)
/-- whether it gives a number, and which -/
def gkT (c : Nat → Int) (nv : Nat) (V : Nat → Fq) (f : Nat) : Bool := gvs (fvT c nv V f)
def gwT (c : Nat → Int) (nv : Nat) (V : Nat → Fq) (f : Nat) : Int := if gkT c nv V f = true then (fvT c nv V f).1 else 0
theorem gw_b : -200 ≤ gwT c nv V f ∧ gwT c nv V f ≤ 200 := by
  unfold gwT
  by_cases z : gkT c nv V f = true
  · rw [if_pos z]
    unfold gkT gvs at z
    rw [Bool.and_eq_true, Bool.and_eq_true, decide_eq_true_eq, decide_eq_true_eq] at z
    exact ⟨z.1.2, z.2⟩
  · rw [if_neg z]; decide
theorem fvT_is {X : Dn} {N : Nat → Bool} {p : Nat} (e : rdT c nv f = .inr (X, N, p)) (h : ∀ w, w < nv → V w = V' w) : X (fun w => nmq (V' w)) = fvT c nv V f := by
  unfold fvT
  rw [e]
  refine rdF_dep (Nat.zero_le _) (show rdF _ _ _ _ _ _ _ _ _ = _ from e) _ _ (fun w hw => ?_)
  have hn : nmT c nv f w = true := rdF_nm (show rdF _ _ _ _ _ _ _ _ _ = _ from e) hw
  rw [h w (nmB_lt _ _ _ hn)]
end GIVEN
