/-! L3: Flood's state after begin -/
section IDLE
variable {B n : Nat} {h : AH} {W : Nat → Bool}
theorem SG.zero {a : Nat} (z1 : hk h a = (3, 24 * n * n)) (z2 : ∀ k, k < 24 * n * n → hv h a k = 0) : SG n h a (fun _ => false) := by
  refine ⟨z1, fun k hk => ?_⟩
  rw [z2 k hk]
  exact ⟨⟨by decide, by decide⟩, fun x _ => by rw [tb_0]; simp [onK]⟩
theorem Flo.idle {se fs qu qd wi hd : Nat} (c : FlC B n h se fs qu qd wi) (w : SG n h wi W) (z1 : hk h se = (3, 24 * n * n)) (z2 : ∀ k, k < 24 * n * n → hv h se k = 0) (f : SG n h fs (fun _ => false)) (q : FlQ B n h qu qd (fun _ => false) hd 0) : Flo B n h se fs qu qd wi W (fun _ => false) (fun _ => false) :=
  ⟨c, w, SG.zero z1 z2, f, fun _ _ e => e, fun _ _ e => (by cases e), _, _, _, q, fun r _ => ⟨fun e => (by cases e), fun ⟨_, _, _, e⟩ => e⟩⟩
end IDLE
