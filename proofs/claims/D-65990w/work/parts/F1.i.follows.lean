/-! L3: equations (model): whether one follows -/
theorem w64_cg {x y : Int} (e : x % 18446744073709551616 = y % 18446744073709551616) : w64 x = w64 y := by
  unfold w64 Int.bmod
  have : x % ((18446744073709551616 : Nat) : Int) = y % ((18446744073709551616 : Nat) : Int) := e
  rw [this]
theorem w64_sub (x y : Int) : bop64 101 (w64 x) (w64 y) = w64 (x - y) := by
  show w64 (w64 x - w64 y) = w64 (x - y)
  refine w64_cg ?_
  have h1 := wmod x
  have h2 := wmod y
  omega
section FOLLOWS
variable {gv : Nat → Int} {B n d u : Nat} {h : AH} {A : (Nat → Int) → Prop} {W : (Nat → Bool) → Int} {C' : Nat → Bool} {t : Int} {pc : Nat → Nat} {L1 L2 L : List (Nat × Int)} {f w : Int}
/-- a row of terms and what they make -/
def rwTc (L : List (Nat × Int)) (y : Int) (j : Nat) : Int := if j = 24 then y else tmS L j
theorem rho_cn2 {v : Nat → Int} {j : Nat} (b : GB u W) (hu : u ≤ 24) (tt : t * t = 1) (h1 : rl 24 v ≤ 4) (h2 : (v 24).natAbs ≤ 200) (hj : j < 25) : cn 1 (rho 25 W C' t v j) := by
  cases cj : C' j
  · have e := rho_abs (w := W) (v := v) tt hj cj
    have := big_c (x := wdg 25 W v (pls C' j)) (i := u + 1) (by omega) ((b.2.step h1 h2) (pls C' j)).2
    exact ⟨by omega, by omega⟩
  · rw [rho_in hj cj]; exact ⟨by omega, by omega⟩
theorem c_follows643 {e : Nat} (l : LX B n h) (hd : 12 ≤ d) (he : e < 2) (T : TmL B h L1 L2 f) (eL : L = if e = 0 then L1 else L2) (hL : RwK L) (h42 : hv h (B + 149) 42 = w) (hw : -200 ≤ w ∧ w ≤ 200) (F : GjF B h A u W C' t pc) :
    Vt 0 (cll PP (ev PP (gsF gv) B) d 643 [(2, rf (B + 149)), (0, (e : Int))] h) (fun x h' => Agr (fun c _ => c = B + 161) h h' ∧ ((x = 1 ∧ ∀ S, wdg 25 W (rwTc L (if e = 0 then w else 0)) S = 0) ∨ (x = 0 ∧ ¬ ∀ S, wdg 25 W (rwTc L (if e = 0 then w else 0)) S = 0))) := by
  obtain ⟨⟨f1, fb, f3, f4⟩, ⟨fu, f37⟩, f6, f7, f8⟩ := F
  obtain ⟨v, eqv⟩ : ∃ v, v = rwTc L (if e = 0 then w else 0) := ⟨_, rfl⟩
  have vlo : ∀ j, j < 24 → v j = tmS L j := fun j hj => by rw [eqv]; exact if_neg (by omega)
  have v24 : v 24 = if e = 0 then w else 0 := by rw [eqv]; exact if_pos rfl
  have rv : rl 24 v ≤ 4 := by
    rw [rl_cg 24 vlo]
    have := rl_tmS L 24
    have := hL.1
    omega
  have v24b : (v 24).natAbs ≤ 200 := by rw [v24]; split <;> omega
  have vb : ∀ j, j < 25 → -1000 ≤ v j ∧ v j ≤ 1000 := fun j hj => by
    by_cases y : j = 24
    · rw [y]; omega
    · have := tmS_abs L j
      have := hL.1
      rw [vlo j (by omega)]; omega
  rw [← eqv]
  refine Vt.inq (D := 11) hd (Nat.le_of_ble_eq_true rfl) rfl (fun d hd Q K => ?_)
  refine Ends.eq (b643_0 l (by omega)) ?_
  refine Ends.cv l (by decide +kernel) (c_equation614 (e := e) (L := L) l (by omega) he T eL hL h42 hw) (fun q1 l1 _ _ _ ⟨g1, a1, a2⟩ => ?_)
  refine Ends.eq (b643_5 l1 (by omega)) ?_
  have row : ∀ j, j < 25 → hv q1 (B + 161) j = v j := fun j hj => by
    by_cases y : j = 24
    · rw [y, a2, v24]
    · rw [a1 j (by omega), vlo j (by omega)]
  have f37' : hv q1 (B + 149) 37 = t * W C' := by rw [g1.at _ _ (by omega)]; exact f37
  have at_ : ∀ c k, c ≠ B + 161 → hv q1 c k = hv h c k := fun c k hc => g1.at _ _ hc
  have loop : ∀ (r j : Nat) (u3 u4 u5 : AV), j + r = 25 → (∀ i, i < j → rho 25 W C' t v i = 0) → Ends (ev PP (gsF gv) B d 643 7 [(2, rf (B + 149)), (0, (e : Int)), (0, (j : Int)), u3, u4, u5] [] q1) Q := by
    intro r
    induction r with
    | zero =>
      intro j u3 u4 u5 ej z
      obtain rfl : j = 25 := by omega
      refine Ends.eq (b643_7 l1 (by omega)) (Ends.b3 (fun _ => Ends.sm (K _ _ ⟨g1, Or.inl ⟨rfl, fun S => f1.wdg0 z S⟩⟩)) (fun z => absurd z (by decide)))
    | succ r ih =>
      intro j u3 u4 u5 ej z
      have jb := vb j (by omega)
      refine Ends.eq (b643_7 l1 (by omega)) (Ends.b3 (fun z => absurd z (by omega)) (fun _ => Ends.g ⟨by omega, by omega⟩ ?_))
      rw [tn, row j (by omega), f37']
      -- one place
      have inner : ∀ (s k : Nat) (u4 : AV), k + s = 24 → ¬ u4.1 = 1 → Ends (ev PP (gsF gv) B d 643 28 [(2, rf (B + 149)), (0, (e : Int)), (0, (j : Int)), (1, w64 (t * W C' * v j - sI (fun c => if C' c = true then v c * jac 25 W C' t c j else 0) k)), u4, (0, (k : Int))] [] q1) Q := by
        intro s
        induction s with
        | zero =>
          intro k u4 ek h4
          obtain rfl : k = 24 := by omega
          have e24 : C' 24 = false := by
            cases e : C' 24
            · rfl
            · have := (f6 24 e).1; omega
          have er : t * W C' * v j - sI (fun c => if C' c = true then v c * jac 25 W C' t c j else 0) 24 = rho 25 W C' t v j := by
            unfold rho
            rw [sI_s _ 24, e24, if_neg Bool.false_ne_true, Int.add_zero]
          have cr := rho_cn2 (C' := C') fb fu f1.1 rv v24b (show j < 25 by omega)
          rw [er, w64_id cr]
          refine Ends.eq (b643_28 l1 (by omega)) (Ends.b3 (fun _ => Ends.l0 (fun y => ?_) (fun y => Ends.sm (K _ _ ⟨g1, Or.inr ⟨rfl, fun q => y (rho_zero q (by omega))⟩⟩))) (fun z => absurd z (by decide)))
          rw [w_succ (by omega)]
          refine ih (j + 1) _ _ _ (by omega) (fun i hi => ?_)
          by_cases ei : i = j
          · rw [ei]; exact y
          · exact z i (by omega)
        | succ s ihs =>
          intro k u4 ek h4
          have go : ∀ (y : Int) (u4 : AV), ¬ u4.1 = 1 → y = w64 (t * W C' * v j - sI (fun c => if C' c = true then v c * jac 25 W C' t c j else 0) (k + 1)) → Ends (ev PP (gsF gv) B d 643 73 [(2, rf (B + 149)), (0, (e : Int)), (0, (j : Int)), (1, y), u4, (0, (k : Int))] [] q1) Q := fun y u4 h4 ey => by
            refine Ends.eq (b643_73 h4 l1 (by omega)) ?_
            rw [w_succ (by omega), ey]
            exact ihs (k + 1) _ (by omega) h4
          refine Ends.eq (b643_28 l1 (by omega)) (Ends.b3 (fun z => absurd z (by omega)) (fun _ => Ends.g ⟨by omega, by omega⟩ ?_))
          rw [tn, at_ _ _ (by omega)]
          cases ck : C' k
          · rw [(f8 k (by omega) ck).1]
            refine Ends.b2 (fun _ => go _ _ h4 ?_) (fun z => absurd z (by decide))
            rw [sI_s, ck, if_neg Bool.false_ne_true, Int.add_zero]
          · obtain ⟨-, i, i1, i2⟩ := f6 k ck
            obtain ⟨-, b2, b3⟩ := f7 i i1
            rw [i2] at b2 b3
            rw [b2, ix25 (by omega) (by omega), tn, row k (by omega), at_ _ _ (by omega), b3 j (by omega)]
            refine Ends.b2 (fun z => absurd z (by omega)) (fun _ => Ends.g ⟨by omega, by omega⟩ (Ends.g ⟨by omega, by omega⟩ (go _ _ (by decide) ?_)))
            rw [show bop64 105 (v k) (jac 25 W C' t k j) = w64 (v k * jac 25 W C' t k j) from rfl, w64_sub, sI_s, ck, if_pos rfl]
            congr 1
            omega
      have := inner 24 0 (9, 0) (by omega) (by decide)
      rw [show sI (fun c => if C' c = true then v c * jac 25 W C' t c j else 0) 0 = 0 from rfl, Int.sub_zero, show w64 (t * W C' * v j) = bop64 105 (v j) (t * W C') from by rw [Int.mul_comm]; rfl] at this
      exact this
  exact loop 25 0 _ _ _ (by omega) (fun i hi => absurd hi (Nat.not_lt_zero i))
end FOLLOWS
