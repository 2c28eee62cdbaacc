/-! L3: equations (desk): products and quotients of 128 bits -/
section CROSS
variable {gv : Nat → Int} {B n d : Nat} {h : AH}
theorem c_cross129 {a b c e : Int} (l : LX B n h) (hd : 10 ≤ d) (ha : cn 1 a) (hb : cn 1 b) (hc : cn 1 c) (he : cn 1 e) :
    Vd (cll PP (ev PP (gsF gv) B) d 129 [(2, rf (B + 57)), (1, a), (1, b), (1, c), (1, e)] h) (fun h' => Agr (fun c k => c = B + 57 ∧ (k = 8 ∨ k = 9)) h h' ∧ W2 (hv h' (B + 57) 8) (hv h' (B + 57) 9) (a * b - c * e)) := by
  refine Vd.inq (D := 9) hd (Nat.le_of_ble_eq_true rfl) rfl (fun d hd Q K => ?_)
  refine Ends.eq (b129_0 (by decide) l (by omega)) ?_
  refine Ends.sm (K _ ⟨(Agr.rf.set ⟨rfl, Or.inr rfl⟩).set ⟨rfl, Or.inl rfl⟩, ?_⟩)
  rw [hv_set_at, hv_set_ne (by omega), hv_set_at]
  exact W2.sub ha hb hc he
theorem low_int {v : Int} {k : Nat} (l : Low v k) : ∃ m : Int, v = (2 * m + 1) * ((2 ^ k : Nat) : Int) := by
  obtain ⟨hk, h1, h0⟩ := l
  obtain ⟨m, em⟩ := low_split (N := uN v) (k := k) (by rw [← tb_uN]; exact h1) (fun j hj => by rw [← tb_uN]; exact h0 j hj)
  obtain ⟨z, ez⟩ : ∃ z : Int, v = ((uN v : Nat) : Int) + z * 18446744073709551616 := ⟨v / 18446744073709551616, by unfold uN; omega⟩
  have eM : (18446744073709551616 : Int) = 2 * ((2 ^ k : Nat) : Int) * ((2 ^ (63 - k) : Nat) : Int) := by
    have : (18446744073709551616 : Nat) = 2 * 2 ^ k * 2 ^ (63 - k) := by
      rw [show (18446744073709551616 : Nat) = 2 ^ 64 from rfl, Nat.mul_assoc, ← Nat.pow_add, show k + (63 - k) = 63 by omega]
    have h2 := congrArg (fun x : Nat => (x : Int)) this
    simp only [Int.natCast_mul] at h2
    exact h2
  refine ⟨(m : Int) + z * ((2 ^ (63 - k) : Nat) : Int), ?_⟩
  rw [ez, em, eM, Nat.pow_succ]
  push_cast
  generalize (2 : Int) ^ k = a
  generalize (2 : Int) ^ (63 - k) = b
  grind
theorem c_divided131 {by_ X Y : Int} (l : LX B n h) (hd : 13 ≤ d) (hb : cn 1 by_) (h0 : by_ ≠ 0) (w : W2 (hv h (B + 57) 8) (hv h (B + 57) 9) X) (eX : X = by_ * Y) (hY : cn 1 Y) :
    Vt 1 (cll PP (ev PP (gsF gv) B) d 131 [(2, rf (B + 57)), (1, by_)] h) (fun v h' => h' = h ∧ v = Y) := by
  refine Vt.inq (D := 12) hd (Nat.le_of_ble_eq_true rfl) rfl (fun d hd Q K => ?_)
  obtain ⟨t, lk⟩ := Low.ex hb h0
  obtain ⟨m, em⟩ := low_int lk
  have ht := lk.1
  refine Ends.eq (b131_0 l (by omega)) ?_
  refine Ends.ct l (by decide +kernel) (by decide) (c_ntz l (by omega) lk) (fun y h2 l2 _ _ _ ⟨e2, ey⟩ => ?_)
  subst ey
  rw [e2]
  refine Ends.eq (b131_4 (by decide) l (by omega)) ?_
  have p0 : (0 : Int) < ((2 ^ t : Nat) : Int) := by have := Nat.two_pow_pos t; omega
  have hq : sop64 123 by_ (t : Int) = 2 * m + 1 := by
    rw [sar64 hb ht, em, show (2 : Int) ^ t = ((2 ^ t : Nat) : Int) by norm_cast, Int.mul_ediv_cancel _ (by omega)]
  rw [hq, ct1]
  obtain ⟨x, ex⟩ : ∃ x, x = (if (t : Int) = 0 then hv h (B + 57) 9 else bop64 129 (sop64 125 (hv h (B + 57) 9) (t : Int)) (sop64 121 (hv h (B + 57) 8) (bop32 100 64 (t : Int)))) := ⟨_, rfl⟩
  rw [← ex]
  have hx : x % 18446744073709551616 = ((2 * m + 1) * Y) % 18446744073709551616 := by
    have e1 : X / ((2 ^ t : Nat) : Int) = (2 * m + 1) * Y := by
      rw [eX, em, show (2 * m + 1) * ((2 ^ t : Nat) : Int) * Y = (2 * m + 1) * Y * ((2 ^ t : Nat) : Int) by grind, Int.mul_ediv_cancel _ (by omega)]
    rw [← e1, ex]
    split
    · next z =>
      have : t = 0 := by omega
      subst this
      rw [w.2.1]
      simp
    · next z =>
      rw [w.shr (by omega) ht, show (2 : Int) ^ t = ((2 ^ t : Nat) : Int) by norm_cast]
  have key : ∀ (c i : Nat) (u : Int) (u9 : AV), i + c = 6 → ((2 ^ nwC i : Nat) : Int) ∣ (2 * m + 1) * u - 1 → Ends (ev PP (gsF gv) B d 131 46 [(2, rf (B + 57)), (1, by_), (9, 0), (0, (t : Int)), (1, 2 * m + 1), (9, 0), (1, x), (9, 0), (1, u), u9, (0, (i : Int))] [] h) Q := by
    intro c
    induction c with
    | zero =>
      intro i u u9 e dv
      obtain rfl : i = 6 := by omega
      refine Ends.eq (b131_46 (by decide) l (by omega)) (Ends.b3 (fun _ => Ends.sm (K _ _ ⟨rfl, ?_⟩)) (fun z => absurd z (by decide)))
      show w64 (x * u) = Y
      refine w_eq hY ?_
      obtain ⟨k, ek⟩ := dv
      have ek : (2 * m + 1) * u - 1 = 18446744073709551616 * k := ek
      obtain ⟨j, ej⟩ : ∃ j, x = (2 * m + 1) * Y + j * 18446744073709551616 := ⟨x / 18446744073709551616 - (2 * m + 1) * Y / 18446744073709551616, by omega⟩
      have : x * u = Y + (Y * k + j * u) * 18446744073709551616 := by
        have e3 : (2 * m + 1) * u = 18446744073709551616 * k + 1 := by omega
        rw [ej]
        generalize 2 * m + 1 = q at *
        grind
      rw [this, Int.add_mul_emod_self_right]
    | succ c ih =>
      intro i u u9 e dv
      have hi : i < 6 := by omega
      obtain ⟨s1, s2⟩ := nwC_s ⟨i, hi⟩
      refine Ends.eq (b131_46 (by decide) l (by omega)) (Ends.b3 (fun z => by omega) (fun _ => ?_))
      rw [w_succ (by omega)]
      exact ih (i + 1) _ _ (by omega) (nw_step dv s1 s2)
  refine key 6 0 (2 * m + 1) _ rfl ?_
  show (8 : Int) ∣ (2 * m + 1) * (2 * m + 1) - 1
  have : m % 2 = 0 ∨ m % 2 = 1 := by omega
  rcases this with z | z
  · obtain ⟨k, rfl⟩ : ∃ k, m = 2 * k := ⟨m / 2, by omega⟩
    exact ⟨k * (2 * k + 1), by grind⟩
  · obtain ⟨k, rfl⟩ : ∃ k, m = 2 * k + 1 := ⟨m / 2, by omega⟩
    exact ⟨(2 * k + 1) * (k + 1), by grind⟩
end CROSS
