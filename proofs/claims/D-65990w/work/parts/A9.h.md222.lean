/-! L3: the model's define: what is written behind the edit -/
/-- what telling writes in a design -/
def tdW (q : Nat) : Nat → Nat → Prop := fun c k => (c = q ∧ k = 0) ∨ c = q + 1 ∨ c = q + 2 ∨ c = q + 3
theorem td_dW {q c k : Nat} (w : tdW q c k) : dW q c k := by
  rcases w with ⟨rfl, rfl⟩ | rfl | rfl | rfl
  · exact hd_dW (by decide)
  · exact ar_dW (Or.inl ⟨by decide, by decide⟩)
  · exact ar_dW (Or.inl ⟨by decide, by decide⟩)
  · exact ar_dW (Or.inl ⟨by decide, by decide⟩)
section MD222
variable {gv : Nat → Int} {B n d m k q : Nat} {h : AH} {x7 : Int} {Z : Rs → Prop}
/-- the formula is laid in -/
theorem e_md303 {v : Nat} {x2 x3 x4 x5 : Int} {u8 : AV} (l : LX B n h) (hd : 20 ≤ d) (hq : hv h (B + 149) 19 = rf q) (D : YD B q h) (hv' : v < 40) (hk4 : k < 4) (F : FR0 h x7)
    (K : Z ((0, (0, (v : Int))), hset h (q + 3) (40 * k + v) x7)) :
    Ends (ev PP (gsF gv) B d 591 303 [(2, rf (B + 149)), (0, (k : Int)), (0, x2), (0, x3), (0, x4), (0, x5), (0, (v : Int)), (2, x7), u8] [] h) Z := by
  have lo := D.lo
  refine Ends.eq (b591_303 (n := n) (by (repeat' first | assumption | refine LX.setF _ _ ?_ (by decide +kernel) | refine LX.setS ?_ rfl | refine LX.setA ?_ (by first | assumption | omega))) (by first | assumption | omega) (by first | assumption | omega) (by first | assumption | omega)) ?_
  rw [show bop32 96 (bop32 104 40 (k : Int)) (v : Int) = ((40 * k + v : Nat) : Int) from by rw [show bop32 104 40 (k : Int) = ((40 * k : Nat) : Int) from mulNN (x := 40) (by omega)]; exact addNN (by omega), tn]
  refine Ends.g ⟨⟨by omega, by omega⟩, F.ro⟩ ?_
  have l1 : LX B n (hset h (q + 3) (40 * k + v) x7) := lx_na l (by omega)
  refine Ends.eq (b591_320 (n := n) (by (repeat' first | assumption | refine LX.setF _ _ ?_ (by decide +kernel) | refine LX.setS ?_ rfl | refine LX.setA ?_ (by first | assumption | omega))) (by first | assumption | omega)) ?_
  exact Ends.sm K
/-- a new VALUE's name -/
theorem e_md222 {v f t : Nat} {x2 x3 x6 : Int} {u8 : AV} {b : Nat → Int} (l : LX B n h) (hd : 20 ≤ d) (hq : hv h (B + 149) 19 = rf q) (D : YD B q h) (hv' : v < 40) (h0 : hv h q 0 = (v : Int)) (F : FR0 h x7) (h6 : x6 < 0) (ht : t ≤ 12) (hft : f + t ≤ 8192) (hk4 : k < 4) (hb : ∀ i, i < t → hv h (B + 150) (f + i) = b (f + i))
    (K : ∀ h', Agr (tdW q) h h' → hv h' q 0 = ((v + 1 : Nat) : Int) → (∀ w, hv h' (q + 2) w = if w = v then (t : Int) else hv h (q + 2) w) → (∀ w, hv h' (q + 1) w = if 12 * v ≤ w ∧ w < 12 * v + t then b (f + (w - 12 * v)) else hv h (q + 1) w) → (∀ j, hv h' (q + 3) j = if j = 40 * k + v then x7 else hv h (q + 3) j) → Z ((0, (0, (v : Int))), h')) :
    Ends (ev PP (gsF gv) B d 591 222 [(2, rf (B + 149)), (0, (k : Int)), (0, x2), (0, x3), (0, (f : Int)), (0, (t : Int)), (0, x6), (2, x7), u8] [] h) Z := by
  have lo := D.lo
  refine Ends.eq (b591_222 (n := n) (by (repeat' first | assumption | refine LX.setF _ _ ?_ (by decide +kernel) | refine LX.setS ?_ rfl | refine LX.setA ?_ (by first | assumption | omega))) (by first | assumption | omega) (by first | assumption | omega) (by first | assumption | omega)) ?_
  rw [h0, tn, b96_1 (by omega), show anar 0 (t : Int) = (t : Int) from an0 _]
  refine Ends.b3 (fun z => by omega) (fun _ => Ends.g ⟨by omega, by omega⟩ ?_)
  generalize eh : hset (hset h q 0 ((v + 1 : Nat) : Int)) (q + 2) v (t : Int) = h1
  have l1 : LX B n h1 := by rw [← eh]; exact lx_na (lx_na l lo) (by omega)
  have g1 : Agr (tdW q) h h1 := by rw [← eh]; exact (Agr.rf.set (Or.inl ⟨rfl, rfl⟩)).set (Or.inr (Or.inr (Or.inl rfl)))
  have a0 : hv h1 q 0 = ((v + 1 : Nat) : Int) := by rw [← eh, hv_set_ne (by omega)]; exact hv_set_at ..
  have a2 : ∀ w, hv h1 (q + 2) w = if w = v then (t : Int) else hv h (q + 2) w := fun w => by
    rw [← eh]
    by_cases e : w = v
    · rw [if_pos e, e]; exact hv_set_at ..
    · rw [if_neg e, hv_set_ne (by omega), hv_set_ne (by omega)]
  have a1 : ∀ w, hv h1 (q + 1) w = hv h (q + 1) w := fun w => by rw [← eh, hv_set_ne (by omega), hv_set_ne (by omega)]
  have a3 : ∀ w, hv h1 (q + 3) w = hv h (q + 3) w := fun w => by rw [← eh, hv_set_ne (by omega), hv_set_ne (by omega)]
  have tp : ∀ s, Agr (tdW q) h s → ∀ i, hv s (B + 150) i = hv h (B + 150) i := fun s g i => g.at _ _ (by unfold tdW; omega)
  clear eh
  have key : ∀ (j i : Nat) (s : AH), i + j = t → LX B n s → Agr (tdW q) h s → hv s q 0 = ((v + 1 : Nat) : Int) → (∀ w, hv s (q + 2) w = if w = v then (t : Int) else hv h (q + 2) w) → (∀ w, hv s (q + 1) w = if 12 * v ≤ w ∧ w < 12 * v + i then b (f + (w - 12 * v)) else hv h (q + 1) w) → (∀ w, hv s (q + 3) w = hv h (q + 3) w) → Ends (ev PP (gsF gv) B d 591 264 [(2, rf (B + 149)), (0, (k : Int)), (0, x2), (0, x3), (0, (f : Int)), (0, (t : Int)), (0, (v : Int)), (2, x7), (0, (i : Int))] [] s) Z := by
    intro j
    induction j with
    | zero =>
      intro i s hi ls gs s0 s2 s1 s3
      obtain rfl : i = t := by omega
      have hq : hv s (B + 149) 19 = rf q := by rw [gs.at _ _ (by unfold tdW; omega)]; exact hq
      have D : YD B q s := D.agr gs (fun c k p w => (td_dW w).2.2 p)
      refine Ends.eq (b591_264 (n := n) (by (repeat' first | assumption | refine LX.setF _ _ ?_ (by decide +kernel) | refine LX.setS ?_ rfl | refine LX.setA ?_ (by first | assumption | omega))) (by first | assumption | omega) (by first | assumption | omega) (by first | assumption | omega)) ?_
      refine Ends.b3 (fun _ => ?_) (fun z => by omega)
      have gF : Agr (tdW q) h (hset s (q + 3) (40 * k + v) x7) := gs.set (Or.inr (Or.inr (Or.inr rfl)))
      refine e_md303 ls hd hq D hv' hk4 (F.agr gs) (K _ gF ?_ (fun w => ?_) (fun w => ?_) (fun w => ?_))
      · rw [hv_set_ne (by omega)]; exact s0
      · rw [hv_set_ne (by omega)]; exact s2 w
      · rw [hv_set_ne (by omega)]; exact s1 w
      · by_cases e : w = 40 * k + v
        · rw [if_pos e, e]; exact hv_set_at ..
        · rw [if_neg e, hv_set_ne (by omega)]; exact s3 w
    | succ j ih =>
      intro i s hi ls gs s0 s2 s1 s3
      have hq : hv s (B + 149) 19 = rf q := by rw [gs.at _ _ (by unfold tdW; omega)]; exact hq
      have D : YD B q s := D.agr gs (fun c k p w => (td_dW w).2.2 p)
      refine Ends.eq (b591_264 (n := n) (by (repeat' first | assumption | refine LX.setF _ _ ?_ (by decide +kernel) | refine LX.setS ?_ rfl | refine LX.setA ?_ (by first | assumption | omega))) (by first | assumption | omega) (by first | assumption | omega) (by first | assumption | omega)) ?_
      rw [show bop32 96 (f : Int) (i : Int) = ((f + i : Nat) : Int) from addNN (by omega), show bop32 96 (bop32 104 12 (v : Int)) (i : Int) = ((12 * v + i : Nat) : Int) from by rw [show bop32 104 12 (v : Int) = ((12 * v : Nat) : Int) from mulNN (x := 12) (by omega)]; exact addNN (by omega), tn, tn, tp s gs, hb i (by omega), show anar 0 (b (f + i)) = b (f + i) from an0 _, w_succ (by omega)]
      refine Ends.b3 (fun z => by omega) (fun _ => Ends.g ⟨by omega, by omega⟩ (Ends.g ⟨by omega, by omega⟩ (ih (i + 1) _ (by omega) (lx_na ls (by omega)) (gs.set (Or.inr (Or.inl rfl))) ?_ (fun w => ?_) (fun w => ?_) (fun w => ?_))))
      · rw [hv_set_ne (by omega)]; exact s0
      · rw [hv_set_ne (by omega)]; exact s2 w
      · by_cases e : w = 12 * v + i
        · rw [e, hv_set_at, if_pos ⟨by omega, by omega⟩, show 12 * v + i - 12 * v = i by omega]
        · rw [hv_set_ne (by omega), s1 w]
          by_cases z : 12 * v ≤ w ∧ w < 12 * v + i
          · rw [if_pos z, if_pos ⟨z.1, by omega⟩]
          · rw [if_neg z, if_neg (by omega)]
      · rw [hv_set_ne (by omega)]; exact s3 w
  exact key t 0 h1 (by omega) l1 g1 a0 a2 (fun w => by rw [a1 w, if_neg (by omega)]) a3
end MD222
