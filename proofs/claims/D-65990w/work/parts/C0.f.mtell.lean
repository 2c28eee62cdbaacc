/-! L3: the model tells a run -/
section TELM
variable {gv : Nat → Int} {B n d : Nat} {q : AH} {a N t z y x m s : Nat} {bs : List Int}
theorem mtell_run {s' : Int} {P : Rs → Prop} (l : LX B n q) (hd : 18 ≤ d) (T : TxO gv B q) (o : OutM B q a N bs) (hm : bs.length ≤ 29900) (ht : t < 100) (hz : z < 100) (hy : y < 100) (hx : x < 100) (hm1 : m < 100)
    (K : ∀ q' a' N', OutM B q' a' N' (bs ++ runT t z y x m) → Wrs (outV B) a N q q' a' N' → P ((0, (9, 0)), q')) :
    Ends (ev PP (gsF gv) B d 811 42 [(2, rf (B + 149)), (0, s'), (0, (t : Int)), (0, (z : Int)), (0, (y : Int)), (0, (x : Int)), (0, (m : Int))] [] q) P := by
  have hb0 := l.2.2
  have p2 : (10 : Nat) ^ (1 + 1) = 100 := by decide
  refine Ends.eq (b811_42 (n := n) (by (repeat' first | assumption | refine LX.setF _ _ ?_ (by decide +kernel) | refine LX.setS ?_ rfl | refine LX.setA ?_ (by first | assumption | omega))) (by first | assumption | omega)) ?_
  refine Ends.cv l (by decide +kernel) (c_sayS809 l (by omega) T.2.1 o (by show _ + 7 ≤ 30001; omega)) (fun q1 l1 _ _ _ ⟨a1, N1, o1, v1⟩ => ?_)
  have w1 := v1
  obtain ⟨b1, eb1, lb1⟩ : ∃ b1, b1 = bs ++ sRun ∧ b1.length ≤ bs.length + 7 := ⟨_, rfl, by rw [List.length_append]; exact Nat.le_refl _⟩
  rw [← eb1] at o1
  refine Ends.eq (b811_49 (n := n) (by (repeat' first | assumption | refine LX.setF _ _ ?_ (by decide +kernel) | refine LX.setS ?_ rfl | refine LX.setA ?_ (by first | assumption | omega))) (by first | assumption | omega)) ?_
  refine Ends.cv l1 (by decide +kernel) (c_sayN810 1 t l1 (by omega) (by decide) (by omega) o1 (by omega)) (fun q2 l2 _ _ _ ⟨a2, N2, o2, v2⟩ => ?_)
  have w2 := w1.tr v2 outV_tr
  obtain ⟨b2, eb2, lb2⟩ : ∃ b2, b2 = b1 ++ digF (1 + 1) t ∧ b2.length ≤ b1.length + 2 := ⟨_, rfl, by rw [List.length_append]; have := dig_len (1 + 1) t; omega⟩
  rw [← eb2] at o2
  refine Ends.eq (b811_54 (n := n) (by (repeat' first | assumption | refine LX.setF _ _ ?_ (by decide +kernel) | refine LX.setS ?_ rfl | refine LX.setA ?_ (by first | assumption | omega))) (by first | assumption | omega)) ?_
  refine Ends.cv l2 (by decide +kernel) (c_say808 (c := 44) l2 (by omega) o2 (by omega) (by decide) (by decide)) (fun q3 l3 _ _ _ ⟨a3, N3, o3, v3⟩ => ?_)
  have w3 := w2.tr v3 outV_tr
  obtain ⟨b3, eb3, lb3⟩ : ∃ b3, b3 = b2 ++ [44] ∧ b3.length ≤ b2.length + 1 := ⟨_, rfl, by rw [List.length_append]; exact Nat.le_refl _⟩
  rw [← eb3] at o3
  refine Ends.eq (b811_60 (n := n) (by (repeat' first | assumption | refine LX.setF _ _ ?_ (by decide +kernel) | refine LX.setS ?_ rfl | refine LX.setA ?_ (by first | assumption | omega))) (by first | assumption | omega)) ?_
  refine Ends.cv l3 (by decide +kernel) (c_sayN810 1 z l3 (by omega) (by decide) (by omega) o3 (by omega)) (fun q4 l4 _ _ _ ⟨a4, N4, o4, v4⟩ => ?_)
  have w4 := w3.tr v4 outV_tr
  obtain ⟨b4, eb4, lb4⟩ : ∃ b4, b4 = b3 ++ digF (1 + 1) z ∧ b4.length ≤ b3.length + 2 := ⟨_, rfl, by rw [List.length_append]; have := dig_len (1 + 1) z; omega⟩
  rw [← eb4] at o4
  refine Ends.eq (b811_65 (n := n) (by (repeat' first | assumption | refine LX.setF _ _ ?_ (by decide +kernel) | refine LX.setS ?_ rfl | refine LX.setA ?_ (by first | assumption | omega))) (by first | assumption | omega)) ?_
  refine Ends.cv l4 (by decide +kernel) (c_say808 (c := 44) l4 (by omega) o4 (by omega) (by decide) (by decide)) (fun q5 l5 _ _ _ ⟨a5, N5, o5, v5⟩ => ?_)
  have w5 := w4.tr v5 outV_tr
  obtain ⟨b5, eb5, lb5⟩ : ∃ b5, b5 = b4 ++ [44] ∧ b5.length ≤ b4.length + 1 := ⟨_, rfl, by rw [List.length_append]; exact Nat.le_refl _⟩
  rw [← eb5] at o5
  refine Ends.eq (b811_71 (n := n) (by (repeat' first | assumption | refine LX.setF _ _ ?_ (by decide +kernel) | refine LX.setS ?_ rfl | refine LX.setA ?_ (by first | assumption | omega))) (by first | assumption | omega)) ?_
  refine Ends.cv l5 (by decide +kernel) (c_sayN810 1 y l5 (by omega) (by decide) (by omega) o5 (by omega)) (fun q6 l6 _ _ _ ⟨a6, N6, o6, v6⟩ => ?_)
  have w6 := w5.tr v6 outV_tr
  obtain ⟨b6, eb6, lb6⟩ : ∃ b6, b6 = b5 ++ digF (1 + 1) y ∧ b6.length ≤ b5.length + 2 := ⟨_, rfl, by rw [List.length_append]; have := dig_len (1 + 1) y; omega⟩
  rw [← eb6] at o6
  refine Ends.eq (b811_77 (n := n) (by (repeat' first | assumption | refine LX.setF _ _ ?_ (by decide +kernel) | refine LX.setS ?_ rfl | refine LX.setA ?_ (by first | assumption | omega))) (by first | assumption | omega)) ?_
  refine Ends.cv l6 (by decide +kernel) (c_say808 (c := 44) l6 (by omega) o6 (by omega) (by decide) (by decide)) (fun q7 l7 _ _ _ ⟨a7, N7, o7, v7⟩ => ?_)
  have w7 := w6.tr v7 outV_tr
  obtain ⟨b7, eb7, lb7⟩ : ∃ b7, b7 = b6 ++ [44] ∧ b7.length ≤ b6.length + 1 := ⟨_, rfl, by rw [List.length_append]; exact Nat.le_refl _⟩
  rw [← eb7] at o7
  refine Ends.eq (b811_83 (n := n) (by (repeat' first | assumption | refine LX.setF _ _ ?_ (by decide +kernel) | refine LX.setS ?_ rfl | refine LX.setA ?_ (by first | assumption | omega))) (by first | assumption | omega)) ?_
  refine Ends.cv l7 (by decide +kernel) (c_sayN810 1 x l7 (by omega) (by decide) (by omega) o7 (by omega)) (fun q8 l8 _ _ _ ⟨a8, N8, o8, v8⟩ => ?_)
  have w8 := w7.tr v8 outV_tr
  obtain ⟨b8, eb8, lb8⟩ : ∃ b8, b8 = b7 ++ digF (1 + 1) x ∧ b8.length ≤ b7.length + 2 := ⟨_, rfl, by rw [List.length_append]; have := dig_len (1 + 1) x; omega⟩
  rw [← eb8] at o8
  refine Ends.eq (b811_89 (n := n) (by (repeat' first | assumption | refine LX.setF _ _ ?_ (by decide +kernel) | refine LX.setS ?_ rfl | refine LX.setA ?_ (by first | assumption | omega))) (by first | assumption | omega)) ?_
  refine Ends.cv l8 (by decide +kernel) (c_say808 (c := 44) l8 (by omega) o8 (by omega) (by decide) (by decide)) (fun q9 l9 _ _ _ ⟨a9, N9, o9, v9⟩ => ?_)
  have w9 := w8.tr v9 outV_tr
  obtain ⟨b9, eb9, lb9⟩ : ∃ b9, b9 = b8 ++ [44] ∧ b9.length ≤ b8.length + 1 := ⟨_, rfl, by rw [List.length_append]; exact Nat.le_refl _⟩
  rw [← eb9] at o9
  refine Ends.eq (b811_95 (n := n) (by (repeat' first | assumption | refine LX.setF _ _ ?_ (by decide +kernel) | refine LX.setS ?_ rfl | refine LX.setA ?_ (by first | assumption | omega))) (by first | assumption | omega)) ?_
  refine Ends.cv l9 (by decide +kernel) (c_sayN810 1 m l9 (by omega) (by decide) (by omega) o9 (by omega)) (fun q10 l10 _ _ _ ⟨a10, N10, o10, v10⟩ => ?_)
  have w10 := w9.tr v10 outV_tr
  obtain ⟨b10, eb10, lb10⟩ : ∃ b10, b10 = b9 ++ digF (1 + 1) m ∧ b10.length ≤ b9.length + 2 := ⟨_, rfl, by rw [List.length_append]; have := dig_len (1 + 1) m; omega⟩
  rw [← eb10] at o10
  refine Ends.eq (b811_101 (n := n) (by (repeat' first | assumption | refine LX.setF _ _ ?_ (by decide +kernel) | refine LX.setS ?_ rfl | refine LX.setA ?_ (by first | assumption | omega))) (by first | assumption | omega)) ?_
  have Te := T.ext w10.2.2 hb0 (fun b k hb w => by have := o.2.2.1; unfold outV at w; omega)
  refine Ends.cv l10 (by decide +kernel) (c_sayS809 l10 (by omega) Te.2.2.1 o10 (by show _ + 2 ≤ 30001; omega)) (fun q11 l11 _ _ _ ⟨a11, N11, o11, v11⟩ => ?_)
  have w11 := w10.tr v11 outV_tr
  obtain ⟨b11, eb11, lb11⟩ : ∃ b11, b11 = b10 ++ sEnd ∧ b11.length ≤ b10.length + 2 := ⟨_, rfl, by rw [List.length_append]; exact Nat.le_refl _⟩
  rw [← eb11] at o11
  refine Ends.eq (b811_108 (n := n) (by (repeat' first | assumption | refine LX.setF _ _ ?_ (by decide +kernel) | refine LX.setS ?_ rfl | refine LX.setA ?_ (by first | assumption | omega))) (by first | assumption | omega)) ?_
  refine Ends.cv l11 (by decide +kernel) (c_say808 (c := 10) l11 (by omega) o11 (by omega) (by decide) (by decide)) (fun q12 l12 _ _ _ ⟨a12, N12, o12, v12⟩ => ?_)
  have w12 := w11.tr v12 outV_tr
  obtain ⟨b12, eb12, lb12⟩ : ∃ b12, b12 = b11 ++ [10] ∧ b12.length ≤ b11.length + 1 := ⟨_, rfl, by rw [List.length_append]; exact Nat.le_refl _⟩
  rw [← eb12] at o12
  have eb : b12 = bs ++ runT t z y x m := by
    rw [eb12, eb11, eb10, eb9, eb8, eb7, eb6, eb5, eb4, eb3, eb2, eb1]
    unfold runT
    simp only [List.append_assoc]
  rw [eb] at o12
  refine Ends.eq (b811_114 (n := n) (by (repeat' first | assumption | refine LX.setF _ _ ?_ (by decide +kernel) | refine LX.setS ?_ rfl | refine LX.setA ?_ (by first | assumption | omega))) (by first | assumption | omega)) ?_
  exact Ends.sm (K q12 a12 N12 o12 w12)
end TELM
