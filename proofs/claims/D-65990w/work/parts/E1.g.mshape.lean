/-! L3: tools (model): shapes told by points -/
section MSHAPE
variable {gv : Nat → Int} {B n d s ax f1 q w : Nat} {h : AH} {S : Nat → Bool} {nb : Nat → Int} {Q : Rs → Prop}
theorem cnF {α : Type} {x y : α} : cond false x y = y := rfl
theorem cnT {α : Type} {x y : α} : cond true x y = x := rfl
/-- a hole -/
def hlG (n ax : Nat) (cu cv fr to r : Int) (g : Nat) : Bool := prG n (dsQ r.toNat cu cv) ax (if to < fr then to else fr) (if fr < to then to else fr) g
theorem hl_is {cu cv fr to r : Int} {g : Nat} (hg : g < gN n) (hax : ax < 3) : hlG n ax cu cv fr to r g = (decide (8 * (if to < fr then to else fr) < ((g8 n g ax : Nat) : Int) ∧ ((g8 n g ax : Nat) : Int) < 8 * (if fr < to then to else fr)) && und r.toNat (((g8 n g (fA ax) : Nat) : Int) - 8 * cu) (((g8 n g (sA ax) : Nat) : Int) - 8 * cv) 0) := by
  obtain ⟨_, _, _, _, ht⟩ := g_lt hg
  have rb := rT_b hg hax
  have hf : fA ax < 3 := by have := fA_2 (ax := ax); omega
  have hsA : sA ax < 3 := by have := sA_2 (ax := ax); omega
  unfold hlG
  rw [prG_ax hax, g8_C hax, g8_C hf, g8_C hsA]
  congr 1
  · rw [decide_eq_decide]
    generalize (if to < fr then to else fr) = lo
    generalize (if fr < to then to else fr) = hi
    omega
  · unfold dsQ
    rw [← und_q hax ht]
    congr 1 <;> omega
theorem ct_and {A : Prop} [Decidable A] {U : Bool} : (if (if A then (1 : Int) else 0) = 0 then (0 : Int) else if (if U = true then (1 : Int) else 0) = 0 then 0 else 1) = if (decide A && U) = true then 1 else 0 := by
  by_cases e : A
  · rw [if_pos e, decide_eq_true e]; cases U <;> rfl
  · rw [if_neg e, decide_eq_false e]; rfl
theorem ct_or {A : Prop} [Decidable A] {U V : Bool} : (if (if A then (1 : Int) else 0) = 0 then (if V = true then (1 : Int) else 0) else if (if U = true then (1 : Int) else 0) = 0 then (if V = true then (1 : Int) else 0) else 1) = if ((decide A && U) || V) = true then 1 else 0 := by
  by_cases e : A
  · rw [if_pos e, decide_eq_true e]; cases U <;> cases V <;> rfl
  · rw [if_neg e, decide_eq_false e]; cases V <;> rfl
theorem hl_parts {cu cv fr to r : Int} {g : Nat} (hn : n ≤ 52) (hg : g < gN n) (hax : ax < 3) (b1 : -200 ≤ cu ∧ cu ≤ 200) (b2 : -200 ≤ cv ∧ cv ≤ 200) (b3 : -200 ≤ fr ∧ fr ≤ 200) (b4 : -200 ≤ to ∧ to ≤ 200) (b5 : 0 ≤ r ∧ r ≤ 64) : v866 ((g8 n g ax : Nat) : Int) fr to = (if 8 * (if to < fr then to else fr) < ((g8 n g ax : Nat) : Int) ∧ ((g8 n g ax : Nat) : Int) < 8 * (if fr < to then to else fr) then 1 else 0) ∧ v695 (bop32 100 ((g8 n g (fA ax) : Nat) : Int) (bop32 104 8 cu)) (bop32 100 ((g8 n g (sA ax) : Nat) : Int) (bop32 104 8 cv)) r = if und r.toNat (((g8 n g (fA ax) : Nat) : Int) - 8 * cu) (((g8 n g (sA ax) : Nat) : Int) - 8 * cv) 0 = true then 1 else 0 := by
  have a0 := g8_lt hg ax
  have a1 := g8_lt hg (fA ax)
  have a2 := g8_lt hg (sA ax)
  refine ⟨v866_d (by omega) (by omega) (by omega), ?_⟩
  obtain ⟨r', rfl⟩ : ∃ r' : Nat, r = (r' : Int) := ⟨r.toNat, by omega⟩
  rw [show bop32 104 8 cu = 8 * cu from mul32 (by omega) (by omega), show bop32 104 8 cv = 8 * cv from mul32 (by omega) (by omega), show bop32 100 ((g8 n g (fA ax) : Nat) : Int) (8 * cu) = ((g8 n g (fA ax) : Nat) : Int) - 8 * cu from sub32 (by omega) (by omega), show bop32 100 ((g8 n g (sA ax) : Nat) : Int) (8 * cv) = ((g8 n g (sA ax) : Nat) : Int) - 8 * cv from sub32 (by omega) (by omega), v695_is (by omega) (by omega) (by omega)]
  rfl
theorem hl_val {cu cv fr to r : Int} {g : Nat} (hn : n ≤ 52) (hg : g < gN n) (hax : ax < 3) (b1 : -200 ≤ cu ∧ cu ≤ 200) (b2 : -200 ≤ cv ∧ cv ≤ 200) (b3 : -200 ≤ fr ∧ fr ≤ 200) (b4 : -200 ≤ to ∧ to ≤ 200) (b5 : 0 ≤ r ∧ r ≤ 64) : cond (tst 0 (v866 ((g8 n g ax : Nat) : Int) fr to) 0) (0 : Int) (cond (tst 0 (v695 (bop32 100 ((g8 n g (fA ax) : Nat) : Int) (bop32 104 8 cu)) (bop32 100 ((g8 n g (sA ax) : Nat) : Int) (bop32 104 8 cv)) r) 0) 0 1) = if hlG n ax cu cv fr to r g = true then 1 else 0 := by
  obtain ⟨e1, e2⟩ := hl_parts hn hg hax b1 b2 b3 b4 b5
  rw [e1, e2, ct0, ct0, hl_is hg hax]
  exact ct_and
theorem hl_val2 {cu cv fr to r to2 r2 : Int} {g : Nat} (hn : n ≤ 52) (hg : g < gN n) (hax : ax < 3) (b1 : -200 ≤ cu ∧ cu ≤ 200) (b2 : -200 ≤ cv ∧ cv ≤ 200) (b3 : -200 ≤ fr ∧ fr ≤ 200) (b4 : -200 ≤ to ∧ to ≤ 200) (b5 : 0 ≤ r ∧ r ≤ 64) (b6 : -200 ≤ to2 ∧ to2 ≤ 200) (b7 : 0 ≤ r2 ∧ r2 ≤ 64) : cond (tst 0 (v866 ((g8 n g ax : Nat) : Int) fr to) 0) (cond (tst 0 (v866 ((g8 n g ax : Nat) : Int) fr to2) 0) (0 : Int) (cond (tst 0 (v695 (bop32 100 ((g8 n g (fA ax) : Nat) : Int) (bop32 104 8 cu)) (bop32 100 ((g8 n g (sA ax) : Nat) : Int) (bop32 104 8 cv)) r2) 0) 0 1)) (cond (tst 1 (v695 (bop32 100 ((g8 n g (fA ax) : Nat) : Int) (bop32 104 8 cu)) (bop32 100 ((g8 n g (sA ax) : Nat) : Int) (bop32 104 8 cv)) r) 0) 1 (cond (tst 0 (v866 ((g8 n g ax : Nat) : Int) fr to2) 0) (0 : Int) (cond (tst 0 (v695 (bop32 100 ((g8 n g (fA ax) : Nat) : Int) (bop32 104 8 cu)) (bop32 100 ((g8 n g (sA ax) : Nat) : Int) (bop32 104 8 cv)) r2) 0) 0 1))) = if (hlG n ax cu cv fr to r g || hlG n ax cu cv fr to2 r2 g) = true then 1 else 0 := by
  obtain ⟨e1, e2⟩ := hl_parts hn hg hax b1 b2 b3 b4 b5
  rw [hl_val hn hg hax b1 b2 b3 b6 b7, e1, e2, ct0, ct1, hl_is (cu := cu) (cv := cv) (fr := fr) (to := to) (r := r) hg hax]
  exact ct_or
theorem v832_is {x : Int} (h1 : -100000 ≤ x) (h2 : x ≤ 100000) : v832 x = if x < 0 then -x else x := by
  unfold v832
  rw [ct3]
  split
  · exact neg32 (by omega) (by omega)
  · rfl
theorem c3_g {g : Nat} (hax : ax < 3) : c3 ((g8 n g 0 : Nat) : Int) ((g8 n g 1 : Nat) : Int) ((g8 n g 2 : Nat) : Int) ax = ((g8 n g ax : Nat) : Int) := by
  unfold c3
  rcases (by omega : ax = 0 ∨ ax = 1 ∨ ax = 2) with rfl | rfl | rfl <;> rfl
theorem sk_val {g : Nat} (hn : n ≤ 52) (hg : g < gN n) (hax : ax < 3) (nbb : ∀ k, k < 5 → -200 ≤ nb k ∧ nb k ≤ 200) : cond (tst 0 (v866 ((g8 n g ax : Nat) : Int) (nb 2) (nb 3)) 0) (0 : Int) (cond (tst 4 (v832 (bop32 100 ((g8 n g (fA ax) : Nat) : Int) (bop32 104 8 (nb 0)))) (bop32 100 (bop32 104 8 (nb 4)) (v832 (bop32 100 ((g8 n g ax : Nat) : Int) (bop32 104 8 (nb 2)))))) 0 (cond (tst 4 (v832 (bop32 100 ((g8 n g (sA ax) : Nat) : Int) (bop32 104 8 (nb 1)))) (bop32 100 (bop32 104 8 (nb 4)) (v832 (bop32 100 ((g8 n g ax : Nat) : Int) (bop32 104 8 (nb 2)))))) 0 1)) = if skG n ax nb g = true then 1 else 0 := by
  have n0 := nbb 0 (by decide)
  have n1 := nbb 1 (by decide)
  have n2 := nbb 2 (by decide)
  have n3 := nbb 3 (by decide)
  have n4 := nbb 4 (by decide)
  have hf : fA ax < 3 := by have := fA_2 (ax := ax); omega
  have hsA : sA ax < 3 := by have := sA_2 (ax := ax); omega
  have a0 := g8_lt hg ax
  have a1 := g8_lt hg (fA ax)
  have a2 := g8_lt hg (sA ax)
  have rb := rT_b hg hax
  have e8 := g8_C (n := n) (g := g) hax
  unfold skG btG skP
  rw [c3_g hax, c3_g hf, c3_g hsA, v866_d (by omega) (by omega) (by omega), show bop32 104 8 (nb 0) = 8 * nb 0 from mul32 (by omega) (by omega), show bop32 104 8 (nb 1) = 8 * nb 1 from mul32 (by omega) (by omega), show bop32 104 8 (nb 2) = 8 * nb 2 from mul32 (by omega) (by omega), show bop32 104 8 (nb 4) = 8 * nb 4 from mul32 (by omega) (by omega), show bop32 100 ((g8 n g (fA ax) : Nat) : Int) (8 * nb 0) = ((g8 n g (fA ax) : Nat) : Int) - 8 * nb 0 from sub32 (by omega) (by omega), show bop32 100 ((g8 n g (sA ax) : Nat) : Int) (8 * nb 1) = ((g8 n g (sA ax) : Nat) : Int) - 8 * nb 1 from sub32 (by omega) (by omega), show bop32 100 ((g8 n g ax : Nat) : Int) (8 * nb 2) = ((g8 n g ax : Nat) : Int) - 8 * nb 2 from sub32 (by omega) (by omega)]
  generalize eu : ((g8 n g (fA ax) : Nat) : Int) = u at *
  generalize ev_ : ((g8 n g (sA ax) : Nat) : Int) = v at *
  rw [v832_is (x := u - 8 * nb 0) (by omega) (by omega), v832_is (x := v - 8 * nb 1) (by omega) (by omega), v832_is (x := ((g8 n g ax : Nat) : Int) - 8 * nb 2) (by omega) (by omega), ct0, ct4, ct4]
  have mm : ∃ z : Int, z = (if ((g8 n g ax : Nat) : Int) - 8 * nb 2 < 0 then -(((g8 n g ax : Nat) : Int) - 8 * nb 2) else ((g8 n g ax : Nat) : Int) - 8 * nb 2) ∧ -10000 ≤ z ∧ z ≤ 10000 := ⟨_, rfl, by split <;> omega, by split <;> omega⟩
  obtain ⟨z, ez, z1, z2⟩ := mm
  rw [← ez, show bop32 100 (8 * nb 4) z = 8 * nb 4 - z from sub32 (by omega) (by omega)]
  by_cases inn : 8 * (if nb 3 < nb 2 then nb 3 else nb 2) < ((g8 n g ax : Nat) : Int) ∧ ((g8 n g ax : Nat) : Int) < 8 * (if nb 2 < nb 3 then nb 3 else nb 2)
  · have ib : (if nb 3 < nb 2 then nb 3 else nb 2) ≤ ((gC n g ax : Nat) : Int) ∧ ((gC n g ax : Nat) : Int) < (if nb 3 < nb 2 then nb 2 else nb 3) := by
      have : (if nb 3 < nb 2 then nb 2 else nb 3) = (if nb 2 < nb 3 then nb 3 else nb 2) := by split <;> split <;> omega
      rw [this]
      generalize (if nb 3 < nb 2 then nb 3 else nb 2) = lo at *
      generalize (if nb 2 < nb 3 then nb 3 else nb 2) = hi at *
      omega
    have hz : (if decide (nb 2 < nb 3) = true then ((g8 n g ax : Nat) : Int) - 8 * nb 2 else 8 * nb 2 - ((g8 n g ax : Nat) : Int)) = z := by
      rw [ez]
      by_cases up : nb 2 < nb 3
      · rw [if_pos (decide_eq_true up), if_neg]
        rw [if_neg (by omega)] at inn
        omega
      · rw [if_neg (fun t => up (of_decide_eq_true t)), if_pos]
        · omega
        · rw [if_neg up] at inn
          omega
    rw [if_pos inn, if_neg (by decide), decide_eq_true ib, Bool.true_and, hz]
    simp only [decide_eq_true_eq]
    clear inn ib hz ez
    by_cases w1 : u - 8 * nb 0 < 0 <;> by_cases w2 : v - 8 * nb 1 < 0
    · rw [if_pos w1, if_pos w2]; split
      · rw [if_neg (by omega)]
      · split
        · rw [if_neg (by omega)]
        · rw [if_pos (by omega)]
    · rw [if_pos w1, if_neg w2]; split
      · rw [if_neg (by omega)]
      · split
        · rw [if_neg (by omega)]
        · rw [if_pos (by omega)]
    · rw [if_neg w1, if_pos w2]; split
      · rw [if_neg (by omega)]
      · split
        · rw [if_neg (by omega)]
        · rw [if_pos (by omega)]
    · rw [if_neg w1, if_neg w2]; split
      · rw [if_neg (by omega)]
      · split
        · rw [if_neg (by omega)]
        · rw [if_pos (by omega)]
  · have ib : ¬ ((if nb 3 < nb 2 then nb 3 else nb 2) ≤ ((gC n g ax : Nat) : Int) ∧ ((gC n g ax : Nat) : Int) < (if nb 3 < nb 2 then nb 2 else nb 3)) := by
      have : (if nb 3 < nb 2 then nb 2 else nb 3) = (if nb 2 < nb 3 then nb 3 else nb 2) := by split <;> split <;> omega
      rw [this]
      generalize (if nb 3 < nb 2 then nb 3 else nb 2) = lo at *
      generalize (if nb 2 < nb 3 then nb 3 else nb 2) = hi at *
      omega
    rw [if_neg inn, if_pos rfl, decide_eq_false ib, Bool.false_and]
    rfl
/-- the beginning of isIn, of features on an axis -/
theorem in_axis {kd : Int} {g : Nat} {u3 u4 u5 u6 u7 u8 : AV} (l : LX B n h) (hd : 9 ≤ d) (hn : n ≤ 52) (m : TbM B h) (hg : g < gN n) (hq : hv h (B + 149) 19 = rf q) (D : YD B q h) (F1 : YF B f1 h) (hk : hv h f1 1 = kd) (ho : hv h f1 3 = (ax : Int)) (hax : ax < 3) (hkd : kd = 4 ∨ kd = 5 ∨ kd = 6)
    (H : Ends (ev PP (gsF gv) B d 693 (sw693_143 kd) [(2, rf (B + 149)), (2, rf f1), (0, (g : Int)), (0, (ax : Int)), (0, 0), (0, ((g8 n g ax : Nat) : Int)), (0, ((g8 n g (fA ax) : Nat) : Int)), (0, ((g8 n g (sA ax) : Nat) : Int)), u8] [] h) Q) :
    Ends (ev PP (gsF gv) B d 693 0 [(2, rf (B + 149)), (2, rf f1), (0, (g : Int)), u3, u4, u5, u6, u7, u8] [] h) Q := by
  have e7 : v710 kd = 1 := by rcases hkd with rfl | rfl | rfl <;> rfl
  have hf : fA ax < 3 := by have := fA_2 (ax := ax); omega
  have hsA : sA ax < 3 := by have := sA_2 (ax := ax); omega
  obtain ⟨p0, p1⟩ := coord_is m hn hg hax
  obtain ⟨r0, r1⟩ := coord_is m hn hg hf
  obtain ⟨t0, t1⟩ := coord_is m hn hg hsA
  refine Ends.eq (b693_0 l hd hq D F1) ?_
  rw [hk, ho, e7]
  simp only [show tst 0 (1 : Int) 0 = false from rfl, cnF]
  rw [(f635_is hax).1, (f635_is hax).2, p1, r1, t1]
  exact Ends.b0 (fun z => by omega) (fun _ => Ends.b1 (fun _ => Ends.g trivial (Ends.g trivial (Ends.g p0 (Ends.g r0 (Ends.g t0 H))))) (fun z => by omega))
/-- tools told by points, without a sketch -/
def tlG (n kd ax : Nat) (nb : Nat → Int) (g : Nat) : Bool := if kd = 0 then prG n (bkQ nb) 2 (nb 2) (nb 5) g else if kd = 4 then hlG n ax (nb 0) (nb 1) (nb 2) (nb 3) (nb 4) g else if kd = 5 then (hlG n ax (nb 0) (nb 1) (nb 2) (nb 3) (nb 4) g || hlG n ax (nb 0) (nb 1) (nb 2) (nb 5) (nb 6) g) else if kd = 6 then skG n ax nb g else wdG n (nb 6).toNat nb g
/-- the numbers of their fields are good -/
def tlOK (kd ax : Nat) (nb : Nat → Int) : Prop := (kd = 0 ∨ kd = 7 ∨ ((kd = 4 ∨ kd = 5 ∨ kd = 6) ∧ ax < 3 ∧ 1 ≤ nb 4 ∧ nb 4 ≤ 64)) ∧ (kd = 5 → 1 ≤ nb 6 ∧ nb 6 ≤ 64) ∧ (kd = 7 → 0 ≤ nb 6 ∧ nb 6 ≤ 11) ∧ ∀ k, k < 7 → -200 ≤ nb k ∧ nb k ≤ 200
def tlN (kd : Nat) : Nat := if kd = 0 then 6 else if kd = 4 ∨ kd = 6 then 5 else 7
theorem wd_bitm : ∀ w : Fin 12, tst 0 (bop32 126 ((w : Nat) : Int) 1) 0 = !decide ((w : Nat) % 4 % 2 = 1) ∧ tst 0 (bop32 126 ((w : Nat) : Int) 2) 0 = !decide ((w : Nat) % 4 / 2 % 2 = 1) := by decide +kernel
theorem bx_bk {g : Nat} (hg : g < gN n) : bxG n (nb 0) (nb 1) (nb 2) (nb 3) (nb 4) (nb 5) g = prG n (bkQ nb) 2 (nb 2) (nb 5) g := by
  rw [prG_ax (by decide)]
  unfold bkQ bxG
  rw [← Bool.decide_and, decide_eq_decide]
  show _ ↔ (nb 2 ≤ ((gZ n g : Nat) : Int) ∧ ((gZ n g : Nat) : Int) < nb 5) ∧ (nb 1 ≤ ((gY n g : Nat) : Int) ∧ ((gY n g : Nat) : Int) < nb 4) ∧ nb 0 ≤ ((gX n g : Nat) : Int) ∧ ((gX n g : Nat) : Int) < nb 3
  constructor
  · rintro ⟨⟨⟨a, b⟩, c, e⟩, f, g⟩; exact ⟨⟨f, g⟩, ⟨c, e⟩, a, b⟩
  · rintro ⟨⟨f, g⟩, ⟨c, e⟩, a, b⟩; exact ⟨⟨⟨a, b⟩, c, e⟩, f, g⟩
theorem v698_is {g : Nat} (l : LX B n h) (hn : n ≤ 52) (m : TbM B h) (hg : g < gN n) (pv : PvM B h 7 nb) (nbb : ∀ k, k < 7 → -200 ≤ nb k ∧ nb k ≤ 200) (e6 : nb 6 = (w : Int)) (hw : w < 12) : q698 B n h (g : Int) ∧ v698 B n h (g : Int) = if (wdE w nb && wdP (w / 4) (w % 4) (nb (fA (w / 4))) (nb (3 + fA (w / 4))) (nb (sA (w / 4))) (nb (3 + sA (w / 4))) (g8 n g 0 : Nat) (g8 n g 1 : Nat) (g8 n g 2 : Nat)) = true then 1 else 0 := by
  have hf1 := fA_2 (ax := w / 4)
  have hs1 := sA_2 (ax := w / 4)
  have hf : fA (w / 4) < 3 := by omega
  have hsA : sA (w / 4) < 3 := by omega
  obtain ⟨r0, r1⟩ := coord_is m hn hg hf
  obtain ⟨t0, t1⟩ := coord_is m hn hg hsA
  have a1 := g8_lt hg (fA (w / 4))
  have a2 := g8_lt hg (sA (w / 4))
  have n1 := nbb (fA (w / 4)) (by omega)
  have n2 := nbb (sA (w / 4)) (by omega)
  have n3 := nbb (3 + fA (w / 4)) (by omega)
  have n4 := nbb (3 + sA (w / 4)) (by omega)
  have k1 : 0 ≤ ((3 + fA (w / 4) : Nat) : Int) ∧ ((3 + fA (w / 4) : Nat) : Int) < 7 := ⟨by omega, by omega⟩
  have k2 : 0 ≤ ((fA (w / 4) : Nat) : Int) ∧ ((fA (w / 4) : Nat) : Int) < 7 := ⟨by omega, by omega⟩
  have k3 : 0 ≤ ((3 + sA (w / 4) : Nat) : Int) ∧ ((3 + sA (w / 4) : Nat) : Int) < 7 := ⟨by omega, by omega⟩
  have k4 : 0 ≤ ((sA (w / 4) : Nat) : Int) ∧ ((sA (w / 4) : Nat) : Int) < 7 := ⟨by omega, by omega⟩
  have p1 := pv (fA (w / 4)) (by omega)
  have p2 := pv (sA (w / 4)) (by omega)
  have p3 := pv (3 + fA (w / 4)) (by omega)
  have p4 := pv (3 + sA (w / 4)) (by omega)
  have w3 : w / 4 < 3 := by omega
  have g6 : hv h (B + 198) (Int.toNat 6) = (w : Int) := by rw [show Int.toNat 6 = 6 from rfl, pv 6 (by decide), e6]
  have d4 : bop32 108 (w : Int) 4 = ((w / 4 : Nat) : Int) := divNN (y := 4) (by omega) (by decide)
  have i1 : bop32 96 ((fA (w / 4) : Nat) : Int) 3 = ((3 + fA (w / 4) : Nat) : Int) := by rw [show bop32 96 ((fA (w / 4) : Nat) : Int) 3 = ((fA (w / 4) + 3 : Nat) : Int) from addNN (y := 3) (by omega), Nat.add_comm]
  have i2 : bop32 96 ((sA (w / 4) : Nat) : Int) 3 = ((3 + sA (w / 4) : Nat) : Int) := by rw [show bop32 96 ((sA (w / 4) : Nat) : Int) 3 = ((sA (w / 4) + 3 : Nat) : Int) from addNN (y := 3) (by omega), Nat.add_comm]
  have b1 : bop32 100 (nb (3 + fA (w / 4))) (nb (fA (w / 4))) = nb (3 + fA (w / 4)) - nb (fA (w / 4)) := sub32 (by omega) (by omega)
  have b2 : bop32 100 (nb (3 + sA (w / 4))) (nb (sA (w / 4))) = nb (3 + sA (w / 4)) - nb (sA (w / 4)) := sub32 (by omega) (by omega)
  obtain ⟨w1, w2⟩ := wd_bitm ⟨w, hw⟩
  simp only at w1 w2
  constructor
  · unfold q698
    rw [g6, d4, (f635_is w3).1, (f635_is w3).2, i1, i2]
    refine ⟨k1, k2, k3, k4, ?_⟩
    rw [ct0]
    split
    · exact ⟨r0, t0⟩
    · trivial
  · unfold v698
    rw [g6, d4, (f635_is w3).1, (f635_is w3).2, i1, i2, tn, tn, tn, tn, p1, p2, p3, p4, b1, b2, r1, t1, w1, w2]
    clear g6 d4 i1 i2 b1 b2 w1 w2 r1 t1
    unfold wdE wdP
    rw [c3_g hf, c3_g hsA, ct0]
    generalize eu : ((g8 n g (fA (w / 4)) : Nat) : Int) = u at *
    generalize ev_ : ((g8 n g (sA (w / 4)) : Nat) : Int) = v at *
    by_cases e : nb (3 + fA (w / 4)) - nb (fA (w / 4)) = nb (3 + sA (w / 4)) - nb (sA (w / 4))
    · rw [if_pos e, decide_eq_true e, Bool.true_and]
      have := wd_core (u := u) (v := v) (b1 := decide (w % 4 % 2 = 1)) (b2 := decide (w % 4 / 2 % 2 = 1)) (l1 := nb (fA (w / 4))) (h1 := nb (3 + fA (w / 4))) (l2 := nb (sA (w / 4))) (h2 := nb (3 + sA (w / 4))) (by omega) (by omega) (by omega) (by omega) (by omega) (by omega)
      rw [← this]
      cases decide (w % 4 % 2 = 1) <;> cases decide (w % 4 / 2 % 2 = 1) <;> rfl
    · rw [if_neg e, decide_eq_false e, Bool.false_and]; rfl
/-- is a grain in -/
theorem c_isIn693 {kd g : Nat} (l : LX B n h) (hd : 12 ≤ d) (hn : n ≤ 52) (m : TbM B h) (hg : g < gN n) (hq : hv h (B + 149) 19 = rf q) (D : YD B q h) (F1 : YF B f1 h) (hk : hv h f1 1 = (kd : Int)) (ho : hv h f1 3 = (ax : Int)) (pv : PvM B h (tlN kd) nb) (ok : tlOK kd ax nb) :
    Vt 0 (cll PP (ev PP (gsF gv) B) d 693 [(2, rf (B + 149)), (2, rf f1), (0, (g : Int))] h) (fun v h' => h' = h ∧ v = if tlG n kd ax nb g = true then 1 else 0) := by
  refine Vt.inq (D := 11) hd (Nat.le_of_ble_eq_true rfl) rfl (fun d hd Q K => ?_)
  obtain ⟨k1, k2, k3, nbb⟩ := ok
  have n0 := nbb 0 (by decide)
  have n1 := nbb 1 (by decide)
  have n2 := nbb 2 (by decide)
  have n3 := nbb 3 (by decide)
  have n5 := nbb 5 (by decide)
  have n6 := nbb 6 (by decide)
  have blk : ∀ (u3 u4 u5 u6 u7 u8 : AV), (kd = 0 ∨ kd = 7) → Ends (ev PP (gsF gv) B d 693 16 [(2, rf (B + 149)), (2, rf f1), (0, (g : Int)), u3, u4, u5, u6, u7, u8] [] h) Q := fun u3 u4 u5 u6 u7 u8 hkd => by
    have p6 : ∀ k, k < 6 → hv h (B + 198) k = nb k := fun k hk' => pv k (by rcases hkd with rfl | rfl <;> (unfold tlN; simp; omega))
    refine Ends.eq (b693_16 l (by omega)) ?_
    refine Ends.ct l (by decide +kernel) (by decide) (c_isInBlock694 l (by omega) hn m hg p6 (fun k hk' => by have := nbb k (by omega); omega)) (fun v q1 l1 _ _ _ ⟨e1, ev_⟩ => ?_)
    obtain rfl := e1
    rw [ev_]
    refine Ends.eq (b693_21 l1 (by omega) F1) ?_
    rw [hk]
    rcases hkd with rfl | rfl
    · rw [ct0, ct0, ct0, ct0]
      refine Ends.g ?_ (Ends.sm (K _ _ ⟨rfl, ?_⟩))
      · split
        · trivial
        · rw [if_pos rfl]; trivial
      · rw [show tlG n 0 ax nb g = prG n (bkQ nb) 2 (nb 2) (nb 5) g from rfl]
        cases prG n (bkQ nb) 2 (nb 2) (nb 5) g <;> rfl
    · have h6 := k3 rfl
      obtain ⟨w', e6⟩ : ∃ w' : Nat, nb 6 = (w' : Int) := ⟨(nb 6).toNat, by omega⟩
      obtain ⟨a1, a2⟩ := v698_is l1 hn m hg pv nbb e6 (by omega)
      rw [a2]
      refine Ends.g ?_ (Ends.sm (K _ _ ⟨rfl, ?_⟩))
      · rw [ct0, ct0]
        cases prG n (bkQ nb) 2 (nb 2) (nb 5) g
        · rw [if_pos (show (if false = true then (1 : Int) else 0) = 0 from rfl)]; trivial
        · rw [if_neg (show ¬ (if true = true then (1 : Int) else 0) = 0 by decide), if_neg (by decide)]; exact a1
      · rw [show tlG n 7 ax nb g = wdG n (nb 6).toNat nb g from rfl]
        unfold wdG
        rw [e6, tn, bx_bk hg]
        generalize wdP _ _ _ _ _ _ _ _ _ = b1
        cases prG n (bkQ nb) 2 (nb 2) (nb 5) g <;> cases wdE w' nb <;> cases b1 <;> rfl
  have k4 : kd = 0 ∨ kd = 7 ∨ kd = 4 ∨ kd = 5 ∨ kd = 6 := by omega
  rcases k4 with rfl | rfl | hkd
  · refine Ends.eq (b693_0 l (by omega) hq D F1) ?_
    rw [hk]
    exact Ends.b0 (fun _ => blk _ _ _ _ _ _ (Or.inl rfl)) (fun z => absurd rfl z)
  · refine Ends.eq (b693_0 l (by omega) hq D F1) ?_
    rw [hk]
    exact Ends.b0 (fun z => absurd z (by decide)) (fun _ => Ends.b1 (fun z => absurd rfl z) (fun _ => blk _ _ _ _ _ _ (Or.inr rfl)))
  · have hax : ax < 3 := by omega
    have n4 : 1 ≤ nb 4 ∧ nb 4 ≤ 64 := by omega
    refine in_axis l (by omega) hn m hg hq D F1 hk ho hax (by omega) ?_
    rcases hkd with rfl | rfl | rfl
    · show Ends (ev PP (gsF gv) B d 693 309 _ [] h) Q
      refine Ends.eq (b693_309 l (by omega)) ?_
      rw [show Int.toNat 0 = 0 from rfl, show Int.toNat 1 = 1 from rfl, show Int.toNat 2 = 2 from rfl, show Int.toNat 3 = 3 from rfl, show Int.toNat 4 = 4 from rfl, pv 0 (by decide), pv 1 (by decide), pv 2 (by decide), pv 3 (by decide), pv 4 (by decide), hl_val hn hg hax n0 n1 n2 n3 (by omega)]
      exact Ends.sm (K _ _ ⟨rfl, rfl⟩)
    · have h6 := k2 rfl
      show Ends (ev PP (gsF gv) B d 693 371 _ [] h) Q
      refine Ends.eq (b693_371 l (by omega)) ?_
      rw [show Int.toNat 0 = 0 from rfl, show Int.toNat 1 = 1 from rfl, show Int.toNat 2 = 2 from rfl, show Int.toNat 3 = 3 from rfl, show Int.toNat 4 = 4 from rfl, show Int.toNat 5 = 5 from rfl, show Int.toNat 6 = 6 from rfl, pv 0 (by decide), pv 1 (by decide), pv 2 (by decide), pv 3 (by decide), pv 4 (by decide), pv 5 (by decide), pv 6 (by decide), hl_val2 hn hg hax n0 n1 n2 n3 (by omega) n5 (by omega)]
      exact Ends.sm (K _ _ ⟨rfl, rfl⟩)
    · show Ends (ev PP (gsF gv) B d 693 490 _ [] h) Q
      refine Ends.eq (b693_490 l (by omega)) ?_
      rw [show Int.toNat 0 = 0 from rfl, show Int.toNat 1 = 1 from rfl, show Int.toNat 2 = 2 from rfl, show Int.toNat 3 = 3 from rfl, show Int.toNat 4 = 4 from rfl, pv 0 (by decide), pv 1 (by decide), pv 2 (by decide), pv 3 (by decide), pv 4 (by decide), sk_val hn hg hax (fun k hk' => nbb k (by omega))]
      exact Ends.sm (K _ _ ⟨rfl, rfl⟩)
/-- what isIn says of all grains comes to a row -/
theorem c_shape820 {T : Nat → Bool} (l : LX B n h) (hd : 14 ≤ d) (hn : n ≤ 52) (hs : s < 19) (hi : ∀ q d g, LX B n q → 12 ≤ d → g < gN n → Agr (wto B n s (wN n)) h q → Vt 0 (cll PP (ev PP (gsF gv) B) d 693 [(2, rf (B + 149)), (2, rf f1), (0, (g : Int))] q) (fun v h' => h' = q ∧ v = if T g = true then 1 else 0)) :
    Vd (cll PP (ev PP (gsF gv) B) d 820 [(2, rf (B + 149)), (2, rf f1), (0, (s : Int))] h) (fun h' => Agr (wto B n s (wN n)) h h' ∧ MB B n h' s T) := by
  have hN := gN_le hn
  refine Vd.inq (D := 13) hd (Nat.le_of_ble_eq_true rfl) rfl (fun d hd Q K => ?_)
  refine Ends.eq (b820_0 l (by omega)) ?_
  refine Ends.cv l (by decide +kernel) (c_empty l (by omega) hn hs) (fun q lq _ _ _ ⟨gq, bq⟩ => ?_)
  refine Ends.eq (b820_5 lq (by omega)) ?_
  have key : ∀ (c i : Nat) (q : AH), i + c = gN n → LX B n q → Agr (wto B n s (wN n)) h q → MB B n q s (fun x => T x && decide (x < i)) → Ends (ev PP (gsF gv) B d 820 7 [(2, rf (B + 149)), (2, rf f1), (0, (s : Int)), (0, (i : Int))] [] q) Q := by
    intro c
    induction c with
    | zero =>
      intro i q e lq gq bq
      obtain rfl : gN n = i := by omega
      exact Ends.eq (b820_7 lq (by omega)) (Ends.b3 (fun _ => Ends.sm (K _ ⟨gq, bq.congr (fun x hx => by
        show (T x && decide (x < gN n)) = T x
        rw [decide_eq_true hx, Bool.and_true])⟩)) (fun z => by omega))
    | succ c ih =>
      intro i q e lq gq bq
      have hi2 : i < gN n := by omega
      refine Ends.eq (b820_7 lq (by omega)) (Ends.b3 (fun z => by omega) (fun _ => ?_))
      have go : ∀ q : AH, LX B n q → Agr (wto B n s (wN n)) h q → MB B n q s (fun x => T x && decide (x < i + 1)) → Ends (ev PP (gsF gv) B d 820 30 [(2, rf (B + 149)), (2, rf f1), (0, (s : Int)), (0, (i : Int))] [] q) Q := fun q lq gq bq => by
        refine Ends.eq (b820_30 lq (by omega)) ?_
        rw [w_succ (by omega)]
        exact ih (i + 1) q (by omega) lq gq bq
      refine Ends.ct lq (by decide +kernel) (by decide) (hi q d i lq (by omega) hi2 gq) (fun v q1 l1 _ _ _ ⟨e1, ev_⟩ => ?_)
      obtain rfl := e1
      rw [ev_]
      refine Ends.eq (b820_21 l1 (by omega)) ?_
      cases hT : T i
      · refine Ends.b0 (fun _ => go q1 l1 gq (bq.congr (fun x hx => ?_))) (fun z => absurd rfl z)
        show (T x && decide (x < i)) = (T x && decide (x < i + 1))
        by_cases e2 : x = i
        · rw [e2, hT]; rfl
        · rw [show decide (x < i) = decide (x < i + 1) from by rw [decide_eq_decide]; omega]
      · refine Ends.b0 (fun z => absurd z (by decide)) (fun _ => ?_)
        refine Ends.cv l1 (by decide +kernel) (c_putM l1 (by omega) hn hs bq hi2) (fun q2 l2 _ _ _ ⟨_, g2, b2⟩ => ?_)
        refine go q2 l2 (gq.tr g2 (fun c k z => z)) (b2.congr (fun x hx => ?_))
        show ((T x && decide (x < i)) || decide (x = i)) = (T x && decide (x < i + 1))
        by_cases e2 : x = i
        · rw [e2, hT, decide_eq_true (Eq.refl i), Bool.or_true, decide_eq_true (by omega)]; rfl
        · rw [decide_eq_false e2, Bool.or_false, show decide (x < i) = decide (x < i + 1) from by rw [decide_eq_decide]; omega]
  exact key (gN n) 0 q (by omega) lq gq (bq.congr (fun x hx => by
    show false = (T x && decide (x < 0))
    rw [decide_eq_false (by omega), Bool.and_false]))
end MSHAPE
