/-! L3: the area of a loop (both sides) -/
noncomputable section ARE
variable {gv : Nat → Int} {B n d : Nat} {h : AH} {lv S : Nat → Bool} {U0 V0 U1 V1 : Nat → Int} {k m l a : Nat} {u v x y sum : Int}
/-- going round from the start of line k, from u, v on -/
def ArF (lv : Nat → Bool) (U0 V0 U1 V1 : Nat → Int) (k : Nat) : Nat → Nat → Int → Int → Int → Int → Prop
  | 0, _, _, _, _, _ => False
  | f + 1, a, u, v, sum, x => (u = U0 k ∧ v = V0 k ∧ x = sum) ∨ (¬ (u = U0 k ∧ v = V0 k) ∧ ∃ m, (lv m = true ∧ m ≠ a ∧ endP (U0 m) (V0 m) (U1 m) (V1 m) u v) ∧ ArF lv U0 V0 U1 V1 k f m (exU U0 V0 U1 m u v) (exV U0 V0 V1 m u v) (sum + (u * exV U0 V0 V1 m u v - v * exU U0 V0 U1 m u v)) x)
theorem ArF.uniq (G : GrP lv U0 V0 U1 V1) : ∀ (f f' : Nat) (S : Nat → Bool) (a : Nat) (u v sum x y : Int), TrI lv U0 V0 U1 V1 S a u v k → ArF lv U0 V0 U1 V1 k f a u v sum x → ArF lv U0 V0 U1 V1 k f' a u v sum y → x = y
  | 0, _, _, _, _, _, _, _, _, _, h, _ => absurd h id
  | _ + 1, 0, _, _, _, _, _, _, _, _, _, h => absurd h id
  | f + 1, f' + 1, S, a, u, v, sum, x, y, I, h, h' => by
    rcases h with ⟨h1, h2, h3⟩ | ⟨h1, m, h2, h3⟩
    · rcases h' with ⟨-, -, g3⟩ | ⟨g1, -⟩
      · rw [h3, g3]
      · exact absurd ⟨h1, h2⟩ g1
    · rcases h' with ⟨g1, g2, -⟩ | ⟨-, m', g2, g3⟩
      · exact absurd ⟨g1, g2⟩ h1
      · obtain ⟨m0, lm0, sm0, em0, un⟩ := I.next G h1
        have e1 : m = m0 := (un m h2.1 h2.2.2).resolve_left h2.2.1
        have e2 : m' = m0 := (un m' g2.1 g2.2.2).resolve_left g2.2.1
        rw [e1] at h3
        rw [e2] at g3
        exact ArF.uniq G f f' _ _ _ _ _ _ _ (I.step G lm0 sm0 em0) h3 g3
/-- all ends are within the square -/
def BdL (lv : Nat → Bool) (U0 V0 U1 V1 : Nat → Int) : Prop := ∀ k, lv k = true → (in64 (U0 k) ∧ in64 (V0 k)) ∧ in64 (U1 k) ∧ in64 (V1 k)
theorem BdL.ex (b : BdL lv U0 V0 U1 V1) (lm : lv m = true) : in64 (exU U0 V0 U1 m u v) ∧ in64 (exV U0 V0 V1 m u v) := by
  unfold exU exV
  split
  · exact (b m lm).2
  · exact (b m lm).1
theorem BdL.end (b : BdL lv U0 V0 U1 V1) (lm : lv m = true) (e : endP (U0 m) (V0 m) (U1 m) (V1 m) u v) : in64 u ∧ in64 v := by
  rcases e with ⟨h1, h2⟩ | ⟨h1, h2⟩
  · rw [← h1, ← h2]; exact (b m lm).1
  · rw [← h1, ← h2]; exact (b m lm).2
theorem m64_ok {x y : Int} (h1 : in64 x) (h2 : in64 y) : bop32 104 x y = x * y ∧ 0 ≤ x * y ∧ x * y ≤ 4096 := by
  obtain ⟨a, b⟩ := h1
  obtain ⟨c, e⟩ := h2
  have b1 : x * y ≤ 64 * 64 := Int.mul_le_mul b e c (by decide)
  have b0 : 0 ≤ x * y := Int.mul_nonneg a c
  exact ⟨mul32 (by omega) (by omega), b0, by omega⟩
theorem ar_step {p q r s : Int} (h1 : in64 p) (h2 : in64 q) (h3 : in64 r) (h4 : in64 s) (hs : -300000 ≤ sum ∧ sum ≤ 300000) : bop32 96 sum (bop32 100 (bop32 104 p q) (bop32 104 r s)) = sum + (p * q - r * s) ∧ -4096 ≤ p * q - r * s ∧ p * q - r * s ≤ 4096 := by
  obtain ⟨e1, a1, b1⟩ := m64_ok h1 h2
  obtain ⟨e2, a2, b2⟩ := m64_ok h3 h4
  rw [e1, e2]
  generalize p * q = x at *
  generalize r * s = y at *
  rw [sub32 (x := x) (y := y) (by omega) (by omega)]
  exact ⟨add32 (by omega) (by omega), by omega, by omega⟩
set_option maxHeartbeats 2000000 in
theorem c_area386 (l : LX B n h) (hd : 10 ≤ d) (Sg : SgD B h lv U0 V0 U1 V1) (G : GrP lv U0 V0 U1 V1) (b : BdL lv U0 V0 U1 V1) (lk : lv k = true) : Vt 0 (cll PP (ev PP (gsF gv) B) d 386 [(2, rf (B + 56)), (0, (k : Int))] h) (fun x h' => h' = h ∧ ArF lv U0 V0 U1 V1 k 24 k (U1 k) (V1 k) (U0 k * V1 k - V0 k * U1 k) x ∧ -300000 ≤ x ∧ x ≤ 300000) := by
  refine Vt.inq (D := 9) hd (Nat.le_of_ble_eq_true rfl) rfl (fun d hd Q K => ?_)
  have k24 := (G k lk).1.1
  have main : ∀ (r : Nat) (S : Nat → Bool) (a : Nat) (u v sum : Int) (u6 u7 u8 : AV), cntN S 24 + r = 24 → TrI lv U0 V0 U1 V1 S a u v k → (-(4096 * (cntN S 24 : Int)) ≤ sum ∧ sum ≤ 4096 * (cntN S 24 : Int)) → (∀ x, ArF lv U0 V0 U1 V1 k (r + 1) a u v sum x → -300000 ≤ x ∧ x ≤ 300000 → Q ((0, (0, x)), h)) → ∀ (x6 x7 x8 : Int), Ends (ev PP (gsF gv) B d 386 121 [(2, rf (B + 56)), (0, (k : Int)), (0, sum), (0, (a : Int)), (0, u), (0, v), (0, x6), (0, x7), (0, x8), (0, -1), (0, 0)] [] h) Q := by
    intro r
    refine Nat.strongRecOn r (fun r ihr => ?_)
    intro S a u v sum u6 u7 u8 er I hs KK x6 x7 x8
    have c24 := cntN_le S 24
    have la := (I.1 a I.2.1.1).1
    have after : ∀ (m : Nat) (x10 : Int), lv m = true → m ≠ a → endP (U0 m) (V0 m) (U1 m) (V1 m) u v → Ends (ev PP (gsF gv) B d 386 207 [(2, rf (B + 56)), (0, (k : Int)), (0, sum), (0, (a : Int)), (0, u), (0, v), (0, x6), (0, x7), (0, x8), (0, (m : Int)), (0, x10)] [] h) Q := fun m x10 lm ma em => by
      have m24 := (G m lm).1.1
      refine Ends.eq (b386_207 (n := n) (by (repeat' first | assumption | refine LX.setF _ _ ?_ (by decide +kernel) | refine LX.setS ?_ rfl | refine LX.setA ?_ (by first | assumption | omega))) (by first | assumption | omega)) ?_
      by_cases cur : u = U0 k ∧ v = V0 k
      · obtain ⟨-, un, -⟩ := I.fin G cur.1 cur.2
        have mk : m = k := (un m lm em).resolve_left ma
        rw [mk]
        refine Ends.b1 (fun z => absurd rfl z) (fun _ => Ends.sm (KK sum (Or.inl ⟨cur.1, cur.2, rfl⟩) ⟨by omega, by omega⟩))
      · obtain ⟨m0, lm0, sm0, em0, un⟩ := I.next G cur
        have mm0 : m = m0 := (un m lm em).resolve_left ma
        rw [← mm0] at sm0
        have cc := cnt_ins m24 sm0
        have cl := cntN_le (insB S m) 24
        have mk : m ≠ k := fun z => by rw [z, I.2.1.2.1] at sm0; cases sm0
        refine Ends.b1 (fun _ => ?_) (fun z => absurd (show m = k by omega) mk)
        obtain ⟨-, s2⟩ := Sg m m24
        obtain ⟨s1, s2, s3, s4⟩ := s2 lm
        have bu := b.end lm em
        have be := b.ex (u := u) (v := v) lm
        refine Ends.eq (b386_20 (n := n) (by (repeat' first | assumption | refine LX.setF _ _ ?_ (by decide +kernel) | refine LX.setS ?_ rfl | refine LX.setA ?_ (by first | assumption | omega))) (by first | assumption | omega)) ?_
        simp only [tn]
        rw [s1, s2, s3, s4, fth_sel, fth_sel]
        obtain ⟨st, lo, hi⟩ := ar_step (sum := sum) bu.1 be.2 bu.2 be.1 (by omega)
        rw [show (if U0 m = u ∧ V0 m = v then U1 m else U0 m) = exU U0 V0 U1 m u v from rfl, show (if U0 m = u ∧ V0 m = v then V1 m else V0 m) = exV U0 V0 V1 m u v from rfl, st]
        clear st
        refine Ends.g ⟨by omega, by omega⟩ ?_
        refine ihr (r - 1) (by omega) (insB S m) m _ _ _ (0, 0) (0, 0) (0, 0) (by omega) (I.step G lm sm0 em) ?_ (fun x hx => KK x (Or.inr ⟨cur, m, ⟨lm, ma, em⟩, ?_⟩)) _ _ _
        · rw [cc]
          generalize u * exV U0 V0 V1 m u v - v * exU U0 V0 U1 m u v = w at *
          omega
        · rw [show r = r - 1 + 1 by omega]; exact hx
    have exi : ∃ m, lv m = true ∧ m ≠ a ∧ endP (U0 m) (V0 m) (U1 m) (V1 m) u v := by
      by_cases cur : u = U0 k ∧ v = V0 k
      · obtain ⟨h1, -⟩ := I.fin G cur.1 cur.2
        exact ⟨k, lk, fun z => h1 z.symm, Or.inl ⟨cur.1.symm, cur.2.symm⟩⟩
      · obtain ⟨m0, lm0, sm0, em0, -⟩ := I.next G cur
        exact ⟨m0, lm0, fun z => (by rw [z, I.2.1.1] at sm0; cases sm0), em0⟩
    have search : ∀ (r i : Nat) (x9 : Int), i + r = 24 → ((x9 = -1 ∧ ∀ m, m < i → ¬ (lv m = true ∧ m ≠ a ∧ endP (U0 m) (V0 m) (U1 m) (V1 m) u v)) ∨ ∃ m : Nat, x9 = (m : Int) ∧ lv m = true ∧ m ≠ a ∧ endP (U0 m) (V0 m) (U1 m) (V1 m) u v) → Ends (ev PP (gsF gv) B d 386 121 [(2, rf (B + 56)), (0, (k : Int)), (0, sum), (0, (a : Int)), (0, u), (0, v), (0, x6), (0, x7), (0, x8), (0, x9), (0, (i : Int))] [] h) Q := by
      intro r
      induction r with
      | zero =>
        intro i x9 ei hx
        obtain rfl : i = 24 := by omega
        rcases hx with ⟨-, no⟩ | ⟨m, hx, h1, h2, h3⟩
        · obtain ⟨m, hm⟩ := exi
          exact absurd hm (no m (G m hm.1).1.1)
        · rw [hx]
          refine Ends.eq (b386_121 (n := n) (by (repeat' first | assumption | refine LX.setF _ _ ?_ (by decide +kernel) | refine LX.setS ?_ rfl | refine LX.setA ?_ (by first | assumption | omega))) (by first | assumption | omega)) ?_
          exact Ends.b3 (fun _ => after m _ h1 h2 h3) (fun z => absurd z (by decide))
      | succ r ihs =>
        intro i x9 ei hx
        rcases hx with ⟨hx, no⟩ | ⟨m, hx, h1, h2, h3⟩
        · obtain ⟨t1, t2⟩ := Sg i (by omega)
          refine Ends.eq (b386_121 (n := n) (by (repeat' first | assumption | refine LX.setF _ _ ?_ (by decide +kernel) | refine LX.setS ?_ rfl | refine LX.setA ?_ (by first | assumption | omega))) (by first | assumption | omega)) ?_
          rw [hx, tn, t1, nxi_is, ct0, ct0, w_succ (by omega)]
          refine Ends.b3 (fun z => absurd z (by omega)) (fun _ => Ends.b3 (fun z => absurd z (by decide)) (fun _ => Ends.g ⟨by omega, by omega⟩ ?_))
          have go : ∀ x : Int, (x = -1 ∧ ¬ (lv i = true ∧ i ≠ a ∧ endP (U0 i) (V0 i) (U1 i) (V1 i) u v)) ∨ (x = (i : Int) ∧ lv i = true ∧ i ≠ a ∧ endP (U0 i) (V0 i) (U1 i) (V1 i) u v) → Ends (ev PP (gsF gv) B d 386 121 [(2, rf (B + 56)), (0, (k : Int)), (0, sum), (0, (a : Int)), (0, u), (0, v), (0, x6), (0, x7), (0, x8), (0, x), (0, ((i + 1 : Nat) : Int))] [] h) Q := fun x hx' => by
            refine ihs (i + 1) x (by omega) ?_
            rcases hx' with ⟨h1, h2⟩ | ⟨h1, h2⟩
            · refine Or.inl ⟨h1, fun m hm => ?_⟩
              rcases (by omega : m < i ∨ m = i) with z | z
              · exact no m z
              · rw [z]; exact h2
            · exact Or.inr ⟨i, h1, h2⟩
          cases li : lv i
          · rw [if_pos (show b2i false = 0 from rfl)]
            exact go _ (Or.inl ⟨rfl, fun z => Bool.false_ne_true (by rw [← li]; exact z.1)⟩)
          · rw [if_neg (show ¬ b2i true = 0 by decide)]
            obtain ⟨y1, y2, y3, y4⟩ := t2 li
            by_cases h1 : i = a
            · rw [if_pos (show (i : Int) = (a : Int) by omega)]
              exact go _ (Or.inl ⟨rfl, fun z => z.2.1 h1⟩)
            · rw [if_neg (show ¬ (i : Int) = (a : Int) by omega), y1, y2, y3, y4]
              by_cases h2 : (U0 i = u ∧ V0 i = v) ∨ (U1 i = u ∧ V1 i = v)
              · rw [if_pos h2]; exact go _ (Or.inr ⟨rfl, li, h1, h2⟩)
              · rw [if_neg h2]; exact go _ (Or.inl ⟨rfl, fun z => h2 z.2.2⟩)
        · rw [hx]
          refine Ends.eq (b386_121 (n := n) (by (repeat' first | assumption | refine LX.setF _ _ ?_ (by decide +kernel) | refine LX.setS ?_ rfl | refine LX.setA ?_ (by first | assumption | omega))) (by first | assumption | omega)) ?_
          refine Ends.b3 (fun z => absurd z (by omega)) (fun _ => Ends.b3 (fun _ => after m _ h1 h2 h3) (fun z => absurd (show (0 : Int) ≤ (m : Int) by omega) (by omega)))
    exact search 24 0 (-1) rfl (Or.inl ⟨rfl, fun m hm => absurd hm (Nat.not_lt_zero m)⟩)
  obtain ⟨-, s2⟩ := Sg k k24
  obtain ⟨s1, s2, s3, s4⟩ := s2 lk
  have b0 := b k lk
  refine Ends.eq (b386_0 (n := n) (by (repeat' first | assumption | refine LX.setF _ _ ?_ (by decide +kernel) | refine LX.setS ?_ rfl | refine LX.setA ?_ (by first | assumption | omega))) (by first | assumption | omega)) ?_
  simp only [tn]
  rw [s1, s2]
  refine Ends.g ⟨by omega, by omega⟩ ?_
  refine Ends.eq (b386_20 (n := n) (by (repeat' first | assumption | refine LX.setF _ _ ?_ (by decide +kernel) | refine LX.setS ?_ rfl | refine LX.setA ?_ (by first | assumption | omega))) (by first | assumption | omega)) ?_
  simp only [tn]
  rw [s1, s2, s3, s4, fth_sel, fth_sel, if_pos ⟨rfl, rfl⟩, if_pos ⟨rfl, rfl⟩]
  obtain ⟨st, lo, hi⟩ := ar_step (sum := 0) b0.1.1 b0.2.2 b0.1.2 b0.2.1 (by omega)
  rw [st, Int.zero_add]
  clear st
  refine Ends.g ⟨by omega, by omega⟩ ?_
  have cS : cntN (insB (fun _ => false) k) 24 = 1 := by
    rw [cnt_ins k24 rfl]
    have : ∀ N, cntN (fun _ => false) N = 0 := fun N => by
      induction N with
      | zero => rfl
      | succ N ihN => rw [cntN_s, ihN]; rfl
    rw [this]
  refine main 23 _ k _ _ _ (0, 0) (0, 0) (0, 0) (by omega) (TrI.start G lk) ?_ (fun x hx hb => K _ _ ⟨rfl, hx, hb⟩) _ _ _
  rw [cS]
  generalize U0 k * V1 k - V0 k * U1 k = w at *
  omega
set_option maxHeartbeats 2000000 in
theorem c_doubleArea595 (l : LX B n h) (hd : 10 ≤ d) (Sg : SgM B h lv U0 V0 U1 V1) (G : GrP lv U0 V0 U1 V1) (b : BdL lv U0 V0 U1 V1) (lk : lv k = true) : Vt 0 (cll PP (ev PP (gsF gv) B) d 595 [(2, rf (B + 149)), (0, ((cntN lv k : Nat) : Int))] h) (fun x h' => h' = h ∧ ∃ y, ArF lv U0 V0 U1 V1 k 24 k (U1 k) (V1 k) (U0 k * V1 k - V0 k * U1 k) y ∧ x = if y < 0 then -y else y) := by
  refine Vt.inq (D := 9) hd (Nat.le_of_ble_eq_true rfl) rfl (fun d hd Q K => ?_)
  have k24 := (G k lk).1.1
  have c24 : cntN lv 24 ≤ 24 := cntN_le _ _
  have cl : ∀ m, lv m = true → cntN lv m < cntN lv 24 := fun m lm => cnt_ltl (G m lm).1.1 lm
  have rd : ∀ m, lv m = true → hv h (B + 168) (cntN lv m) = U0 m ∧ hv h (B + 169) (cntN lv m) = V0 m ∧ hv h (B + 170) (cntN lv m) = U1 m ∧ hv h (B + 171) (cntN lv m) = V1 m := fun m lm => Sg.2 m (G m lm).1.1 lm
  have ck := cl k lk
  obtain ⟨k1, k2, k3, k4⟩ := rd k lk
  have main : ∀ (r : Nat) (S : Nat → Bool) (a : Nat) (u v sum : Int), cntN S 24 + r = 24 → TrI lv U0 V0 U1 V1 S a u v k → (-(4096 * (cntN S 24 : Int)) ≤ sum ∧ sum ≤ 4096 * (cntN S 24 : Int)) → (∀ y, ArF lv U0 V0 U1 V1 k (r + 1) a u v sum y → Q ((0, (0, if y < 0 then -y else y)), h)) → ∀ (u6 u7 u8 u9 : AV), Ends (ev PP (gsF gv) B d 595 36 [(2, rf (B + 149)), (0, ((cntN lv k : Nat) : Int)), (0, u), (0, v), (0, ((cntN lv a : Nat) : Int)), (0, sum), u6, u7, u8, u9] [] h) Q := by
    intro r
    refine Nat.strongRecOn r (fun r ihr => ?_)
    intro S a u v sum er I hs KK u6 u7 u8 u9
    have s24 := cntN_le S 24
    have la := (I.1 a I.2.1.1).1
    have ca := cl a la
    have more : ¬ (u = U0 k ∧ v = V0 k) → Ends (ev PP (gsF gv) B d 595 56 [(2, rf (B + 149)), (0, ((cntN lv k : Nat) : Int)), (0, u), (0, v), (0, ((cntN lv a : Nat) : Int)), (0, sum), u6, u7, u8, u9] [] h) Q := fun cur => by
      obtain ⟨m0, lm0, sm0, em0, un⟩ := I.next G cur
      have m24 := (G m0 lm0).1.1
      have cm := cl m0 lm0
      have search : ∀ (t i : Nat) (u7 u8 u9 : AV), i + t = cntN lv m0 → Ends (ev PP (gsF gv) B d 595 59 [(2, rf (B + 149)), (0, ((cntN lv k : Nat) : Int)), (0, u), (0, v), (0, ((cntN lv a : Nat) : Int)), (0, sum), (0, (i : Int)), u7, u8, u9] [] h) Q := by
        intro t
        induction t with
        | zero =>
          intro i u7 u8 u9 ei
          obtain rfl : i = cntN lv m0 := by omega
          obtain ⟨y1, y2, y3, y4⟩ := rd m0 lm0
          have Lm : LnMs B h (cntN lv m0) (U0 m0) (V0 m0) (U1 m0) (V1 m0) := ⟨y1, y2, y3, y4⟩
          obtain ⟨qa, va⟩ := v688_is (u := u) (v := v) Lm (by omega)
          have va1 : v688 B h ((cntN lv m0 : Nat) : Int) u v = 1 := by
            rcases va with ⟨h1, -⟩ | ⟨-, h2⟩
            · exact h1
            · exact absurd em0 h2
          have ne : ¬ ((cntN lv m0 : Nat) : Int) = ((cntN lv a : Nat) : Int) := fun z => by
            have : m0 = a := cnt_inj lm0 la (by omega)
            rw [this, I.2.1.1] at sm0; cases sm0
          have cc := cnt_ins m24 sm0
          have cl' := cntN_le (insB S m0) 24
          have bu := b.end lm0 em0
          have be := b.ex (u := u) (v := v) lm0
          refine Ends.eq (b595_59 (n := n) (by (repeat' first | assumption | refine LX.setF _ _ ?_ (by decide +kernel) | refine LX.setS ?_ rfl | refine LX.setA ?_ (by first | assumption | omega))) (by first | assumption | omega)) ?_
          simp only [tn]
          rw [va1, y1, y2, y3, y4, fth_sel, fth_sel]
          obtain ⟨st, lo, hi⟩ := ar_step (sum := sum) bu.1 be.2 be.1 bu.2 (by omega)
          rw [show (if U0 m0 = u ∧ V0 m0 = v then U1 m0 else U0 m0) = exU U0 V0 U1 m0 u v from rfl, show (if U0 m0 = u ∧ V0 m0 = v then V1 m0 else V0 m0) = exV U0 V0 V1 m0 u v from rfl, st]
          clear st
          refine Ends.b0 (fun z => absurd z ne) (fun _ => Ends.g qa (Ends.b1 (fun _ => Ends.g ⟨by omega, by omega⟩ ?_) (fun z => absurd z (by decide))))
          refine ihr (r - 1) (by omega) (insB S m0) m0 _ _ _ (by omega) (I.step G lm0 sm0 em0) ?_ (fun y hy => KK y (Or.inr ⟨cur, m0, ⟨lm0, fun z => ne (by rw [z]), em0⟩, ?_⟩)) _ _ _ _
          · rw [cc]
            generalize u * exV U0 V0 V1 m0 u v - exU U0 V0 U1 m0 u v * v = w at *
            omega
          · rw [Int.mul_comm (exU U0 V0 U1 m0 u v) v] at hy
            rw [show r = r - 1 + 1 by omega]; exact hy
        | succ t iht =>
          intro i u7 u8 u9 ei
          obtain ⟨m, hm, lm, cm'⟩ := cnt_at (S := lv) 24 i (by omega)
          obtain ⟨y1, y2, y3, y4⟩ := rd m lm
          rw [cm'] at y1 y2 y3 y4
          have Lm : LnMs B h i (U0 m) (V0 m) (U1 m) (V1 m) := ⟨y1, y2, y3, y4⟩
          obtain ⟨qa, va⟩ := v688_is (u := u) (v := v) Lm (by omega)
          have skip : ∀ u7 u8 u9 : AV, Ends (ev PP (gsF gv) B d 595 77 [(2, rf (B + 149)), (0, ((cntN lv k : Nat) : Int)), (0, u), (0, v), (0, ((cntN lv a : Nat) : Int)), (0, sum), (0, (i : Int)), u7, u8, u9] [] h) Q := fun u7 u8 u9 => by
            refine Ends.eq (b595_77 (n := n) (by (repeat' first | assumption | refine LX.setF _ _ ?_ (by decide +kernel) | refine LX.setS ?_ rfl | refine LX.setA ?_ (by first | assumption | omega))) (by first | assumption | omega)) ?_
            rw [w_succ (by omega)]
            exact iht (i + 1) _ _ _ (by omega)
          have ne : m ≠ a → ¬ endP (U0 m) (V0 m) (U1 m) (V1 m) u v := fun ma em => by
            have : m = m0 := (un m lm em).resolve_left ma
            rw [this] at cm'; omega
          refine Ends.eq (b595_59 (n := n) (by (repeat' first | assumption | refine LX.setF _ _ ?_ (by decide +kernel) | refine LX.setS ?_ rfl | refine LX.setA ?_ (by first | assumption | omega))) (by first | assumption | omega)) ?_
          refine Ends.b0 (fun _ => skip _ _ _) (fun z => Ends.g qa ?_)
          have va0 : v688 B h (i : Int) u v = 0 := by
            rcases va with ⟨-, h2⟩ | ⟨h1, -⟩
            · exact absurd h2 (ne (fun w => z (by rw [← cm', w])))
            · exact h1
          rw [va0]
          exact Ends.b1 (fun z => absurd rfl z) (fun _ => skip _ _ _)
      refine Ends.eq (b595_56 (n := n) (by (repeat' first | assumption | refine LX.setF _ _ ?_ (by decide +kernel) | refine LX.setS ?_ rfl | refine LX.setA ?_ (by first | assumption | omega))) (by first | assumption | omega)) ?_
      exact search (cntN lv m0) 0 _ _ _ (by omega)
    refine Ends.eq (b595_36 (n := n) (by (repeat' first | assumption | refine LX.setF _ _ ?_ (by decide +kernel) | refine LX.setS ?_ rfl | refine LX.setA ?_ (by first | assumption | omega))) (by first | assumption | omega)) ?_
    simp only [tn]
    rw [k1, k2]
    refine Ends.g ⟨by omega, by omega⟩ (Ends.b1 (fun z => more (fun y => z y.1)) (fun z => Ends.b0 (fun z2 => Ends.sm ?_) (fun z2 => more (fun y => z2 y.2))))
    have := KK sum (Or.inl ⟨z, z2, rfl⟩)
    rw [ct3]
    by_cases s0 : sum < 0
    · rw [if_pos s0] at this ⊢
      rw [neg32 (by omega) (by omega)]; exact this
    · rw [if_neg s0] at this ⊢
      exact this
  have b0 := b k lk
  refine Ends.eq (b595_0 (n := n) (by (repeat' first | assumption | refine LX.setF _ _ ?_ (by decide +kernel) | refine LX.setS ?_ rfl | refine LX.setA ?_ (by first | assumption | omega))) (by first | assumption | omega)) ?_
  simp only [tn]
  rw [k1, k2, k3, k4]
  refine Ends.g ⟨by omega, by omega⟩ ?_
  obtain ⟨e1, a1, b1⟩ := m64_ok b0.1.1 b0.2.2
  obtain ⟨e2, a2, b2⟩ := m64_ok b0.2.1 b0.1.2
  rw [e1, e2, sub32 (x := U0 k * V1 k) (y := U1 k * V0 k) (by omega) (by omega), Int.mul_comm (U1 k) (V0 k)]
  rw [Int.mul_comm (U1 k) (V0 k)] at a2 b2
  clear e1 e2
  have cS : cntN (insB (fun _ => false) k) 24 = 1 := by
    rw [cnt_ins k24 rfl]
    have : ∀ N, cntN (fun _ => false) N = 0 := fun N => by
      induction N with
      | zero => rfl
      | succ N ihN => rw [cntN_s, ihN]; rfl
    rw [this]
  refine main 23 _ k _ _ _ (by omega) (TrI.start G lk) ?_ (fun y hy => K _ _ ⟨rfl, y, hy, rfl⟩) _ _ _ _
  rw [cS]
  generalize U0 k * V1 k = w1 at *
  generalize V0 k * U1 k = w2 at *
  omega
end ARE
