/-! L3: the desk's rows of a path -/
section ROW331
variable {gv : Nat → Int} {B n d r : Nat} {h : AH} {Q : Nat → Nat → Nat → Bool} {Y base : Nat}
def rowW (B base tot : Nat) : Nat → Nat → Prop := fun c k => ((c = B + 136 ∨ c = B + 137 ∨ c = B + 138) ∧ base ≤ k ∧ k < base + tot) ∨ (c = B + 135 ∧ k = 8)
/-- which number a run gets in its row -/
def rwP (n : Nat) (St Ed : Nat → Bool) (back : Bool) (a : Nat) : Nat := if back = true then rnN St Ed (n + 1) - 1 - rnN St Ed a else rnN St Ed a
/-- the cells of the runs that end below x -/
def RwF (B : Nat) (h : AH) (n : Nat) (St Ed : Nat → Bool) (Y base x : Nat) : Prop := ∀ a b, RunR n St Ed a b → b < x → hv h (B + 136) (base + rnN St Ed a) = (a : Int) ∧ hv h (B + 137) (base + rnN St Ed a) = (b : Int) ∧ hv h (B + 138) (base + rnN St Ed a) = (Y : Int)
def RwC (B : Nat) (h : AH) (n : Nat) (St Ed : Nat → Bool) (Y base : Nat) (back : Bool) : Prop := ∀ a b, RunR n St Ed a b → hv h (B + 136) (base + rwP n St Ed back a) = (if back = true then (b : Int) else a) ∧ hv h (B + 137) (base + rwP n St Ed back a) = (if back = true then (a : Int) else b) ∧ hv h (B + 138) (base + rwP n St Ed back a) = (Y : Int)
/-- a swap of two places from the ends, with their two lists changed -/
def RvI (B : Nat) (q0 q : AH) (base tot c : Nat) : Prop := ∀ p, p < tot → ((p < c ∨ tot ≤ p + c) → hv q (B + 136) (base + p) = hv q0 (B + 137) (base + (tot - 1 - p)) ∧ hv q (B + 137) (base + p) = hv q0 (B + 136) (base + (tot - 1 - p))) ∧ (¬ (p < c ∨ tot ≤ p + c) → hv q (B + 136) (base + p) = hv q0 (B + 136) (base + p) ∧ hv q (B + 137) (base + p) = hv q0 (B + 137) (base + p))
theorem RvI.step {q0 q : AH} {tot c j : Nat} (v : RvI B q0 q base tot c) (hc : c ≤ j) (hj : j + c + 1 = tot) : RvI B q0 (hset (hset (hset (hset q (B + 136) (base + c) (hv q (B + 137) (base + j))) (B + 137) (base + c) (hv (hset q (B + 136) (base + c) (hv q (B + 137) (base + j))) (B + 136) (base + j))) (B + 136) (base + j) (hv q (B + 137) (base + c))) (B + 137) (base + j) (hv q (B + 136) (base + c))) base tot (c + 1) := by
  have vc := (v c (by omega)).2 (by omega)
  have vj := (v j (by omega)).2 (by omega)
  intro p hp
  have vp := v p hp
  rw [hv_na (show B + 136 ≠ B + 137 by omega)]
  by_cases pj : p = j
  · refine ⟨fun _ => ?_, fun z => absurd z (by omega)⟩
    rw [pj, hv_set_at, hv_set_at, show tot - 1 - j = c by omega]
    exact ⟨vc.2, vc.1⟩
  by_cases pc : p = c
  · refine ⟨fun _ => ?_, fun z => absurd z (by omega)⟩
    rw [pc, hv_set_ne (show ¬ (B + 136 = B + 136 ∧ base + c = base + j) by omega), hv_na (show B + 136 ≠ B + 137 by omega), hv_set_at, hv_set_ne (show ¬ (B + 137 = B + 137 ∧ base + c = base + j) by omega), hv_na (show B + 137 ≠ B + 136 by omega), hv_set_at, hv_set_ne (show ¬ (B + 136 = B + 136 ∧ base + j = base + c) by omega), show tot - 1 - c = j by omega]
    exact ⟨vj.2, vj.1⟩
  · rw [hv_set_ne (show ¬ (B + 136 = B + 136 ∧ base + p = base + j) by omega), hv_na (show B + 136 ≠ B + 137 by omega), hv_set_ne (show ¬ (B + 136 = B + 136 ∧ base + p = base + c) by omega), hv_set_ne (show ¬ (B + 137 = B + 137 ∧ base + p = base + j) by omega), hv_na (show B + 137 ≠ B + 136 by omega), hv_set_ne (show ¬ (B + 137 = B + 137 ∧ base + p = base + c) by omega), hv_na (show B + 137 ≠ B + 136 by omega)]
    exact ⟨fun z => vp.1 (by omega), fun z => vp.2 (by omega)⟩
theorem c_row331 {back : Bool} (l : LX B n h) (hd : 12 ≤ d) (hn : n ≤ 52) (e9 : hv h (B + 135) 9 = (r : Int)) (hr : r ≤ 8) (m0 : MkA B h r 139 0) (m1 : MkA B h r 140 1) (qs : Qua n h (B + 141) Q) (e8 : hv h (B + 135) 8 = (base : Int)) (hY : Y ≤ n) (room : base + rnN (frS n r Q Y) (frE n r Q Y) (n + 1) ≤ 2200) :
    Vd (cll PP (ev PP (gsF gv) B) d 331 [(2, rf (B + 135)), (0, (Y : Int)), (0, (if back = true then 1 else 0))] h) (fun h' => Agr (rowW B base (rnN (frS n r Q Y) (frE n r Q Y) (n + 1))) h h' ∧ hv h' (B + 135) 8 = ((base + rnN (frS n r Q Y) (frE n r Q Y) (n + 1) : Nat) : Int) ∧ RwC B h' n (frS n r Q Y) (frE n r Q Y) Y base back) := by
  refine Vd.inq (D := 11) hd (Nat.le_of_ble_eq_true rfl) rfl (fun d hd P K => ?_)
  have fe : ∀ X, frE n r Q Y X = true → frS n r Q Y X = true ∧ frS n r Q Y (X + 1) = true := fun X => free_ends
  have s1 : ∀ X, ¬ blk n r Q X Y 0 → frS n r Q Y X = true := fun X => frS_t.mpr
  have s0 : ∀ X, blk n r Q X Y 0 → frS n r Q Y X = false := fun X => frS_f.mpr
  have t1 : ∀ X, ¬ blk n r Q X Y 1 → frE n r Q Y X = true := fun X => frE_t.mpr
  have t0 : ∀ X, blk n r Q X Y 1 → frE n r Q Y X = false := fun X => frE_f.mpr
  generalize frS n r Q Y = St at *
  generalize frE n r Q Y = Ed at *
  obtain ⟨tot, etot⟩ : ∃ tot, tot = rnN St Ed (n + 1) := ⟨_, rfl⟩
  rw [← etot] at room K
  have mono : ∀ x, x ≤ n + 1 → rnN St Ed x ≤ tot := fun x hx => by rw [etot]; exact cntN_mono _ hx
  -- the way back
  have rev : ∀ (q0 : AH), LX B n q0 → Agr (rowW B base tot) h q0 → hv q0 (B + 135) 8 = ((base + tot : Nat) : Int) → RwF B q0 n St Ed Y base (n + 1) → ∀ (m c : Nat) (q : AH) (x4 : Int) (u7 u8 : AV), c + m = tot → LX B n q → Agr (fun cc k => (cc = B + 136 ∨ cc = B + 137) ∧ base ≤ k ∧ k < base + tot) q0 q → RvI B q0 q base tot c → back = true → Ends (ev PP (gsF gv) B d 331 137 [(2, rf (B + 135)), (0, (Y : Int)), (0, if back = true then 1 else 0), (0, (base : Int)), (0, x4), (0, ((base + c : Nat) : Int)), (0, (base : Int) + tot - 1 - c), u7, u8] [] q) P := by
    intro q0 l0 g0 c0 f0 m
    induction m with
    | zero =>
      intro c q x4 u7 u8 hc lq gq v hb
      refine Ends.eq (b331_137 (n := n) (by (repeat' first | assumption | refine LX.setF _ _ ?_ (by decide +kernel) | refine LX.setS ?_ rfl | refine LX.setA ?_ (by first | assumption | omega))) (by first | assumption | omega)) ?_
      refine Ends.b4 (fun _ => Ends.sm (K _ ⟨g0.tr gq (fun c k z => Or.inl ⟨by omega, z.2⟩), by rw [gq.at _ _ (by omega)]; exact c0, fun a b ru => ?_⟩)) (fun z => by omega)
      have lt := ru.lt
      rw [← etot] at lt
      obtain ⟨a1, a2, a3⟩ := f0 a b ru (by have := ru.2.1; omega)
      unfold rwP
      rw [if_pos hb, if_pos hb, if_pos hb, ← etot]
      obtain ⟨w1, w2⟩ := (v (tot - 1 - rnN St Ed a) (by omega)).1 (by omega)
      rw [w1, w2, show tot - 1 - (tot - 1 - rnN St Ed a) = rnN St Ed a by omega]
      refine ⟨a2, a1, ?_⟩
      obtain ⟨a', b', ru', e'⟩ := run_ex (n := n) (St := St) (Ed := Ed) (p := tot - 1 - rnN St Ed a) (by omega)
      have := (f0 a' b' ru' (by have := ru'.2.1; omega)).2.2
      rw [e'] at this
      rw [gq.at _ _ (by omega)]
      exact this
    | succ m ih =>
      intro c q x4 u7 u8 hc lq gq v hb
      refine Ends.eq (b331_137 (n := n) (by (repeat' first | assumption | refine LX.setF _ _ ?_ (by decide +kernel) | refine LX.setS ?_ rfl | refine LX.setA ?_ (by first | assumption | omega))) (by first | assumption | omega)) ?_
      by_cases z : tot ≤ c + c
      · refine Ends.b4 (fun _ => Ends.sm (K _ ⟨g0.tr gq (fun c k z => Or.inl ⟨by omega, z.2⟩), by rw [gq.at _ _ (by omega)]; exact c0, fun a b ru => ?_⟩)) (fun z => by omega)
        have lt := ru.lt
        rw [← etot] at lt
        obtain ⟨a1, a2, a3⟩ := f0 a b ru (by have := ru.2.1; omega)
        unfold rwP
        rw [if_pos hb, if_pos hb, if_pos hb, ← etot]
        obtain ⟨w1, w2⟩ := (v (tot - 1 - rnN St Ed a) (by omega)).1 (by omega)
        rw [w1, w2, show tot - 1 - (tot - 1 - rnN St Ed a) = rnN St Ed a by omega]
        refine ⟨a2, a1, ?_⟩
        obtain ⟨a', b', ru', e'⟩ := run_ex (n := n) (St := St) (Ed := Ed) (p := tot - 1 - rnN St Ed a) (by omega)
        have := (f0 a' b' ru' (by have := ru'.2.1; omega)).2.2
        rw [e'] at this
        rw [gq.at _ _ (by omega)]
        exact this
      · obtain ⟨j, hj⟩ : ∃ j, j + c + 1 = tot := ⟨tot - 1 - c, by omega⟩
        rw [show (base : Int) + tot - 1 - c = ((base + j : Nat) : Int) by omega, tn, tn]
        simp only [an0]
        refine Ends.b4 (fun z => by omega) (fun _ => Ends.g ⟨by omega, by omega⟩ (Ends.g ⟨by omega, by omega⟩ ?_))
        rw [w_succ (by omega), show w32 (((base + j : Nat) : Int) + (-1)) = (base : Int) + tot - 1 - ((c + 1 : Nat) : Int) from by rw [inc32 (by omega) (by omega)]; omega]
        refine ih (c + 1) _ x4 _ _ (by omega) (LX.setS (LX.setS (LX.setS (LX.setS lq rfl) rfl) rfl) rfl) ((((gq.set ⟨Or.inl rfl, by omega, by omega⟩).set ⟨Or.inr rfl, by omega, by omega⟩).set ⟨Or.inl rfl, by omega, by omega⟩).set ⟨Or.inr rfl, by omega, by omega⟩) (v.step (by omega) hj) hb
  have key : ∀ (c x : Nat) (q : AH) (u5 u6 u7 u8 : AV), x + c = n + 1 → LX B n q → Agr (rowW B base tot) h q → hv q (B + 135) 8 = ((base + rnN St Ed x : Nat) : Int) → (x = 0 ∨ Ed (x - 1) = false ∨ x = n + 1) → RwF B q n St Ed Y base x → Ends (ev PP (gsF gv) B d 331 8 [(2, rf (B + 135)), (0, (Y : Int)), (0, if back = true then 1 else 0), (0, (base : Int)), (0, (x : Int)), u5, u6, u7, u8] [] q) P := by
    intro c
    induction c using Nat.strongRecOn with
    | _ c ihc =>
      intro x q u5 u6 u7 u8 hx lq gq cq bx fq
      refine Ends.eq (b331_8 (n := n) (by (repeat' first | assumption | refine LX.setF _ _ ?_ (by decide +kernel) | refine LX.setS ?_ rfl | refine LX.setA ?_ (by first | assumption | omega))) (by first | assumption | omega)) ?_
      by_cases z : c = 0
      · obtain rfl : x = n + 1 := by omega
        rw [← etot] at cq
        refine Ends.b4 (fun _ => ?_) (fun z => by omega)
        rw [cq]
        cases hb : back
        · refine Ends.b1 (fun z => absurd rfl z) (fun _ => Ends.sm (K _ ⟨gq, cq, fun a b ru => ?_⟩))
          unfold rwP
          rw [hb, if_neg Bool.false_ne_true, if_neg Bool.false_ne_true, if_neg Bool.false_ne_true]
          exact fq a b ru (by have := ru.2.1; omega)
        · refine Ends.b1 (fun _ => ?_) (fun z => absurd z (by decide))
          have := rev q lq gq cq fq tot 0 q ((n + 1 : Nat) : Int) u7 u8 (by omega) lq Agr.rf (fun p hp => ⟨fun z => absurd z (by omega), fun _ => ⟨rfl, rfl⟩⟩) hb
          rw [hb] at this
          rw [show bop32 100 ((base + tot : Nat) : Int) 1 = (base : Int) + tot - 1 - ((0 : Nat) : Int) from by rw [sub32 (by omega) (by omega)]; omega]
          exact this
      · have hxn : x ≤ n := by omega
        have bx' : x = 0 ∨ Ed (x - 1) = false := by rcases bx with w | w | w; exact Or.inl w; exact Or.inr w; omega
        have mq : ∀ a, a = 139 ∨ a = 140 → ∀ far, MkA B h r a far → MkA B q r a far := fun a ha far mk q' w h1 h2 => by rw [gq.at _ _ (by unfold rowW; omega)]; exact mk q' w h1 h2
        have q9 : hv q (B + 135) 9 = (r : Int) := by rw [gq.at _ _ (by unfold rowW; omega)]; exact e9
        have qq : Qua n q (B + 141) Q := ⟨by rw [gq.hk]; exact qs.1, fun q' v h1 h2 => by rw [gq.at _ _ (by unfold rowW; omega)]; exact qs.2 q' v h1 h2⟩
        refine Ends.b4 (fun z => by omega) (fun _ => ?_)
        refine Ends.ct lq (by decide +kernel) (by decide) (c_isFree327 (a := 139) (far := 0) lq (by omega) hn q9 hr (Or.inl rfl) (by omega) (mq 139 (Or.inl rfl) 0 m0) qq hxn hY) (fun v h1 l1 _ _ _ ⟨e1, vv⟩ => ?_)
        subst e1
        refine Ends.eq (b331_28 (n := n) (by (repeat' first | assumption | refine LX.setF _ _ ?_ (by decide +kernel) | refine LX.setS ?_ rfl | refine LX.setA ?_ (by first | assumption | omega))) (by first | assumption | omega)) ?_
        rcases vv with ⟨rfl, fr⟩ | ⟨rfl, bl⟩
        rotate_left
        · have sx := s0 x bl
          have ex : Ed x = false := by
            cases e : Ed x
            · rfl
            · rw [(fe x e).1] at sx; exact absurd sx (by decide)
          have nx : rnN St Ed (x + 1) = rnN St Ed x := by
            rw [rnN_s, if_neg (by unfold isRS; rw [sx]; simp)]; rfl
          refine Ends.b1 (fun z => absurd rfl z) (fun _ => ?_)
          rw [w_succ (by omega)]
          refine ihc (c - 1) (by omega) (x + 1) h1 _ _ _ _ (by omega) l1 gq (by rw [nx]; exact cq) (Or.inr (Or.inl (by rw [Nat.add_sub_cancel]; exact ex))) (fun a b ru hb => ?_)
          by_cases e : b = x
          · exfalso
            rw [e] at ru
            obtain ⟨r1, r2, r3, r4, r5⟩ := ru
            by_cases ea : a = x
            · rw [ea] at r3
              unfold isRS at r3
              rw [sx] at r3
              simp at r3
            · have := (fe (x - 1) (r4 (x - 1) (by omega) (by omega))).2
              rw [show x - 1 + 1 = x by omega, sx] at this
              exact absurd this (by decide)
          · exact fq a b ru (by omega)
        have sx := s1 x fr
        have ix : isRS St Ed x = true := by
          unfold isRS
          rw [sx]
          rcases bx' with w | w
          · rw [w]; rfl
          · rw [w]; simp
        -- a run that begins here is stored
        have put : ∀ (e : Nat) (u6 u7 u8 : AV), x ≤ e → e ≤ n → (∀ z, x ≤ z → z < e → Ed z = true) → (e = n ∨ Ed e = false) → Ends (ev PP (gsF gv) B d 331 70 [(2, rf (B + 135)), (0, (Y : Int)), (0, if back = true then 1 else 0), (0, (base : Int)), (0, (x : Int)), (0, (e : Int)), u6, u7, u8] [] h1) P := fun e u6 u7 u8 h1' h2' h3' h4' => by
          have ru : RunR n St Ed x e := ⟨h1', h2', ix, h3', h4'⟩
          have cn := ru.cnt
          have lt := ru.lt
          rw [← etot] at lt
          refine Ends.eq (b331_70 (n := n) (by (repeat' first | assumption | refine LX.setF _ _ ?_ (by decide +kernel) | refine LX.setS ?_ rfl | refine LX.setA ?_ (by first | assumption | omega))) (by first | assumption | omega)) ?_
          rw [cq, tn, show bop32 96 ((base + rnN St Ed x : Nat) : Int) 1 = ((base + rnN St Ed x + 1 : Nat) : Int) from addNN (y := 1) (by omega), show bop32 96 (e : Int) 1 = ((e + 1 : Nat) : Int) from addNN (y := 1) (by omega)]
          simp only [an0]
          refine Ends.g ⟨by omega, by omega⟩ ?_
          refine ihc (n - e) (by omega) (e + 1) _ _ _ _ _ (by omega) (LX.setF 135 8 (LX.setS (LX.setS (LX.setS l1 rfl) rfl) rfl) (by decide +kernel)) ((((gq.set (by unfold rowW; omega)).set (by unfold rowW; omega)).set (by unfold rowW; omega)).set (by unfold rowW; omega)) (by rw [cn]; exact hv_set_at ..) ?_ (fun a b ru' hb => ?_)
          · rw [Nat.add_sub_cancel]
            rcases h4' with w | w
            · exact Or.inr (Or.inr (by omega))
            · exact Or.inr (Or.inl w)
          · rw [hv_na (show B + 136 ≠ B + 135 by omega), hv_na (show B + 136 ≠ B + 138 by omega), hv_na (show B + 136 ≠ B + 137 by omega), hv_na (show B + 137 ≠ B + 135 by omega), hv_na (show B + 137 ≠ B + 138 by omega), hv_na (show B + 138 ≠ B + 135 by omega)]
            by_cases bx2 : b < x
            · have lt2 : rnN St Ed a < rnN St Ed x := by
                have c1 := ru'.cnt
                have := cntN_mono (S := isRS St Ed) (i := b + 1) x bx2
                unfold rnN at *
                omega
              rw [hv_set_ne (by omega), hv_set_ne (by omega), hv_na (by omega), hv_set_ne (by omega), hv_na (by omega), hv_na (by omega)]
              exact fq a b ru' bx2
            · have ea : a = x := by
                obtain ⟨r1, r2, r3, r4, r5⟩ := ru'
                rcases Nat.lt_trichotomy a x with w | w | w
                · exfalso
                  have := r4 (x - 1) (by omega) (by omega)
                  rcases bx' with y | y
                  · omega
                  · rw [this] at y; exact absurd y (by decide)
                · exact w
                · exfalso
                  unfold isRS at r3
                  rw [h3' (a - 1) (by omega) (by omega), decide_eq_true (by omega)] at r3
                  simp at r3
              rw [ea] at ru' ⊢
              rw [ru'.end_ ru, hv_set_at, hv_set_at, hv_set_at]
              exact ⟨rfl, rfl, rfl⟩
        have ends : ∀ (c2 e : Nat) (u6 u7 u8 : AV), e + c2 = n → x ≤ e → (∀ z, x ≤ z → z < e → Ed z = true) → Ends (ev PP (gsF gv) B d 331 41 [(2, rf (B + 135)), (0, (Y : Int)), (0, if back = true then 1 else 0), (0, (base : Int)), (0, (x : Int)), (0, (e : Int)), u6, u7, u8] [] h1) P := by
          intro c2
          induction c2 with
          | zero =>
            intro e u6 u7 u8 he hxe hz
            refine Ends.eq (b331_41 (n := n) (by (repeat' first | assumption | refine LX.setF _ _ ?_ (by decide +kernel) | refine LX.setS ?_ rfl | refine LX.setA ?_ (by first | assumption | omega))) (by first | assumption | omega)) ?_
            exact Ends.b3 (fun _ => put e _ _ _ hxe (by omega) hz (Or.inl (by omega))) (fun z => by omega)
          | succ c2 ih2 =>
            intro e u6 u7 u8 he hxe hz
            refine Ends.eq (b331_41 (n := n) (by (repeat' first | assumption | refine LX.setF _ _ ?_ (by decide +kernel) | refine LX.setS ?_ rfl | refine LX.setA ?_ (by first | assumption | omega))) (by first | assumption | omega)) ?_
            refine Ends.b3 (fun z => by omega) (fun _ => ?_)
            refine Ends.ct l1 (by decide +kernel) (by decide) (c_isFree327 (a := 140) (far := 1) l1 (by omega) hn q9 hr (Or.inr rfl) (by omega) (mq 140 (Or.inr rfl) 1 m1) qq (X := e) (by omega) hY) (fun v h2 l2 _ _ _ ⟨e2, vv⟩ => ?_)
            subst e2
            refine Ends.eq (b331_61 (n := n) (by (repeat' first | assumption | refine LX.setF _ _ ?_ (by decide +kernel) | refine LX.setS ?_ rfl | refine LX.setA ?_ (by first | assumption | omega))) (by first | assumption | omega)) ?_
            rcases vv with ⟨rfl, fr2⟩ | ⟨rfl, bl2⟩
            · refine Ends.b0 (fun z => absurd z (by decide)) (fun _ => ?_)
              rw [w_succ (by omega)]
              refine ih2 (e + 1) _ _ _ (by omega) (by omega) (fun z h1 h2 => ?_)
              by_cases w : z = e
              · rw [w]; exact t1 e fr2
              · exact hz z h1 (by omega)
            · exact Ends.b0 (fun _ => put e _ _ _ hxe (by omega) hz (Or.inr (t0 e bl2))) (fun z => absurd rfl z)
        refine Ends.b1 (fun _ => ?_) (fun z => absurd z (by decide))
        exact ends (n - x) x _ _ _ (by omega) (Nat.le_refl _) (fun z h1 h2 => absurd h2 (by omega))
  refine Ends.eq (b331_0 (n := n) (by (repeat' first | assumption | refine LX.setF _ _ ?_ (by decide +kernel) | refine LX.setS ?_ rfl | refine LX.setA ?_ (by first | assumption | omega))) (by first | assumption | omega)) ?_
  rw [e8]
  exact key (n + 1) 0 h _ _ _ _ (by omega) l Agr.rf e8 (Or.inl rfl) (fun a b _ hb => absurd hb (by omega))
end ROW331
