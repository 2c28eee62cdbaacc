/-! L3: the model's path, row by row -/
theorem TbM.ext {B c s : Nat} {h t : AH} {W : Nat → Nat → Prop} (m : TbM B h) (hb : B + 246 ≤ hnx h) (X : Ext W c s h t) (hW : ∀ c k, B + 178 ≤ c → c ≤ B + 187 → c ≠ B + 186 → ¬ W c k) : TbM B t := by
  have a : ∀ i k, 178 ≤ i → i ≤ 187 → i ≠ 186 → hv t (B + i) k = hv h (B + i) k := fun i k h1 h2 h3 => X.at k (by omega) (hW _ _ (by omega) (by omega) (by omega))
  obtain ⟨m1, m2, m3⟩ := m
  refine ⟨fun u hu => ?_, fun x y z hx hy hz => ?_, fun k hk => ?_⟩
  · obtain ⟨a1, a2, a3, a4, a5, a6, a7⟩ := m1 u hu
    refine ⟨?_, ?_, ?_, ?_, ?_, ?_, fun f hf => ?_⟩
    · rw [a _ _ (by omega) (by omega) (by omega)]; exact a1
    · rw [a _ _ (by omega) (by omega) (by omega)]; exact a2
    · rw [a _ _ (by omega) (by omega) (by omega)]; exact a3
    · rw [a _ _ (by omega) (by omega) (by omega)]; exact a4
    · rw [a _ _ (by omega) (by omega) (by omega)]; exact a5
    · rw [a _ _ (by omega) (by omega) (by omega)]; exact a6
    · rw [a _ _ (by omega) (by omega) (by omega)]; exact a7 f hf
  · rw [a _ _ (by omega) (by omega) (by omega)]; exact m2 x y z hx hy hz
  · rw [a _ _ (by omega) (by omega) (by omega)]; exact m3 k hk
section MROW
variable {gv : Nat → Int} {B n d r z Y : Nat} {h : AH} {Q : Nat → Nat → Nat → Bool} {pa cap many : Nat} {S : Nat → Bool}
/-- the twelve numbers of the runs of a row -/
def RwM (q : AH) (pa n : Nat) (St Ed : Nat → Bool) (Y z base : Nat) (back : Bool) : Prop := ∀ a b, RunR n St Ed a b → rn12 q pa (base + rwP n St Ed back a) (if back = true then (b : Int) else a) (if back = true then (a : Int) else b) (Y : Int) (z : Int) (n : Int)
/-- the heap while a path is made: m runs -/
def PtI (B n : Nat) (Q : Nat → Nat → Nat → Bool) (r z : Nat) (h0 q : AH) (pa cap m pa' cap' : Nat) : Prop := PsI B h0 q pa cap m pa' cap' ∧ TbM B q ∧ ShQ B n q Q ∧ hv q (B + 149) 161 = (r : Int) ∧ hv q (B + 149) 162 = (z : Int)
theorem PtI.agr {h0 q t : AH} {m pa' cap' : Nat} (p : PtI B n Q r z h0 q pa cap m pa' cap') (g : Agr (fun c _ => c = B + 241) q t) (s : ShQ B n t Q) : PtI B n Q r z h0 t pa cap m pa' cap' := by
  obtain ⟨⟨⟨a1, a2, a3, a4, a5, a6, a7, a8⟩, p1, p2, p3⟩, tb, _, e1, e2⟩ := p
  have nx := g.nx
  refine ⟨⟨⟨by rw [g.at _ _ (by omega)]; exact a1, by rw [g.hk]; exact a2, a3, by rw [nx]; exact a4, by rw [g.at _ _ (by omega)]; exact a5, a6, a7, a8⟩, p1, p2, ?_⟩, tb.agr g (fun c k h1 h2 h3 w => by omega), s, by rw [g.at _ _ (by omega)]; exact e1, by rw [g.at _ _ (by omega)]; exact e2⟩
  exact (p3.tr (c' := 0) (s' := 0) g.ext (fun c k hc w => Or.inr w)).sub (fun c k _ w => w) (by omega) (by omega)
theorem PtI.pos {h0 q t : AH} {m pa' cap' pa'' cap'' : Nat} (p : PtI B n Q r z h0 q pa cap m pa' cap') (lq : LX B n q) (p' : PsI B h0 t pa cap (m + 1) pa'' cap'') (X : Ext (psW B pa') (cap'' - cap') (2 * cap'' - 2 * cap') q t) : PtI B n Q r z h0 t pa cap (m + 1) pa'' cap'' := by
  obtain ⟨⟨⟨a1, a2, a3, a4, a5, a6, a7, a8⟩, p1, p2, p3⟩, tb, s, e1, e2⟩ := p
  have hb1 := lq.2.2
  refine ⟨p', tb.ext hb1 X (fun c k h1 h2 h3 w => by unfold psW at w; omega), s.ext hb1 X (fun k w => by unfold psW at w; omega), ?_, ?_⟩
  · rw [X.at _ (by omega) (by unfold psW; omega)]; exact e1
  · rw [X.at _ (by omega) (by unfold psW; omega)]; exact e2
theorem c_blk0 {X Y : Nat} (l : LX B n h) (hd : 10 ≤ d) (hn : n ≤ 52) (hr : r ≤ 8) (m : TbM B h) (sh : ShQ B n h Q) (hX : X ≤ n) (hY : Y ≤ n) :
    Vt 0 (cll PP (ev PP (gsF gv) B) d 659 [(2, rf (B + 149)), (0, (X : Int)), (0, (X : Int)), (0, (Y : Int)), (0, (r : Int)), (2, 0)] h) (fun v h' => Agr (fun c _ => c = B + 241) h h' ∧ ShQ B n h' Q ∧ ((v = 1 ∧ blk n r Q X Y 0) ∨ (v = 0 ∧ ¬ blk n r Q X Y 0))) :=
  c_blk659 (far := 0) l hd hn hr m sh hX hY
theorem pa_241 {q : AH} {m : Nat} (p : PosM B q pa cap m) : pa ≠ B + 241 := by
  obtain ⟨_, _, p3, _⟩ := p
  omega
theorem c_fr1 {X Y : Nat} (l : LX B n h) (hd : 12 ≤ d) (hn : n ≤ 52) (hr : r ≤ 8) (e161 : hv h (B + 149) 161 = (r : Int)) (m : TbM B h) (sh : ShQ B n h Q) (hX : X + 1 ≤ n) (hY : Y ≤ n) :
    Vt 0 (cll PP (ev PP (gsF gv) B) d 691 [(2, rf (B + 149)), (0, (X : Int)), (0, ((X + 1 : Nat) : Int)), (0, (Y : Int))] h) (fun v h' => Agr (fun c _ => c = B + 241) h h' ∧ ShQ B n h' Q ∧ ((v = 0 ∧ blk n r Q X Y 1) ∨ (v = 1 ∧ ¬ blk n r Q X Y 1))) :=
  c_isFree691 (up := true) l hd hn hr e161 m sh hX hY
theorem c_fr0 {X Y : Nat} (l : LX B n h) (hd : 12 ≤ d) (hn : n ≤ 52) (hr : r ≤ 8) (e161 : hv h (B + 149) 161 = (r : Int)) (m : TbM B h) (sh : ShQ B n h Q) (hX : X + 1 ≤ n) (hY : Y ≤ n) :
    Vt 0 (cll PP (ev PP (gsF gv) B) d 691 [(2, rf (B + 149)), (0, ((X + 1 : Nat) : Int)), (0, (X : Int)), (0, (Y : Int))] h) (fun v h' => Agr (fun c _ => c = B + 241) h h' ∧ ShQ B n h' Q ∧ ((v = 0 ∧ blk n r Q X Y 1) ∨ (v = 1 ∧ ¬ blk n r Q X Y 1))) :=
  c_isFree691 (up := false) l hd hn hr e161 m sh hX hY
/-- runs that were found stay where they are -/
theorem rn_keep {q q' : AH} {pa' pa'' m i : Nat} {f t y zz nn : Int} (s : rn12 q pa' i f t y zz nn) (hi : i < m) (e : ∀ k, k < 12 * m → hv q' pa'' k = hv q pa' k) : rn12 q' pa'' i f t y zz nn := s.keep (m := 12 * m) (by omega) e
/-- from left to right -/
theorem row_up {x1 x4 x5 x6 x7 : Int} {h0 h1 : AH} {m0 pa1 cap1 : Nat} {P : Rs → Prop} {u : AV} (hd : 14 ≤ d) (hn : n ≤ 52) (hr : r ≤ 8) (hY : Y ≤ n) {tot : Nat} (etot : tot = rnN (frS n r Q Y) (frE n r Q Y) (n + 1)) (room : m0 + tot ≤ 2120) (l1 : LX B n h1) (p1 : PtI B n Q r z h0 h1 pa cap m0 pa1 cap1)
    (K : ∀ q pa' cap' x10 u, LX B n q → PtI B n Q r z h0 q pa cap (m0 + tot) pa' cap' → (∀ k, k < 12 * m0 → hv q pa' k = hv h1 pa1 k) → RwM q pa' n (frS n r Q Y) (frE n r Q Y) Y z m0 false → Ends (ev PP (gsF gv) B d 775 309 [(2, rf (B + 149)), (0, x1), (0, (r : Int)), (0, (z : Int)), (0, x4), (0, x5), (0, x6), (0, x7), (0, (Y : Int)), (0, (1 : Int)), (0, x10), u] [] q) P) :
    Ends (ev PP (gsF gv) B d 775 168 [(2, rf (B + 149)), (0, x1), (0, (r : Int)), (0, (z : Int)), (0, x4), (0, x5), (0, x6), (0, x7), (0, (Y : Int)), (0, (1 : Int)), (0, ((0 : Nat) : Int)), u] [] h1) P := by
  have fe : ∀ X, frE n r Q Y X = true → frS n r Q Y X = true ∧ frS n r Q Y (X + 1) = true := fun X => free_ends
  have s1 : ∀ X, ¬ blk n r Q X Y 0 → frS n r Q Y X = true := fun X => frS_t.mpr
  have s0 : ∀ X, blk n r Q X Y 0 → frS n r Q Y X = false := fun X => frS_f.mpr
  have t1 : ∀ X, ¬ blk n r Q X Y 1 → frE n r Q Y X = true := fun X => frE_t.mpr
  have t0 : ∀ X, blk n r Q X Y 1 → frE n r Q Y X = false := fun X => frE_f.mpr
  generalize frS n r Q Y = St at *
  generalize frE n r Q Y = Ed at *
  have mono : ∀ x, x ≤ n + 1 → rnN St Ed x ≤ tot := fun x hx => by rw [etot]; exact cntN_mono _ hx
  have key : ∀ (c x : Nat) (q : AH) (pa' cap' : Nat) (u : AV), x + c = n + 1 → LX B n q → PtI B n Q r z h0 q pa cap (m0 + rnN St Ed x) pa' cap' → (∀ k, k < 12 * m0 → hv q pa' k = hv h1 pa1 k) → (x = 0 ∨ Ed (x - 1) = false ∨ x = n + 1) → (∀ a b, RunR n St Ed a b → b < x → rn12 q pa' (m0 + rnN St Ed a) (a : Int) (b : Int) (Y : Int) (z : Int) (n : Int)) → Ends (ev PP (gsF gv) B d 775 168 [(2, rf (B + 149)), (0, x1), (0, (r : Int)), (0, (z : Int)), (0, x4), (0, x5), (0, x6), (0, x7), (0, (Y : Int)), (0, (1 : Int)), (0, (x : Int)), u] [] q) P := by
    intro c
    induction c using Nat.strongRecOn with
    | _ c ihc =>
      intro x q pa' cap' u hx lq pq ok bx fq
      refine Ends.eq (b775_168 (n := n) (by (repeat' first | assumption | refine LX.setF _ _ ?_ (by decide +kernel) | refine LX.setS ?_ rfl | refine LX.setA ?_ (by first | assumption | omega))) (by first | assumption | omega)) ?_
      refine Ends.b2 (fun z => by omega) (fun _ => ?_)
      by_cases zc : c = 0
      · obtain rfl : x = n + 1 := by omega
        rw [← etot] at pq
        refine Ends.b4 (fun _ => K q pa' cap' _ _ lq pq ok (fun a b ru => ?_)) (fun z => by omega)
        unfold rwP
        rw [if_neg Bool.false_ne_true, if_neg Bool.false_ne_true, if_neg Bool.false_ne_true]
        exact fq a b ru (by have := ru.2.1; omega)
      have hxn : x ≤ n := by omega
      have bx' : x = 0 ∨ Ed (x - 1) = false := by rcases bx with w | w | w; exact Or.inl w; exact Or.inr w; omega
      refine Ends.b4 (fun z => by omega) (fun _ => ?_)
      refine Ends.ct lq (by decide +kernel) (by decide) (c_blk0 (Q := Q) lq (by omega) hn hr pq.2.1 pq.2.2.1 hxn hY) (fun v q2 l2 _ _ _ ⟨g2, sh2, vv⟩ => ?_)
      have p2 := pq.agr g2 sh2
      have c241 := pa_241 pq.1.1
      have k2 : ∀ k, hv q2 pa' k = hv q pa' k := fun k => g2.at _ _ c241
      have f2 : ∀ a b, RunR n St Ed a b → b < x → rn12 q2 pa' (m0 + rnN St Ed a) (a : Int) (b : Int) (Y : Int) (z : Int) (n : Int) := fun a b ru hb => (fq a b ru hb).keep (Nat.le_refl _) (fun k _ => k2 k)
      have ok2 : ∀ k, k < 12 * m0 → hv q2 pa' k = hv h1 pa1 k := fun k hk => by rw [k2]; exact ok k hk
      refine Ends.eq (b775_194 (n := n) (by (repeat' first | assumption | refine LX.setF _ _ ?_ (by decide +kernel) | refine LX.setS ?_ rfl | refine LX.setA ?_ (by first | assumption | omega))) (by first | assumption | omega)) ?_
      rcases vv with ⟨rfl, bl⟩ | ⟨rfl, fr⟩
      · have sx := s0 x bl
        have ex : Ed x = false := by
          cases e : Ed x
          · rfl
          · rw [(fe x e).1] at sx; exact absurd sx (by decide)
        have nx : rnN St Ed (x + 1) = rnN St Ed x := by
          rw [rnN_s, if_neg (by unfold isRS; rw [sx]; simp)]; rfl
        refine Ends.b0 (fun z => absurd z (by decide)) (fun _ => ?_)
        rw [show bop32 96 (x : Int) 1 = ((x + 1 : Nat) : Int) from addNN (y := 1) (by omega)]
        refine ihc (c - 1) (by omega) (x + 1) q2 pa' cap' _ (by omega) l2 (by rw [nx]; exact p2) ok2 (Or.inr (Or.inl (by rw [Nat.add_sub_cancel]; exact ex))) (fun a b ru hb => ?_)
        by_cases e : b = x
        · exfalso
          rw [e] at ru
          obtain ⟨r1, r2, r3, r4, r5⟩ := ru
          by_cases ea : a = x
          · rw [ea] at r3
            unfold isRS at r3
            rw [sx] at r3
            simp at r3
          · have := (fe (x - 1) (r4 (x - 1) (by omega) (by omega))).2
            rw [show x - 1 + 1 = x by omega, sx] at this
            exact absurd this (by decide)
        · exact f2 a b ru (by omega)
      have sx := s1 x fr
      have ix : isRS St Ed x = true := by
        unfold isRS
        rw [sx]
        rcases bx' with w | w
        · rw [w]; rfl
        · rw [w]; simp
      -- a run that begins here is stored
      have put : ∀ (e : Nat) (q3 : AH), LX B n q3 → PtI B n Q r z h0 q3 pa cap (m0 + rnN St Ed x) pa' cap' → (∀ k, hv q3 pa' k = hv q2 pa' k) → x ≤ e → e ≤ n → (∀ z, x ≤ z → z < e → Ed z = true) → (e = n ∨ Ed e = false) → Ends (ev PP (gsF gv) B d 775 257 [(2, rf (B + 149)), (0, x1), (0, (r : Int)), (0, (z : Int)), (0, x4), (0, x5), (0, x6), (0, x7), (0, (Y : Int)), (0, (1 : Int)), (0, (x : Int)), (0, (e : Int))] [] q3) P := fun e q3 l3 p3 k3 h1' h2' h3' h4' => by
        have ru : RunR n St Ed x e := ⟨h1', h2', ix, h3', h4'⟩
        have cn := ru.cnt
        have lt := ru.lt
        rw [← etot] at lt
        refine run_put l3 (by omega) p3.1 (by omega) (fun q4 pa4 cap4 l4 P4 k4 r4 _ X4 => ?_)
        rw [show bop32 96 (e : Int) 1 = ((e + 1 : Nat) : Int) from addNN (y := 1) (by omega)]
        refine ihc (n - e) (by omega) (e + 1) q4 pa4 cap4 _ (by omega) l4 (by rw [cn]; exact p3.pos l3 P4 X4) (fun k hk => by rw [k4 k (by omega), k3]; exact ok2 k hk) ?_ (fun a b ru' hb => ?_)
        · rw [Nat.add_sub_cancel]
          rcases h4' with w | w
          · exact Or.inr (Or.inr (by omega))
          · exact Or.inr (Or.inl w)
        · by_cases bx2 : b < x
          · have lt2 : rnN St Ed a < rnN St Ed x := by
              have c1 := ru'.cnt
              have := cntN_mono (S := isRS St Ed) (i := b + 1) x bx2
              unfold rnN at *
              omega
            exact ((f2 a b ru' bx2).keep (Nat.le_refl _) (fun k _ => k3 k)).keep (m := 12 * (m0 + rnN St Ed x)) (by omega) k4
          · have ea : a = x := by
              obtain ⟨r1, r2, r3, r4, r5⟩ := ru'
              rcases Nat.lt_trichotomy a x with w | w | w
              · exfalso
                have := r4 (x - 1) (by omega) (by omega)
                rcases bx' with y | y
                · omega
                · rw [this] at y; exact absurd y (by decide)
              · exact w
              · exfalso
                unfold isRS at r3
                rw [h3' (a - 1) (by omega) (by omega), decide_eq_true (by omega)] at r3
                simp at r3
            rw [ea] at ru' ⊢
            rw [ru'.end_ ru]
            exact r4
      have ends : ∀ (c2 e : Nat) (q3 : AH), e + c2 = n → LX B n q3 → PtI B n Q r z h0 q3 pa cap (m0 + rnN St Ed x) pa' cap' → (∀ k, hv q3 pa' k = hv q2 pa' k) → x ≤ e → (∀ z, x ≤ z → z < e → Ed z = true) → Ends (ev PP (gsF gv) B d 775 211 [(2, rf (B + 149)), (0, x1), (0, (r : Int)), (0, (z : Int)), (0, x4), (0, x5), (0, x6), (0, x7), (0, (Y : Int)), (0, (1 : Int)), (0, (x : Int)), (0, (e : Int))] [] q3) P := by
        intro c2
        induction c2 with
        | zero =>
          intro e q3 he l3 p3 k3 hxe hz
          refine Ends.eq (b775_211 (n := n) (by (repeat' first | assumption | refine LX.setF _ _ ?_ (by decide +kernel) | refine LX.setS ?_ rfl | refine LX.setA ?_ (by first | assumption | omega))) (by first | assumption | omega)) ?_
          rw [show bop32 96 (e : Int) 1 = ((e + 1 : Nat) : Int) from addNN (y := 1) (by omega)]
          exact Ends.b2 (fun z => by omega) (fun _ => Ends.b4 (fun _ => put e q3 l3 p3 k3 hxe (by omega) hz (Or.inl (by omega))) (fun z => by omega))
        | succ c2 ih2 =>
          intro e q3 he l3 p3 k3 hxe hz
          refine Ends.eq (b775_211 (n := n) (by (repeat' first | assumption | refine LX.setF _ _ ?_ (by decide +kernel) | refine LX.setS ?_ rfl | refine LX.setA ?_ (by first | assumption | omega))) (by first | assumption | omega)) ?_
          rw [show bop32 96 (e : Int) 1 = ((e + 1 : Nat) : Int) from addNN (y := 1) (by omega)]
          refine Ends.b2 (fun z => by omega) (fun _ => Ends.b4 (fun z => by omega) (fun _ => ?_))
          refine Ends.ct l3 (by decide +kernel) (by decide) (c_fr1 (Q := Q) (X := e) l3 (by omega) hn hr p3.2.2.2.1 p3.2.1 p3.2.2.1 (by omega) hY) (fun v q4 l4 _ _ _ ⟨g4, sh4, vv⟩ => ?_)
          have p4 := p3.agr g4 sh4
          have k4 : ∀ k, hv q4 pa' k = hv q2 pa' k := fun k => by rw [g4.at _ _ c241]; exact k3 k
          refine Ends.eq (b775_244 (n := n) (by (repeat' first | assumption | refine LX.setF _ _ ?_ (by decide +kernel) | refine LX.setS ?_ rfl | refine LX.setA ?_ (by first | assumption | omega))) (by first | assumption | omega)) ?_
          rcases vv with ⟨rfl, bl2⟩ | ⟨rfl, fr2⟩
          · exact Ends.b0 (fun _ => put e q4 l4 p4 k4 hxe (by omega) hz (Or.inr (t0 e bl2))) (fun z => absurd rfl z)
          · refine Ends.b0 (fun z => absurd z (by decide)) (fun _ => ?_)
            rw [show bop32 96 (e : Int) 1 = ((e + 1 : Nat) : Int) from addNN (y := 1) (by omega)]
            refine ih2 (e + 1) q4 (by omega) l4 p4 k4 (by omega) (fun z h1 h2 => ?_)
            by_cases w : z = e
            · rw [w]; exact t1 e fr2
            · exact hz z h1 (by omega)
      exact Ends.b0 (fun _ => ends (n - x) x q2 (by omega) l2 p2 (fun _ => rfl) (Nat.le_refl _) (fun z h1 h2 => absurd h2 (by omega))) (fun z => absurd rfl z)
  exact key (n + 1) 0 h1 pa1 cap1 u (by omega) l1 p1 (fun _ _ => rfl) (Or.inl rfl) (fun a b _ hb => absurd hb (by omega))
/-- from right to left -/
theorem row_dn {x1 x4 x5 x6 x7 : Int} {h0 h1 : AH} {m0 pa1 cap1 : Nat} {P : Rs → Prop} {u : AV} (hd : 14 ≤ d) (hn : n ≤ 52) (hr : r ≤ 8) (hY : Y ≤ n) {tot : Nat} (etot : tot = rnN (frS n r Q Y) (frE n r Q Y) (n + 1)) (room : m0 + tot ≤ 2120) (l1 : LX B n h1) (p1 : PtI B n Q r z h0 h1 pa cap m0 pa1 cap1)
    (K : ∀ q pa' cap' x10 u, LX B n q → PtI B n Q r z h0 q pa cap (m0 + tot) pa' cap' → (∀ k, k < 12 * m0 → hv q pa' k = hv h1 pa1 k) → RwM q pa' n (frS n r Q Y) (frE n r Q Y) Y z m0 true → Ends (ev PP (gsF gv) B d 775 309 [(2, rf (B + 149)), (0, x1), (0, (r : Int)), (0, (z : Int)), (0, x4), (0, x5), (0, x6), (0, x7), (0, (Y : Int)), (0, (-1 : Int)), (0, x10), u] [] q) P) :
    Ends (ev PP (gsF gv) B d 775 168 [(2, rf (B + 149)), (0, x1), (0, (r : Int)), (0, (z : Int)), (0, x4), (0, x5), (0, x6), (0, x7), (0, (Y : Int)), (0, (-1 : Int)), (0, (n : Int)), u] [] h1) P := by
  have fe : ∀ X, frE n r Q Y X = true → frS n r Q Y X = true ∧ frS n r Q Y (X + 1) = true := fun X => free_ends
  have s1 : ∀ X, ¬ blk n r Q X Y 0 → frS n r Q Y X = true := fun X => frS_t.mpr
  have s0 : ∀ X, blk n r Q X Y 0 → frS n r Q Y X = false := fun X => frS_f.mpr
  have t1 : ∀ X, ¬ blk n r Q X Y 1 → frE n r Q Y X = true := fun X => frE_t.mpr
  have t0 : ∀ X, blk n r Q X Y 1 → frE n r Q Y X = false := fun X => frE_f.mpr
  generalize frS n r Q Y = St at *
  generalize frE n r Q Y = Ed at *
  have mono : ∀ x, x ≤ n + 1 → rnN St Ed x ≤ tot := fun x hx => by rw [etot]; exact cntN_mono _ hx
  have dec : ∀ x : Nat, x ≤ n + 1 → bop32 96 (x : Int) (-1) = (x : Int) - 1 := fun x hx => by rw [add32 (by omega) (by omega)]; omega
  -- c places are left
  have key : ∀ (c : Nat) (q : AH) (pa' cap' : Nat) (u : AV), c ≤ n + 1 → LX B n q → PtI B n Q r z h0 q pa cap (m0 + (tot - rnN St Ed c)) pa' cap' → (∀ k, k < 12 * m0 → hv q pa' k = hv h1 pa1 k) → (c = n + 1 ∨ c = 0 ∨ Ed (c - 1) = false) → (∀ a b, RunR n St Ed a b → c ≤ a → rn12 q pa' (m0 + (tot - 1 - rnN St Ed a)) (b : Int) (a : Int) (Y : Int) (z : Int) (n : Int)) → Ends (ev PP (gsF gv) B d 775 168 [(2, rf (B + 149)), (0, x1), (0, (r : Int)), (0, (z : Int)), (0, x4), (0, x5), (0, x6), (0, x7), (0, (Y : Int)), (0, (-1 : Int)), (0, (c : Int) - 1), u] [] q) P := by
    intro c
    induction c using Nat.strongRecOn with
    | _ c ihc =>
      intro q pa' cap' u hc lq pq ok bx fq
      refine Ends.eq (b775_168 (n := n) (by (repeat' first | assumption | refine LX.setF _ _ ?_ (by decide +kernel) | refine LX.setS ?_ rfl | refine LX.setA ?_ (by first | assumption | omega))) (by first | assumption | omega)) ?_
      by_cases zc : c = 0
      · subst zc
        have r0 : rnN St Ed 0 = 0 := rfl
        rw [r0, Nat.sub_zero] at pq
        refine Ends.b2 (fun _ => K q pa' cap' _ _ lq pq ok (fun a b ru => ?_)) (fun z => by omega)
        have lt := ru.lt
        rw [← etot] at lt
        unfold rwP
        rw [if_pos rfl, if_pos rfl, if_pos rfl, ← etot]
        exact fq a b ru (by omega)
      obtain ⟨p, rfl⟩ : ∃ p, c = p + 1 := ⟨c - 1, by omega⟩
      rw [Nat.add_sub_cancel] at bx
      rw [show ((p + 1 : Nat) : Int) - 1 = (p : Int) by omega]
      have hp : p ≤ n := by omega
      have m1 := mono (p + 1) (by omega)
      refine Ends.b2 (fun z => by omega) (fun _ => Ends.b4 (fun z => by omega) (fun _ => ?_))
      refine Ends.ct lq (by decide +kernel) (by decide) (c_blk0 (Q := Q) lq (by omega) hn hr pq.2.1 pq.2.2.1 hp hY) (fun v q2 l2 _ _ _ ⟨g2, sh2, vv⟩ => ?_)
      have p2 := pq.agr g2 sh2
      have c241 := pa_241 pq.1.1
      have k2 : ∀ k, hv q2 pa' k = hv q pa' k := fun k => g2.at _ _ c241
      have f2 : ∀ a b, RunR n St Ed a b → p + 1 ≤ a → rn12 q2 pa' (m0 + (tot - 1 - rnN St Ed a)) (b : Int) (a : Int) (Y : Int) (z : Int) (n : Int) := fun a b ru hb => (fq a b ru hb).keep (Nat.le_refl _) (fun k _ => k2 k)
      have ok2 : ∀ k, k < 12 * m0 → hv q2 pa' k = hv h1 pa1 k := fun k hk => by rw [k2]; exact ok k hk
      refine Ends.eq (b775_194 (n := n) (by (repeat' first | assumption | refine LX.setF _ _ ?_ (by decide +kernel) | refine LX.setS ?_ rfl | refine LX.setA ?_ (by first | assumption | omega))) (by first | assumption | omega)) ?_
      rcases vv with ⟨rfl, bl⟩ | ⟨rfl, fr⟩
      · have sx := s0 p bl
        have nx : rnN St Ed (p + 1) = rnN St Ed p := by
          rw [rnN_s, if_neg (by unfold isRS; rw [sx]; simp)]; rfl
        rw [nx] at p2
        refine Ends.b0 (fun z => absurd z (by decide)) (fun _ => ?_)
        rw [dec p (by omega)]
        refine ihc p (by omega) q2 pa' cap' _ (by omega) l2 p2 ok2 ?_ (fun a b ru hb => ?_)
        · by_cases e : p = 0
          · exact Or.inr (Or.inl e)
          · refine Or.inr (Or.inr ?_)
            cases e2 : Ed (p - 1)
            · rfl
            · have := (fe (p - 1) e2).2
              rw [show p - 1 + 1 = p by omega, sx] at this
              exact absurd this (by decide)
        · by_cases e : a = p
          · exfalso
            obtain ⟨r1, r2, r3, r4, r5⟩ := ru
            rw [e] at r3
            unfold isRS at r3
            rw [sx] at r3
            simp at r3
          · exact f2 a b ru (by omega)
      have sx := s1 p fr
      -- a run that ends here is stored
      have put : ∀ (e : Nat) (q3 : AH), LX B n q3 → PtI B n Q r z h0 q3 pa cap (m0 + (tot - rnN St Ed (p + 1))) pa' cap' → (∀ k, hv q3 pa' k = hv q2 pa' k) → e ≤ p → (∀ z, e ≤ z → z < p → Ed z = true) → (e = 0 ∨ Ed (e - 1) = false) → Ends (ev PP (gsF gv) B d 775 257 [(2, rf (B + 149)), (0, x1), (0, (r : Int)), (0, (z : Int)), (0, x4), (0, x5), (0, x6), (0, x7), (0, (Y : Int)), (0, (-1 : Int)), (0, (p : Int)), (0, (e : Int))] [] q3) P := fun e q3 l3 p3 k3 h1' h3' h4' => by
        have se : St e = true := by
          by_cases w : e = p
          · rw [w]; exact sx
          · exact (fe e (h3' e (Nat.le_refl _) (by omega))).1
        have ie : isRS St Ed e = true := by
          unfold isRS
          rw [se]
          rcases h4' with w | w
          · rw [w]; rfl
          · rw [w]; simp
        have ru : RunR n St Ed e p := ⟨h1', hp, ie, h3', by rcases bx with w | w | w; exact Or.inl (by omega); omega; exact Or.inr w⟩
        have cn := ru.cnt
        refine run_put l3 (by omega) p3.1 (by omega) (fun q4 pa4 cap4 l4 P4 k4 r4 _ X4 => ?_)
        rw [dec e (by omega)]
        refine ihc e (by omega) q4 pa4 cap4 _ (by omega) l4 ?_ (fun k hk => by rw [k4 k (by omega), k3]; exact ok2 k hk) ?_ (fun a b ru' hb => ?_)
        · have := p3.pos l3 P4 X4
          rw [show m0 + (tot - rnN St Ed e) = m0 + (tot - rnN St Ed (p + 1)) + 1 by omega]
          exact this
        · rcases h4' with w | w
          · exact Or.inr (Or.inl w)
          · exact Or.inr (Or.inr w)
        · by_cases bx2 : p + 1 ≤ a
          · have lt2 : rnN St Ed (p + 1) ≤ rnN St Ed a := cntN_mono _ bx2
            have lt3 := ru'.lt
            rw [← etot] at lt3
            exact ((f2 a b ru' bx2).keep (Nat.le_refl _) (fun k _ => k3 k)).keep (m := 12 * (m0 + (tot - rnN St Ed (p + 1)))) (by omega) k4
          · have ea : a = e := by
              obtain ⟨r1, r2, r3, r4, r5⟩ := ru'
              by_cases w : a = e
              · exact w
              · exfalso
                unfold isRS at r3
                rw [h3' (a - 1) (by omega) (by omega), decide_eq_true (by omega)] at r3
                simp at r3
            rw [ea] at ru' ⊢
            rw [ru'.end_ ru, show m0 + (tot - 1 - rnN St Ed e) = m0 + (tot - rnN St Ed (p + 1)) by omega]
            exact r4
      have ends : ∀ (e : Nat) (q3 : AH), LX B n q3 → PtI B n Q r z h0 q3 pa cap (m0 + (tot - rnN St Ed (p + 1))) pa' cap' → (∀ k, hv q3 pa' k = hv q2 pa' k) → e ≤ p → (∀ z, e ≤ z → z < p → Ed z = true) → Ends (ev PP (gsF gv) B d 775 211 [(2, rf (B + 149)), (0, x1), (0, (r : Int)), (0, (z : Int)), (0, x4), (0, x5), (0, x6), (0, x7), (0, (Y : Int)), (0, (-1 : Int)), (0, (p : Int)), (0, (e : Int))] [] q3) P := by
        intro e
        induction e with
        | zero =>
          intro q3 l3 p3 k3 hxe hz
          refine Ends.eq (b775_211 (n := n) (by (repeat' first | assumption | refine LX.setF _ _ ?_ (by decide +kernel) | refine LX.setS ?_ rfl | refine LX.setA ?_ (by first | assumption | omega))) (by first | assumption | omega)) ?_
          exact Ends.b2 (fun _ => put 0 q3 l3 p3 k3 hxe hz (Or.inl rfl)) (fun z => absurd z (by decide))
        | succ e ih2 =>
          intro q3 l3 p3 k3 hxe hz
          refine Ends.eq (b775_211 (n := n) (by (repeat' first | assumption | refine LX.setF _ _ ?_ (by decide +kernel) | refine LX.setS ?_ rfl | refine LX.setA ?_ (by first | assumption | omega))) (by first | assumption | omega)) ?_
          rw [dec (e + 1) (by omega), show ((e + 1 : Nat) : Int) - 1 = (e : Int) by omega]
          refine Ends.b2 (fun z => by omega) (fun _ => Ends.b4 (fun z => by omega) (fun _ => ?_))
          refine Ends.ct l3 (by decide +kernel) (by decide) (c_fr0 (Q := Q) (X := e) l3 (by omega) hn hr p3.2.2.2.1 p3.2.1 p3.2.2.1 (by omega) hY) (fun v q4 l4 _ _ _ ⟨g4, sh4, vv⟩ => ?_)
          have p4 := p3.agr g4 sh4
          have k4 : ∀ k, hv q4 pa' k = hv q2 pa' k := fun k => by rw [g4.at _ _ c241]; exact k3 k
          refine Ends.eq (b775_244 (n := n) (by (repeat' first | assumption | refine LX.setF _ _ ?_ (by decide +kernel) | refine LX.setS ?_ rfl | refine LX.setA ?_ (by first | assumption | omega))) (by first | assumption | omega)) ?_
          rcases vv with ⟨rfl, bl2⟩ | ⟨rfl, fr2⟩
          · exact Ends.b0 (fun _ => put (e + 1) q4 l4 p4 k4 hxe hz (Or.inr (by rw [Nat.add_sub_cancel]; exact t0 e bl2))) (fun z => absurd rfl z)
          · refine Ends.b0 (fun z => absurd z (by decide)) (fun _ => ?_)
            rw [dec (e + 1) (by omega), show ((e + 1 : Nat) : Int) - 1 = (e : Int) by omega]
            refine ih2 q4 l4 p4 k4 (by omega) (fun z h1 h2 => ?_)
            by_cases w : z = e
            · rw [w]; exact t1 e fr2
            · exact hz z (by omega) h2
      exact Ends.b0 (fun _ => ends p q2 l2 p2 (fun _ => rfl) (Nat.le_refl _) (fun z h1 h2 => absurd h2 (by omega))) (fun z => absurd rfl z)
  have z0 := key (n + 1) h1 pa1 cap1 u (Nat.le_refl _) l1 (by rw [← etot, Nat.sub_self]; exact p1) (fun _ _ => rfl) (Or.inl rfl) (fun a b ru hb => by have := ru.1; have := ru.2.1; omega)
  rw [show ((n + 1 : Nat) : Int) - 1 = (n : Int) by omega] at z0
  exact z0
end MROW
