/-! L3: changes by names: one answer on both sides -/
noncomputable section NMS
variable {gv : Nat → Int} {B n d f f1 kd pc cap kc mm tl mo xe : Nat} {h : AH} {S T T' : Nat → Bool} {ka F mk : Nat → Nat} {c N0 N1 nb : Nat → Int} {v v' r1 r2 r1' r2' : Int} {op : Nat}
/-- what a tool makes of a solid -/
def TkO (n op : Nat) (S T0 : Nat → Bool) (v r1 r2 : Int) (T : Nat → Bool) : Prop := ((∀ g, g < gN n → T0 g = false) ∧ v = 0 ∧ r1 = 4 ∧ r2 = 0) ∨ ((∃ g, g < gN n ∧ T0 g = true) ∧ v = 1 ∧ ∀ g, g < gN n → T g = jn (op : Int) (S g) (T0 g))
/-- two outcomes are the same -/
def SmO (n : Nat) (v v' r1 r1' r2 r2' : Int) (T T' : Nat → Bool) : Prop := v = v' ∧ (v = 0 → r1 = r1' ∧ r2 = r2') ∧ (v = 1 → ∀ g, g < gN n → T g = T' g)
theorem TkO.uniq {T0 T0' : Nat → Bool} (a : TkO n op S T0 v r1 r2 T) (b : TkO n op S T0' v' r1' r2' T') (e : ∀ g, g < gN n → T0 g = T0' g) : SmO n v v' r1 r1' r2 r2' T T' := by
  rcases a with ⟨a1, a2, a3, a4⟩ | ⟨⟨g, a1, a1'⟩, a2, a3⟩
  · rcases b with ⟨b1, b2, b3, b4⟩ | ⟨⟨g, b1, b1'⟩, b2, b3⟩
    · exact ⟨by rw [a2, b2], fun _ => ⟨by rw [a3, b3], by rw [a4, b4]⟩, fun z => by omega⟩
    · rw [← e g b1, a1 g b1] at b1'; exact absurd b1' Bool.false_ne_true
  · rcases b with ⟨b1, b2, b3, b4⟩ | ⟨b1, b2, b3⟩
    · rw [e g a1, b1 g a1] at a1'; exact absurd a1' Bool.false_ne_true
    · exact ⟨by rw [a2, b2], fun z => by omega, fun _ g hg => by rw [a3 g hg, b3 g hg, e g hg]⟩
theorem TkO.congr {T0 T0' : Nat → Bool} (a : TkO n op S T0 v r1 r2 T) (e : ∀ g, g < gN n → T0 g = T0' g) : TkO n op S T0' v r1 r2 T := by
  rcases a with ⟨a1, a2⟩ | ⟨⟨g, a1, a1'⟩, a2, a3⟩
  · exact Or.inl ⟨fun g hg => by rw [← e g hg]; exact a1 g hg, a2⟩
  · exact Or.inr ⟨⟨g, a1, by rw [← e g a1]; exact a1'⟩, a2, fun g hg => by rw [← e g hg]; exact a3 g hg⟩
/-- what comes of a face that is named -/
def NmB (n : Nat) (S : Nat → Bool) (mk : Nat → Nat) (mm : Nat) (F : Nat → Nat) (kd : Nat) (nb N1 : Nat → Int) (a v r1 r2 : Int) (T : Nat → Bool) : Prop :=
  ((a < 0 ∨ (kd ≠ 23 ∧ axD (drT (F a.toNat % 96)) < 0)) ∧ v = 0 ∧ r1 = 3 ∧ r2 = 0) ∨
  (¬ (a < 0 ∨ (kd ≠ 23 ∧ axD (drT (F a.toNat % 96)) < 0)) ∧ ((kd = 23 ∧ v = 1 ∧ ∀ g, g < gN n → T g = S g) ∨ (kd = 24 ∧ TkO n (if 0 < nb 1 then 0 else 1) S (puM n S (F a.toNat) (nb 1)) v r1 r2 T) ∨ (kd = 25 ∧ TkO n 1 S (boM n (F a.toNat) nb) v r1 r2 T) ∨ ((kd = 20 ∨ kd = 21) ∧ ∃ b, FnR (mmk mk F) (mdr F) (min mm 4096) (N1 0) (N1 1) (N1 2) b ∧ ((noB F a b ∧ v = 0 ∧ r1 = 3 ∧ r2 = 1) ∨ (¬ noB F a b ∧ TkO n (if kd = 20 then 1 else 0) S (bvM n S (if kd = 20 then -1 else 1) (F a.toNat) (F b.toNat) (nb 2)) v r1 r2 T)))))
def NmO (n : Nat) (S : Nat → Bool) (mk : Nat → Nat) (kd : Nat) (nb N0 N1 : Nat → Int) (v r1 r2 : Int) (T : Nat → Bool) : Prop := ∃ mm F a, FcL n (bdr n S) (4 * rw3 (8 * n) (8 * n) 0 0) mm F ∧ FnR (mmk mk F) (mdr F) (min mm 4096) (N0 0) (N0 1) (N0 2) a ∧ NmB n S mk mm F kd nb N1 a v r1 r2 T
theorem FnR.at {mk' dr' : Nat → Int} {M : Nat} {a w i : Int} (r : FnR mk' dr' M a w i v) (z : 0 ≤ v) : v.toNat < M := by
  rcases r.lt with y | ⟨k, y, hk⟩
  · omega
  · rw [y]; exact hk
theorem NmO.uniq (a : NmO n S mk kd nb N0 N1 v r1 r2 T) (b : NmO n S mk kd nb N0 N1 v' r1' r2' T') : SmO n v v' r1 r1' r2 r2' T T' := by
  obtain ⟨mm, F, x, A1, A2, A3⟩ := a
  obtain ⟨mm', F', x', B1, B2, B3⟩ := b
  obtain ⟨em, eF⟩ := A1.uniq B1
  subst em
  have m4 : min mm 4096 ≤ mm := Nat.min_le_left _ _
  have ek : ∀ k, k < min mm 4096 → mmk mk F' k = mmk mk F k ∧ mdr F' k = mdr F k := fun k hk => by
    unfold mmk mdr
    rw [eF k (by omega)]
    exact ⟨rfl, rfl⟩
  have B2' := B2.congr (fun k hk => ⟨(ek k hk).1.symm, (ek k hk).2.symm⟩)
  have ex := A2.uniq B2'
  subst ex
  have ea : 0 ≤ x → F' x.toNat = F x.toNat := fun z => (eF _ (by have := A2.at z; omega)).symm
  have no : (x < 0 ∨ (kd ≠ 23 ∧ axD (drT (F' x.toNat % 96)) < 0)) ↔ (x < 0 ∨ (kd ≠ 23 ∧ axD (drT (F x.toNat % 96)) < 0)) := by
    by_cases z : x < 0
    · exact ⟨fun _ => Or.inl z, fun _ => Or.inl z⟩
    · rw [ea (by omega)]
  rcases A3 with ⟨p, p1, p2, p3⟩ | ⟨p, A3⟩
  · rcases B3 with ⟨_, q1, q2, q3⟩ | ⟨q, _⟩
    · exact ⟨by rw [p1, q1], fun _ => ⟨by rw [p2, q2], by rw [p3, q3]⟩, fun z => by omega⟩
    · exact absurd (no.mpr p) q
  · rcases B3 with ⟨q, _⟩ | ⟨q, B3⟩
    · exact absurd (no.mp q) p
    · have x0 : 0 ≤ x := by
        rcases Int.lt_or_le x 0 with z | z
        · exact absurd (Or.inl z) p
        · exact z
      rw [ea x0] at B3
      rcases A3 with ⟨k1, a1, a2⟩ | ⟨k1, a1⟩ | ⟨k1, a1⟩ | ⟨k1, y, a1, a2⟩
      · rcases B3 with ⟨_, b1, b2⟩ | ⟨k2, _⟩ | ⟨k2, _⟩ | ⟨k2, _⟩
        · exact ⟨by rw [a1, b1], fun z => by omega, fun _ g hg => by rw [a2 g hg, b2 g hg]⟩
        · omega
        · omega
        · omega
      · rcases B3 with ⟨k2, _⟩ | ⟨_, b1⟩ | ⟨k2, _⟩ | ⟨k2, _⟩
        · omega
        · exact a1.uniq b1 (fun _ _ => rfl)
        · omega
        · omega
      · rcases B3 with ⟨k2, _⟩ | ⟨k2, _⟩ | ⟨_, b1⟩ | ⟨k2, _⟩
        · omega
        · omega
        · exact a1.uniq b1 (fun _ _ => rfl)
        · omega
      · rcases B3 with ⟨k2, _⟩ | ⟨k2, _⟩ | ⟨k2, _⟩ | ⟨_, y', b1, b2⟩
        · omega
        · omega
        · omega
        · have b1' := b1.congr (fun k hk => ⟨(ek k hk).1.symm, (ek k hk).2.symm⟩)
          have ey := a1.uniq b1'
          subst ey
          have eb : 0 ≤ y → F' y.toNat = F y.toNat := fun z => (eF _ (by have := a1.at z; omega)).symm
          have nb' : noB F' x y ↔ noB F x y := by
            unfold noB noL
            by_cases z : y < 0
            · exact ⟨fun _ => Or.inl (Or.inl z), fun _ => Or.inl (Or.inl z)⟩
            · rw [eb (by omega), ea x0]
          rcases a2 with ⟨w, a3, a4, a5⟩ | ⟨w, a3⟩
          · rcases b2 with ⟨_, b3, b4, b5⟩ | ⟨u, _⟩
            · exact ⟨by rw [a3, b3], fun _ => ⟨by rw [a4, b4], by rw [a5, b5]⟩, fun z => by omega⟩
            · exact absurd (nb'.mpr w) u
          · rcases b2 with ⟨u, _⟩ | ⟨_, b3⟩
            · exact absurd (nb'.mp u) w
            · have y0 : 0 ≤ y := by
                rcases Int.lt_or_le y 0 with z | z
                · exact absurd (Or.inl (Or.inl z)) w
                · exact z
              rw [eb y0] at b3
              exact a3.uniq b3 (fun _ _ => rfl)
theorem TkL.o {q : AH} {T0 : Nat → Bool} (t : TkL B n (op : Int) S T0 v q) : ∃ T, (v = 1 → SG n q (B + 117) T) ∧ TkO n op S T0 v (hv q (B + 92) 27) (hv q (B + 92) 28) T := by
  rcases t with ⟨a1, a2, a3, a4, -⟩ | ⟨a1, a2, a3⟩
  · exact ⟨S, fun z => by omega, Or.inl ⟨a1, a2, a3, a4⟩⟩
  · exact ⟨_, fun _ => a3, Or.inr ⟨a1, a2, fun g _ => rfl⟩⟩
theorem TkM.o {q : AH} {T0 : Nat → Bool} (t : TkM B n op S T0 v q) : ∃ T, (v = 1 → MB B n q 18 T) ∧ TkO n op S T0 v (hv q (B + 149) 100) (hv q (B + 149) 101) T := by
  rcases t with ⟨a1, a2, a3, a4⟩ | ⟨a1, a2, a3⟩
  · exact ⟨S, fun z => by omega, Or.inl ⟨a1, a2, a3, a4⟩⟩
  · exact ⟨_, fun _ => a3, Or.inr ⟨a1, a2, fun g _ => rfl⟩⟩
theorem lev_of {x : Int} (p : ¬ (x < 0 ∨ (kd ≠ 23 ∧ axD (drT (F x.toNat % 96)) < 0))) (k : kd ≠ 23) : 0 ≤ axD (drT (F x.toNat % 96)) := by
  rcases Int.lt_or_le (axD (drT (F x.toNat % 96))) 0 with z | z
  · exact absurd (Or.inr ⟨k, z⟩) p
  · exact z
/-- the desk's -/
theorem BnD.o {q : AH} {a : Int} (f : FcL n (bdr n S) (4 * rw3 (8 * n) (8 * n) 0 0) mm F) (r : FnR (mmk mk F) (mdr F) (min mm 4096) (N0 0) (N0 1) (N0 2) a) (b : BnD B n S mk mm F kd nb N1 a v q) : ∃ T, (v = 1 → SG n q (B + 117) T) ∧ NmO n S mk kd nb N0 N1 v (hv q (B + 92) 27) (hv q (B + 92) 28) T := by
  rcases b with ⟨p, p1, p2, p3, p4⟩ | ⟨p, b⟩
  · exact ⟨S, fun z => by omega, mm, F, a, f, r, Or.inl ⟨p, p1, p2, p3⟩⟩
  · rcases b with ⟨k1, a1, a2⟩ | ⟨k1, a1⟩ | ⟨k1, a1⟩ | ⟨k1, y, a1, a2⟩
    · exact ⟨S, fun _ => a2, mm, F, a, f, r, Or.inr ⟨p, Or.inl ⟨k1, a1, fun _ _ => rfl⟩⟩⟩
    · have lv := lev_of p (by omega)
      obtain ⟨T, t1, t2⟩ := TkL.o (op := if 0 < nb 1 then 0 else 1) (by
        rw [show (((if 0 < nb 1 then 0 else 1) : Nat) : Int) = if 0 < nb 1 then 0 else 1 from by split <;> rfl]
        exact a1)
      exact ⟨T, t1, mm, F, a, f, r, Or.inr ⟨p, Or.inr (Or.inl ⟨k1, t2.congr (fun g hg => pu_eq hg lv)⟩)⟩⟩
    · have lv := lev_of p (by omega)
      obtain ⟨T, t1, t2⟩ := TkL.o (op := 1) a1
      exact ⟨T, t1, mm, F, a, f, r, Or.inr ⟨p, Or.inr (Or.inr (Or.inl ⟨k1, t2.congr (fun g hg => bo_eq hg lv)⟩))⟩⟩
    · have lv := lev_of p (by omega)
      rcases a2 with ⟨w, a3, a4, a5, a6⟩ | ⟨w, a3⟩
      · refine ⟨S, fun z => by omega, mm, F, a, f, r, Or.inr ⟨p, Or.inr (Or.inr (Or.inr ⟨k1, y, a1, Or.inl ⟨?_, a3, a4, a5⟩⟩))⟩⟩
        unfold noB noL
        rcases w with w | w | w
        · exact Or.inl (Or.inl w)
        · exact Or.inl (Or.inr w)
        · exact Or.inr w
      · obtain ⟨T, t1, t2⟩ := TkL.o (op := if kd = 20 then 1 else 0) (by
          rw [show (((if kd = 20 then 1 else 0) : Nat) : Int) = if kd = 20 then 1 else 0 from by split <;> rfl]
          exact a3)
        have y0 : ¬ y < 0 := fun z => w (Or.inl z)
        have ly : 0 ≤ axD (drT (F y.toNat % 96)) := by
          rcases Int.lt_or_le (axD (drT (F y.toNat % 96))) 0 with z | z
          · exact absurd (Or.inr (Or.inl z)) w
          · exact z
        have ne : axD (drT (F y.toNat % 96)) ≠ axD (drT (F a.toNat % 96)) := fun z => w (Or.inr (Or.inr z))
        refine ⟨T, t1, mm, F, a, f, r, Or.inr ⟨p, Or.inr (Or.inr (Or.inr ⟨k1, y, a1, Or.inr ⟨fun z => ?_, t2.congr (fun g hg => bv_eq hg (by by_cases z : kd = 20; rw [if_pos z]; exact Or.inr rfl; rw [if_neg z]; exact Or.inl rfl) lv ly ne)⟩⟩))⟩⟩
        unfold noB noL at z
        rcases z with (z | z) | z
        · exact w (Or.inl z)
        · exact w (Or.inr (Or.inl z))
        · exact w (Or.inr (Or.inr z))
/-- the desk's change of a kind with names -/
theorem ch_nm {Cb : Nat → Nat → Bool} {fa : Nat → Int} (l : LX B n h) (hd : 45 ≤ d) (hn4 : 4 ≤ n) (hn : n ≤ 52) (fc : FcN B n h pc cap ka kc) (sp : SG n h (B + 117) S) (P : PtD B n h tl mo xe) (C : CgS B n h Cb) (hfa : ∀ p, p < 25 → hv h (B + 96) p = fa p) (hC : ∀ K, K < 4 * gN n → plF n Cb K < 25) (hmk : ∀ K, K < 4 * gN n → bdr n S K = true → fa (plF n Cb K) = ((mk K : Nat) : Int)) (hc : ∀ z, z < 37368 → hv h (B + 2) z = c z) (hf : f < 24) (T0 : NmT c (fdA f 0) N0) (T1 : kd = 20 ∨ kd = 21 → NmT c (fdA f 1) N1) (hkd : kd = 20 ∨ kd = 21 ∨ kd = 23 ∨ kd = 24 ∨ kd = 25) (e1 : kd = 24 ∨ kd = 25 → hv h (B + 97) 1 = nb 1) (e2 : kd ≠ 23 → kd ≠ 24 → hv h (B + 97) 2 = nb 2) (e34 : kd = 25 → hv h (B + 97) 3 = nb 3 ∧ hv h (B + 97) 4 = nb 4) (bb : ∀ k, k < 5 → -200 ≤ nb k ∧ nb k ≤ 200) (b4 : kd = 25 → 1 ≤ nb 4 ∧ nb 4 ≤ 64) :
    Vt 0 (cll PP (ev PP (gsF gv) B) d 255 [(2, rf (B + 92)), (0, (f : Int)), (0, (kd : Int))] h) (fun v h' => (v = 0 ∨ v = 1) ∧ (∃ mm F kc' ka', BnS B n S mk mm F tl mo xe cap kc h kc' ka' h') ∧ ∃ T, (v = 1 → SG n h' (B + 117) T) ∧ NmO n S mk kd nb N0 N1 v (hv h' (B + 92) 27) (hv h' (B + 92) 28) T) := by
  refine Vt.inq (D := 44) hd (Nat.le_of_ble_eq_true rfl) rfl (fun d hd Q K => ?_)
  refine Ends.eq (b255_0 l (by omega)) ?_
  rw [show sw255_1 (kd : Int) = 395 from by rcases hkd with rfl | rfl | rfl | rfl | rfl <;> rfl]
  refine Ends.eq (b255_395 l (by omega)) ?_
  refine Ends.ct l (by decide +kernel) (by decide) (c_byName253 (nb := nb) (N1 := N1) l (by omega) hn4 hn fc sp P C hfa hC hmk hc hf T0 T1 hkd e1 e2 e34 bb b4) (fun v q2 l2 _ _ _ ⟨mm, F, kc', ka', a, bs, r, b⟩ => ?_)
  have v01 : v = 0 ∨ v = 1 := by
    rcases b with ⟨-, p, -⟩ | ⟨-, ⟨-, p, -⟩ | ⟨-, ⟨-, p, -⟩ | ⟨-, p, -⟩⟩ | ⟨-, ⟨-, p, -⟩ | ⟨-, p, -⟩⟩ | ⟨-, y, -, ⟨-, p, -⟩ | ⟨-, ⟨-, p, -⟩ | ⟨-, p, -⟩⟩⟩⟩
    · exact Or.inl p
    · exact Or.inr p
    · exact Or.inl p
    · exact Or.inr p
    · exact Or.inl p
    · exact Or.inr p
    · exact Or.inl p
    · exact Or.inl p
    · exact Or.inr p
  obtain ⟨pc', cap', -, fds, -⟩ := id bs
  exact Ends.eq (b255_401 l2 (by omega)) (Ends.g v01 (Ends.sm (K _ _ ⟨v01, ⟨mm, F, kc', ka', bs⟩, BnD.o fds.1 r b⟩)))
/-- the model's alteration by names -/
theorem al_nm (l : LX B n h) (hd : 41 ≤ d) (hn0 : 0 < n) (hn : n ≤ 52) (m : TbM B h) (b : MB B n h 11 S) (nw : NwF B n h S) (M : MkM B n h mk) (F1 : YF B f1 h) (ek : hv h f1 1 = (kd : Int)) (hkd : kd = 20 ∨ kd = 21 ∨ kd = 23 ∨ kd = 24 ∨ kd = 25) (fd0 : FnM B h f1 0 N0) (fd1 : kd = 20 ∨ kd = 21 → FnM B h f1 1 N1) (n20 : 0 ≤ N0 2 ∧ N0 2 < 1000000) (n21 : kd = 20 ∨ kd = 21 → 0 ≤ N1 2 ∧ N1 2 < 1000000) (e1 : kd = 24 ∨ kd = 25 → hv h (B + 198) 1 = nb 1) (e2 : kd ≠ 23 → kd ≠ 24 → hv h (B + 198) 2 = nb 2) (e34 : kd = 25 → hv h (B + 198) 3 = nb 3 ∧ hv h (B + 198) 4 = nb 4) (bb : ∀ k, k < 5 → -200 ≤ nb k ∧ nb k ≤ 200) (b4 : kd = 25 → 1 ≤ nb 4 ∧ nb 4 ≤ 64) :
    Vt 0 (cll PP (ev PP (gsF gv) B) d 546 [(2, rf (B + 149)), (2, rf f1)] h) (fun v h' => (v = 0 ∨ v = 1) ∧ Agr (byM B n) h h' ∧ NwF B n h' S ∧ ∃ T, (v = 1 → MB B n h' 18 T) ∧ NmO n S mk kd nb N0 N1 v (hv h' (B + 149) 100) (hv h' (B + 149) 101) T) := by
  refine Vt.inq (D := 40) hd (Nat.le_of_ble_eq_true rfl) rfl (fun d hd Q K => ?_)
  refine Ends.eq (b546_0 l (by omega) F1) ?_
  rw [ek]
  have tk : ∀ {q : AH} {v : Int} {op : Nat} {T0 : Nat → Bool}, TkM B n op S T0 v q → v = 0 ∨ v = 1 := fun t => by
    rcases t with ⟨-, p, -⟩ | ⟨-, p, -⟩
    · exact Or.inl p
    · exact Or.inr p
  rcases (by omega : (kd = 20 ∨ kd = 21) ∨ kd = 23 ∨ kd = 24 ∨ kd = 25) with k | k | k | k
  · rw [show sw546_4 (kd : Int) = 324 from by rcases k with rfl | rfl <;> rfl]
    refine Ends.eq (b546_324 l (by omega)) ?_
    refine Ends.ct l (by decide +kernel) (by decide) (c_bevel558 (hh := nb 2) (N1 := N1) l (by omega) hn0 hn m b nw M F1 ek k fd0 (fd1 k) n20 (n21 k) (e2 (by omega) (by omega)) (bb 2 (by decide))) (fun v q2 l2 _ _ _ ⟨g2, nw2, mm, F, a, f2, r, o⟩ => ?_)
    have fin : (v = 0 ∨ v = 1) → (∃ T, (v = 1 → MB B n q2 18 T) ∧ NmO n S mk kd nb N0 N1 v (hv q2 (B + 149) 100) (hv q2 (B + 149) 101) T) → Ends (ev PP (gsF gv) B d 546 329 [(2, rf (B + 149)), (2, rf f1), (9, 0), (9, 0)] [(0, v)] q2) Q := fun v01 z => Ends.eq (b546_329 l2 (by omega)) (Ends.g v01 (Ends.sm (K _ _ ⟨v01, g2, nw2, z⟩)))
    rcases o with ⟨w, a3, a4, a5⟩ | ⟨w, y, a1, o⟩
    · refine fin (Or.inl a3) ⟨S, fun z => by omega, mm, F, a, f2, r, Or.inl ⟨?_, a3, a4, a5⟩⟩
      rcases w with w | w
      · exact Or.inl w
      · exact Or.inr ⟨by omega, w⟩
    · have na : ¬ (a < 0 ∨ (kd ≠ 23 ∧ axD (drT (F a.toNat % 96)) < 0)) := fun z => w (by
        rcases z with z | z
        · exact Or.inl z
        · exact Or.inr z.2)
      rcases o with ⟨w2, a3, a4, a5⟩ | ⟨w2, o⟩
      · exact fin (Or.inl a3) ⟨S, fun z => by omega, mm, F, a, f2, r, Or.inr ⟨na, Or.inr (Or.inr (Or.inr ⟨k, y, a1, Or.inl ⟨w2, a3, a4, a5⟩⟩))⟩⟩
      · obtain ⟨T, t1, t2⟩ := o.o
        exact fin (tk o) ⟨T, t1, mm, F, a, f2, r, Or.inr ⟨na, Or.inr (Or.inr (Or.inr ⟨k, y, a1, Or.inr ⟨w2, t2⟩⟩))⟩⟩
  · rw [show sw546_4 (kd : Int) = 346 from by rw [k]; rfl]
    refine Ends.eq (b546_346 l (by omega)) ?_
    refine Ends.ct l (by decide +kernel) (by decide) (e_level (k := 0) l (by omega) hn0 hn m b nw M F1 fd0 (by decide) n20) (fun a q2 l2 _ _ _ ⟨mm, F, c0, f2, r, nw2, g2⟩ => ?_)
    refine Ends.eq (b546_352 l2 (by omega)) (Ends.b3 (fun z => ?_) (fun z => ?_))
    · refine Ends.cv l2 (by decide +kernel) (c_copyM (s := 11) (t := 18) l2 (by omega) hn (by decide) (by decide) (by_row b (by decide) g2)) (fun q3 l3 _ _ _ ⟨g3, m3⟩ => ?_)
      refine Ends.eq (b546_370 l3 (by omega)) (Ends.sm (K _ _ ⟨Or.inr rfl, g2.tr g3 (fun c k z => Or.inl (wto_al (by decide) z)), nw2.al (g3.sub (fun c k z => wto_al (by decide) z)), S, fun _ => m3, mm, F, a, c0, r, Or.inr ⟨fun y => ?_, Or.inl ⟨k, rfl, fun _ _ => rfl⟩⟩⟩))
      rcases y with y | y
      · omega
      · exact y.1 k
    · refine Ends.ct l2 (by decide +kernel) (by decide) (c_because552 (x := 3) (y := 0) l2 (by omega)) (fun v q3 l3 _ _ _ ⟨v0, g3, w0, w1⟩ => ?_)
      rw [v0]
      exact Ends.eq (b546_361 l3 (by omega)) (Ends.g (Or.inl rfl) (Ends.sm (K _ _ ⟨Or.inl rfl, g2.tr g3 (fun c k z => Or.inl (be_al z)), nw2.al (g3.sub (fun c k z => be_al z)), S, fun z => absurd z (by decide), mm, F, a, c0, r, Or.inl ⟨Or.inl z, rfl, w0, w1⟩⟩)))
  · rw [show sw546_4 (kd : Int) = 372 from by rw [k]; rfl]
    refine Ends.eq (b546_372 l (by omega)) ?_
    refine Ends.ct l (by decide +kernel) (by decide) (c_pull786 (x := nb 1) l (by omega) hn0 hn m b nw M F1 fd0 n20 (e1 (Or.inl k)) (bb 1 (by decide))) (fun v q2 l2 _ _ _ ⟨g2, nw2, mm, F, a, f2, r, o⟩ => ?_)
    have fin : (v = 0 ∨ v = 1) → (∃ T, (v = 1 → MB B n q2 18 T) ∧ NmO n S mk kd nb N0 N1 v (hv q2 (B + 149) 100) (hv q2 (B + 149) 101) T) → Ends (ev PP (gsF gv) B d 546 377 [(2, rf (B + 149)), (2, rf f1), (9, 0), (9, 0)] [(0, v)] q2) Q := fun v01 z => Ends.eq (b546_377 l2 (by omega)) (Ends.g v01 (Ends.sm (K _ _ ⟨v01, g2, nw2, z⟩)))
    rcases o with ⟨w, a3, a4, a5⟩ | ⟨w, o⟩
    · refine fin (Or.inl a3) ⟨S, fun z => by omega, mm, F, a, f2, r, Or.inl ⟨?_, a3, a4, a5⟩⟩
      rcases w with w | w
      · exact Or.inl w
      · exact Or.inr ⟨by omega, w⟩
    · obtain ⟨T, t1, t2⟩ := TkM.o o
      refine fin (tk o) ⟨T, t1, mm, F, a, f2, r, Or.inr ⟨fun z => w (by
        rcases z with z | z
        · exact Or.inl z
        · exact Or.inr z.2), Or.inr (Or.inl ⟨k, t2⟩)⟩⟩
  · rw [show sw546_4 (kd : Int) = 378 from by rw [k]; rfl]
    refine Ends.eq (b546_378 l (by omega)) ?_
    have e3 := e34 k
    refine Ends.ct l (by decide +kernel) (by decide) (c_bore560 (nb := nb) l (by omega) hn0 hn m b nw M F1 fd0 n20 (fun j h1 h2 => by
      rcases (by omega : j = 1 ∨ j = 2 ∨ j = 3 ∨ j = 4) with rfl | rfl | rfl | rfl
      · exact e1 (Or.inr k)
      · exact e2 (by omega) (by omega)
      · exact e3.1
      · exact e3.2) bb (b4 k)) (fun v q2 l2 _ _ _ ⟨g2, nw2, mm, F, a, f2, r, o⟩ => ?_)
    have fin : (v = 0 ∨ v = 1) → (∃ T, (v = 1 → MB B n q2 18 T) ∧ NmO n S mk kd nb N0 N1 v (hv q2 (B + 149) 100) (hv q2 (B + 149) 101) T) → Ends (ev PP (gsF gv) B d 546 383 [(2, rf (B + 149)), (2, rf f1), (9, 0), (9, 0)] [(0, v)] q2) Q := fun v01 z => Ends.eq (b546_383 l2 (by omega)) (Ends.g v01 (Ends.sm (K _ _ ⟨v01, g2, nw2, z⟩)))
    rcases o with ⟨w, a3, a4, a5⟩ | ⟨w, o⟩
    · refine fin (Or.inl a3) ⟨S, fun z => by omega, mm, F, a, f2, r, Or.inl ⟨?_, a3, a4, a5⟩⟩
      rcases w with w | w
      · exact Or.inl w
      · exact Or.inr ⟨by omega, w⟩
    · obtain ⟨T, t1, t2⟩ := TkM.o o
      refine fin (tk o) ⟨T, t1, mm, F, a, f2, r, Or.inr ⟨fun z => w (by
        rcases z with z | z
        · exact Or.inl z
        · exact Or.inr z.2), Or.inr (Or.inr (Or.inl ⟨k, t2⟩))⟩⟩
end NMS
