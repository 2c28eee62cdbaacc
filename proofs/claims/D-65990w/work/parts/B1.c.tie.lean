/-! L3: the desk ties: whole; settles, least, going -/
section TIE123
variable {gv : Nat → Int} {B n d : Nat} {h : AH} {pl jn : Nat} {ja jb jx : Nat → Nat} {js : Nat → Int} {ou : Nat → Bool} {a : Nat}
/-- between two spreads -/
def TiF (pl jn : Nat) (ja jb : Nat → Nat) (es : Nat → Int) (A : Nat → Prop) (R : Nat → Bool) (ρ : Nat → Nat) (α : Nat → Int) (w : Bool) : Prop :=
  (∀ k, k < jn → A k → R (ja k) = R (jb k)) ∧ R 12 = true ∧ (∀ x, x < 13 → R x = true → ρ x < 13 ∧ TCon jn ja jb A x (ρ x)) ∧ (∀ k, k < jn → A k → R (ja k) = true → ρ (ja k) = ρ (jb k)) ∧ (w = true → ¬ TiSat jn ja jb es A) ∧ (∀ pos, TiS jn ja jb es A pos → ∀ x, x < 13 → R x = true → α x = pos x - pos (ρ x)) ∧ (∀ x, x < 13 → R x = true → -(1000 * (cntN R 13 : Int)) ≤ α x ∧ α x ≤ 1000 * (cntN R 13 : Int)) ∧ (w = false → ∀ k, k < jn → A k → R (ja k) = true → α (jb k) = α (ja k) + es k) ∧ (∀ x, x < 13 → R x = true → ρ x = 12 ∨ (ρ x < pl ∧ ∀ y, y < pl → TCon jn ja jb A x y → ρ x ≤ y)) ∧ (∀ x, x < 13 → R x = true → TCon jn ja jb A x 12 → ρ x = 12) ∧ ρ 12 = 12 ∧ α 12 = 0
theorem clo_con {A : Nat → Prop} {O : Nat → Bool} (c : ∀ k, k < jn → A k → O (ja k) = O (jb k)) {x y : Nat} (t : TCon jn ja jb A x y) (e : O x = true) : O y = true := t (fun z => O z = true) e (fun k hk ha => by rw [c k hk ha])
theorem clo_con' {A : Nat → Prop} {O : Nat → Bool} (c : ∀ k, k < jn → A k → O (ja k) = O (jb k)) {x y : Nat} (t : TCon jn ja jb A x y) (e : O x = false) : O y = false := by
  cases z : O y
  · rfl
  · rw [clo_con c t.sym z] at e; exact absurd e (by decide)
theorem TiF.next {es : Nat → Int} {A : Nat → Prop} {O R' : Nat → Bool} {ρ ρ' : Nat → Nat} {α α' : Nat → Int} {w w' : Bool} {i : Nat} (f : TiF pl jn ja jb es A O ρ α w) (hb : ∀ k, k < jn → ja k < 13 ∧ jb k < 13) (hi : i < pl) (hp : pl ≤ 12) (hO : O i = false) (lo : ∀ y, y < i → O y = true) (s : SpI pl jn ja jb es A O i R' ρ' α' w') (keep : ∀ x, x < 13 → O x = true → R' x = true ∧ ρ' x = ρ x ∧ α' x = α x) (p : SpP jn ja jb es A R' α' w' jn) : TiF pl jn ja jb es A R' ρ' α' w' := by
  have s' := s
  obtain ⟨s1, s2, s3, s4, s5, s6, s7, s8, s9⟩ := s
  obtain ⟨f1, f2, f3, f4, f5, f6, f7, f8, f9, f10, f11, f12⟩ := f
  refine ⟨fun k hk ha => (p k hk hk ha).1, (keep 12 (by decide) f2).1, s4, fun k hk ha r => s'.one hk ha (hb k hk).1 (hb k hk).2 r (by rw [← (p k hk hk ha).1]; exact r), s6, s7, s8, fun e k hk ha r => (p k hk hk ha).2 r e, fun x hx r => ?_, fun x hx r c => ?_, by rw [(keep 12 (by decide) f2).2.1, f11], by rw [(keep 12 (by decide) f2).2.2, f12]⟩
  · cases eo : O x
    · rw [s3 x hx r eo]
      refine Or.inr ⟨hi, fun y hy c => ?_⟩
      by_cases z : y < i
      · have := clo_con' f1 c eo
        rw [lo y z] at this
        exact absurd this (by decide)
      · omega
    · rw [(keep x hx eo).2.1]; exact f9 x hx eo
  · cases eo : O x
    · have := clo_con' f1 c eo
      rw [f2] at this
      exact absurd this (by decide)
    · rw [(keep x hx eo).2.1]; exact f10 x hx eo c
theorem TiF.seed {es : Nat → Int} {A : Nat → Prop} {O : Nat → Bool} {ρ : Nat → Nat} {α : Nat → Int} {w : Bool} {i : Nat} (f : TiF pl jn ja jb es A O ρ α w) (hi : i < 13) (hO : O i = false) : SpI pl jn ja jb es A O i (fun z => O z || decide (z = i)) (fun z => if z = i then i else ρ z) (fun z => if z = i then 0 else α z) w := by
  obtain ⟨f1, f2, f3, f4, f5, f6, f7, f8, f9, f10, f11, f12⟩ := f
  have ne : ∀ k, k < jn → A k → O (ja k) = true → ja k ≠ i ∧ jb k ≠ i := fun k hk ha e => ⟨fun z => by rw [z, hO] at e; exact absurd e (by decide), fun z => by rw [f1 k hk ha, z, hO] at e; exact absurd e (by decide)⟩
  refine ⟨fun x hx e => by simp [e], f1, fun x hx r eo => ?_, fun x hx r => ?_, fun k hk ha e => ?_, f5, fun pos hp x hx r => ?_, fun x hx r => ?_, fun e k hk ha eo => ?_⟩
  · have : x = i := by simpa [eo] using r
    simp [this]
  · by_cases y : x = i
    · simp only [y, if_true]; exact ⟨hi, TCon.rf⟩
    · simp only [y, if_false]; simp [y] at r; exact f3 x hx r
  · obtain ⟨n1, n2⟩ := ne k hk ha e
    simp only [n1, n2, if_false]
    exact f4 k hk ha e
  · by_cases y : x = i
    · simp only [y, if_true]; omega
    · simp only [y, if_false]; simp [y] at r; exact f6 pos hp x hx r
  · rw [cntN_set hO, if_pos hi]
    by_cases y : x = i
    · simp only [y, if_true]; omega
    · simp only [y, if_false]; simp [y] at r
      have := f7 x hx r
      omega
  · obtain ⟨n1, n2⟩ := ne k hk ha eo
    simp only [n1, n2, if_false]
    exact f8 e k hk ha eo
theorem TiF.fin {es : Nat → Int} {A : Nat → Prop} {R : Nat → Bool} {ρ : Nat → Nat} {α : Nat → Int} {w : Bool} (f : TiF pl jn ja jb es A R ρ α w) (hp : pl ≤ 12) (hb : ∀ k, k < jn → (ja k < pl) ∧ (jb k < pl ∨ jb k = 12)) (all : ∀ x, x < pl → R x = true) : TieR pl jn ja jb es A ρ α w := by
  obtain ⟨f1, f2, f3, f4, f5, f6, f7, f8, f9, f10, f11, f12⟩ := f
  have ral : ∀ k, k < jn → R (ja k) = true := fun k hk => all _ (hb k hk).1
  have cq : ∀ x y, TCon jn ja jb A x y → ρ x = ρ y := fun x y c => c (fun z => ρ x = ρ z) rfl (fun k hk ha => by rw [f4 k hk ha (ral k hk)])
  refine ⟨fun x hx => ?_, fun x hx => (f3 x (by omega) (all x hx)).2, fun x hx c => f10 x (by omega) (all x hx) c, fun x y hx hy c => ⟨cq x y c, ?_⟩, ?_, fun pos hq x hx => f6 pos hq x (by omega) (all x hx), fun x hx => ?_⟩
  · rcases f9 x (by omega) (all x hx) with z | z
    · exact Or.inl z
    · exact Or.inr z.1
  · rcases f9 x (by omega) (all x hx) with z | z
    · exact Or.inl z
    · exact Or.inr (z.2 y hy c)
  · constructor
    · intro e
      refine ⟨fun x => if x = 12 then 0 else α x, if_pos rfl, fun k hk ha => ?_⟩
      have e1 := f8 e k hk ha (ral k hk)
      have j1 := (hb k hk).1
      have : ja k ≠ 12 := by omega
      simp only [this, if_false]
      by_cases z : jb k = 12
      · simp only [z, if_true]
        rw [z, f12] at e1
        exact e1
      · simp only [z, if_false]; exact e1
    · intro s
      cases e : w
      · rfl
      · exact absurd s (f5 e)
  · have := f7 x (by omega) (all x hx)
    have := cntN_le R 13
    omega
theorem c_tie123 (l : LX B n h) (hd : 12 ≤ d) (J : AsJ B h pl jn ja jb jx js) (ho : ∀ k, k < 24 → hv h (B + 130) k = if ou k = true then 1 else 0) (ha : a < 3) :
    Vd (cll PP (ev PP (gsF gv) B) d 123 [(2, rf (B + 118)), (0, (a : Int))] h) (fun h' => Agr (spW B) h h' ∧ ∃ ρ α w, TieR pl jn ja jb (eS jb js) (aC' jx ou a) ρ α w ∧ (∀ x, x < pl → hv h' (B + 128) x = (ρ x : Int) ∧ hv h' (B + 129) x = α x) ∧ hv h' (B + 118) 18 = if w = true then 1 else 0) := by
  refine Vd.inq (D := 11) hd (Nat.le_of_ble_eq_true rfl) rfl (fun d hd Q K => ?_)
  have J5 := J.2.2.2.2
  have pl12 := J.2.2.1
  have hb : ∀ k, k < jn → ja k < 13 ∧ jb k < 13 := fun k hk => by obtain ⟨_, _, _, _, j5, j6, _⟩ := J5 k hk; omega
  have hb2 : ∀ k, k < jn → ja k < pl ∧ (jb k < pl ∨ jb k = 12) := fun k hk => by obtain ⟨_, _, _, _, j5, j6, _⟩ := J5 k hk; exact ⟨j5, j6⟩
  have ho' : ∀ q, Agr (spW B) h q → ∀ k, k < 24 → hv q (B + 130) k = if ou k = true then 1 else 0 := fun q g k hk => by rw [g.at _ _ (by unfold spW; omega)]; exact ho k hk
  have J' : ∀ q, Agr (spW B) h q → AsJ B q pl jn ja jb jx js := fun q g => J.agr g (by unfold spW; omega) (by unfold spW; omega) (fun c k h1 h2 => by unfold spW; omega)
  have second : ∀ (r i : Nat) (q : AH) (R : Nat → Bool) (ρ : Nat → Nat) (α : Nat → Int) (w : Bool), i + r = pl → LX B n q → Agr (spW B) h q → TiF pl jn ja jb (eS jb js) (aC' jx ou a) R ρ α w → SpH B q R ρ α w → (∀ y, y < i → R y = true) → Ends (ev PP (gsF gv) B d 123 50 [(2, rf (B + 118)), (0, (a : Int)), (0, (i : Int))] [] q) Q := by
    intro r
    induction r with
    | zero =>
      intro i q R ρ α w hi lq gq f sh lo
      have e3 : hv q (B + 118) 3 = (pl : Int) := (J' q gq).1
      refine Ends.eq (b123_50 (n := n) (by (repeat' first | assumption | refine LX.setF _ _ ?_ (by decide +kernel) | refine LX.setS ?_ rfl | refine LX.setA ?_ (by first | assumption | omega))) (by first | assumption | omega)) ?_
      rw [e3]
      refine Ends.b3 (fun _ => Ends.sm (K _ ⟨gq, ρ, α, w, f.fin pl12 hb2 (fun x hx => lo x (by omega)), fun x hx => ⟨?_, sh.2.1 x (by omega) (lo x (by omega))⟩, sh.2.2⟩)) (fun z => by omega)
      rw [sh.1 x (by omega), if_pos (lo x (by omega))]
    | succ r ih =>
      intro i q R ρ α w hi lq gq f sh lo
      have e3 : hv q (B + 118) 3 = (pl : Int) := (J' q gq).1
      refine Ends.eq (b123_50 (n := n) (by (repeat' first | assumption | refine LX.setF _ _ ?_ (by decide +kernel) | refine LX.setS ?_ rfl | refine LX.setA ?_ (by first | assumption | omega))) (by first | assumption | omega)) ?_
      rw [e3, tn, sh.1 i (by omega)]
      refine Ends.b3 (fun z => by omega) (fun _ => Ends.g ⟨by omega, by omega⟩ ?_)
      cases hR : R i
      · refine Ends.b2 (fun _ => ?_) (fun z => by rw [if_neg Bool.false_ne_true] at z; omega)
        rw [an0, an0]
        have l2 : LX B n (hset (hset q (B + 128) i (i : Int)) (B + 129) i 0) := LX.setS (LX.setS lq rfl) rfl
        have g2 : Agr (spW B) h (hset (hset q (B + 128) i (i : Int)) (B + 129) i 0) := (gq.set (Or.inr (Or.inl rfl))).set (Or.inr (Or.inr rfl))
        have s2 := f.seed (i := i) (by omega) hR
        have sh2 : SpH B (hset (hset q (B + 128) i (i : Int)) (B + 129) i 0) (fun z => R z || decide (z = i)) (fun z => if z = i then i else ρ z) (fun z => if z = i then 0 else α z) w := by
          refine ⟨fun z hz => ?_, fun z hz hr => ?_, ?_⟩
          · rw [hv_na (by omega)]
            by_cases y : z = i
            · rw [y, hv_set_at]; simp
            · rw [hv_set_ne (by omega), sh.1 z hz]; simp [y]
          · by_cases y : z = i
            · rw [y, hv_set_at]; simp
            · simp [y] at hr
              rw [hv_set_ne (by omega), hv_na (by omega), sh.2.1 z hz hr]; simp [y]
          · rw [hv_na (by omega), hv_na (by omega)]; exact sh.2.2
        refine Ends.cv l2 (by decide +kernel) (c_spread121 l2 (by omega) (J' _ g2) (ho' _ g2) ha s2 sh2) (fun q3 l3 _ _ _ ⟨g3, R', ρ', α', w', s3, sh3, keep, p⟩ => ?_)
        refine Ends.eq (b123_89 (n := n) (by (repeat' first | assumption | refine LX.setF _ _ ?_ (by decide +kernel) | refine LX.setS ?_ rfl | refine LX.setA ?_ (by first | assumption | omega))) (by first | assumption | omega)) ?_
        rw [w_succ (by omega)]
        have keep' : ∀ x, x < 13 → R x = true → R' x = true ∧ ρ' x = ρ x ∧ α' x = α x := fun x hx e => by
          obtain ⟨k1, k2, k3⟩ := keep x hx (by simp [e])
          have : x ≠ i := fun y => by rw [y, hR] at e; exact absurd e (by decide)
          simp only [this, if_false] at k2 k3
          exact ⟨k1, k2, k3⟩
        refine ih (i + 1) q3 R' ρ' α' w' (by omega) l3 (g2.tr g3 (fun c k z => z)) (f.next hb (by omega) pl12 hR lo s3 keep' p) sh3 (fun y hy => ?_)
        by_cases z : y = i
        · rw [z]; exact (keep i (by omega) (by simp)).1
        · exact (keep' y (by omega) (lo y (by omega))).1
      · refine Ends.b2 (fun z => by rw [if_pos rfl] at z; omega) (fun _ => ?_)
        refine Ends.eq (b123_89 (n := n) (by (repeat' first | assumption | refine LX.setF _ _ ?_ (by decide +kernel) | refine LX.setS ?_ rfl | refine LX.setA ?_ (by first | assumption | omega))) (by first | assumption | omega)) ?_
        rw [w_succ (by omega)]
        refine ih (i + 1) q R ρ α w (by omega) lq gq f sh (fun y hy => ?_)
        by_cases z : y = i
        · rw [z]; exact hR
        · exact lo y (by omega)
  have first : ∀ (r i : Nat) (q : AH), i + r = 13 → LX B n q → Agr (spW B) h q → hv q (B + 118) 18 = 0 → (∀ y, y < i → hv q (B + 128) y = -1) → Ends (ev PP (gsF gv) B d 123 7 [(2, rf (B + 118)), (0, (a : Int)), (0, (i : Int))] [] q) Q := by
    intro r
    induction r with
    | zero =>
      intro i q hi lq gq e18 lo
      refine Ends.eq (b123_7 (n := n) (by (repeat' first | assumption | refine LX.setF _ _ ?_ (by decide +kernel) | refine LX.setS ?_ rfl | refine LX.setA ?_ (by first | assumption | omega))) (by first | assumption | omega)) ?_
      refine Ends.b3 (fun _ => Ends.g ⟨by decide, by decide⟩ ?_) (fun z => by omega)
      rw [an0, an0]
      have l2 : LX B n (hset (hset q (B + 128) (Int.toNat 12) 12) (B + 129) (Int.toNat 12) 0) := LX.setS (LX.setS lq rfl) rfl
      have g2 : Agr (spW B) h (hset (hset q (B + 128) (Int.toNat 12) 12) (B + 129) (Int.toNat 12) 0) := (gq.set (Or.inr (Or.inl rfl))).set (Or.inr (Or.inr rfl))
      have s2 : SpI pl jn ja jb (eS jb js) (aC' jx ou a) (fun _ => false) 12 (fun z => decide (z = 12)) (fun _ => 12) (fun _ => 0) false := by
        refine ⟨fun x _ e => absurd e Bool.false_ne_true, fun _ _ _ => rfl, fun _ _ _ _ => rfl, fun x hx r => ⟨(show (12 : Nat) < 13 by decide), by rw [of_decide_eq_true r]; exact TCon.rf⟩, fun _ _ _ _ => rfl, fun z => absurd z (by decide), fun pos _ x _ r => ?_, fun x _ _ => ?_, fun _ _ _ _ e => absurd e Bool.false_ne_true⟩
        · show (0 : Int) = pos x - pos 12
          rw [of_decide_eq_true r]; omega
        · show -(1000 * _) ≤ (0 : Int) ∧ (0 : Int) ≤ 1000 * _
          omega
      have sh2 : SpH B (hset (hset q (B + 128) (Int.toNat 12) 12) (B + 129) (Int.toNat 12) 0) (fun z => decide (z = 12)) (fun _ => 12) (fun _ => 0) false := by
        refine ⟨fun z hz => ?_, fun z hz hr => ?_, ?_⟩
        · rw [hv_na (by omega)]
          by_cases y : z = 12
          · rw [y]; exact hv_set_at ..
          · rw [hv_set_ne (by show ¬ (_ ∧ z = 12); omega), lo z (by omega)]; simp [y]
        · rw [of_decide_eq_true hr]; exact hv_set_at ..
        · rw [hv_na (by omega), hv_na (by omega)]; exact e18
      refine Ends.cv l2 (by decide +kernel) (c_spread121 l2 (by omega) (J' _ g2) (ho' _ g2) ha s2 sh2) (fun q3 l3 _ _ _ ⟨g3, R', ρ', α', w', s3, sh3, keep, p⟩ => ?_)
      refine Ends.eq (b123_48 (n := n) (by (repeat' first | assumption | refine LX.setF _ _ ?_ (by decide +kernel) | refine LX.setS ?_ rfl | refine LX.setA ?_ (by first | assumption | omega))) (by first | assumption | omega)) ?_
      obtain ⟨k1, k2, k3⟩ := keep 12 (by decide) rfl
      have s3' := s3
      obtain ⟨s31, s32, s33, s34, s35, s36, s37, s38, s39⟩ := s3
      have r12 : ∀ x, x < 13 → R' x = true → ρ' x = 12 := fun x hx r => s33 x hx r rfl
      refine second pl 0 q3 R' ρ' α' w' (by omega) l3 (g2.tr g3 (fun c k z => z)) ⟨fun k hk hk' => (p k hk hk hk').1, k1, s34, fun k hk hk' r => s3'.one hk hk' (hb k hk).1 (hb k hk).2 r (by rw [← (p k hk hk hk').1]; exact r), s36, s37, s38, fun e k hk hk' r => (p k hk hk hk').2 r e, fun x hx r => Or.inl (r12 x hx r), fun x hx r _ => r12 x hx r, k2, k3⟩ sh3 (fun y hy => absurd hy (by omega))
    | succ r ih =>
      intro i q hi lq gq e18 lo
      refine Ends.eq (b123_7 (n := n) (by (repeat' first | assumption | refine LX.setF _ _ ?_ (by decide +kernel) | refine LX.setS ?_ rfl | refine LX.setA ?_ (by first | assumption | omega))) (by first | assumption | omega)) ?_
      refine Ends.b3 (fun z => by omega) (fun _ => Ends.g ⟨by omega, by omega⟩ ?_)
      rw [tn, an0, w_succ (by omega)]
      refine ih (i + 1) _ (by omega) (LX.setS lq rfl) (gq.set (Or.inr (Or.inl rfl))) (by rw [hv_na (by omega)]; exact e18) (fun y hy => ?_)
      by_cases z : y = i
      · rw [z]; exact hv_set_at ..
      · rw [hv_set_ne (by omega)]; exact lo y (by omega)
  refine Ends.eq (b123_0 (n := n) (by (repeat' first | assumption | refine LX.setF _ _ ?_ (by decide +kernel) | refine LX.setS ?_ rfl | refine LX.setA ?_ (by first | assumption | omega))) (by first | assumption | omega)) ?_
  exact first 13 0 _ rfl (LX.setF 118 18 l (by decide +kernel)) (Agr.rf.set (Or.inl ⟨rfl, rfl⟩)) (hv_set_at ..) (fun y hy => absurd hy (by omega))
/-- whether they can hold: along all axes -/
def TiAll (jn : Nat) (ja jb jx : Nat → Nat) (js : Nat → Int) (ou : Nat → Bool) : Prop := ∀ a, a < 3 → TiSat jn ja jb (eS jb js) (aC' jx ou a)
theorem c_canHold108 (l : LX B n h) (hd : 14 ≤ d) (J : AsJ B h pl jn ja jb jx js) (ho : ∀ k, k < 24 → hv h (B + 130) k = if ou k = true then 1 else 0) :
    Vt 0 (cll PP (ev PP (gsF gv) B) d 108 [(2, rf (B + 118))] h) (fun x h' => Agr (spW B) h h' ∧ ((x = 1 ∧ TiAll jn ja jb jx js ou) ∨ (x = 0 ∧ ¬ TiAll jn ja jb jx js ou))) := by
  refine Vt.inq (D := 13) hd (Nat.le_of_ble_eq_true rfl) rfl (fun d hd Q K => ?_)
  have key : ∀ (r a : Nat) (q : AH), a + r = 3 → LX B n q → Agr (spW B) h q → (∀ b, b < a → TiSat jn ja jb (eS jb js) (aC' jx ou b)) → Ends (ev PP (gsF gv) B d 108 2 [(2, rf (B + 118)), (0, (a : Int))] [] q) Q := by
    intro r
    induction r with
    | zero =>
      intro a q ha lq gq lo
      refine Ends.eq (b108_2 (n := n) (by (repeat' first | assumption | refine LX.setF _ _ ?_ (by decide +kernel) | refine LX.setS ?_ rfl | refine LX.setA ?_ (by first | assumption | omega))) (by first | assumption | omega)) ?_
      exact Ends.b3 (fun _ => Ends.sm (K _ _ ⟨gq, Or.inl ⟨rfl, fun b hb => lo b (by omega)⟩⟩)) (fun z => by omega)
    | succ r ih =>
      intro a q ha lq gq lo
      have J' : AsJ B q pl jn ja jb jx js := J.agr gq (by unfold spW; omega) (by unfold spW; omega) (fun c k h1 h2 => by unfold spW; omega)
      refine Ends.eq (b108_2 (n := n) (by (repeat' first | assumption | refine LX.setF _ _ ?_ (by decide +kernel) | refine LX.setS ?_ rfl | refine LX.setA ?_ (by first | assumption | omega))) (by first | assumption | omega)) ?_
      refine Ends.b3 (fun z => by omega) (fun _ => ?_)
      refine Ends.cv lq (by decide +kernel) (c_tie123 (a := a) (ou := ou) lq (by omega) J' (fun k hk => by rw [gq.at _ _ (by unfold spW; omega)]; exact ho k hk) (by omega)) (fun q2 l2 _ _ _ ⟨g2, ρ, α, w, t, _, e18⟩ => ?_)
      refine Ends.eq (b108_12 (n := n) (by (repeat' first | assumption | refine LX.setF _ _ ?_ (by decide +kernel) | refine LX.setS ?_ rfl | refine LX.setA ?_ (by first | assumption | omega))) (by first | assumption | omega)) ?_
      rw [e18]
      have G := gq.tr g2 (fun c k z => z)
      cases hw : w
      · refine Ends.b0 (fun _ => ?_) (fun z => absurd rfl z)
        rw [w_succ (by omega)]
        refine ih (a + 1) q2 (by omega) l2 G (fun b hb => ?_)
        by_cases z : b = a
        · rw [z]; exact t.2.2.2.2.1.mp hw
        · exact lo b (by omega)
      · refine Ends.b0 (fun z => absurd z (by decide)) (fun _ => Ends.sm (K _ _ ⟨G, Or.inr ⟨rfl, fun z => ?_⟩⟩))
        have := t.2.2.2.2.1.mpr (z a (by omega))
        rw [hw] at this
        exact absurd this (by decide)
  refine Ends.eq (b108_0 (n := n) (by (repeat' first | assumption | refine LX.setF _ _ ?_ (by decide +kernel) | refine LX.setS ?_ rfl | refine LX.setA ?_ (by first | assumption | omega))) (by first | assumption | omega)) ?_
  exact key 3 0 h rfl l Agr.rf (fun b hb => absurd hb (by omega))
theorem c_allIn106 (l : LX B n h) (hd : 10 ≤ d) : Vd (cll PP (ev PP (gsF gv) B) d 106 [(2, rf (B + 118))] h) (fun h' => Agr (fun c _ => c = B + 130) h h' ∧ ∀ k, k < 24 → hv h' (B + 130) k = 0) := by
  refine Vd.inq (D := 9) hd (Nat.le_of_ble_eq_true rfl) rfl (fun d hd Q K => ?_)
  have key : ∀ (r i : Nat) (q : AH), i + r = 24 → LX B n q → Agr (fun c _ => c = B + 130) h q → (∀ k, k < i → hv q (B + 130) k = 0) → Ends (ev PP (gsF gv) B d 106 2 [(2, rf (B + 118)), (0, (i : Int))] [] q) Q := by
    intro r
    induction r with
    | zero =>
      intro i q hi lq gq lo
      refine Ends.eq (b106_2 (n := n) (by (repeat' first | assumption | refine LX.setF _ _ ?_ (by decide +kernel) | refine LX.setS ?_ rfl | refine LX.setA ?_ (by first | assumption | omega))) (by first | assumption | omega)) ?_
      exact Ends.b3 (fun _ => Ends.sm (K _ ⟨gq, fun k hk => lo k (by omega)⟩)) (fun z => by omega)
    | succ r ih =>
      intro i q hi lq gq lo
      refine Ends.eq (b106_2 (n := n) (by (repeat' first | assumption | refine LX.setF _ _ ?_ (by decide +kernel) | refine LX.setS ?_ rfl | refine LX.setA ?_ (by first | assumption | omega))) (by first | assumption | omega)) ?_
      refine Ends.b3 (fun z => by omega) (fun _ => Ends.g ⟨by omega, by omega⟩ ?_)
      rw [tn, w_succ (by omega)]
      refine ih (i + 1) _ (by omega) (LX.setS lq rfl) (gq.set rfl) (fun k hk => ?_)
      by_cases z : k = i
      · rw [z]; exact hv_set_at ..
      · rw [hv_set_ne (by omega)]; exact lo k (by omega)
  refine Ends.eq (b106_0 (n := n) (by (repeat' first | assumption | refine LX.setF _ _ ?_ (by decide +kernel) | refine LX.setS ?_ rfl | refine LX.setA ?_ (by first | assumption | omega))) (by first | assumption | omega)) ?_
  exact key 24 0 h rfl l Agr.rf (fun k hk => absurd hk (by omega))
end TIE123
