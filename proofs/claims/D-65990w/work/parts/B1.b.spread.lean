/-! L3: the desk ties -/
section SPREAD
variable {gv : Nat → Int} {B n d : Nat} {h : AH} {pl jn : Nat} {ja jb jx : Nat → Nat} {js : Nat → Int} {ou : Nat → Bool} {a : Nat}
def axm (x : Nat) : Int := if x = 3 then 7 else 2 ^ x
/-- joints of the desk -/
def AsJ (B : Nat) (h : AH) (pl jn : Nat) (ja jb jx : Nat → Nat) (js : Nat → Int) : Prop := hv h (B + 118) 3 = (pl : Int) ∧ hv h (B + 118) 4 = (jn : Int) ∧ pl ≤ 12 ∧ jn ≤ 24 ∧ ∀ k, k < jn → hv h (B + 124) k = (ja k : Int) ∧ hv h (B + 125) k = (jb k : Int) ∧ hv h (B + 126) k = axm (jx k) ∧ hv h (B + 127) k = js k ∧ ja k < pl ∧ (jb k < pl ∨ jb k = 12) ∧ jx k ≤ 3 ∧ -1000 ≤ js k ∧ js k ≤ 1000
def eS (jb : Nat → Nat) (js : Nat → Int) (k : Nat) : Int := if jb k = 12 then -(js k) else js k
def aC' (jx : Nat → Nat) (ou : Nat → Bool) (a : Nat) (k : Nat) : Prop := ou k = false ∧ (jx k = 3 ∨ jx k = a)
def spW (B : Nat) : Nat → Nat → Prop := fun c k => (c = B + 118 ∧ k = 18) ∨ c = B + 128 ∨ c = B + 129
/-- what the cells say of roots -/
def SpH (B : Nat) (h : AH) (R : Nat → Bool) (ρ : Nat → Nat) (α : Nat → Int) (w : Bool) : Prop := (∀ x, x < 13 → hv h (B + 128) x = (if R x = true then (ρ x : Int) else -1)) ∧ (∀ x, x < 13 → R x = true → hv h (B + 129) x = α x) ∧ hv h (B + 118) 18 = if w = true then 1 else 0
theorem axm_b : ∀ x : Fin 4, ∀ a : Fin 3, bop32 126 (bop32 122 (axm x) ((a : Nat) : Int)) 1 = if (x : Nat) = 3 ∨ (x : Nat) = a then 1 else 0 := by decide +kernel
theorem AsJ.agr {W : Nat → Nat → Prop} {q : AH} (J : AsJ B h pl jn ja jb jx js) (g : Agr W h q) (h1 : ¬ W (B + 118) 3) (h2 : ¬ W (B + 118) 4) (h3 : ∀ c k, B + 124 ≤ c → c ≤ B + 127 → ¬ W c k) : AsJ B q pl jn ja jb jx js := by
  obtain ⟨j1, j2, j3, j4, j5⟩ := J
  refine ⟨by rw [g.at _ _ h1]; exact j1, by rw [g.at _ _ h2]; exact j2, j3, j4, fun k hk => ?_⟩
  rw [g.at _ _ (h3 _ _ (by omega) (by omega)), g.at _ _ (h3 _ _ (by omega) (by omega)), g.at _ _ (h3 _ _ (by omega) (by omega)), g.at _ _ (h3 _ _ (by omega) (by omega))]
  exact j5 k hk
/-- all that is known while a round of spread goes on -/
def SpP (jn : Nat) (ja jb : Nat → Nat) (es : Nat → Int) (A : Nat → Prop) (R : Nat → Bool) (α : Nat → Int) (w : Bool) (k : Nat) : Prop := ∀ j, j < k → j < jn → A j → R (ja j) = R (jb j) ∧ (R (ja j) = true → w = false → α (jb j) = α (ja j) + es j)
theorem Rc_lt {R : Nat → Bool} : cntN R 13 ≤ 13 := cntN_le R 13
theorem c_spread121 (l : LX B n h) (hd : 10 ≤ d) (J : AsJ B h pl jn ja jb jx js) (ho : ∀ k, k < 24 → hv h (B + 130) k = if ou k = true then 1 else 0) (ha : a < 3) {O : Nat → Bool} {r0 : Nat} {R : Nat → Bool} {ρ : Nat → Nat} {α : Nat → Int} {w : Bool} (s : SpI pl jn ja jb (eS jb js) (aC' jx ou a) O r0 R ρ α w) (sh : SpH B h R ρ α w) :
    Vd (cll PP (ev PP (gsF gv) B) d 121 [(2, rf (B + 118)), (0, (a : Int))] h) (fun h' => Agr (spW B) h h' ∧ ∃ R' ρ' α' w', SpI pl jn ja jb (eS jb js) (aC' jx ou a) O r0 R' ρ' α' w' ∧ SpH B h' R' ρ' α' w' ∧ (∀ x, x < 13 → R x = true → R' x = true ∧ ρ' x = ρ x ∧ α' x = α x) ∧ SpP jn ja jb (eS jb js) (aC' jx ou a) R' α' w' jn) := by
  refine Vd.inq (D := 9) hd (Nat.le_of_ble_eq_true rfl) rfl (fun d hd Q K => ?_)
  have J5 := J.2.2.2.2
  have jn24 := J.2.2.2.1
  have pl12 := J.2.2.1
  -- rounds by what is not rooted, within a round by what is left of the joints
  have key : ∀ (c : Nat) (q : AH) (R' : Nat → Bool) (ρ' : Nat → Nat) (α' : Nat → Int) (w' : Bool) (u3 u4 u5 u6 : AV), cntN R' 13 + c = 13 → LX B n q → Agr (spW B) h q → SpI pl jn ja jb (eS jb js) (aC' jx ou a) O r0 R' ρ' α' w' → SpH B q R' ρ' α' w' → (∀ x, x < 13 → R x = true → R' x = true ∧ ρ' x = ρ x ∧ α' x = α x) → Ends (ev PP (gsF gv) B d 121 2 [(2, rf (B + 118)), (0, (a : Int)), (0, 1), u3, u4, u5, u6] [] q) Q := by
    intro c
    induction c using Nat.strongRecOn with
    | _ c ihc =>
      intro q R' ρ' α' w' u3 u4 u5 u6 hc lq gq sq hq mq
      have rnd : ∀ (r k : Nat) (q2 : AH) (R2 : Nat → Bool) (ρ2 : Nat → Nat) (α2 : Nat → Int) (w2 m : Bool) (v4 v5 v6 : AV), k + r = jn → LX B n q2 → Agr (spW B) h q2 → SpI pl jn ja jb (eS jb js) (aC' jx ou a) O r0 R2 ρ2 α2 w2 → SpH B q2 R2 ρ2 α2 w2 → (∀ x, x < 13 → R x = true → R2 x = true ∧ ρ2 x = ρ x ∧ α2 x = α x) → (m = false → SpP jn ja jb (eS jb js) (aC' jx ou a) R2 α2 w2 k) → (cntN R' 13 + (if m = true then 1 else 0) ≤ cntN R2 13) → Ends (ev PP (gsF gv) B d 121 10 [(2, rf (B + 118)), (0, (a : Int)), (0, if m = true then 1 else 0), (0, (k : Int)), v4, v5, v6] [] q2) Q := by
        intro r
        induction r with
        | zero =>
          intro k q2 R2 ρ2 α2 w2 m v4 v5 v6 hk l2 g2 s2 h2 m2 hp hm
          have e4 : hv q2 (B + 118) 4 = (jn : Int) := by rw [g2.at _ _ (by unfold spW; omega)]; exact J.2.1
          refine Ends.eq (b121_10 (n := n) (by (repeat' first | assumption | refine LX.setF _ _ ?_ (by decide +kernel) | refine LX.setS ?_ rfl | refine LX.setA ?_ (by first | assumption | omega))) (by first | assumption | omega)) ?_
          rw [e4]
          refine Ends.b3 (fun _ => ?_) (fun z => by omega)
          cases m
          · refine Ends.eq (b121_2 (n := n) (by (repeat' first | assumption | refine LX.setF _ _ ?_ (by decide +kernel) | refine LX.setS ?_ rfl | refine LX.setA ?_ (by first | assumption | omega))) (by first | assumption | omega)) ?_
            refine Ends.b0 (fun _ => Ends.sm (K _ ⟨g2, R2, ρ2, α2, w2, s2, h2, m2, ?_⟩)) (fun z => absurd rfl z)
            have := hp rfl
            rw [show k = jn by omega] at this
            exact this
          · have lt := hm
            rw [if_pos rfl] at lt
            have le := Rc_lt (R := R2)
            exact ihc (13 - cntN R2 13) (by omega) q2 R2 ρ2 α2 w2 _ _ _ _ (by omega) l2 g2 s2 h2 m2
        | succ r ih =>
          intro k q2 R2 ρ2 α2 w2 m v4 v5 v6 hk l2 g2 s2 h2 m2 hp hm
          have hkj : k < jn := by omega
          obtain ⟨j1, j2, j3, j4, j5, j6, j7, j8, j9⟩ := J5 k hkj
          have e4 : hv q2 (B + 118) 4 = (jn : Int) := by rw [g2.at _ _ (by unfold spW; omega)]; exact J.2.1
          have e30 : hv q2 (B + 130) k = if ou k = true then 1 else 0 := by rw [g2.at _ _ (by unfold spW; omega)]; exact ho k (by omega)
          have e24 : hv q2 (B + 124) k = (ja k : Int) := by rw [g2.at _ _ (by unfold spW; omega)]; exact j1
          have e25 : hv q2 (B + 125) k = (jb k : Int) := by rw [g2.at _ _ (by unfold spW; omega)]; exact j2
          have e26 : hv q2 (B + 126) k = axm (jx k) := by rw [g2.at _ _ (by unfold spW; omega)]; exact j3
          have e27 : hv q2 (B + 127) k = js k := by rw [g2.at _ _ (by unfold spW; omega)]; exact j4
          have nx : ∀ (q3 : AH) (R3 : Nat → Bool) (ρ3 : Nat → Nat) (α3 : Nat → Int) (w3 m3 : Bool) (v4 v5 v6 : AV), LX B n q3 → Agr (spW B) h q3 → SpI pl jn ja jb (eS jb js) (aC' jx ou a) O r0 R3 ρ3 α3 w3 → SpH B q3 R3 ρ3 α3 w3 → (∀ x, x < 13 → R x = true → R3 x = true ∧ ρ3 x = ρ x ∧ α3 x = α x) → (m3 = false → SpP jn ja jb (eS jb js) (aC' jx ou a) R3 α3 w3 (k + 1)) → (cntN R' 13 + (if m3 = true then 1 else 0) ≤ cntN R3 13) → Ends (ev PP (gsF gv) B d 121 260 [(2, rf (B + 118)), (0, (a : Int)), (0, if m3 = true then 1 else 0), (0, (k : Int)), v4, v5, v6] [] q3) Q := fun q3 R3 ρ3 α3 w3 m3 v4 v5 v6 l3 g3 s3 h3 mm3 hp3 hm3 => by
            refine Ends.eq (b121_260 (n := n) (by (repeat' first | assumption | refine LX.setF _ _ ?_ (by decide +kernel) | refine LX.setS ?_ rfl | refine LX.setA ?_ (by first | assumption | omega))) (by first | assumption | omega)) ?_
            rw [w_succ (by omega)]
            exact ih (k + 1) q3 R3 ρ3 α3 w3 m3 v4 v5 v6 (by omega) l3 g3 s3 h3 mm3 hp3 hm3
          have skip : ¬ aC' jx ou a k → ∀ v4 v5 v6 : AV, Ends (ev PP (gsF gv) B d 121 260 [(2, rf (B + 118)), (0, (a : Int)), (0, if m = true then 1 else 0), (0, (k : Int)), v4, v5, v6] [] q2) Q := fun na v4 v5 v6 => nx q2 R2 ρ2 α2 w2 m v4 v5 v6 l2 g2 s2 h2 m2 (fun e j hj hjn haj => by
            by_cases z : j = k
            · rw [z] at haj; exact absurd haj na
            · exact hp e j (by omega) hjn haj) hm
          refine Ends.eq (b121_10 (n := n) (by (repeat' first | assumption | refine LX.setF _ _ ?_ (by decide +kernel) | refine LX.setS ?_ rfl | refine LX.setA ?_ (by first | assumption | omega))) (by first | assumption | omega)) ?_
          rw [e4, tn, e30, e24, e25, e26, e27]
          refine Ends.b3 (fun z => by omega) (fun _ => Ends.g ⟨by omega, by omega⟩ ?_)
          cases hou : ou k
          rotate_left
          · exact Ends.b1 (fun _ => skip (fun z => by rw [z.1] at hou; exact absurd hou (by decide)) _ _ _) (fun z => absurd z (by decide))
          refine Ends.b1 (fun z => absurd rfl z) (fun _ => ?_)
          rw [axm_b ⟨jx k, by omega⟩ ⟨a, ha⟩]
          by_cases hx : jx k = 3 ∨ jx k = a
          rotate_left
          · rw [if_neg hx]
            exact Ends.b1 (fun z => absurd rfl z) (fun _ => skip (fun z => hx z.2) _ _ _)
          rw [if_pos hx]
          have act : aC' jx ou a k := ⟨hou, hx⟩
          refine Ends.b1 (fun _ => ?_) (fun z => absurd z (by decide))
          have a13 : ja k < 13 := by omega
          have b13 : jb k < 13 := by omega
          refine Ends.g ⟨by omega, by omega⟩ ?_
          have es1 : cond (tst 1 ((jb k : Nat) : Int) 12) (js k) (uop 0 (js k)) = eS jb js k := by
            unfold eS
            rw [tst1]
            by_cases z : jb k = 12
            · rw [if_pos z, decide_eq_true (show ((jb k : Nat) : Int) = 12 by omega)]
              exact neg32 (by omega) (by omega)
            · rw [if_neg z, decide_eq_false (show ¬ ((jb k : Nat) : Int) = 12 by omega)]
              rfl
          have esb : -1000 ≤ eS jb js k ∧ eS jb js k ≤ 1000 := by unfold eS; split <;> omega
          rw [tn, tn, h2.1 _ a13, h2.1 _ b13, es1]
          have al := s2.2.2.2.2.2.2.2.1
          have cl := Rc_lt (R := R2)
          -- the four cases of who is rooted
          have both : R2 (ja k) = true → R2 (jb k) = true → Ends (ev PP (gsF gv) B d 121 107 [(2, rf (B + 118)), (0, (a : Int)), (0, if m = true then 1 else 0), (0, (k : Int)), (0, (ja k : Int)), (0, (jb k : Int)), (0, eS jb js k)] [] q2) Q := fun r1 r2 => by
            have a1 := al _ a13 r1
            have r1' := (s2.2.2.2.1 _ a13 r1).1
            have one := s2.one hkj act a13 b13 r1 r2
            refine Ends.eq (b121_107 (n := n) (by (repeat' first | assumption | refine LX.setF _ _ ?_ (by decide +kernel) | refine LX.setS ?_ rfl | refine LX.setA ?_ (by first | assumption | omega))) (by first | assumption | omega)) ?_
            rw [tn, tn, h2.1 _ a13, h2.1 _ b13, if_pos r1, if_pos r2, h2.2.1 _ a13 r1, h2.2.1 _ b13 r2, h2.2.2, one, add32 (by omega) (by omega)]
            refine Ends.g ⟨by omega, by omega⟩ (Ends.b2 (fun z => by omega) (fun _ => Ends.g ⟨by omega, by omega⟩ (Ends.b2 (fun z => by omega) (fun _ => ?_))))
            have g3 : ∀ v, Agr (spW B) h (hset q2 (B + 118) 18 v) := fun v => g2.set (Or.inl ⟨rfl, rfl⟩)
            have l3 : ∀ v, LX B n (hset q2 (B + 118) 18 v) := fun v => LX.setF 118 18 l2 (by decide +kernel)
            have h3 : ∀ w3 : Bool, SpH B (hset q2 (B + 118) 18 (if w3 = true then 1 else 0)) R2 ρ2 α2 w3 := fun w3 => ⟨fun x hx => by rw [hv_na (by omega)]; exact h2.1 x hx, fun x hx hr => by rw [hv_na (by omega)]; exact h2.2.1 x hx hr, hv_set_at ..⟩
            by_cases ww : w2 = true
            · have e : cond (tst 1 (if w2 = true then (1 : Int) else 0) 0) (1 : Int) (cond (tst 1 ((ρ2 (jb k) : Nat) : Int) ((ρ2 (jb k) : Nat) : Int)) 0 (cond (tst 0 (α2 (jb k)) (α2 (ja k) + eS jb js k)) 0 1)) = if true = true then 1 else 0 := by rw [ww]; rfl
              rw [e]
              refine nx _ R2 ρ2 α2 true m _ _ _ (l3 _) (g3 _) (by rw [← ww]; exact s2) (h3 true) m2 (fun em j hj hjn haj => ?_) hm
              by_cases z : j = k
              · rw [z]; exact ⟨r1.trans r2.symm, fun _ y => absurd y (by decide)⟩
              · exact ⟨(hp em j (by omega) hjn haj).1, fun _ y => absurd y (by decide)⟩
            · have w0 : w2 = false := Bool.eq_false_iff.mpr ww
              by_cases ok : α2 (jb k) = α2 (ja k) + eS jb js k
              · have e : cond (tst 1 (if w2 = true then (1 : Int) else 0) 0) (1 : Int) (cond (tst 1 ((ρ2 (jb k) : Nat) : Int) ((ρ2 (jb k) : Nat) : Int)) 0 (cond (tst 0 (α2 (jb k)) (α2 (ja k) + eS jb js k)) 0 1)) = if false = true then 1 else 0 := by
                  rw [w0, tst1 (x := ((ρ2 (jb k) : Nat) : Int)), decide_eq_true rfl, tst0, decide_eq_true ok]; rfl
                rw [e]
                refine nx _ R2 ρ2 α2 false m _ _ _ (l3 _) (g3 _) (by rw [← w0]; exact s2) (h3 false) m2 (fun em j hj hjn haj => ?_) hm
                by_cases z : j = k
                · rw [z]; exact ⟨r1.trans r2.symm, fun _ _ => ok⟩
                · have := hp em j (by omega) hjn haj
                  rw [w0] at this
                  exact this
              · have e : cond (tst 1 (if w2 = true then (1 : Int) else 0) 0) (1 : Int) (cond (tst 1 ((ρ2 (jb k) : Nat) : Int) ((ρ2 (jb k) : Nat) : Int)) 0 (cond (tst 0 (α2 (jb k)) (α2 (ja k) + eS jb js k)) 0 1)) = if true = true then 1 else 0 := by
                  rw [w0, tst1 (x := ((ρ2 (jb k) : Nat) : Int)), decide_eq_true rfl, tst0, decide_eq_false ok]; rfl
                rw [e]
                refine nx _ R2 ρ2 α2 true m _ _ _ (l3 _) (g3 _) (s2.bad hkj act a13 b13 r1 r2 ok) (h3 true) m2 (fun em j hj hjn haj => ?_) hm
                by_cases z : j = k
                · rw [z]; exact ⟨r1.trans r2.symm, fun _ y => absurd y (by decide)⟩
                · exact ⟨(hp em j (by omega) hjn haj).1, fun _ y => absurd y (by decide)⟩
          have grow : ∀ (u v : Nat) (x : Int) (R3 : Nat → Bool), R3 = (fun z => R2 z || decide (z = v)) → u < 13 → v < 13 → R2 u = true → R2 v = false → ((u = ja k ∧ v = jb k ∧ x = α2 u + eS jb js k) ∨ (u = jb k ∧ v = ja k ∧ x = α2 u - eS jb js k)) → Ends (ev PP (gsF gv) B d 121 258 [(2, rf (B + 118)), (0, (a : Int)), (0, if m = true then 1 else 0), (0, (k : Int)), (0, (ja k : Int)), (0, (jb k : Int)), (0, eS jb js k)] [] (hset (hset q2 (B + 128) v (ρ2 u : Int)) (B + 129) v x)) _ := fun u v x R3 eR hu hv ru rv huv => by
            have s3 := s2.more hkj act hu hv ru rv huv esb
            have l3 : LX B n (hset (hset q2 (B + 128) v (ρ2 u : Int)) (B + 129) v x) := LX.setS (LX.setS l2 rfl) rfl
            refine Ends.eq (b121_258 (n := n) (by (repeat' first | assumption | refine LX.setF _ _ ?_ (by decide +kernel) | refine LX.setS ?_ rfl | refine LX.setA ?_ (by first | assumption | omega))) (by first | assumption | omega)) ?_
            refine nx _ _ _ _ w2 true _ _ _ l3 ((g2.set (Or.inr (Or.inl rfl))).set (Or.inr (Or.inr rfl))) s3 ⟨fun z hz => ?_, fun z hz hr => ?_, ?_⟩ (fun z hz hr => by
              obtain ⟨e1, e2, e3⟩ := m2 z hz hr
              have : z ≠ v := fun y => by rw [y, rv] at e1; exact absurd e1 (by decide)
              exact ⟨by simp [e1], by simp [this, e2], by simp [this, e3]⟩) (fun y => absurd y (by decide)) ?_
            · rw [hv_na (by omega)]
              by_cases y : z = v
              · rw [y, hv_set_at]; simp
              · rw [hv_set_ne (by omega), h2.1 z hz]; simp [y]
            · by_cases y : z = v
              · rw [y, hv_set_at]; simp
              · simp [y] at hr
                rw [hv_set_ne (by omega), hv_na (by omega), h2.2.1 z hz hr]; simp [y]
            · rw [hv_na (by omega), hv_na (by omega)]; exact h2.2.2
            · rw [cntN_set rv, if_pos hv, if_pos rfl]
              split at hm <;> omega
          cases ra : R2 (ja k)
          · cases rb : R2 (jb k)
            · refine Ends.b3 (fun z => by simp at z) (fun _ => Ends.g ⟨by omega, by omega⟩ (Ends.b3 (fun z => by simp at z) (fun _ => ?_)))
              refine nx q2 R2 ρ2 α2 w2 m _ _ _ l2 g2 s2 h2 m2 (fun em j hj hjn haj => ?_) hm
              by_cases z : j = k
              · rw [z, ra, rb]; exact ⟨rfl, fun y => absurd y (by decide)⟩
              · exact hp em j (by omega) hjn haj
            · have a1 := al _ b13 rb
              have r1' := (s2.2.2.2.1 _ b13 rb).1
              refine Ends.b3 (fun z => by simp at z) (fun _ => Ends.g ⟨by omega, by omega⟩ (Ends.b3 (fun _ => ?_) (fun z => by rw [if_pos rfl] at z; omega)))
              refine Ends.eq (b121_107 (n := n) (by (repeat' first | assumption | refine LX.setF _ _ ?_ (by decide +kernel) | refine LX.setS ?_ rfl | refine LX.setA ?_ (by first | assumption | omega))) (by first | assumption | omega)) ?_
              rw [tn, h2.1 _ a13, ra]
              refine Ends.g ⟨by omega, by omega⟩ (Ends.b2 (fun _ => ?_) (fun z => by simp at z))
              refine Ends.eq (b121_183 (n := n) (by (repeat' first | assumption | refine LX.setF _ _ ?_ (by decide +kernel) | refine LX.setS ?_ rfl | refine LX.setA ?_ (by first | assumption | omega))) (by first | assumption | omega)) ?_
              rw [tn, tn, h2.1 _ a13, ra, h2.1 _ b13, if_pos rb, h2.2.1 _ b13 rb]
              simp only [an0]
              refine Ends.g ⟨by omega, by omega⟩ (Ends.b2 (fun _ => Ends.g ⟨by omega, by omega⟩ ?_) (fun z => by simp at z))
              rw [sub32 (by omega) (by omega)]
              exact grow (jb k) (ja k) _ _ rfl b13 a13 rb ra (Or.inr ⟨rfl, rfl, rfl⟩)
          · have a1 := al _ a13 ra
            have r1' := (s2.2.2.2.1 _ a13 ra).1
            refine Ends.b3 (fun _ => ?_) (fun z => by rw [if_pos rfl] at z; omega)
            cases rb : R2 (jb k)
            · refine Ends.eq (b121_107 (n := n) (by (repeat' first | assumption | refine LX.setF _ _ ?_ (by decide +kernel) | refine LX.setS ?_ rfl | refine LX.setA ?_ (by first | assumption | omega))) (by first | assumption | omega)) ?_
              rw [tn, tn, h2.1 _ a13, if_pos ra, h2.1 _ b13, rb]
              refine Ends.g ⟨by omega, by omega⟩ (Ends.b2 (fun z => by omega) (fun _ => Ends.g ⟨by omega, by omega⟩ (Ends.b2 (fun _ => ?_) (fun z => by simp at z))))
              refine Ends.eq (b121_183 (n := n) (by (repeat' first | assumption | refine LX.setF _ _ ?_ (by decide +kernel) | refine LX.setS ?_ rfl | refine LX.setA ?_ (by first | assumption | omega))) (by first | assumption | omega)) ?_
              rw [tn, tn, h2.1 _ a13, if_pos ra]
              simp only [an0]
              refine Ends.g ⟨by omega, by omega⟩ (Ends.b2 (fun z => by omega) (fun _ => Ends.g ⟨by omega, by omega⟩ ?_))
              rw [h2.2.1 _ a13 ra, add32 (by omega) (by omega)]
              exact grow (ja k) (jb k) _ _ rfl a13 b13 ra rb (Or.inl ⟨rfl, rfl, rfl⟩)
            · exact both ra rb
      refine Ends.eq (b121_2 (n := n) (by (repeat' first | assumption | refine LX.setF _ _ ?_ (by decide +kernel) | refine LX.setS ?_ rfl | refine LX.setA ?_ (by first | assumption | omega))) (by first | assumption | omega)) ?_
      refine Ends.b0 (fun z => by simp at z) (fun _ => ?_)
      exact rnd jn 0 q R' ρ' α' w' false u4 u5 u6 (by omega) lq gq sq hq mq (fun _ j hj => absurd hj (by omega)) (by simp)
  refine Ends.eq (b121_0 (n := n) (by (repeat' first | assumption | refine LX.setF _ _ ?_ (by decide +kernel) | refine LX.setS ?_ rfl | refine LX.setA ?_ (by first | assumption | omega))) (by first | assumption | omega)) ?_
  have := Rc_lt (R := R)
  exact key (13 - cntN R 13) h R ρ α w _ _ _ _ (by omega) l Agr.rf s sh (fun _ _ z => ⟨z, rfl, rfl⟩)
end SPREAD
