/-! L3: the model's tool goes over columns -/
section MOV
variable {gv : Nat → Int} {B n d r : Nat} {h : AH} {S : Nat → Bool} {D : Nat → Bool}
/-- square and sort of a column -/
def kU (n k : Nat) : Nat := k / 24 % n
def kV (n k : Nat) : Nat := k / 24 / n
/-- column k is under the tool -/
def unK (n r x to y k : Nat) : Bool := unM r x to y (kU n k) (kV n k) (k % 24)
/-- ahead of square (U, V), sort t -/
def ahK (n : Nat) (U V : Int) (t k : Nat) : Bool := decide ((kU n k : Int) < U ∨ ((kU n k : Int) = U ∧ ((kV n k : Int) < V ∨ ((kV n k : Int) = V ∧ k % 24 < t))))
theorem unK_out {x to y k : Nat} (hx : x ≤ to) (ht : k % 24 < 24) (o : (kU n k : Int) < (x : Int) - r ∨ to + r ≤ kU n k ∨ (kV n k : Int) < (y : Int) - r ∨ y + r ≤ kV n k) : unK n r x to y k = false := by
  have r0 : 1 ≤ rT (k % 24) 0 ∧ rT (k % 24) 0 < 8 := rT_lt ⟨k % 24, ht⟩ 0
  have r1 : 1 ≤ rT (k % 24) 1 ∧ rT (k % 24) 1 < 8 := rT_lt ⟨k % 24, ht⟩ 1
  unfold unK unM und
  rw [decide_eq_false]
  omega
theorem k_of {u v t : Nat} (hu : u < n) (ht : t < 24) : kU n (24 * (v * n + u) + t) = u ∧ kV n (24 * (v * n + u) + t) = v ∧ (24 * (v * n + u) + t) % 24 = t := by
  have d1 := dm (a := v) hu
  unfold kU kV
  rw [show (24 * (v * n + u) + t) / 24 = v * n + u by omega]
  exact ⟨d1.2, d1.1, by omega⟩
theorem k_eq {k u v t : Nat} (hk : k < 24 * n * n) (h1 : kU n k = u) (h2 : kV n k = v) (h3 : k % 24 = t) : k = 24 * (v * n + u) + t := by
  have := (col_lt hk).2.2.2
  unfold kU at h1
  unfold kV at h2
  rw [h1, h2, h3] at this
  exact this
/-- what the marks hold so far -/
def mkD (mk : Bool) (D : Nat → Bool) (n r x to y : Nat) (U V : Int) (t k : Nat) : Bool := D k || (mk && (ahK n U V t k && unK n r x to y k))
theorem c_goesOver659 {mk : Bool} {x to y : Nat} (l : LX B n h) (hd : 10 ≤ d) (hn : n ≤ 52) (hr : r ≤ 8) (m : TbM B h) (sh : ShM B n h D) (hx : x ≤ to) (hto : to ≤ n) (hy : y ≤ n) :
    Vt 0 (cll PP (ev PP (gsF gv) B) d 659 [(2, rf (B + 149)), (0, (x : Int)), (0, (to : Int)), (0, (y : Int)), (0, (r : Int)), (2, (if mk = true then rf (B + 241) else 0))] h) (fun v h' => Agr (fun c _ => c = B + 241) h h' ∧ ShM B n h' (fun k => D k || (mk && unK n r x to y k)) ∧ (mk = true → v = 0) ∧ (mk = false → (v = 1 ∧ ∃ k, k < 24 * n * n ∧ D k = true ∧ unK n r x to y k = true) ∨ (v = 0 ∧ ¬ ∃ k, k < 24 * n * n ∧ D k = true ∧ unK n r x to y k = true))) := by
  have h24 := n24 hn
  refine Vt.inq (D := 9) hd (Nat.le_of_ble_eq_true rfl) rfl (fun d hd P K => ?_)
  -- loops: squares' u, v, then sorts
  have us : ∀ (c : Nat) (U : Int) (q : AH) (u7 u8 u9 : AV), U + c = (to : Int) + r → (x : Int) - r ≤ U → LX B n q → Agr (fun c _ => c = B + 241) h q → ShM B n q (mkD mk D n r x to y U ((y : Int) - r) 0) → (mk = false → ∀ k, k < 24 * n * n → ahK n U ((y : Int) - r) 0 k = true → D k = true → unK n r x to y k = false) → Ends (ev PP (gsF gv) B d 659 6 [(2, rf (B + 149)), (0, (x : Int)), (0, (to : Int)), (0, (y : Int)), (0, (r : Int)), (2, if mk = true then rf (B + 241) else 0), (0, U), u7, u8, u9] [] q) P := by
    intro c
    induction c with
    | zero =>
      intro U q u7 u8 u9 hU hU2 lq gq sq no
      have outk : ∀ k, k < 24 * n * n → (ahK n U ((y : Int) - r) 0 k && unK n r x to y k) = unK n r x to y k := fun k hk => by
        have ht : k % 24 < 24 := Nat.mod_lt _ (by decide)
        cases e : ahK n U ((y : Int) - r) 0 k
        · unfold ahK at e
          have := of_decide_eq_false e
          rw [unK_out hx ht (by omega)]; rfl
        · rfl
      refine Ends.eq (b659_6 (n := n) (by (repeat' first | assumption | refine LX.setF _ _ ?_ (by decide +kernel) | refine LX.setS ?_ rfl | refine LX.setA ?_ (by first | assumption | omega))) (by first | assumption | omega)) ?_
      rw [addNN (by omega)]
      refine Ends.b3 (fun _ => Ends.sm (K _ _ ⟨gq, sq.congr (fun k hk => ?_), fun _ => rfl, fun hm => Or.inr ⟨rfl, ?_⟩⟩)) (fun z => by omega)
      · unfold mkD
        rw [outk k hk]
      · rintro ⟨k, hk, h1, h2⟩
        have := outk k hk
        rw [h2, Bool.and_true] at this
        rw [no hm k hk this h1] at h2
        exact Bool.false_ne_true h2
    | succ c ih =>
      intro U q u7 u8 u9 hU hU2 lq gq sq no
      refine Ends.eq (b659_6 (n := n) (by (repeat' first | assumption | refine LX.setF _ _ ?_ (by decide +kernel) | refine LX.setS ?_ rfl | refine LX.setA ?_ (by first | assumption | omega))) (by first | assumption | omega)) ?_
      rw [addNN (by omega), show bop32 100 (y : Int) (r : Int) = (y : Int) - r from sub32 (by omega) (by omega)]
      refine Ends.b3 (fun z => by omega) (fun _ => ?_)
      have vs : ∀ (c2 : Nat) (V : Int) (q2 : AH) (u8 u9 : AV), V + c2 = (y : Int) + r → (y : Int) - r ≤ V → LX B n q2 → Agr (fun c _ => c = B + 241) h q2 → ShM B n q2 (mkD mk D n r x to y U V 0) → (mk = false → ∀ k, k < 24 * n * n → ahK n U V 0 k = true → D k = true → unK n r x to y k = false) → Ends (ev PP (gsF gv) B d 659 21 [(2, rf (B + 149)), (0, (x : Int)), (0, (to : Int)), (0, (y : Int)), (0, (r : Int)), (2, if mk = true then rf (B + 241) else 0), (0, U), (0, V), u8, u9] [] q2) P := by
        intro c2
        induction c2 with
        | zero =>
          intro V q2 u8 u9 hV hV2 l2 g2 sq2 no2
          have same : ∀ k, k < 24 * n * n → (ahK n U V 0 k && unK n r x to y k) = (ahK n (U + 1) ((y : Int) - r) 0 k && unK n r x to y k) := fun k hk => by
            have ht : k % 24 < 24 := Nat.mod_lt _ (by decide)
            by_cases o : y + r ≤ kV n k ∨ (kV n k : Int) < (y : Int) - r
            · rw [unK_out hx ht (by omega)]; simp
            · congr 1
              unfold ahK
              rw [decide_eq_decide]
              omega
          refine Ends.eq (b659_21 (n := n) (by (repeat' first | assumption | refine LX.setF _ _ ?_ (by decide +kernel) | refine LX.setS ?_ rfl | refine LX.setA ?_ (by first | assumption | omega))) (by first | assumption | omega)) ?_
          rw [addNN (by omega), show w32 (U + 1) = U + 1 from inc32 (by omega) (by omega)]
          refine Ends.b3 (fun _ => ih (U + 1) q2 _ _ _ (by omega) (by omega) l2 g2 (sq2.congr (fun k hk => by unfold mkD; rw [same k hk])) (fun hm k hk h1 h2 => ?_)) (fun z => by omega)
          cases hu : unK n r x to y k
          · rfl
          · have := same k hk
            rw [h1, hu, Bool.and_true, Bool.and_true] at this
            rw [no2 hm k hk this h2] at hu
            exact absurd hu (by decide)
        | succ c2 ih2 =>
          intro V q2 u8 u9 hV hV2 l2 g2 sq2 no2
          have nx : ∀ (q3 : AH) (u8 u9 : AV), LX B n q3 → Agr (fun c _ => c = B + 241) h q3 → ShM B n q3 (mkD mk D n r x to y U (V + 1) 0) → (mk = false → ∀ k, k < 24 * n * n → ahK n U (V + 1) 0 k = true → D k = true → unK n r x to y k = false) → Ends (ev PP (gsF gv) B d 659 164 [(2, rf (B + 149)), (0, (x : Int)), (0, (to : Int)), (0, (y : Int)), (0, (r : Int)), (2, if mk = true then rf (B + 241) else 0), (0, U), (0, V), u8, u9] [] q3) P := fun q3 u8 u9 l3 g3 s3 n3 => by
            refine Ends.eq (b659_164 (n := n) (by (repeat' first | assumption | refine LX.setF _ _ ?_ (by decide +kernel) | refine LX.setS ?_ rfl | refine LX.setA ?_ (by first | assumption | omega))) (by first | assumption | omega)) ?_
            rw [show w32 (V + 1) = V + 1 from inc32 (by omega) (by omega)]
            exact ih2 (V + 1) q3 _ _ (by omega) (by omega) l3 g3 s3 n3
          have skip : ∀ (u8 u9 : AV), ¬ (0 ≤ U ∧ U < n ∧ 0 ≤ V ∧ V < n) → Ends (ev PP (gsF gv) B d 659 164 [(2, rf (B + 149)), (0, (x : Int)), (0, (to : Int)), (0, (y : Int)), (0, (r : Int)), (2, if mk = true then rf (B + 241) else 0), (0, U), (0, V), u8, u9] [] q2) P := fun u8 u9 out => by
            have same : ∀ k, k < 24 * n * n → ahK n U V 0 k = ahK n U (V + 1) 0 k := fun k hk => by
              have c := col_lt hk
              have h1 : kU n k < n := c.1
              have h2 : kV n k < n := c.2.1
              unfold ahK
              rw [decide_eq_decide]
              omega
            exact nx q2 _ _ l2 g2 (sq2.congr (fun k hk => by unfold mkD; rw [same k hk])) (fun hm k hk h1 h2 => no2 hm k hk (by rw [same k hk]; exact h1) h2)
          refine Ends.eq (b659_21 (n := n) (by (repeat' first | assumption | refine LX.setF _ _ ?_ (by decide +kernel) | refine LX.setS ?_ rfl | refine LX.setA ?_ (by first | assumption | omega))) (by first | assumption | omega)) ?_
          rw [addNN (by omega)]
          refine Ends.b3 (fun z => by omega) (fun _ => Ends.b2 (fun z => skip _ _ (by omega)) (fun z1 => Ends.b2 (fun z => skip _ _ (by omega)) (fun z2 => Ends.b3 (fun z => skip _ _ (by omega)) (fun z3 => Ends.b2 (fun z4 => ?_) (fun z => skip _ _ (by omega))))))
          obtain ⟨u, rfl⟩ : ∃ u : Nat, U = (u : Int) := ⟨U.toNat, by omega⟩
          obtain ⟨v, rfl⟩ : ∃ v : Nat, V = (v : Int) := ⟨V.toNat, by omega⟩
          have hun : u < n := by omega
          have hvn : v < n := by omega
          have vn : v * n + u < n * n := by
            have := Nat.mul_le_mul_right n (show v + 1 ≤ n by omega)
            rw [Nat.add_mul, Nat.one_mul] at this
            omega
          have nn : n * n ≤ 2704 := Nat.mul_le_mul hn hn
          have lim : 24 * n * n = 24 * (n * n) := Nat.mul_assoc ..
          have ts : ∀ (c3 t : Nat) (q3 : AH) (u9 : AV), t + c3 = 24 → LX B n q3 → Agr (fun c _ => c = B + 241) h q3 → ShM B n q3 (mkD mk D n r x to y u v t) → (mk = false → ∀ k, k < 24 * n * n → ahK n u v t k = true → D k = true → unK n r x to y k = false) → Ends (ev PP (gsF gv) B d 659 64 [(2, rf (B + 149)), (0, (x : Int)), (0, (to : Int)), (0, (y : Int)), (0, (r : Int)), (2, if mk = true then rf (B + 241) else 0), (0, (u : Int)), (0, (v : Int)), (0, (t : Int)), u9] [] q3) P := by
            intro c3
            induction c3 with
            | zero =>
              intro t q3 u9 ht l3 g3 s3 n3
              have same : ∀ k, ahK n u v t k = ahK n u (v + 1) 0 k := fun k => by
                have : k % 24 < 24 := Nat.mod_lt _ (by decide)
                unfold ahK
                rw [decide_eq_decide]
                omega
              refine Ends.eq (b659_64 (n := n) (by (repeat' first | assumption | refine LX.setF _ _ ?_ (by decide +kernel) | refine LX.setS ?_ rfl | refine LX.setA ?_ (by first | assumption | omega))) (by first | assumption | omega)) ?_
              exact Ends.b3 (fun _ => nx q3 _ _ l3 g3 (s3.congr (fun k hk => by unfold mkD; rw [same k])) (fun hm k hk h1 h2 => n3 hm k hk (by rw [same k]; exact h1) h2)) (fun z => by omega)
            | succ c3 ih3 =>
              intro t q3 u9 ht l3 g3 s3 n3
              have ht24 : t < 24 := by omega
              obtain ⟨k0, ek⟩ : ∃ k0, k0 = 24 * (v * n + u) + t := ⟨_, rfl⟩
              have hk0 : k0 < 24 * n * n := by omega
              obtain ⟨o1, o2, o3⟩ := k_of (n := n) (v := v) hun ht24
              rw [← ek] at o1 o2 o3
              have o4 : ∀ k, k < 24 * n * n → (k ≠ k0 → ahK n u v t k = ahK n u v (t + 1) k) := fun k hk ne => by
                have : ¬ (kU n k = u ∧ kV n k = v ∧ k % 24 = t) := fun w => ne (by rw [k_eq hk w.1 w.2.1 w.2.2, ek])
                unfold ahK
                rw [decide_eq_decide]
                omega
              have o5 : ahK n u v t k0 = false ∧ ahK n u v (t + 1) k0 = true := by
                unfold ahK
                rw [o1, o2, o3, decide_eq_false_iff_not, decide_eq_true_eq]
                omega
              have m3 : TbM B q3 := m.agr g3 (fun c k h1 h2 h3 z => by omega)
              have ux : unK n r x to y k0 = unM r x to y u v t := by unfold unK; rw [o1, o2, o3]
              have nt : ∀ (q4 : AH), LX B n q4 → Agr (fun c _ => c = B + 241) h q4 → ShM B n q4 (mkD mk D n r x to y u v (t + 1)) → (mk = false → ∀ k, k < 24 * n * n → ahK n u v (t + 1) k = true → D k = true → unK n r x to y k = false) → Ends (ev PP (gsF gv) B d 659 158 [(2, rf (B + 149)), (0, (x : Int)), (0, (to : Int)), (0, (y : Int)), (0, (r : Int)), (2, if mk = true then rf (B + 241) else 0), (0, (u : Int)), (0, (v : Int)), (0, (t : Int)), (0, (k0 : Int))] [] q4) P := fun q4 l4 g4 s4 n4 => by
                refine Ends.eq (b659_158 (n := n) (by (repeat' first | assumption | refine LX.setF _ _ ?_ (by decide +kernel) | refine LX.setS ?_ rfl | refine LX.setA ?_ (by first | assumption | omega))) (by first | assumption | omega)) ?_
                rw [w_succ (by omega)]
                exact ih3 (t + 1) q4 _ (by omega) l4 g4 s4 n4
              -- nothing happens: not under the tool, or no shadow there
              have stay : (D k0 = true → unK n r x to y k0 = false) → (mk = true → unK n r x to y k0 = false) → Ends (ev PP (gsF gv) B d 659 158 [(2, rf (B + 149)), (0, (x : Int)), (0, (to : Int)), (0, (y : Int)), (0, (r : Int)), (2, if mk = true then rf (B + 241) else 0), (0, (u : Int)), (0, (v : Int)), (0, (t : Int)), (0, (k0 : Int))] [] q3) P := fun a b => by
                refine nt q3 l3 g3 (s3.congr (fun k hk => ?_)) (fun hm k hk h1 h2 => ?_)
                · unfold mkD
                  by_cases e : k = k0
                  · rw [e]
                    cases hm : mk
                    · rfl
                    · rw [b hm]; simp
                  · rw [o4 k hk e]
                · by_cases e : k = k0
                  · rw [e] at h2 ⊢; exact a h2
                  · exact n3 hm k hk (by rw [o4 k hk e]; exact h1) h2
              have und1 : (mk = false → D k0 = true) → Ends (ev PP (gsF gv) B d 659 104 [(2, rf (B + 149)), (0, (x : Int)), (0, (to : Int)), (0, (y : Int)), (0, (r : Int)), (2, if mk = true then rf (B + 241) else 0), (0, (u : Int)), (0, (v : Int)), (0, (t : Int)), (0, (k0 : Int))] [] q3) P := fun hD => by
                obtain ⟨t1, t2, _⟩ := m3.1 t ht24
                refine Ends.eq (b659_104 (n := n) (by (repeat' first | assumption | refine LX.setF _ _ ?_ (by decide +kernel) | refine LX.setS ?_ rfl | refine LX.setA ?_ (by first | assumption | omega))) (by first | assumption | omega)) ?_
                rw [tn, t1, t2, v721_is hr hx (by omega) (by omega) (by omega) (by omega) ht24, ← ux]
                refine Ends.g ⟨by omega, by omega⟩ ?_
                by_cases hu : unK n r x to y k0 = true
                rotate_left
                · rw [if_neg hu]
                  exact Ends.b1 (fun z => absurd rfl z) (fun _ => stay (fun _ => Bool.eq_false_iff.mpr hu) (fun _ => Bool.eq_false_iff.mpr hu))
                rw [if_pos hu]
                refine Ends.b1 (fun _ => ?_) (fun z => absurd z (by decide))
                cases hm : mk
                · rw [if_neg Bool.false_ne_true]
                  refine Ends.b0 (fun _ => Ends.sm (K _ _ ⟨g3, ?_, fun z => absurd (hm.symm.trans z) (by decide), fun _ => Or.inl ⟨rfl, k0, hk0, hD hm, hu⟩⟩)) (fun z => absurd rfl z)
                  refine s3.congr (fun k hk => ?_)
                  unfold mkD
                  rw [hm]; rfl
                · have k241 := l3.1 241 (5, 24 * n * n) rfl
                  rw [if_pos rfl, ad_rf, k241, tn]
                  refine Ends.b0 (fun z => by have := rf_pos (B + 241); omega) (fun _ => Ends.g ⟨rf_pos _, rfl, by omega, by show (k0 : Int) < ((24 * n * n : Nat) : Int); omega, by omega⟩ ?_)
                  have := nt (hset q3 (B + 241) k0 (anar 3 1)) (LX.setA (t := 3) l3 (by rw [k241])) (g3.set rfl) (fun k hk => ?_) (fun z => absurd (hm.symm.trans z) (by decide))
                  · rw [hm, if_pos rfl] at this
                    exact this
                  · unfold mkD
                    rw [hm, Bool.true_and]
                    by_cases e : k = k0
                    · rw [e, hv_set_at, hu, o5.2]; simp; rfl
                    · rw [hv_set_ne (by omega), s3 k hk]
                      unfold mkD
                      rw [hm, Bool.true_and, o4 k hk e]
              refine Ends.eq (b659_64 (n := n) (by (repeat' first | assumption | refine LX.setF _ _ ?_ (by decide +kernel) | refine LX.setS ?_ rfl | refine LX.setA ?_ (by first | assumption | omega))) (by first | assumption | omega)) ?_
              rw [show bop32 104 (v : Int) (n : Int) = ((v * n : Nat) : Int) from mulNN (by have := Nat.mul_le_mul (show v ≤ 52 by omega) hn; omega), addNN (x := v * n) (by omega), show bop32 104 (24 : Int) ((v * n + u : Nat) : Int) = ((24 * (v * n + u) : Nat) : Int) from mulNN (x := 24) (by omega), addNN (by omega), ← ek, tn, s3 k0 hk0]
              refine Ends.b3 (fun z => by omega) (fun _ => ?_)
              have mkk : mkD mk D n r x to y u v t k0 = D k0 := by
                unfold mkD
                rw [o5.1]; simp
              rw [mkk]
              cases hm : mk
              · rw [hm] at und1 stay
                rw [if_neg Bool.false_ne_true] at und1 stay ⊢
                refine Ends.b0 (fun _ => Ends.g ⟨by omega, by omega⟩ ?_) (fun z => absurd rfl z)
                cases hD : D k0
                · exact Ends.b0 (fun _ => stay (fun z => by rw [hD] at z; exact absurd z (by decide)) (fun z => absurd z Bool.false_ne_true)) (fun z => absurd rfl z)
                · exact Ends.b0 (fun z => absurd z (by decide)) (fun _ => und1 (fun _ => hD))
              · rw [hm] at und1
                rw [if_pos rfl] at und1 ⊢
                exact Ends.b0 (fun z => by have := rf_pos (B + 241); omega) (fun _ => und1 (fun z => absurd z.symm Bool.false_ne_true))
          exact ts 24 0 q2 _ rfl l2 g2 sq2 no2
      refine vs (r + r) ((y : Int) - r) q _ _ (by omega) (Int.le_refl _) lq gq sq no
  refine Ends.eq (b659_0 (n := n) (by (repeat' first | assumption | refine LX.setF _ _ ?_ (by decide +kernel) | refine LX.setS ?_ rfl | refine LX.setA ?_ (by first | assumption | omega))) (by first | assumption | omega)) ?_
  rw [show bop32 100 (x : Int) (r : Int) = (x : Int) - r from sub32 (by omega) (by omega)]
  refine us (to - x + (r + r)) ((x : Int) - r) h _ _ _ (by omega) (Int.le_refl _) l Agr.rf (fun k hk => ?_) (fun hm k hk h1 h2 => ?_)
  · have ht : k % 24 < 24 := Nat.mod_lt _ (by decide)
    have : (ahK n ((x : Int) - r) ((y : Int) - r) 0 k && unK n r x to y k) = false := by
      cases e : ahK n ((x : Int) - r) ((y : Int) - r) 0 k
      · rfl
      · unfold ahK at e
        have := of_decide_eq_true e
        rw [unK_out hx ht (by omega)]; rfl
    unfold mkD
    rw [this, Bool.and_false, Bool.or_false]
    exact sh k hk
  · have ht : k % 24 < 24 := Nat.mod_lt _ (by decide)
    unfold ahK at h1
    have := of_decide_eq_true h1
    exact unK_out hx ht (by omega)
/-- the model's columns and the desk's quarters: blocked alike -/
theorem blk_cols {z0 X Y far : Nat} {Q : Nat → Nat → Nat → Bool} (hQ : ∀ q y x, q < 4 → y < n → x < n → (Q q y x = true ↔ ShP n S z0 q y x)) (hD : ∀ k, k < 24 * n * n → (D k = true ↔ shT z0 n S k)) : (∃ k, k < 24 * n * n ∧ D k = true ∧ unK n r X (X + far) Y k = true) ↔ blk n r Q X Y far := by
  constructor
  · rintro ⟨k, hk, h1, h2⟩
    obtain ⟨z, a1, a2, a3⟩ := (hD k hk).mp h1
    obtain ⟨c1, c2, c3, c4⟩ := col_lt hk
    have ht : k % 24 < 24 := Nat.mod_lt _ (by decide)
    have q4 := qz_q ⟨k % 24, ht⟩
    refine ⟨quT 2 (k % 24), kV n k, kU n k, q4, c2, c1, (hQ _ _ _ q4 c2 c1).mpr ⟨k % 24, z, ht, a1, a2, rfl, a3⟩, ?_⟩
    unfold unK at h2
    rw [unM_q ht, Nat.add_sub_cancel_left] at h2
    exact h2
  · rintro ⟨q, y, x, h1, h2, h3, h4, h5⟩
    obtain ⟨t, z, t1, t2, t3, t4, t5⟩ := (hQ q y x h1 h2 h3).mp h4
    obtain ⟨o1, o2, o3⟩ := k_of (n := n) (v := y) h3 t1
    have lt : 24 * (y * n + x) + t < 24 * n * n := by
      have := Nat.mul_le_mul_right n (show y + 1 ≤ n by omega)
      rw [Nat.add_mul, Nat.one_mul] at this
      rw [Nat.mul_assoc]
      omega
    refine ⟨24 * (y * n + x) + t, lt, (hD _ lt).mpr ⟨z, t2, t3, ?_⟩, ?_⟩
    · show S (gI n (kU n (24 * (y * n + x) + t)) (kV n (24 * (y * n + x) + t)) z ((24 * (y * n + x) + t) % 24)) = true
      rw [o1, o2, o3]; exact t5
    · unfold unK
      rw [o1, o2, o3, unM_q t1, t4, Nat.add_sub_cancel_left]
      exact h5
end MOV
