/-! L3: loops are found (model) -/
noncomputable section MLP
variable {gv : Nat → Int} {B n d : Nat} {h : AH} {lv S : Nat → Bool} {U0 V0 U1 V1 : Nat → Int} {k m l : Nat}
theorem sumN_lt {f g : Nat → Nat} {i : Nat} (hg : g i < f i) : ∀ N, i < N → (∀ j, j < N → j ≠ i → g j = f j) → sumN g N < sumN f N
  | 0, hi, _ => absurd hi (Nat.not_lt_zero i)
  | N + 1, hi, e => by
    show sumN g N + g N < sumN f N + f N
    rcases (by omega : i = N ∨ i < N) with z | z
    · rw [sumN_congr N (fun j hj => e j (by omega) (by omega)), ← z]; omega
    · have := sumN_lt hg N z (fun j hj => e j (by omega))
      rw [e N (by omega) (by omega)]; omega
theorem cnt_inj (hk : S k = true) (hm : S m = true) (e : cntN S k = cntN S m) : k = m := by
  rcases (by omega : k < m ∨ k = m ∨ m < k) with z | z | z
  · have := cnt_ltl z hk; omega
  · exact z
  · have := cnt_ltl z hm; omega
theorem cnt_sum (S : Nat → Bool) : ∀ N, cntN S N = sumN (fun k => if S k = true then 1 else 0) N
  | 0 => rfl
  | N + 1 => by
    rw [cntN_s, cnt_sum S N]
    rfl
/-- loops of the model's lines -/
def LbM (B : Nat) (q : AH) (lv : Nat → Bool) (U0 V0 U1 V1 : Nat → Int) : Prop := ∀ m, lv m = true → ∀ l, lstP lv U0 V0 U1 V1 l → ConL lv U0 V0 U1 V1 l m → hv q (B + 176) (cntN lv m) = ((cntN lv l : Nat) : Int)
def lbI (B : Nat) (q : AH) (lv : Nat → Bool) (U0 V0 U1 V1 : Nat → Int) : Prop := ∀ m, lv m = true → ∃ k, lv k = true ∧ k ≤ m ∧ ConL lv U0 V0 U1 V1 k m ∧ hv q (B + 176) (cntN lv m) = ((cntN lv k : Nat) : Int)
def lmM (B : Nat) (q : AH) (lv : Nat → Bool) : Nat := sumN (fun i => (hv q (B + 176) i).toNat) (cntN lv 24)
def badL (B : Nat) (q : AH) (lv : Nat → Bool) (U0 V0 U1 V1 : Nat → Int) (a b : Nat) : Prop := hv q (B + 176) (cntN lv b) < hv q (B + 176) (cntN lv a) ∧ AdjL lv U0 V0 U1 V1 a b
theorem lbI.fin {q : AH} (I : lbI B q lv U0 V0 U1 V1) (no : ∀ a b, lv a = true → lv b = true → ¬ badL B q lv U0 V0 U1 V1 a b) : LbM B q lv U0 V0 U1 V1 := fun m lm l pl cl => by
  obtain ⟨k, lk, kl, ck, ek⟩ := I l pl.1
  have kl' : k = l := by
    rcases (by omega : k < l ∨ k = l) with z | z
    · exact absurd ck (pl.2 k z lk)
    · exact z
  rw [← kl', ← ek]
  have := cl (fun y => hv q (B + 176) (cntN lv y) = hv q (B + 176) (cntN lv l)) (fun i j hij ei => by
    rcases (by omega : hv q (B + 176) (cntN lv j) < hv q (B + 176) (cntN lv i) ∨ hv q (B + 176) (cntN lv i) < hv q (B + 176) (cntN lv j) ∨ hv q (B + 176) (cntN lv j) = hv q (B + 176) (cntN lv i)) with z | z | z
    · exact absurd ⟨z, hij⟩ (no i j hij.1 hij.2.1)
    · exact absurd ⟨z, hij.sym⟩ (no j i hij.2.1 hij.1)
    · exact z.trans ei) rfl
  exact this
theorem SgM.agr {q : AH} {W' : Nat → Nat → Prop} (H : SgM B h lv U0 V0 U1 V1) (g : Agr W' h q) (hW : ∀ c k, W' c k → ¬ (B + 168 ≤ c ∧ c ≤ B + 171) ∧ ¬ (c = B + 149 ∧ k = 56)) : SgM B q lv U0 V0 U1 V1 := by
  have at_ : ∀ c k, B + 168 ≤ c → c ≤ B + 171 → hv q c k = hv h c k := fun c k h1 h2 => g.at _ _ (fun z => (hW _ _ z).1 ⟨h1, h2⟩)
  refine ⟨by rw [g.at _ _ (fun z => (hW _ _ z).2 ⟨rfl, rfl⟩)]; exact H.1, fun k hk z => ?_⟩
  rw [at_ _ _ (by omega) (by omega), at_ _ _ (by omega) (by omega), at_ _ _ (by omega) (by omega), at_ _ _ (by omega) (by omega)]
  exact H.2 k hk z
set_option maxHeartbeats 4000000 in
theorem c_makeLoops742 (l : LX B n h) (hd : 10 ≤ d) (Sm : SgM B h lv U0 V0 U1 V1) (hl : ∀ k, lv k = true → k < 24) : Vt 0 (cll PP (ev PP (gsF gv) B) d 742 [(2, rf (B + 149))] h) (fun x h' => Agr (fun c _ => c = B + 176) h h' ∧ LbM B h' lv U0 V0 U1 V1 ∧ x = ((cntN (lsB lv U0 V0 U1 V1) 24 : Nat) : Int)) := by
  refine Vt.inq (D := 9) hd (Nat.le_of_ble_eq_true rfl) rfl (fun d hd Q K => ?_)
  have sm : ∀ {q : AH}, Agr (fun c _ => c = B + 176) h q → SgM B q lv U0 V0 U1 V1 := fun {q} g => Sm.agr g (fun c k z => by omega)
  have c24 : cntN lv 24 ≤ 24 := cntN_le _ _
  have cl : ∀ k, lv k = true → cntN lv k < cntN lv 24 := fun k lk => cnt_ltl (hl k lk) lk
  -- they are counted
  have last : ∀ (q : AH), LX B n q → Agr (fun c _ => c = B + 176) h q → LbM B q lv U0 V0 U1 V1 → ∀ (r i : Nat) (x1 : Int), i + r = cntN lv 24 → Ends (ev PP (gsF gv) B d 742 139 [(2, rf (B + 149)), (0, x1), (0, ((sumN (fun j => if hv q (B + 176) j = (j : Int) then 1 else 0) i : Nat) : Int)), (0, (i : Int))] [] q) Q := by
    intro q lq g L r
    have Sq := sm g
    induction r with
    | zero =>
      intro i x1 ei
      obtain rfl : i = cntN lv 24 := by omega
      refine Ends.eq (b742_139 (n := n) (by (repeat' first | assumption | refine LX.setF _ _ ?_ (by decide +kernel) | refine LX.setS ?_ rfl | refine LX.setA ?_ (by first | assumption | omega))) (by first | assumption | omega)) ?_
      rw [Sq.1]
      refine Ends.b3 (fun _ => Ends.sm (K _ _ ⟨g, L, ?_⟩)) (fun z => absurd z (Int.lt_irrefl _))
      rw [sum_live (f := fun k => if lsB lv U0 V0 U1 V1 k = true then 1 else 0) 24 (fun k hk lk => ?_), cnt_sum (lsB lv U0 V0 U1 V1) 24]
      · congr 1
        refine sumN_congr 24 (fun k _ => ?_)
        by_cases z : lsB lv U0 V0 U1 V1 k = true
        · rw [if_pos z, if_pos (lsB_t.mp z).1]
        · rw [if_neg z]
          split <;> rfl
      · obtain ⟨l0, h1, h2, h3⟩ := lead (U0 := U0) (V0 := V0) (U1 := U1) (V1 := V1) k lk
        rw [L k lk l0 h2 h3]
        by_cases z : lsB lv U0 V0 U1 V1 k = true
        · rw [if_pos z, lst_uniq h2 (lsB_t.mp z) h3 ConL.rf, if_pos rfl]
        · rw [if_neg z, if_neg (fun y => z (lsB_t.mpr (by
            have : l0 = k := cnt_inj h2.1 lk (by omega)
            rw [← this]; exact h2)))]
    | succ r ih =>
      intro i x1 ei
      have sb : sumN (fun j => if hv q (B + 176) j = (j : Int) then 1 else 0) i ≤ 1 * i := by
        rw [← sumN_c i]
        exact sumN_le i (fun j _ => by split <;> omega)
      refine Ends.eq (b742_139 (n := n) (by (repeat' first | assumption | refine LX.setF _ _ ?_ (by decide +kernel) | refine LX.setS ?_ rfl | refine LX.setA ?_ (by first | assumption | omega))) (by first | assumption | omega)) ?_
      rw [Sq.1, tn, ct1, w_succ (by omega)]
      refine Ends.b3 (fun z => absurd z (by omega)) (fun _ => Ends.g ⟨by omega, by omega⟩ ?_)
      have e : bop32 96 ((sumN (fun j => if hv q (B + 176) j = (j : Int) then 1 else 0) i : Nat) : Int) (if hv q (B + 176) i = (i : Int) then 1 else 0) = ((sumN (fun j => if hv q (B + 176) j = (j : Int) then 1 else 0) (i + 1) : Nat) : Int) := by
        rw [show sumN (fun j => if hv q (B + 176) j = (j : Int) then 1 else 0) (i + 1) = sumN (fun j => if hv q (B + 176) j = (j : Int) then 1 else 0) i + (if hv q (B + 176) i = (i : Int) then 1 else 0) from rfl]
        split
        · exact addNN (y := 1) (by omega)
        · exact addNN (y := 0) (by omega)
      rw [e]
      exact ih (i + 1) x1 (by omega)
  -- until nothing changes
  have rounds : ∀ (M : Nat) (q : AH) (u2 u3 : AV), lmM B q lv = M → LX B n q → Agr (fun c _ => c = B + 176) h q → lbI B q lv U0 V0 U1 V1 → Ends (ev PP (gsF gv) B d 742 25 [(2, rf (B + 149)), (0, 1), u2, u3] [] q) Q := by
    intro M
    refine Nat.strongRecOn M (fun M ihM => ?_)
    intro q u2 u3 eM lq g I
    have rows : ∀ (r i : Nat) (q : AH) (x1 : Int) (u3 : AV), i + r = cntN lv 24 → LX B n q → Agr (fun c _ => c = B + 176) h q → lbI B q lv U0 V0 U1 V1 → ((x1 = 0 ∧ lmM B q lv = M ∧ ∀ a b, lv a = true → lv b = true → cntN lv a < i → ¬ badL B q lv U0 V0 U1 V1 a b) ∨ (x1 = 1 ∧ lmM B q lv < M)) → Ends (ev PP (gsF gv) B d 742 33 [(2, rf (B + 149)), (0, x1), (0, (i : Int)), u3] [] q) Q := by
      intro r
      induction r with
      | zero =>
        intro i q x1 u3 ei lq g I hx
        obtain rfl : i = cntN lv 24 := by omega
        have Sq := sm g
        refine Ends.eq (b742_33 (n := n) (by (repeat' first | assumption | refine LX.setF _ _ ?_ (by decide +kernel) | refine LX.setS ?_ rfl | refine LX.setA ?_ (by first | assumption | omega))) (by first | assumption | omega)) ?_
        rw [Sq.1]
        refine Ends.b3 (fun _ => ?_) (fun z => absurd z (Int.lt_irrefl _))
        rcases hx with ⟨hx, -, no⟩ | ⟨hx, lt⟩
        · rw [hx]
          refine Ends.eq (b742_25 (n := n) (by (repeat' first | assumption | refine LX.setF _ _ ?_ (by decide +kernel) | refine LX.setS ?_ rfl | refine LX.setA ?_ (by first | assumption | omega))) (by first | assumption | omega)) ?_
          exact Ends.b0 (fun _ => last q lq g (I.fin (fun a b la lb => no a b la lb (cl a la))) (cntN lv 24) 0 0 (by omega)) (fun z => absurd rfl z)
        · rw [hx]
          exact ihM _ lt q _ _ rfl lq g I
      | succ r ih =>
        intro i q x1 u3 ei lq g I hx
        obtain ⟨a, ha, la, ca⟩ := cnt_at (S := lv) 24 i (by omega)
        have cols : ∀ (t j : Nat) (q : AH) (x1 : Int), j + t = cntN lv 24 → LX B n q → Agr (fun c _ => c = B + 176) h q → lbI B q lv U0 V0 U1 V1 → ((x1 = 0 ∧ lmM B q lv = M ∧ (∀ a b, lv a = true → lv b = true → cntN lv a < i → ¬ badL B q lv U0 V0 U1 V1 a b) ∧ ∀ b, lv b = true → cntN lv b < j → ¬ badL B q lv U0 V0 U1 V1 a b) ∨ (x1 = 1 ∧ lmM B q lv < M)) → Ends (ev PP (gsF gv) B d 742 43 [(2, rf (B + 149)), (0, x1), (0, (i : Int)), (0, (j : Int))] [] q) Q := by
          intro t
          induction t with
          | zero =>
            intro j q x1 ej lq g I hx
            obtain rfl : j = cntN lv 24 := by omega
            have Sq := sm g
            refine Ends.eq (b742_43 (n := n) (by (repeat' first | assumption | refine LX.setF _ _ ?_ (by decide +kernel) | refine LX.setS ?_ rfl | refine LX.setA ?_ (by first | assumption | omega))) (by first | assumption | omega)) ?_
            rw [Sq.1, w_succ (by omega)]
            refine Ends.b3 (fun _ => ?_) (fun z => absurd z (Int.lt_irrefl _))
            refine ih (i + 1) q x1 _ (by omega) lq g I ?_
            rcases hx with ⟨hx, e, n1, n2⟩ | hx
            · refine Or.inl ⟨hx, e, fun a' b la' lb ci => ?_⟩
              rcases (by omega : cntN lv a' < i ∨ cntN lv a' = i) with z | z
              · exact n1 a' b la' lb z
              · rw [cnt_inj la' la (z.trans ca.symm)]
                exact n2 b lb (cl b lb)
            · exact Or.inr hx
          | succ t iht =>
            intro j q x1 ej lq g I hx
            obtain ⟨b, hb, lb, cb⟩ := cnt_at (S := lv) 24 j (by omega)
            have Sq := sm g
            have skip : ¬ badL B q lv U0 V0 U1 V1 a b → Ends (ev PP (gsF gv) B d 742 120 [(2, rf (B + 149)), (0, x1), (0, (i : Int)), (0, (j : Int))] [] q) Q := fun z => by
              refine Ends.eq (b742_120 (n := n) (by (repeat' first | assumption | refine LX.setF _ _ ?_ (by decide +kernel) | refine LX.setS ?_ rfl | refine LX.setA ?_ (by first | assumption | omega))) (by first | assumption | omega)) ?_
              rw [w_succ (by omega)]
              refine iht (j + 1) q x1 (by omega) lq g I ?_
              rcases hx with ⟨hx, e, n1, n2⟩ | hx
              · refine Or.inl ⟨hx, e, n1, fun b' lb' cj => ?_⟩
                rcases (by omega : cntN lv b' < j ∨ cntN lv b' = j) with y | y
                · exact n2 b' lb' y
                · rw [cnt_inj lb' lb (y.trans cb.symm)]; exact z
              · exact Or.inr hx
            have take : badL B q lv U0 V0 U1 V1 a b → Ends (ev PP (gsF gv) B d 742 106 [(2, rf (B + 149)), (0, x1), (0, (i : Int)), (0, (j : Int))] [] q) Q := fun ⟨z, adj⟩ => by
              obtain ⟨ka, lka, kaa, cka, eka⟩ := I a la
              obtain ⟨kb, lkb, kbb, ckb, ekb⟩ := I b lb
              have e1 : hv q (B + 176) i = ((cntN lv ka : Nat) : Int) := by rw [← ca]; exact eka
              have e2 : hv q (B + 176) j = ((cntN lv kb : Nat) : Int) := by rw [← cb]; exact ekb
              have lt : cntN lv kb < cntN lv ka := by
                rw [eka, ekb] at z; omega
              have kab : kb < ka := by
                rcases (by omega : kb < ka ∨ ka ≤ kb) with y | y
                · exact y
                · have := cntN_mono (S := lv) (i := ka) kb y
                  omega
              refine Ends.eq (b742_106 (n := n) (by (repeat' first | assumption | refine LX.setF _ _ ?_ (by decide +kernel) | refine LX.setS ?_ rfl | refine LX.setA ?_ (by first | assumption | omega))) (by first | assumption | omega)) ?_
              simp only [tn]
              rw [an0, e2]
              refine Ends.g ⟨by omega, by omega⟩ (Ends.g ⟨by omega, by omega⟩ ?_)
              refine Ends.eq (b742_120 (n := n) (by (repeat' first | assumption | refine LX.setF _ _ ?_ (by decide +kernel) | refine LX.setS ?_ rfl | refine LX.setA ?_ (by first | assumption | omega))) (by first | assumption | omega)) ?_
              rw [w_succ (by omega)]
              refine iht (j + 1) _ 1 (by omega) (lq.setS rfl) (g.set rfl) (fun m lm => ?_) (Or.inr ⟨rfl, ?_⟩)
              · by_cases y : m = a
                · rw [y, ca, hv_set_at]
                  exact ⟨kb, lkb, by omega, ckb.tr adj.sym.con, rfl⟩
                · rw [hv_set_ne (fun w => y (cnt_inj lm la (w.2.trans ca.symm)))]
                  exact I m lm
              · have le : lmM B q lv ≤ M := by
                  rcases hx with ⟨-, e, -⟩ | ⟨-, e⟩ <;> omega
                have : lmM B (hset q (B + 176) i ((cntN lv kb : Nat) : Int)) lv < lmM B q lv := by
                  unfold lmM
                  refine sumN_lt (i := i) ?_ _ (by omega) (fun j' _ hj => ?_)
                  · show (hv (hset q (B + 176) i ((cntN lv kb : Nat) : Int)) (B + 176) i).toNat < (hv q (B + 176) i).toNat
                    rw [hv_set_at, e1]; omega
                  · show (hv (hset q (B + 176) i ((cntN lv kb : Nat) : Int)) (B + 176) j').toNat = (hv q (B + 176) j').toNat
                    rw [hv_set_ne (fun w => hj w.2)]
                omega
            obtain ⟨a1, a2, a3, a4⟩ := Sq.2 a ha la
            obtain ⟨b1, b2, b3, b4⟩ := Sq.2 b hb lb
            rw [ca] at a1 a2 a3 a4
            rw [cb] at b1 b2 b3 b4
            have La : LnMs B q i (U0 a) (V0 a) (U1 a) (V1 a) := ⟨a1, a2, a3, a4⟩
            obtain ⟨qa, va⟩ := v688_is (u := U0 b) (v := V0 b) La (by omega)
            obtain ⟨qb, vb⟩ := v688_is (u := U1 b) (v := V1 b) La (by omega)
            refine Ends.eq (b742_43 (n := n) (by (repeat' first | assumption | refine LX.setF _ _ ?_ (by decide +kernel) | refine LX.setS ?_ rfl | refine LX.setA ?_ (by first | assumption | omega))) (by first | assumption | omega)) ?_
            simp only [tn]
            rw [Sq.1, b1, b2, b3, b4]
            refine Ends.b3 (fun z => absurd z (by omega)) (fun _ => Ends.g ⟨by omega, by omega⟩ (Ends.g ⟨by omega, by omega⟩ (Ends.b3 (fun z => skip (fun y => ?_)) (fun lt => Ends.g qa ?_))))
            · have := y.1
              rw [ca, cb] at this
              omega
            · have lt' : hv q (B + 176) (cntN lv b) < hv q (B + 176) (cntN lv a) := by rw [ca, cb]; exact lt
              rcases va with ⟨va, ea⟩ | ⟨va, ea⟩
              · rw [va]
                exact Ends.b1 (fun _ => take ⟨lt', la, lb, _, _, ea, Or.inl ⟨rfl, rfl⟩⟩) (fun z => absurd z (by decide))
              · rw [va]
                refine Ends.b1 (fun z => absurd rfl z) (fun _ => Ends.g qb ?_)
                rcases vb with ⟨vb, eb⟩ | ⟨vb, eb⟩
                · rw [vb]
                  exact Ends.b0 (fun z => absurd z (by decide)) (fun _ => take ⟨lt', la, lb, _, _, eb, Or.inr ⟨rfl, rfl⟩⟩)
                · rw [vb]
                  refine Ends.b0 (fun _ => skip (fun y => ?_)) (fun z => absurd rfl z)
                  obtain ⟨-, -, -, u, v, h1, h2⟩ := y
                  rcases h2 with ⟨h2, h3⟩ | ⟨h2, h3⟩
                  · rw [h2, h3] at ea; exact ea h1
                  · rw [h2, h3] at eb; exact eb h1
        have Sq := sm g
        refine Ends.eq (b742_33 (n := n) (by (repeat' first | assumption | refine LX.setF _ _ ?_ (by decide +kernel) | refine LX.setS ?_ rfl | refine LX.setA ?_ (by first | assumption | omega))) (by first | assumption | omega)) ?_
        rw [Sq.1]
        refine Ends.b3 (fun z => absurd z (by omega)) (fun _ => cols (cntN lv 24) 0 q x1 (by omega) lq g I ?_)
        rcases hx with ⟨hx, e, n1⟩ | hx
        · exact Or.inl ⟨hx, e, n1, fun b _ cj => absurd cj (Nat.not_lt_zero _)⟩
        · exact Or.inr hx
    refine Ends.eq (b742_25 (n := n) (by (repeat' first | assumption | refine LX.setF _ _ ?_ (by decide +kernel) | refine LX.setS ?_ rfl | refine LX.setA ?_ (by first | assumption | omega))) (by first | assumption | omega)) ?_
    exact Ends.b0 (fun z => absurd z (by decide)) (fun _ => rows (cntN lv 24) 0 q 0 _ (by omega) lq g I (Or.inl ⟨rfl, eM, fun a b _ _ ci => absurd ci (Nat.not_lt_zero _)⟩))
  -- each line by itself
  have clr : ∀ (r i : Nat) (q : AH) (u2 u3 : AV), i + r = cntN lv 24 → LX B n q → Agr (fun c _ => c = B + 176) h q → (∀ j, j < i → hv q (B + 176) j = (j : Int)) → Ends (ev PP (gsF gv) B d 742 2 [(2, rf (B + 149)), (0, (i : Int)), u2, u3] [] q) Q := by
    intro r
    induction r with
    | zero =>
      intro i q u2 u3 ei lq g hm
      obtain rfl : i = cntN lv 24 := by omega
      have Sq := sm g
      refine Ends.eq (b742_2 (n := n) (by (repeat' first | assumption | refine LX.setF _ _ ?_ (by decide +kernel) | refine LX.setS ?_ rfl | refine LX.setA ?_ (by first | assumption | omega))) (by first | assumption | omega)) ?_
      rw [Sq.1]
      refine Ends.b3 (fun _ => rounds _ q _ _ rfl lq g (fun m lm => ⟨m, lm, Nat.le_refl m, ConL.rf, hm _ (cl m lm)⟩)) (fun z => absurd z (Int.lt_irrefl _))
    | succ r ih =>
      intro i q u2 u3 ei lq g hm
      have Sq := sm g
      refine Ends.eq (b742_2 (n := n) (by (repeat' first | assumption | refine LX.setF _ _ ?_ (by decide +kernel) | refine LX.setS ?_ rfl | refine LX.setA ?_ (by first | assumption | omega))) (by first | assumption | omega)) ?_
      rw [Sq.1, tn, an0, w_succ (by omega)]
      refine Ends.b3 (fun z => absurd z (by omega)) (fun _ => Ends.g ⟨by omega, by omega⟩ ?_)
      refine ih (i + 1) _ _ _ (by omega) (lq.setS rfl) (g.set rfl) (fun j h1 => ?_)
      rcases (by omega : j < i ∨ j = i) with z | z
      · rw [hv_set_ne (by omega)]; exact hm j z
      · rw [z]; exact hv_set_at _ _ _ _
  refine Ends.eq (b742_0 (n := n) (by (repeat' first | assumption | refine LX.setF _ _ ?_ (by decide +kernel) | refine LX.setS ?_ rfl | refine LX.setA ?_ (by first | assumption | omega))) (by first | assumption | omega)) ?_
  exact clr (cntN lv 24) 0 h _ _ (by omega) l Agr.rf (fun j hj => absurd hj (Nat.not_lt_zero j))
end MLP
