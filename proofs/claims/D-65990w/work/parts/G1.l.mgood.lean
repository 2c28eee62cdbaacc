/-! L3: whether a profile is good for a feature (model) -/
noncomputable section MGD
variable {gv : Nat → Int} {B n d w1 q s np nl nd nk f1 kd : Nat} {h : AH} {ab be dw : Nat → Int} {lv dlv dgk : Nat → Bool} {fr to_ dc : Nat → Nat} {cs : Nat → Cst} {w xa xb xc dr : Nat → Int} {isC gk : Nat → Bool} {Inv : AH → Prop}
/-- with a wall the last questions are not asked -/
theorem pr_wall {p : Int} (P : PrR n false ab be lv fr to_ nd dlv dc dgk dw p) : PrR n true ab be lv fr to_ nd dlv dc dgk dw (if 3 < p then 0 else p) := by
  rcases P with ⟨a, e⟩ | ⟨n2, ⟨a, e⟩ | ⟨n3, ⟨a, -⟩ | ⟨-, P⟩⟩⟩
  · rw [e]; exact Or.inl ⟨a, rfl⟩
  · rw [e]; exact Or.inr ⟨n2, Or.inl ⟨a, rfl⟩⟩
  · cases a
  · have z : (if 3 < p then (0 : Int) else p) = 0 := by
      rcases P with ⟨-, e⟩ | ⟨-, ⟨-, e⟩ | ⟨-, ⟨-, e⟩ | ⟨-, e⟩⟩⟩ <;> rw [e] <;> rfl
    rw [z]
    exact Or.inr ⟨n2, Or.inr ⟨n3, Or.inl ⟨rfl, rfl⟩⟩⟩
theorem pr_or {p : Int} (P : PrR n false ab be lv fr to_ nd dlv dc dgk dw p) : p = 0 ∨ (2 ≤ p ∧ p ≤ 6) := by
  rcases P with ⟨-, e⟩ | ⟨-, ⟨-, e⟩ | ⟨-, ⟨a, -⟩ | ⟨-, ⟨-, e⟩ | ⟨-, ⟨-, e⟩ | ⟨-, ⟨-, e⟩ | ⟨-, e⟩⟩⟩⟩⟩⟩ <;> first | (cases a) | omega
/-- what asking writes -/
def pgW (B : Nat) : Nat → Nat → Prop := fun c k => ppW B c k ∨ (c = B + 149 ∧ (k = 100 ∨ k = 101)) ∨ c = B + 235
def PgR (B n nk np : Nat) (cs : Nat → Cst) (w dr : Nat → Int) (isC gk lv : Nat → Bool) (fr to_ : Nat → Nat) (nd : Nat) (dlv : Nat → Bool) (dc : Nat → Nat) (dgk : Nat → Bool) (dw : Nat → Int) (kd : Nat) (x : Int) (h' : AH) : Prop :=
  (x = 0 ∧ hv h' (B + 149) 100 = 2 ∧ ((1 < slS nk np isC gk cs w ∧ hv h' (B + 149) 101 = 1) ∨ (slS nk np isC gk cs w ≤ 1 ∧ hv h' (B + 149) 101 ≠ 0 ∧ ∃ X t, Sln (EqE nk isC cs w) (2 * np) dr X t ∧ PrS (decide (kd = 2 ∨ kd = 3)) n (decide (kd = 8)) (fun j => mN (X j) t) (fun j => mD (X j) t) lv fr to_ nd dlv dc dgk dw (hv h' (B + 149) 101)))) ∨ (x = 1 ∧ slS nk np isC gk cs w ≤ 1 ∧ ∃ X t, Sln (EqE nk isC cs w) (2 * np) dr X t ∧ PrS (decide (kd = 2 ∨ kd = 3)) n (decide (kd = 8)) (fun j => mN (X j) t) (fun j => mD (X j) t) lv fr to_ nd dlv dc dgk dw 0 ∧ HfM B n h' (fun j => mN (X j) t) lv fr to_ ∧ (kd ≠ 8 → PfM B n h' (fun j => mN (X j) t) lv fr to_ nd dlv dc dw) ∧ (kd = 2 ∨ kd = 3 → SqM B n h' (sqR lv (lU0 (fun j => mN (X j) t) fr) (lV0 (fun j => mN (X j) t) fr) (lV0 (fun j => mN (X j) t) to_) (lDU (fun j => mN (X j) t) fr to_) (lDV (fun j => mN (X j) t) fr to_) (cntN dlv nd) (dCU (fun j => mN (X j) t) dlv dc) (dCV (fun j => mN (X j) t) dlv dc) (dCR dw dlv))))
theorem HfM.agr {t : AH} {W : Nat → Nat → Prop} (P : HfM B n h ab lv fr to_) (g : Agr W h t) (hW : ∀ c k, W c k → ¬ pqW B c k) : HfM B n t ab lv fr to_ := by
  have at_ : ∀ c k, B + 168 ≤ c → c ≤ B + 175 → hv t c k = hv h c k := fun c k h1 h2 => g.at _ _ (fun z => hW _ _ z (Or.inl ⟨h1, h2⟩))
  obtain ⟨⟨a1, a2⟩, a3⟩ := P
  refine ⟨⟨by rw [g.at _ _ (fun z => hW _ _ z (Or.inr ⟨rfl, Or.inl rfl⟩))]; exact a1, fun k hk z => ?_⟩, a3⟩
  rw [at_ _ _ (by omega) (by omega), at_ _ _ (by omega) (by omega), at_ _ _ (by omega) (by omega), at_ _ _ (by omega) (by omega)]
  exact a2 k hk z
set_option maxHeartbeats 1000000 in
theorem c_profileGood784 (l : LX B n h) (hn : n ≤ 52) (hd : 998 ≤ d) (M : MdC B q s w1 h) (F1 : YF B f1 h) (hk : hv h f1 1 = (kd : Int)) (ho : hv h f1 3 = (s : Int)) (fl : B + 246 ≤ f1) (H : MdH gv B n w1 nk np h cs w xa xb xc dr isC gk Inv) (i0 : Inv h) (hP : ∀ q q', Inv q → Agr (pqW B) q q' → Inv q') (hB : ∀ q q', Inv q → Agr (fun c k => c = B + 149 ∧ (k = 100 ∨ k = 101)) q q' → Inv q') (hS : ∀ q q', Inv q → Agr (fun c _ => c = B + 235) q q' → Inv q') (L : LinM h w1 np nl lv fr to_) (D : DcM h w1 np nd dlv dc) (HR : GvN gv B n w1 nd h dlv dgk dw Inv) (hkd : kd = 1 ∨ kd = 2 ∨ kd = 3 ∨ kd = 8 ∨ kd = 9) :
    Vt 0 (cll PP (ev PP (gsF gv) B) d 784 [(2, rf (B + 149)), (2, rf f1)] h) (fun x h' => Agr (pgW B) h h' ∧ Inv h' ∧ PgR B n nk np cs w dr isC gk lv fr to_ nd dlv dc dgk dw kd x h') := by
  obtain ⟨hq, Dq, e1, hs, e7⟩ := id M
  have hl24 : ∀ k, lv k = true → k < 24 := fun k lk => by
    have := L.1.2.1
    rcases (by omega : k < nl ∨ nl ≤ k) with z | z
    · omega
    · rw [L.1.2.2 k z] at lk; cases lk
  refine Vt.inq (D := 997) hd (Nat.le_of_ble_eq_true rfl) rfl (fun d hd Q K => ?_)
  refine Ends.eq (b784_0 l (by omega) hq Dq F1) ?_
  rw [ho, tn, ← e1]
  refine Ends.g ⟨by omega, by omega⟩ ?_
  refine Ends.ct l (by decide +kernel) (by decide) (c_profileOf785 l (by omega) (by omega) H i0 hP L D HR) (fun p q1 l1 _ _ _ ⟨g1, i1, P⟩ => ?_)
  have G1 : Agr (pgW B) h q1 := g1.sub (fun _ _ z => Or.inl z)
  have F1' : YF B f1 q1 := F1.agr g1 (fun z => by have := pp_lo z; omega)
  have k1 : hv q1 f1 1 = (kd : Int) := by rw [g1.at _ _ (fun z => by have := pp_lo z; omega)]; exact hk
  -- it fails
  have bad : ∀ p : Int, 0 < p → ((1 < slS nk np isC gk cs w ∧ p = 1) ∨ (slS nk np isC gk cs w ≤ 1 ∧ ∃ X t, Sln (EqE nk isC cs w) (2 * np) dr X t ∧ PrS (decide (kd = 2 ∨ kd = 3)) n (decide (kd = 8)) (fun j => mN (X j) t) (fun j => mD (X j) t) lv fr to_ nd dlv dc dgk dw p)) → Ends (ev PP (gsF gv) B d 784 63 [(2, rf (B + 149)), (2, rf f1), (0, p)] [] q1) Q := fun p p0 hp => by
    refine Ends.eq (b784_63 l1 (by omega) F1') (Ends.b5 (fun z => absurd z (by omega)) (fun _ => ?_))
    refine Ends.ct l1 (by decide +kernel) (by decide) (c_because552 l1 (by omega)) (fun x q2 l2 _ _ _ ⟨ex, g2, e100, e101⟩ => ?_)
    refine Ends.eq (b784_73 l2 (by omega)) (Ends.g (Or.inl ex) (Ends.sm (K _ _ ⟨G1.tr g2 (fun _ _ z => Or.inr (Or.inl z)), hB _ _ i1 g2, Or.inl ⟨ex, e100, ?_⟩⟩)))
    rw [e101]
    rcases hp with hp | ⟨hp1, hp2⟩
    · exact Or.inl hp
    · exact Or.inr ⟨hp1, by omega, hp2⟩
  have good : ∀ X t, slS nk np isC gk cs w ≤ 1 → Sln (EqE nk isC cs w) (2 * np) dr X t → PrS (decide (kd = 2 ∨ kd = 3)) n (decide (kd = 8)) (fun j => mN (X j) t) (fun j => mD (X j) t) lv fr to_ nd dlv dc dgk dw 0 → HfM B n q1 (fun j => mN (X j) t) lv fr to_ → (kd ≠ 8 → PfM B n q1 (fun j => mN (X j) t) lv fr to_ nd dlv dc dw) → Ends (ev PP (gsF gv) B d 784 63 [(2, rf (B + 149)), (2, rf f1), (0, 0)] [] q1) Q := fun X t a sln pr hf pf => by
    refine Ends.eq (b784_63 l1 (by omega) F1') (Ends.b5 (fun _ => ?_) (fun z => absurd z (by decide)))
    rw [k1]
    have plain : ¬ (kd = 2 ∨ kd = 3) → Ends (ev PP (gsF gv) B d 784 94 [(2, rf (B + 149)), (2, rf f1), (0, 0)] [] q1) Q := fun z => by
      refine Ends.eq (b784_94 l1 (by omega)) (Ends.sm (K _ _ ⟨G1, i1, Or.inr ⟨rfl, a, X, t, sln, pr, hf, pf, fun y => absurd y z⟩⟩))
    have sq : kd = 2 ∨ kd = 3 → Ends (ev PP (gsF gv) B d 784 90 [(2, rf (B + 149)), (2, rf f1), (0, 0)] [] q1) Q := fun z => by
      have pf' := pf (by omega)
      have pr0 : PrR n false (fun j => mN (X j) t) (fun j => mD (X j) t) lv fr to_ nd dlv dc dgk dw 0 := by
        rw [decide_eq_false (show ¬ kd = 8 by omega)] at pr
        rcases pr with ⟨y, -⟩ | ⟨y, -⟩
        · exact absurd rfl y
        · exact y
      refine Ends.eq (b784_90 l1 (by omega)) ?_
      refine Ends.cv l1 (by decide +kernel) (c_fillSquares630 l1 (by omega) hn hf.1 hf.2 hl24 (dsc_M D.1.2 pf' pr0)) (fun q2 l2 _ _ _ ⟨g2, sm⟩ => ?_)
      refine Ends.eq (b784_94 l2 (by omega)) (Ends.sm (K _ _ ⟨G1.tr g2 (fun _ _ z => Or.inr (Or.inr z)), hS _ _ i1 g2, Or.inr ⟨rfl, a, X, t, sln, pr, hf.agr g2 (fun c k z => by unfold pqW; omega), fun _ => pf'.agr g2 (fun c k z => by unfold pqW; omega), fun _ => sm⟩⟩))
    exact Ends.b0 (fun z => sq (by omega)) (fun z => Ends.b1 (fun z2 => plain (by omega)) (fun z2 => sq (by omega)))
  refine Ends.eq (b784_16 l1 (by omega) F1') ?_
  rw [k1, ct1, ct5]
  rcases P with ⟨a, ep⟩ | ⟨a, X, t, sln, pr, hf, pf⟩
  · -- it is not solved
    rw [ep, if_neg (show ¬ (3 : Int) < 1 by decide), show (if (kd : Int) = 8 then (1 : Int) else 1) = 1 from by split <;> rfl]
    exact Ends.b1 (fun _ => bad 1 (by decide) (Or.inl ⟨a, rfl⟩)) (fun z => absurd z (by decide))
  · have po := pr_or pr
    by_cases k8 : kd = 8
    · rw [if_pos (show (kd : Int) = 8 by omega)]
      have pw := pr_wall pr
      have d2 : decide (kd = 2 ∨ kd = 3) = false := decide_eq_false (by omega)
      have d8 : decide (kd = 8) = true := decide_eq_true k8
      rw [d2, d8] at bad good
      obtain ⟨p', ep'⟩ : ∃ p' : Int, p' = if 3 < p then 0 else p := ⟨_, rfl⟩
      rw [← ep'] at pw ⊢
      have hp' : p' = 0 ∨ 0 < p' := by rw [ep']; split <;> omega
      rcases hp' with z | z
      · rw [z] at pw ⊢
        refine Ends.b1 (fun y => absurd rfl y) (fun _ => Ends.b0 (fun y => absurd y (by omega)) (fun _ => Ends.b1 (fun _ => ?_) (fun y => absurd y (by omega))))
        exact good X t a sln (Or.inr ⟨pw, Or.inr ⟨fun y => (by cases y), rfl⟩⟩) (hf (by
          rw [z] at ep'
          by_cases y : 3 < p
          · omega
          · rw [if_neg y] at ep'; omega)) (fun y => absurd k8 y)
      · exact Ends.b1 (fun _ => bad p' z (Or.inr ⟨a, X, t, sln, Or.inl ⟨by omega, pw⟩⟩)) (fun y => absurd y (by omega))
    · rw [if_neg (show ¬ (kd : Int) = 8 by omega)]
      have d8 : decide (kd = 8) = false := decide_eq_false k8
      rw [d8] at bad good
      rcases po with z | z
      · rw [z] at pr ⊢
        have hf' := hf (Or.inl z)
        have pf' := pf z
        refine Ends.b1 (fun y => absurd rfl y) (fun _ => ?_)
        have straight : kd = 2 ∨ kd = 3 → Ends (ev PP (gsF gv) B d 784 53 [(2, rf (B + 149)), (2, rf f1), (0, 0)] [] q1) Q := fun k23 => by
          have d2 : decide (kd = 2 ∨ kd = 3) = true := decide_eq_true k23
          rw [d2] at bad good
          refine Ends.eq (b784_53 l1 (by omega)) ?_
          refine Ends.ct l1 (by decide +kernel) (by decide) (c_isStraight717 (dn := cntN dlv nd) l1 (by omega) hf'.1 pf'.2.1) (fun y q2 l2 _ _ _ ⟨eq2_, ey⟩ => ?_)
          subst eq2_
          refine Ends.eq (b784_57 l2 (by omega)) ?_
          rw [ct1]
          rcases ey with ⟨ey, sp⟩ | ⟨ey, sp⟩
          · rw [ey, if_neg (by decide)]
            exact good X t a sln (Or.inr ⟨pr, Or.inr ⟨fun _ => sp, rfl⟩⟩) hf' (fun _ => pf')
          · rw [ey, if_pos rfl]
            exact bad 7 (by decide) (Or.inr ⟨a, X, t, sln, Or.inr ⟨pr, Or.inl ⟨rfl, sp, rfl⟩⟩⟩)
        refine Ends.b0 (fun y => straight (by omega)) (fun y => Ends.b1 (fun y2 => ?_) (fun y2 => straight (by omega)))
        have d2 : decide (kd = 2 ∨ kd = 3) = false := decide_eq_false (by omega)
        rw [d2] at good
        exact good X t a sln (Or.inr ⟨pr, Or.inr ⟨fun y => (by cases y), rfl⟩⟩) hf' (fun _ => pf')
      · exact Ends.b1 (fun _ => bad p (by omega) (Or.inr ⟨a, X, t, sln, Or.inl ⟨by omega, pr⟩⟩)) (fun y => absurd y (by omega))
end MGD
