/-! L3: views (model): a view is made -/
noncomputable section MVW
variable {gv : Nat → Int} {B n d ax dn : Nat} {h : AH} {S : Nat → Bool}
/-- the key of a slot -/
def kfM (B : Nat) (h : AH) (i : Nat) : Int := if hv h (B + 245) i < 0 then -1 else hv h (B + 243) (hv h (B + 245) i).toNat
def hsM (n : Nat) (c : Int) : Nat := (bop32 126 (bop32 124 (bop32 104 c 625341585) 7) (bop32 100 ((rmN n : Nat) : Int) 1)).toNat
theorem hsM_is {c : Int} : bop32 126 (bop32 124 (bop32 104 c 625341585) 7) (bop32 100 ((rmN n : Nat) : Int) 1) = ((hsM n c : Nat) : Int) ∧ hsM n c < rmN n := by
  have := rm_lt n
  unfold hsM
  rw [and_rm]
  generalize bop32 124 (bop32 104 c 625341585) 7 = y
  have h1 := Int.emod_nonneg y (show ((rmN n : Nat) : Int) ≠ 0 by omega)
  have h2 := Int.emod_lt_of_pos y (show (0 : Int) < ((rmN n : Nat) : Int) by omega)
  omega
theorem c_slotOf835 {k0 : Nat} {c : Int} (l : LX B n h) (hd : 10 ≤ d) (hS : ∀ i, i < rmN n → hv h (B + 245) i < ((8 * n * n : Nat) : Int)) (hc : c ≠ -1) (hF : ∀ i, i < rmN n → 0 ≤ hv h (B + 245) i → hv h (B + 243) (hv h (B + 245) i).toNat ≠ -1) (hk0 : k0 < rmN n) (free : kfM B h k0 = -1) :
    Vt 0 (cll PP (ev PP (gsF gv) B) d 835 [(2, rf (B + 149)), (0, c)] h) (fun x h' => h' = h ∧ ∃ k : Nat, x = (k : Int) ∧ k < rmN n ∧ sIs (rmN n) (kfM B h) (hsM n c) c k) := by
  have rl := rm_lt n
  obtain ⟨hs1, hs2⟩ := hsM_is (n := n) (c := c)
  obtain ⟨N, eN⟩ : ∃ N, N = rmN n := ⟨_, rfl⟩
  refine Vt.inq (D := 9) hd (Nat.le_of_ble_eq_true rfl) rfl (fun d hd Q K => ?_)
  refine Ends.eq (b835_0 l (by omega)) ?_
  rw [hs1]
  rw [← eN] at hs2 hk0 rl hS hF K
  obtain ⟨J, eJ⟩ : ∃ J, J = (k0 + N - hsM n c) % N := ⟨_, rfl⟩
  have hJ : J < N := by rw [eJ]; exact Nat.mod_lt _ (by omega)
  have J2 : (hsM n c + J) % N = k0 := by
    rw [eJ]
    by_cases z : hsM n c ≤ k0
    · rw [show k0 + N - hsM n c = (k0 - hsM n c) + N by omega, Nat.add_mod_right, Nat.mod_eq_of_lt (by omega : k0 - hsM n c < N), show hsM n c + (k0 - hsM n c) = k0 by omega, Nat.mod_eq_of_lt hk0]
    · rw [Nat.mod_eq_of_lt (by omega : k0 + N - hsM n c < N), show hsM n c + (k0 + N - hsM n c) = k0 + N by omega, Nat.add_mod_right, Nat.mod_eq_of_lt hk0]
  have key : ∀ (r j : Nat), j + r = J → (∀ i, i < j → kfM B h ((hsM n c + i) % N) ≠ -1 ∧ kfM B h ((hsM n c + i) % N) ≠ c) → Ends (ev PP (gsF gv) B d 835 17 [(2, rf (B + 149)), (0, c), (0, (((hsM n c + j) % N : Nat) : Int))] [] h) Q := by
    intro r
    induction r with
    | zero =>
      intro j e no
      obtain rfl : j = J := by omega
      have f2 : hv h (B + 245) k0 < 0 := by
        apply Classical.byContradiction
        intro z
        unfold kfM at free
        rw [if_neg z] at free
        exact hF k0 hk0 (by omega) free
      refine Ends.eq (b835_17 l (by omega)) ?_
      rw [J2, tn, ← eN]
      refine Ends.g ⟨by omega, by omega⟩ (Ends.b2 (fun _ => ?_) (fun z => by omega))
      rw [← J2]
      exact Ends.eq (b835_56 l (by omega)) (Ends.sm (K _ _ ⟨rfl, _, rfl, Nat.mod_lt _ (by omega), j, hJ, rfl, no, Or.inl (by rw [J2]; exact free)⟩))
    | succ r ih =>
      intro j e no
      have ml : (hsM n c + j) % N < N := Nat.mod_lt _ (by omega)
      refine Ends.eq (b835_17 l (by omega)) ?_
      rw [tn, ← eN]
      refine Ends.g ⟨by omega, by omega⟩ (Ends.b2 (fun z => ?_) (fun z1 => ?_))
      · exact Ends.eq (b835_56 l (by omega)) (Ends.sm (K _ _ ⟨rfl, _, rfl, ml, j, by omega, rfl, no, Or.inl (by unfold kfM; rw [if_pos z])⟩))
      · have kf : kfM B h ((hsM n c + j) % N) = hv h (B + 243) (hv h (B + 245) ((hsM n c + j) % N)).toNat := by unfold kfM; rw [if_neg (by omega)]
        refine Ends.g ⟨z1, hS _ ml⟩ (Ends.b0 (fun z => ?_) (fun z2 => ?_))
        · exact Ends.eq (b835_56 l (by omega)) (Ends.sm (K _ _ ⟨rfl, _, rfl, ml, j, by omega, rfl, no, Or.inr (by rw [kf]; exact z)⟩))
        · rw [eN, and_rm, ← eN, show bop32 96 (((hsM n c + j) % N : Nat) : Int) 1 = (((hsM n c + j) % N + 1 : Nat) : Int) from addNN (y := 1) (by omega), ← Int.natCast_emod, show ((hsM n c + j) % N + 1) % N = (hsM n c + (j + 1)) % N from by rw [Nat.mod_add_mod, Nat.add_assoc]]
          refine ih (j + 1) (by omega) (fun i hi => ?_)
          rcases (by omega : i < j ∨ i = j) with y | y
          · exact no i y
          · rw [y, kf]; exact ⟨hF _ ml (by omega), z2⟩
  have := key J 0 (Nat.zero_add _) (fun i hi => absurd hi (Nat.not_lt_zero i))
  rw [show (hsM n c + 0) % N = hsM n c from Nat.mod_eq_of_lt hs2] at this
  exact this
/-- a chain of pieces -/
def lkd (NX : Nat → Int) : Int → List Nat → Prop
  | x, [] => x < 0
  | x, k :: r => x = (k : Int) ∧ lkd NX (NX k) r
theorem lkd.congr {NX NX' : Nat → Int} : ∀ {L : List Nat} {x : Int}, lkd NX x L → (∀ k, k ∈ L → NX' k = NX k) → lkd NX' x L
  | [], _, a, _ => a
  | k :: r, x, a, e => ⟨a.1, by rw [e k (List.mem_cons_self ..)]; exact lkd.congr a.2 (fun j hj => e j (List.mem_cons_of_mem _ hj))⟩
/-- pieces of P are told, each in the chain of its facet -/
def VpI (B n : Nat) (q : AH) (P : Nat → Prop) : Prop := (∀ i, i < rmN n → hv q (B + 245) i < ((8 * n * n : Nat) : Int) ∧ ∃ L, lkd (hv q (B + 244)) (hv q (B + 245) i) L ∧ (∀ k, k ∈ L → P k ∧ k < 8 * n * n ∧ hv q (B + 243) k = kfM B q i) ∧ ∀ k, P k → hv q (B + 243) k = kfM B q i → k ∈ L) ∧ TbK n (hsM n) (kfM B q) (fun c => ∃ k, P k ∧ c = hv q (B + 243) k) ∧ ∀ k, P k → 0 ≤ hv q (B + 243) k
theorem VpI.pos {P : Nat → Prop} (I : VpI B n h P) {i : Nat} (hi : i < rmN n) (z : 0 ≤ hv h (B + 245) i) : hv h (B + 243) (hv h (B + 245) i).toNat ≠ -1 ∧ P (hv h (B + 245) i).toNat := by
  obtain ⟨a1, L, a2, a3, a4⟩ := I.1 i hi
  cases L with
  | nil => exact absurd a2 (by show ¬ hv h (B + 245) i < 0; omega)
  | cons k r =>
    have e : hv h (B + 245) i = (k : Int) := a2.1
    rw [e, tn]
    have p := (a3 k (List.mem_cons_self ..)).1
    exact ⟨by have := I.2.2 k p; omega, p⟩
/-- a facet's pieces are shown -/
theorem c_showFacet824 {P : Nat → Prop} {K k0 : Nat} {face : Int} (l : LX B n h) (hd : 12 ≤ d) (I : VpI B n h P) (hk0 : k0 < rmN n) (free : kfM B h k0 = -1) :
    Vd (cll PP (ev PP (gsF gv) B) d 824 [(2, rf (B + 149)), (0, (K : Int)), (0, face)] h) (fun h' => Agr (fun c _ => c = B + 242) h h' ∧ ∀ k, (P k ∧ hv h (B + 243) k = (K : Int) → hv h' (B + 242) k = face) ∧ (¬ (P k ∧ hv h (B + 243) k = (K : Int)) → hv h' (B + 242) k = hv h (B + 242) k)) := by
  refine Vd.inq (D := 11) hd (Nat.le_of_ble_eq_true rfl) rfl (fun d hd Q KK => ?_)
  refine Ends.eq (b824_0 l (by omega)) ?_
  refine Ends.ct l (by decide +kernel) (by decide) (c_slotOf835 (c := (K : Int)) l (by omega) (fun i hi => (I.1 i hi).1) (by omega) (fun i hi z => (I.pos hi z).1) hk0 free) (fun x h2 l2 _ _ _ ⟨e2, i, ei, hi, si⟩ => ?_)
  subst e2
  refine Ends.eq (b824_9 l2 (by omega)) ?_
  have k245 : hk h2 (B + 245) = (0 + 2, rmN n) := lk_245 l2
  rw [ei, ad_rf, k245, tn]
  refine Ends.g ⟨rf_pos _, rfl, by omega, by show (i : Int) < ((rmN n : Nat) : Int); omega⟩ ?_
  obtain ⟨a1, L, a2, a3, a4⟩ := I.1 i hi
  have chain : ∀ (L' : List Nat) (x : Int) (q : AH), lkd (hv h2 (B + 244)) x L' → (∀ k, k ∈ L' → k < 8 * n * n) → LX B n q → Agr (fun c _ => c = B + 242) h2 q → (∀ q', LX B n q' → Agr (fun c _ => c = B + 242) h2 q' → (∀ k, (k ∈ L' → hv q' (B + 242) k = face) ∧ (k ∉ L' → hv q' (B + 242) k = hv q (B + 242) k)) → Q ((0, (9, 0)), q')) → Ends (ev PP (gsF gv) B d 824 11 [(2, rf (B + 149)), (0, (K : Int)), (0, face), (0, x)] [] q) Q := by
    intro L'
    induction L' with
    | nil =>
      intro x q lk _ lq g kn
      exact Ends.eq (b824_11 lq (by omega)) (Ends.b2 (fun _ => Ends.sm (kn q lq g (fun k => ⟨fun z => absurd z (List.not_mem_nil), fun _ => rfl⟩))) (fun z => by have : x < 0 := lk; omega))
    | cons k r ih =>
      intro x q lk kb lq g kn
      obtain ⟨ex, lk2⟩ := lk
      have kl := kb k (List.mem_cons_self ..)
      refine Ends.eq (b824_11 lq (by omega)) ?_
      rw [ex, tn, an0, g.at _ _ (by omega)]
      refine Ends.b2 (fun z => by omega) (fun _ => Ends.g ⟨by omega, by omega⟩ ?_)
      refine ih _ _ lk2 (fun j hj => kb j (List.mem_cons_of_mem _ hj)) (LX.setS lq rfl) (g.set rfl) (fun q' l' g' e => kn q' l' g' (fun j => ⟨fun z => ?_, fun z => ?_⟩))
      · by_cases y : j ∈ r
        · exact (e j).1 y
        · rw [(e j).2 y]
          rcases List.mem_cons.mp z with w | w
          · rw [w, hv_set_at]
          · exact absurd w y
      · have nr : j ∉ r := fun y => z (List.mem_cons_of_mem _ y)
        rw [(e j).2 nr, hv_set_ne (fun y => z (by rw [y.2]; exact List.mem_cons_self ..))]
  refine chain L _ h2 a2 (fun k hk => (a3 k hk).2.1) l2 Agr.rf (fun q' l' g' e => KK _ ⟨g', fun k => ⟨fun ⟨p, z⟩ => (e k).1 ?_, fun z => (e k).2 (fun y => ?_)⟩⟩)
  · refine a4 k p ?_
    rw [z]
    exact ((I.2.1.find hi si).1 ⟨k, p, z.symm⟩).symm
  · obtain ⟨y1, y2, y3⟩ := a3 k y
    refine z ⟨y1, ?_⟩
    obtain ⟨j, -, -, -, j4⟩ := si
    rw [y3]
    rcases j4 with w | w
    · have := I.2.2 k y1; rw [y3, w] at this; exact absurd this (by decide)
    · exact w
/-- which lines come to something: pieces, then columns (model) -/
def vwM (n : Nat) (S : Nat → Bool) (ax dn : Nat) (L : Nat) : Bool := decide (ffP n S ax dn (L / (n * n)) (L / n % n) (L % n) < 5 * n)
theorem rw3_ex {N : Nat} (hn0 : 0 < n) (hN : N < 8 * n * n) : ∃ p u v, p < 8 ∧ u < n ∧ v < n ∧ N = rw3 n p u v := by
  have hY : N % n < n := Nat.mod_lt _ hn0
  have hZ : N / n % n < n := Nat.mod_lt _ hn0
  have hp : N / (n * n) < 8 := by
    rw [Nat.div_lt_iff_lt_mul (Nat.mul_pos hn0 hn0), ← Nat.mul_assoc]; exact hN
  refine ⟨_, _, _, hp, hZ, hY, ?_⟩
  unfold rw3
  rw [← Nat.div_div_eq_div_mul]
  have a := Nat.div_add_mod (N / n) n
  have b := Nat.div_add_mod N n
  rw [Nat.mul_comm n (N / n / n)] at a
  rw [Nat.mul_comm n (N / n)] at b
  rw [a]; omega
theorem rw3_l8 {p u v : Nat} (hp : p < 8) (hu : u < n) (hv' : v < n) : rw3 n p u v < 8 * n * n := by
  have h1 : (p + 1) * n ≤ 8 * n := Nat.mul_le_mul_right n hp
  rw [Nat.succ_mul] at h1
  have h2 : (p * n + u + 1) * n ≤ 8 * n * n := Nat.mul_le_mul_right n (by omega)
  rw [Nat.succ_mul] at h2
  unfold rw3; omega
theorem vwM_B (hn0 : 0 < n) : cntN (vwM n S ax dn) (8 * n * n) = cntN (vwB n S ax dn) (8 * n * n) := by
  refine cnt_rel (r := fun i j => ∃ p u v, p < 8 ∧ u < n ∧ v < n ∧ i = rw3 n p u v ∧ j = rw3 n p v u) _ _ _ _ (fun i hi hd => ?_) (fun j hj hd => ?_) ?_ ?_
  · obtain ⟨p, u, v, hp, hu, hv', e⟩ := rw3_ex hn0 hi
    refine ⟨rw3 n p v u, rw3_l8 hp hv' hu, ?_, p, u, v, hp, hu, hv', e, rfl⟩
    subst e
    unfold vwM at hd
    unfold vwB
    rw [dec_t hu hv', dec_z hu hv', dec_y hv'] at hd
    rw [dec_t hv' hu, dec_z hv' hu, dec_y hu]
    exact hd
  · obtain ⟨p, v, u, hp, hv', hu, e⟩ := rw3_ex hn0 hj
    refine ⟨rw3 n p u v, rw3_l8 hp hu hv', ?_, p, u, v, hp, hu, hv', rfl, e⟩
    subst e
    unfold vwB at hd
    unfold vwM
    rw [dec_t hv' hu, dec_z hv' hu, dec_y hu] at hd
    rw [dec_t hu hv', dec_z hu hv', dec_y hv']
    exact hd
  · rintro i j j' ⟨p, u, v, h1, h2, h3, h4, h5⟩ ⟨p', u', v', k1, k2, k3, k4, k5⟩
    obtain ⟨e1, e2, e3⟩ := (rw3_inj h2 h3 k2 k3).mp (h4.symm.trans k4)
    rw [h5, k5, e1, e2, e3]
  · rintro i i' j ⟨p, u, v, h1, h2, h3, h4, h5⟩ ⟨p', u', v', k1, k2, k3, k4, k5⟩
    obtain ⟨e1, e2, e3⟩ := (rw3_inj h3 h2 k3 k2).mp (h5.symm.trans k5)
    rw [h4, k4, e1, e2, e3]
/-- the pieces below L (pieces, then columns) are told -/
def VnI (B n : Nat) (h1 : AH) (S : Nat → Bool) (ax dn L : Nat) (q : AH) : Prop := LX B n q ∧ Agr (fun c k => mkLW B c k ∨ (B + 242 ≤ c ∧ c ≤ B + 245)) h1 q ∧ (∀ p u v, p < 8 → u < n → v < n → rw3 n p u v < L → hv q (B + 242) (ixV n p u v) = -1 ∧ hv q (B + 243) (ixV n p u v) = ffF n S ax dn p u v) ∧ VpI B n q (fun k => ∃ p u v, p < 8 ∧ u < n ∧ v < n ∧ rw3 n p u v < L ∧ k = ixV n p u v ∧ ffP n S ax dn p u v < 5 * n) ∧ cntN (fun j => decide (kfM B q j ≠ -1)) (rmN n) ≤ cntN (vwM n S ax dn) L
/-- what a view writes (model) -/
def mvW (B : Nat) : Nat → Nat → Prop := fun c k => fgoW B c k ∨ mkLW B c k ∨ (B + 242 ≤ c ∧ c ≤ B + 245)
end MVW
