/-! L3: lines through a cube (printed by gen_h2a.py): sorts in order, the facets by which a line comes into them -/
section LNS
def lnTP : Nat := 0x9551a84ac8d46774ee33be77119b2b08cb958044c28022214ac5450d62c286f371c779bce3b49a615a4b30a904901482080428ac7215163a14ade70a5af34ae4d7a5666bc8010ce400467730aa4399152277ad213bda907b64b4bda65a4e31008718404520895a9104ae35a5a51aded263a6f6b1c77b4a1188c5080465a48852d3042a56a5632b5eb16be6e635e7730c2184a610025
def lnEP : Nat := 0x6d1f46d1f47d1b47d1b4691e4691e4791a4791a46d1f46d1f47d1b47d1b4691e4691e4791a4791a46d1f46d1f47d1b47d1b4691e4691e4791a4791a4
def vlT (ax dn p k : Nat) : Nat := lnTP / 32 ^ (((ax * 2 + dn) * 8 + p) * 5 + k) % 32
def vlE (ax dn p k : Nat) : Nat := lnEP / 4 ^ (((ax * 2 + dn) * 8 + p) * 5 + k) % 4
def slL (k : Nat) : Nat := [1, 4, 8, 12, 15].getD k 0
def puL (p : Nat) : Nat := [3, 5, 7, 7, 5, 3, 1, 1].getD p 0
def pvL (p : Nat) : Nat := [1, 1, 3, 5, 7, 7, 5, 3].getD p 0
/-- coordinate w of a place told by axis, u, v, c -/
def pkA (ax w u v c : Nat) : Nat := if w = ax then c else if w = (if ax = 0 then 1 else 0) then u else v
theorem pk_is {ax w : Nat} {u v c : Int} (hax : ax < 3) (hw : w < 3) : v468 (ax : Int) (w : Int) u v c = if w = ax then c else if w = (if ax = 0 then 1 else 0) then u else v := by
  rcases (by omega : ax = 0 ∨ ax = 1 ∨ ax = 2) with rfl | rfl | rfl <;> rcases (by omega : w = 0 ∨ w = 1 ∨ w = 2) with rfl | rfl | rfl <;> rfl
theorem pk_N {ax w u v c : Nat} (hax : ax < 3) (hw : w < 3) : v468 (ax : Int) (w : Int) (u : Int) (v : Int) (c : Int) = ((pkA ax w u v c : Nat) : Int) := by
  rw [pk_is hax hw]
  unfold pkA
  split
  · rfl
  · (repeat' split) <;> first | rfl | omega
/-- where grainAt looks -/
def gaI (x y z : Int) : Int := (bop32 96 (bop32 96 (bop32 104 (64 : Int) (v236 (cond (tst 3 x (8 : Int)) (bop32 100 (16 : Int) x) x) (cond (tst 3 y (8 : Int)) (bop32 100 (16 : Int) y) y) (cond (tst 3 z (8 : Int)) (bop32 100 (16 : Int) z) z) x)) (bop32 104 (8 : Int) (v236 (cond (tst 3 y (8 : Int)) (bop32 100 (16 : Int) y) y) (cond (tst 3 x (8 : Int)) (bop32 100 (16 : Int) x) x) (cond (tst 3 z (8 : Int)) (bop32 100 (16 : Int) z) z) y))) (v236 (cond (tst 3 z (8 : Int)) (bop32 100 (16 : Int) z) z) (cond (tst 3 x (8 : Int)) (bop32 100 (16 : Int) x) x) (cond (tst 3 y (8 : Int)) (bop32 100 (16 : Int) y) y) z))
theorem ga_all : ∀ ax : Fin 3, ∀ dn : Fin 2, ∀ p : Fin 8, ∀ k : Fin 5, vlT ax dn p k < 24 ∧ gaI (v468 ((ax : Nat) : Int) 0 (bop32 104 2 ((puL p : Nat) : Int)) (bop32 104 2 ((pvL p : Nat) : Int)) ((slL (if (dn : Nat) = 0 then k else 4 - k) : Nat) : Int)) (v468 ((ax : Nat) : Int) 1 (bop32 104 2 ((puL p : Nat) : Int)) (bop32 104 2 ((pvL p : Nat) : Int)) ((slL (if (dn : Nat) = 0 then k else 4 - k) : Nat) : Int)) (v468 ((ax : Nat) : Int) 2 (bop32 104 2 ((puL p : Nat) : Int)) (bop32 104 2 ((pvL p : Nat) : Int)) ((slL (if (dn : Nat) = 0 then k else 4 - k) : Nat) : Int)) = ((64 * rT (vlT ax dn p k) 0 + 8 * rT (vlT ax dn p k) 1 + rT (vlT ax dn p k) 2 : Nat) : Int) := by decide +kernel
/-- the last facet by which one comes from a sort -/
def vlF (t prev : Nat) : Nat → Nat
  | 0 => 0
  | f + 1 => if 1 ≤ f ∧ nxt t f = prev then f else vlF t prev f
theorem vl_all : ∀ ax : Fin 3, ∀ dn : Fin 2, ∀ p : Fin 8, ∀ k : Fin 5, (vlE ax dn p k = if (k : Nat) = 0 then 0 else vlF (vlT ax dn p k) (vlT ax dn p (k - 1)) 4) ∧ ((k : Nat) = 0 → nxt (vlT ax dn p 0) 0 = vlT ax dn p 4 ∧ aC (vlT ax dn p 0) = ax ∧ hiC (vlT ax dn p 0) = decide ((dn : Nat) = 1)) ∧ (1 ≤ (k : Nat) → 1 ≤ vlE ax dn p k ∧ vlE ax dn p k < 4 ∧ nxt (vlT ax dn p k) (vlE ax dn p k) = vlT ax dn p (k - 1)) := by decide +kernel
variable {n ax dn p u v : Nat} {S : Nat → Bool}
/-- the w-th cube of a line; the i-th grain on it -/
def vlC (n dn w : Nat) : Nat := if dn = 0 then w else n - 1 - w
def lnG (n ax dn p u v i : Nat) : Nat := gI n (pkA ax 0 u v (vlC n dn (i / 5))) (pkA ax 1 u v (vlC n dn (i / 5))) (pkA ax 2 u v (vlC n dn (i / 5))) (vlT ax dn p (i % 5))
/-- the first place from i on -/
def ffI (f : Nat → Bool) : Nat → Nat → Nat
  | 0, i => i
  | r + 1, i => if f i = true then i else ffI f r (i + 1)
theorem ffI_s {f : Nat → Bool} : ∀ (r i : Nat), i ≤ ffI f r i ∧ ffI f r i ≤ i + r ∧ (ffI f r i < i + r → f (ffI f r i) = true) ∧ ∀ j, i ≤ j → j < ffI f r i → f j = false
  | 0, i => ⟨Nat.le_refl _, Nat.le_refl _, fun z => absurd z (Nat.lt_irrefl _), fun j h1 h2 => by unfold ffI at h2; omega⟩
  | r + 1, i => by
    unfold ffI
    by_cases e : f i = true
    · rw [if_pos e]
      exact ⟨Nat.le_refl _, by omega, fun _ => e, fun j h1 h2 => by omega⟩
    · rw [if_neg e]
      obtain ⟨a1, a2, a3, a4⟩ := ffI_s (f := f) r (i + 1)
      refine ⟨by omega, by omega, fun z => a3 (by omega), fun j h1 h2 => ?_⟩
      by_cases z : j = i
      · rw [z]; simpa using e
      · exact a4 j (by omega) h2
/-- the first facet that a line comes to -/
def ffP (n : Nat) (S : Nat → Bool) (ax dn p u v : Nat) : Nat := ffI (fun i => S (lnG n ax dn p u v i)) (5 * n) 0
def ffK (n : Nat) (S : Nat → Bool) (ax dn p u v : Nat) : Nat := 4 * lnG n ax dn p u v (ffP n S ax dn p u v) + vlE ax dn p (ffP n S ax dn p u v % 5)
def ffF (n : Nat) (S : Nat → Bool) (ax dn p u v : Nat) : Int := if ffP n S ax dn p u v < 5 * n then ((ffK n S ax dn p u v : Nat) : Int) else -1
theorem pkA_lt {w c : Nat} (hu : u < n) (hv' : v < n) (hc : c < n) : pkA ax w u v c < n := by unfold pkA; (repeat' split) <;> assumption
theorem lnC_lt {w : Nat} (hw : w < n) : vlC n dn w < n := by unfold vlC; split <;> omega
theorem lnG_is {i : Nat} (hax : ax < 3) (hdn : dn < 2) (hp : p < 8) (hu : u < n) (hv' : v < n) (hi : i < 5 * n) : lnG n ax dn p u v i < gN n ∧ gX n (lnG n ax dn p u v i) = pkA ax 0 u v (vlC n dn (i / 5)) ∧ gY n (lnG n ax dn p u v i) = pkA ax 1 u v (vlC n dn (i / 5)) ∧ gZ n (lnG n ax dn p u v i) = pkA ax 2 u v (vlC n dn (i / 5)) ∧ gSo (lnG n ax dn p u v i) = vlT ax dn p (i % 5) ∧ vlT ax dn p (i % 5) < 24 := by
  have hc : vlC n dn (i / 5) < n := lnC_lt (by omega)
  have ht := (ga_all ⟨ax, hax⟩ ⟨dn, hdn⟩ ⟨p, hp⟩ ⟨i % 5, Nat.mod_lt _ (by decide)⟩).1
  simp only at ht
  have h0 := pkA_lt (ax := ax) (w := 0) hu hv' hc
  have h1 := pkA_lt (ax := ax) (w := 1) hu hv' hc
  have h2 := pkA_lt (ax := ax) (w := 2) hu hv' hc
  unfold lnG
  exact ⟨gI_lt h0 h1 h2 ht, gX_I h0 ht, gY_I h0 h1 ht, gZ_I h0 h1 ht, gSo_I ht, ht⟩
theorem lnE_lt {i : Nat} : vlE ax dn p i < 4 := Nat.mod_lt _ (by decide)
/-- what a line comes to first is of the border -/
theorem ff_bdr (hax : ax < 3) (hdn : dn < 2) (hp : p < 8) (hu : u < n) (hv' : v < n) (e : ffP n S ax dn p u v < 5 * n) : ffK n S ax dn p u v < 4 * gN n ∧ bdr n S (ffK n S ax dn p u v) = true := by
  obtain ⟨-, -, s3, s4⟩ := ffI_s (f := fun i => S (lnG n ax dn p u v i)) (5 * n) 0
  rw [Nat.zero_add] at s3
  obtain ⟨i, ei⟩ : ∃ i, i = ffP n S ax dn p u v := ⟨_, rfl⟩
  have s3 : S (lnG n ax dn p u v i) = true := by rw [ei]; exact s3 e
  have s4 : ∀ j, j < i → S (lnG n ax dn p u v j) = false := fun j hj => s4 j (Nat.zero_le _) (by rw [ei] at hj; exact hj)
  rw [← ei] at e
  obtain ⟨g1, g2, g3, g4, g5, g6⟩ := lnG_is hax hdn hp hu hv' e
  have el : vlE ax dn p (i % 5) < 4 := lnE_lt
  have hi5 : i % 5 < 5 := Nat.mod_lt _ (by decide)
  obtain ⟨f1, f2, f3⟩ := vl_all ⟨ax, hax⟩ ⟨dn, hdn⟩ ⟨p, hp⟩ ⟨i % 5, hi5⟩
  simp only at f1 f2 f3
  unfold ffK
  rw [← ei]
  refine ⟨by omega, ?_⟩
  unfold bdr
  rw [show (4 * lnG n ax dn p u v i + vlE ax dn p (i % 5)) / 4 = lnG n ax dn p u v i by omega, show (4 * lnG n ax dn p u v i + vlE ax dn p (i % 5)) % 4 = vlE ax dn p (i % 5) by omega, s3, Bool.true_and, Bool.or_eq_true, decide_eq_true_eq, Bool.not_eq_true']
  by_cases z : i % 5 = 0
  · obtain ⟨h1, h2, h3⟩ := f2 z
    rw [f1, if_pos z]
    rw [z] at g5 g6
    unfold nbr
    rw [if_pos rfl, g2, g3, g4, g5]
    have st : ∀ a, a < 3 → stpC (vlT ax dn p 0) a = if ax = a then (if dn = 0 then -1 else 1) else 0 := fun a _ => by
      unfold stpC
      rw [h2, h3]
      by_cases y : ax = a
      · rw [if_pos y, if_pos y]
        rcases (by omega : dn = 0 ∨ dn = 1) with rfl | rfl <;> rfl
      · rw [if_neg y, if_neg y]
    rw [st 0 (by decide), st 1 (by decide), st 2 (by decide), h1]
    by_cases w : inRm n ((pkA ax 0 u v (vlC n dn (i / 5)) : Nat) + (if ax = 0 then (if dn = 0 then -1 else 1) else 0)) ((pkA ax 1 u v (vlC n dn (i / 5)) : Nat) + (if ax = 1 then (if dn = 0 then -1 else 1) else 0)) ((pkA ax 2 u v (vlC n dn (i / 5)) : Nat) + (if ax = 2 then (if dn = 0 then -1 else 1) else 0)) = true
    · right
      rw [if_pos w]
      obtain ⟨w1, w2, w3, w4, w5, w6⟩ := inRm_iff.mp w
      have h0 : i / 5 ≠ 0 := fun y => by
        rw [y] at w1 w2 w3 w4 w5 w6
        unfold pkA vlC at w1 w2 w3 w4 w5 w6
        rcases (by omega : ax = 0 ∨ ax = 1 ∨ ax = 2) with rfl | rfl | rfl <;> rcases (by omega : dn = 0 ∨ dn = 1) with rfl | rfl <;> simp at w1 w2 w3 w4 w5 w6 <;> omega
      have pr := s4 (i - 1) (by omega)
      unfold lnG at pr
      rw [show (i - 1) / 5 = i / 5 - 1 by omega, show (i - 1) % 5 = 4 by omega] at pr
      rw [tn]
      have cc : ∀ a, a < 3 → ((pkA ax a u v (vlC n dn (i / 5)) : Nat) + (if ax = a then (if dn = 0 then -1 else 1) else 0) : Int).toNat = pkA ax a u v (vlC n dn (i / 5 - 1)) := fun a ha => by
        unfold pkA vlC
        rcases (by omega : ax = 0 ∨ ax = 1 ∨ ax = 2) with rfl | rfl | rfl <;> rcases (by omega : a = 0 ∨ a = 1 ∨ a = 2) with rfl | rfl | rfl <;> rcases (by omega : dn = 0 ∨ dn = 1) with rfl | rfl <;> simp <;> omega
      rw [cc 0 (by decide), cc 1 (by decide), cc 2 (by decide)]
      exact pr
    · left
      rw [if_neg w]; decide
  · obtain ⟨h1, h2, h3⟩ := f3 (by omega)
    right
    unfold nbr
    rw [if_neg (by omega), g2, g3, g4, g5, h3, tn]
    have pr := s4 (i - 1) (by omega)
    unfold lnG at pr
    rw [show (i - 1) / 5 = i / 5 by omega, show (i - 1) % 5 = i % 5 - 1 by omega] at pr
    exact pr
end LNS
