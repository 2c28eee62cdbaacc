-- deps: 38
/-! L3: the grains of a cube: tables; grains of the room by number -/
def rXL : List Nat := [4, 2, 6, 4, 4, 1, 7, 4, 2, 6, 1, 7, 1, 7, 2, 6, 4, 1, 7, 4, 4, 2, 6, 4]
def rYL : List Nat := [2, 4, 4, 6, 1, 4, 4, 7, 1, 1, 2, 2, 6, 6, 7, 7, 1, 4, 4, 7, 2, 4, 4, 6]
def rZL : List Nat := [1, 1, 1, 1, 2, 2, 2, 2, 4, 4, 4, 4, 4, 4, 4, 4, 6, 6, 6, 6, 7, 7, 7, 7]
def aAL : List Nat := [0, 1, 1, 0, 0, 1, 1, 0, 2, 2, 2, 2, 2, 2, 2, 2, 0, 1, 1, 0, 0, 1, 1, 0]
def aBL : List Nat := [1, 0, 0, 1, 2, 2, 2, 2, 0, 0, 1, 1, 1, 1, 0, 0, 2, 2, 2, 2, 1, 0, 0, 1]
def aCL : List Nat := [2, 2, 2, 2, 1, 0, 0, 1, 1, 1, 0, 0, 0, 0, 1, 1, 1, 0, 0, 1, 2, 2, 2, 2]
def hBL : List Bool := [false, false, true, true, false, false, false, false, false, true, false, false, true, true, false, true, true, true, true, true, false, false, true, true]
def hCL : List Bool := [false, false, false, false, false, false, true, true, false, false, false, true, false, true, true, true, false, false, true, true, true, true, true, true]
def nxL : List Nat := [20, 4, 1, 2, 21, 5, 0, 3, 22, 6, 0, 3, 23, 7, 1, 2, 7, 0, 8, 9, 6, 1, 10, 12, 5, 2, 11, 13, 4, 3, 14, 15, 14, 10, 4, 16, 15, 11, 4, 16, 11, 8, 5, 17, 10, 9, 6, 18, 13, 14, 5, 17, 12, 15, 6, 18, 8, 12, 7, 19, 9, 13, 7, 19, 19, 20, 8, 9, 18, 21, 10, 12, 17, 22, 11, 13, 16, 23, 14, 15, 0, 16, 21, 22, 1, 17, 20, 23, 2, 18, 20, 23, 3, 19, 21, 22]
def drL : List Nat := [12, 11, 7, 25, 12, 5, 19, 25, 12, 23, 1, 7, 12, 17, 1, 19, 10, 15, 5, 23, 4, 21, 11, 17, 22, 3, 11, 17, 16, 9, 5, 23, 10, 7, 21, 23, 10, 25, 3, 5, 4, 19, 15, 17, 22, 1, 15, 17, 4, 25, 9, 11, 22, 7, 9, 11, 16, 1, 21, 23, 16, 19, 3, 5, 10, 17, 3, 21, 4, 23, 9, 15, 22, 5, 9, 15, 16, 11, 3, 21, 14, 9, 7, 25, 14, 3, 19, 25, 14, 21, 1, 7, 14, 15, 1, 19]
def quL : List Nat := [0, 0, 0, 0, 3, 0, 0, 1, 3, 3, 3, 3, 1, 1, 1, 1, 3, 2, 2, 1, 2, 2, 2, 2, 0, 0, 0, 0, 0, 3, 1, 0, 3, 1, 3, 1, 3, 1, 3, 1, 2, 3, 1, 2, 2, 2, 2, 2, 0, 3, 1, 2, 0, 3, 1, 2, 0, 0, 3, 1, 3, 1, 2, 2, 0, 3, 1, 2, 0, 3, 1, 2]
/-- the rest of sort t along an axis; axes A, B, C; whether it is nearer to the upper side; the sort across facet f; the facet's DIRECTION; the quarter seen along an axis -/
def rT (t a : Nat) : Nat := match a with
  | 0 => rXL.getD t 0
  | 1 => rYL.getD t 0
  | _ => rZL.getD t 0
def aA (t : Nat) : Nat := aAL.getD t 0
def aB (t : Nat) : Nat := aBL.getD t 0
def aC (t : Nat) : Nat := aCL.getD t 0
def hiB (t : Nat) : Bool := hBL.getD t false
def hiC (t : Nat) : Bool := hCL.getD t false
def nxt (t f : Nat) : Nat := nxL.getD (4 * t + f) 0
def dirT (t f : Nat) : Nat := drL.getD (4 * t + f) 0
def quT (a t : Nat) : Nat := quL.getD (24 * a + t) 0
/-- the sort with some rests (24: none) -/
def tyN (x y z : Nat) : Nat := ((List.range 24).find? (fun t => rT t 0 == x && rT t 1 == y && rT t 2 == z)).getD 24
theorem rT_lt : ∀ t : Fin 24, ∀ a : Fin 3, 1 ≤ rT t a ∧ rT t a < 8 := by decide +kernel
theorem tyN_rT : ∀ t : Fin 24, tyN (rT t 0) (rT t 1) (rT t 2) = t := by decide +kernel
theorem rT_tyN : ∀ x : Fin 8, ∀ y : Fin 8, ∀ z : Fin 8, tyN x y z < 24 → rT (tyN x y z) 0 = x ∧ rT (tyN x y z) 1 = y ∧ rT (tyN x y z) 2 = z := by decide +kernel
theorem ax_lt : ∀ t : Fin 24, aA t < 3 ∧ aB t < 3 ∧ aC t < 3 := by decide +kernel
theorem nxt_lt : ∀ t : Fin 24, ∀ f : Fin 4, nxt t f < 24 := by decide +kernel
/-- grains by number -/
def gI (n x y z t : Nat) : Nat := 24 * ((z * n + y) * n + x) + t
def gSo (g : Nat) : Nat := g % 24
def gX (n g : Nat) : Nat := g / 24 % n
def gY (n g : Nat) : Nat := g / 24 / n % n
def gZ (n g : Nat) : Nat := g / 24 / n / n
theorem gI_lt {n x y z t : Nat} (hx : x < n) (hy : y < n) (hz : z < n) (ht : t < 24) : gI n x y z t < gN n := by
  unfold gI gN
  have h1 : z * n + y + 1 ≤ n * n := by
    have := Nat.mul_le_mul_right n (show z + 1 ≤ n from hz)
    rw [Nat.succ_mul] at this; omega
  have h2 := Nat.mul_le_mul_right n h1
  rw [Nat.succ_mul] at h2
  have h3 : 24 * ((z * n + y) * n + x + 1) ≤ 24 * (n * n * n) := Nat.mul_le_mul_left 24 (by omega)
  have h4 : 24 * n * n * n = 24 * (n * n * n) := by rw [Nat.mul_assoc, Nat.mul_assoc, Nat.mul_assoc]
  rw [h4]
  have h5 : 24 * ((z * n + y) * n + x + 1) = 24 * ((z * n + y) * n + x) + 24 := Nat.mul_succ ..
  omega
theorem gSo_I {n x y z t : Nat} (ht : t < 24) : gSo (gI n x y z t) = t := by unfold gSo gI; omega
theorem gI_24 {n x y z t : Nat} (ht : t < 24) : gI n x y z t / 24 = (z * n + y) * n + x := by unfold gI; omega
theorem dm {a n x : Nat} (hx : x < n) : (a * n + x) / n = a ∧ (a * n + x) % n = x := by
  have h0 : 0 < n := by omega
  constructor
  · rw [Nat.add_comm, Nat.add_mul_div_right _ _ h0, Nat.div_eq_of_lt hx, Nat.zero_add]
  · rw [Nat.add_comm, Nat.add_mul_mod_self_right, Nat.mod_eq_of_lt hx]
theorem gX_I {n x y z t : Nat} (hx : x < n) (ht : t < 24) : gX n (gI n x y z t) = x := by unfold gX; rw [gI_24 ht]; exact (dm hx).2
theorem gY_I {n x y z t : Nat} (hx : x < n) (hy : y < n) (ht : t < 24) : gY n (gI n x y z t) = y := by unfold gY; rw [gI_24 ht, (dm hx).1]; exact (dm hy).2
theorem gZ_I {n x y z t : Nat} (hx : x < n) (hy : y < n) (ht : t < 24) : gZ n (gI n x y z t) = z := by unfold gZ; rw [gI_24 ht, (dm hx).1]; exact (dm hy).1
theorem gI_g {n g : Nat} : gI n (gX n g) (gY n g) (gZ n g) (gSo g) = g := by
  unfold gI gX gY gZ gSo
  have h1 := Nat.div_add_mod (g / 24 / n) n
  have h2 := Nat.div_add_mod (g / 24) n
  rw [Nat.mul_comm (g / 24 / n / n) n, h1, Nat.mul_comm (g / 24 / n) n, h2]
  omega
theorem g_lt {n g : Nat} (hg : g < gN n) : 0 < n ∧ gX n g < n ∧ gY n g < n ∧ gZ n g < n ∧ gSo g < 24 := by
  have h0 : 0 < n := by
    rcases Nat.eq_zero_or_pos n with e | e
    · subst e; unfold gN at hg; omega
    · exact e
  refine ⟨h0, Nat.mod_lt _ h0, Nat.mod_lt _ h0, ?_, Nat.mod_lt _ (by decide)⟩
  unfold gZ
  rw [Nat.div_lt_iff_lt_mul h0, Nat.div_lt_iff_lt_mul h0, Nat.div_lt_iff_lt_mul (by decide)]
  unfold gN at hg
  rw [Nat.mul_comm (n * n * n) 24, ← Nat.mul_assoc, ← Nat.mul_assoc]; exact hg
/-- the middle of grain g along an axis, in eighths -/
def g8 (n g a : Nat) : Nat := match a with
  | 0 => 8 * gX n g + rT (gSo g) 0
  | 1 => 8 * gY n g + rT (gSo g) 1
  | _ => 8 * gZ n g + rT (gSo g) 2
theorem g8_lt {n g : Nat} (hg : g < gN n) (a : Nat) : 0 < g8 n g a ∧ g8 n g a < 8 * n := by
  obtain ⟨-, h1, h2, h3, h4⟩ := g_lt hg
  unfold g8
  split
  · have := rT_lt ⟨gSo g, h4⟩ 0; simp at this; omega
  · have := rT_lt ⟨gSo g, h4⟩ 1; simp at this; omega
  · have := rT_lt ⟨gSo g, h4⟩ 2; simp at this; omega
/-- the grain whose middle is at a place (none: -1) -/
def gAt (n : Nat) (x y z : Int) : Int := if x < 0 ∨ y < 0 ∨ z < 0 ∨ 8 * (n : Int) ≤ x ∨ 8 * (n : Int) ≤ y ∨ 8 * (n : Int) ≤ z then -1 else (gI n (x.toNat / 8) (y.toNat / 8) (z.toNat / 8) (tyN (x.toNat % 8) (y.toNat % 8) (z.toNat % 8)) : Nat)
/-- what the model's tables hold -/
def TbM (B : Nat) (h : AH) : Prop := (∀ t, t < 24 → hv h (B + 178) t = (rT t 0 : Nat) ∧ hv h (B + 179) t = (rT t 1 : Nat) ∧ hv h (B + 180) t = (rT t 2 : Nat) ∧ hv h (B + 182) t = (aA t : Nat) ∧ hv h (B + 183) t = (aB t : Nat) ∧ hv h (B + 184) t = (aC t : Nat) ∧ ∀ f, f < 4 → hv h (B + 185) (4 * t + f) = (nxt t f : Nat)) ∧ (∀ x y z, x < 8 → y < 8 → z < 8 → hv h (B + 181) (64 * z + 8 * y + x) = if tyN x y z < 24 then (tyN x y z : Int) else -1) ∧ ∀ k, k < 18 → hv h (B + 187) k = ([0, 1, 2, 1, 2, 0, 2, 0, 1, 0, 2, 1, 2, 1, 0, 1, 0, 2].getD k 0 : Nat)
theorem TbM.agr {B : Nat} {h s : AH} {W : Nat → Nat → Prop} (m : TbM B h) (g : Agr W h s) (hW : ∀ c k, B + 178 ≤ c → c ≤ B + 187 → c ≠ B + 186 → ¬ W c k) : TbM B s := by
  refine ⟨fun t ht => ?_, fun x y z hx hy hz => ?_, fun k hk => ?_⟩
  · obtain ⟨h1, h2, h3, h4, h5, h6, h7⟩ := m.1 t ht
    refine ⟨?_, ?_, ?_, ?_, ?_, ?_, fun f hf => ?_⟩ <;> rw [g.at _ _ (hW _ _ (by omega) (by omega) (by omega))]
    · exact h1
    · exact h2
    · exact h3
    · exact h4
    · exact h5
    · exact h6
    · exact h7 f hf
  · rw [g.at _ _ (hW _ _ (by omega) (by omega) (by omega))]; exact m.2.1 x y z hx hy hz
  · rw [g.at _ _ (hW _ _ (by omega) (by omega) (by omega))]; exact m.2.2 k hk
theorem gN_le2 {n : Nat} (hn : n ≤ 52) : gN n ≤ 3374592 := by
  unfold gN
  have h1 : n * n ≤ 52 * 52 := Nat.mul_le_mul hn hn
  have h2 : n * n * n ≤ 52 * 52 * 52 := Nat.mul_le_mul h1 hn
  rw [show 24 * n * n * n = 24 * (n * n * n) by simp [Nat.mul_assoc]]
  omega
section MGEO
variable {B n : Nat} {h : AH}
theorem cubeX_is {g : Nat} (hn0 : 0 < n) (hn : n ≤ 52) (hg : g < 2147483648) : v588 n (g : Int) = ((gX n g : Nat) : Int) := by
  unfold v588 gX
  rw [show (24 : Int) = ((24 : Nat) : Int) from rfl, divNN hg (by decide), modNN hn0 (by omega)]
theorem cubeY_is {g : Nat} (hn0 : 0 < n) (hn : n ≤ 52) (hg : g < 2147483648) : v589 n (g : Int) = ((gY n g : Nat) : Int) := by
  unfold v589 gY
  rw [show (24 : Int) = ((24 : Nat) : Int) from rfl, divNN hg (by decide), divNN (by omega) hn0, modNN hn0 (by omega)]
theorem cubeZ_is {g : Nat} (hn0 : 0 < n) (hn : n ≤ 52) (hg : g < 2147483648) : v590 n (g : Int) = ((gZ n g : Nat) : Int) := by
  unfold v590 gZ
  have : g / 24 / n ≤ g / 24 := Nat.div_le_self _ _
  rw [show (24 : Int) = ((24 : Nat) : Int) from rfl, divNN hg (by decide), divNN (by omega) hn0, divNN (by omega) hn0]
theorem gSo_is {g : Nat} : bop32 112 (g : Int) 24 = ((gSo g : Nat) : Int) := modNN (y := 24) (by decide) (by decide)
theorem grain_is {x y z t : Nat} (hn : n ≤ 52) (hx : x < n) (hy : y < n) (hz : z < n) (ht : t < 24) : v663 n (x : Int) (y : Int) (z : Int) (t : Int) = ((gI n x y z t : Nat) : Int) := by
  have h1 := gI_lt hx hy hz ht
  have h2 := gN_le2 hn
  unfold v663 gI at *
  have h3 : z * n ≤ (z * n + y) * n + x := by
    have := Nat.le_mul_of_pos_right (z * n + y) (show 0 < n by omega); omega
  have h4 : z * n + y ≤ (z * n + y) * n + x := by
    have := Nat.le_mul_of_pos_right (z * n + y) (show 0 < n by omega); omega
  rw [mulNN (by omega), addNN (by omega), mulNN (by omega), addNN (by omega), show (24 : Int) = ((24 : Nat) : Int) from rfl, mulNN (by omega), addNN (by omega)]
end MGEO
