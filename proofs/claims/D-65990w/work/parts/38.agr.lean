-- deps: 28 29 31 32
/-! L3: what may be another one, by cell and place; loops over the locals -/
/- shifts and masks of ints -/
theorem sh_c32 : ∀ k : Fin 32, ((Int32.ofInt (k : Nat)) &&& 31).toBitVec.smod 32 = BitVec.ofNat 32 k := by decide +kernel
theorem shr32 {x : Int} (hx : cn 0 x) {k : Nat} (hk : k < 32) : bop32 122 x (k : Int) = x / 2 ^ k := by
  show (Int32.ofInt x >>> (Int32.ofInt (k : Int) &&& 31)).toInt = _
  have e : (Int32.ofInt x >>> (Int32.ofInt (k : Int) &&& 31)).toInt = ((Int32.ofInt x >>> (Int32.ofInt (k : Int) &&& 31)).toBitVec).toInt := rfl
  rw [e, Int32.toBitVec_shiftRight, sh_c32 ⟨k, hk⟩]
  have hm : (BitVec.ofNat 32 k).toNat = k := by rw [BitVec.toNat_ofNat]; exact Nat.mod_eq_of_lt (by omega)
  rw [BitVec.sshiftRight_eq', BitVec.toInt_sshiftRight, hm, Int.shiftRight_eq_div_pow]
  have : (Int32.ofInt x).toBitVec.toInt = x := by
    have := to32 x
    rw [w32_id hx] at this
    exact this
  rw [this]
  norm_cast
theorem and32 {x : Int} {k : Nat} (hk : k < 31) : bop32 126 x ((2 ^ k - 1 : Nat) : Int) = x % 2 ^ k := by
  show (Int32.ofInt x &&& Int32.ofInt ((2 ^ k - 1 : Nat) : Int)).toBitVec.toInt = _
  rw [Int32.toBitVec_and]
  have hp : 2 ^ k < 2 ^ 31 := Nat.pow_lt_pow_right (by omega) hk
  have h0 : 0 < 2 ^ k := Nat.two_pow_pos k
  have e1 : (Int32.ofInt ((2 ^ k - 1 : Nat) : Int)).toBitVec.toNat = 2 ^ k - 1 := by
    show (BitVec.ofInt 32 ((2 ^ k - 1 : Nat) : Int)).toNat = _
    rw [BitVec.toNat_ofInt]
    have : ((2 ^ k - 1 : Nat) : Int) % ((2 ^ 32 : Nat) : Int) = ((2 ^ k - 1 : Nat) : Int) := Int.emod_eq_of_lt (by omega) (by omega)
    rw [this]; rfl
  have e2 : ((Int32.ofInt x).toBitVec &&& (Int32.ofInt ((2 ^ k - 1 : Nat) : Int)).toBitVec).toNat = (Int32.ofInt x).toBitVec.toNat % 2 ^ k := by
    rw [BitVec.toNat_and, e1, Nat.and_two_pow_sub_one_eq_mod]
  have h3 : (Int32.ofInt x).toBitVec.toNat % 2 ^ k < 2 ^ k := Nat.mod_lt _ h0
  rw [BitVec.toInt_eq_toNat_of_lt (by rw [e2]; omega), e2]
  have e4 : (Int32.ofInt x).toBitVec.toNat = (x % ((2 ^ 32 : Nat) : Int)).toNat := BitVec.toNat_ofInt ..
  rw [e4]
  have h5 : 0 ≤ x % ((2 ^ 32 : Nat) : Int) := Int.emod_nonneg _ (by decide)
  rw [Int.natCast_emod, Int.toNat_of_nonneg h5]
  have h6 : ((2 ^ k : Nat) : Int) ∣ ((2 ^ 32 : Nat) : Int) := Int.ofNat_dvd.mpr (Nat.pow_dvd_pow 2 (by omega))
  rw [Int.emod_emod_of_dvd _ h6]
  norm_cast
theorem addNN {x y : Nat} (h : x + y < 2147483648) : bop32 96 (x : Int) (y : Int) = ((x + y : Nat) : Int) := by
  rw [add32 (by omega) (by omega)]; rfl
theorem mulNN {x y : Nat} (h : x * y < 2147483648) : bop32 104 (x : Int) (y : Int) = ((x * y : Nat) : Int) := by
  have e : (x : Int) * (y : Int) = ((x * y : Nat) : Int) := rfl
  rw [mul32 (by rw [e]; omega) (by rw [e]; omega), e]
theorem subNN {x y : Nat} (h : x < 2147483648) (hy : y ≤ x) : bop32 100 (x : Int) (y : Int) = ((x - y : Nat) : Int) := by
  rw [sub32 (by omega) (by omega)]; omega
theorem divNN {x y : Nat} (h : x < 2147483648) (hy : 0 < y) : bop32 108 (x : Int) (y : Int) = ((x / y : Nat) : Int) := by
  rw [dv32 (by omega) (by omega) (by omega)]; rfl
theorem modNN {x y : Nat} (hy : 0 < y) (h2 : y ≤ 2147483648) : bop32 112 (x : Int) (y : Int) = ((x % y : Nat) : Int) := by
  rw [rm32 (by omega) (by omega) (by omega)]; rfl
theorem shrN {x k : Nat} (hx : x < 2147483648) (hk : k < 32) : bop32 122 (x : Int) (k : Int) = ((x / 2 ^ k : Nat) : Int) := by
  rw [shr32 ⟨by omega, by omega⟩ hk]; norm_cast
theorem andN {x k : Nat} (hk : k < 31) : bop32 126 (x : Int) ((2 ^ k - 1 : Nat) : Int) = ((x % 2 ^ k : Nat) : Int) := by
  rw [and32 hk]; norm_cast
theorem shr6 {x : Nat} (hx : x < 2147483648) : bop32 122 (x : Int) 6 = ((x / 64 : Nat) : Int) := shrN (k := 6) hx (by omega)
theorem and63 {x : Nat} : bop32 126 (x : Int) 63 = ((x % 64 : Nat) : Int) := andN (k := 6) (by omega)
theorem shr3 {x : Nat} (hx : x < 2147483648) : bop32 122 (x : Int) 3 = ((x / 8 : Nat) : Int) := shrN (k := 3) hx (by omega)
theorem and7 {x : Nat} : bop32 126 (x : Int) 7 = ((x % 8 : Nat) : Int) := andN (k := 3) (by omega)
theorem hv_set_at (h : AH) (a k : Nat) (x : Int) : hv (hset h a k x) a k = x := hv_eq
theorem hv_set_ne {h : AH} {a k b j : Nat} {x : Int} (hn : ¬ (b = a ∧ j = k)) : hv (hset h a k x) b j = hv h b j := by
  rw [hv_set]
  by_cases e : b = a
  · rw [if_pos e, if_neg (fun q => hn ⟨e, q⟩)]
  · rw [if_neg e]
def Agr (W : Nat → Nat → Prop) (h s : AH) : Prop := s.1 = h.1 ∧ s.2.2 = h.2.2 ∧ ∀ c k, ¬ W c k → hv s c k = hv h c k
section AGR
variable {W W' : Nat → Nat → Prop} {h s t : AH} {a k : Nat} {v : Int}
theorem Agr.rf : Agr W h h := ⟨rfl, rfl, fun _ _ _ => rfl⟩
theorem Agr.at (g : Agr W h s) (c k : Nat) (hn : ¬ W c k) : hv s c k = hv h c k := g.2.2 c k hn
theorem Agr.hk (g : Agr W h s) (c : Nat) : hk s c = hk h c := by unfold Jvm.Pilot.CPartDesignerLaw_law_r7324_a227e6.hk; rw [g.1]
theorem Agr.nx (g : Agr W h s) : hnx s = hnx h := by unfold hnx; rw [g.2.1]
theorem Agr.us (g : Agr W h s) : hus s = hus h := by unfold hus; rw [g.2.1]
theorem Agr.set (g : Agr W h s) (hw : W a k) : Agr W h (hset s a k v) := ⟨g.1, g.2.1, fun c j hn => by
  rw [hv_set_ne (fun q => hn (by rw [q.1, q.2]; exact hw))]; exact g.2.2 c j hn⟩
theorem Agr.up {f : Nat → Int} (g : Agr W h s) (hf : ∀ k, ¬ W a k → f k = hv h a k) : Agr W h (hup s a f) := ⟨g.1, g.2.1, fun c j hn => by
  rw [hv_up]
  by_cases e : c = a
  · rw [if_pos e, hf j (by rw [← e]; exact hn), e]
  · rw [if_neg e]; exact g.2.2 c j hn⟩
theorem Agr.tr (g : Agr W h s) (g' : Agr W' s t) (hs : ∀ c k, W' c k → W c k) : Agr W h t := ⟨g'.1.trans g.1, g'.2.1.trans g.2.1, fun c k hn => (g'.2.2 c k (fun q => hn (hs c k q))).trans (g.2.2 c k hn)⟩
theorem Agr.sub (g : Agr W h s) (hs : ∀ c k, W c k → W' c k) : Agr W' h s := ⟨g.1, g.2.1, fun c k hn => g.2.2 c k (fun q => hn (hs c k q))⟩
end AGR
section LP
variable {gs : Nat → AV} {B d j pc : Nat} {Q : Rs → Prop}
theorem lp (N : Nat) (I : Nat → List AV → AH → Prop) (st : ∀ i L s, i < N → I i L s → (∀ L' s', I (i + 1) L' s' → Ends (ev PP gs B d j pc L' [] s') Q) → Ends (ev PP gs B d j pc L [] s) Q) (fn : ∀ i L s, N ≤ i → I i L s → Ends (ev PP gs B d j pc L [] s) Q) (i : Nat) {L : List AV} {s : AH} (h0 : I i L s) : Ends (ev PP gs B d j pc L [] s) Q := by
  have key : ∀ m i L s, N - i = m → I i L s → Ends (ev PP gs B d j pc L [] s) Q := by
    intro m
    induction m with
    | zero => intro i L s h1 h2; exact fn i L s (by omega) h2
    | succ m ih => intro i L s h1 h2; exact st i L s (by omega) h2 (fun L' s' h3 => ih (i + 1) L' s' (by omega) h3)
  exact key _ i L s rfl h0
theorem lpm {σ : Type} (m : σ → Nat) (I : σ → List AV → AH → Prop) (st : ∀ i L s, I i L s → (∀ i' L' s', m i' < m i → I i' L' s' → Ends (ev PP gs B d j pc L' [] s') Q) → Ends (ev PP gs B d j pc L [] s) Q) (i : σ) {L : List AV} {s : AH} (h0 : I i L s) : Ends (ev PP gs B d j pc L [] s) Q := by
  have key : ∀ k i L s, m i = k → I i L s → Ends (ev PP gs B d j pc L [] s) Q := by
    intro k
    induction k using Nat.strongRecOn with
    | _ k ih =>
      intro i L s hk hI
      exact st i L s hI (fun i' L' s' hs' hI' => ih (m i') (by omega) i' L' s' rfl hI')
  exact key _ i L s rfl h0
end LP
