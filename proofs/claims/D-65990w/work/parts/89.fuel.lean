/-! L3: Formulas: what comesBack says where a VALUE is told; fuel enough to read a formula -/
noncomputable def bkI (c : Nat → Int) (nv nc : Nat) (tl : Int) (tof v : Nat) : Bool := if tl < 0 then false else bkF c nv nc tl.toNat tof v
theorem cbk_of {gv : Nat → Int} {B n a m : Nat} {u c bb : Nat → Int} {nv nc : Nat} {tl : Int} {tof : Nat} (D : DW c nv nc) (htl : tl < (nv : Int)) : CBk gv B n a m u c bb nv tl (tof : Int) (bkI c nv nc tl tof) := by
  refine ⟨fun h v => by unfold bkI; rw [if_pos h], fun d p v h hd l F R k1 hp hvn ht => ?_⟩
  obtain ⟨t, et⟩ : ∃ t : Nat, tl = (t : Int) := ⟨tl.toNat, by omega⟩
  subst et
  have e : bkI c nv nc (t : Int) tof v = bkF c nv nc t tof v := by unfold bkI; rw [if_neg (by omega), tn]
  rw [e]
  exact c_comesBack (by omega) D (by omega) hvn ⟨l, F.1.2.2.2.2.1, F.1.2.1.1, F.1.1.1, F.1.2.2.2.2.2.2.2.1, F.2.2.2⟩ (by rw [R.1, k1]; rfl)
/-- reading comes to an end; what it read lies between -/
def Okr (m p : Nat) (o : Option PR) : Prop := ∃ r, o = some r ∧ ∀ D N p', r = .inr (D, N, p') → p < p' ∧ p' ≤ m
theorem Okr.l {m p e : Nat} : Okr m p (some (.inl e)) := ⟨_, rfl, fun _ _ _ h => by cases h⟩
theorem Okr.r {m p q : Nat} {D : Dn} {N : Nat → Bool} (h1 : p < q) (h2 : q ≤ m) : Okr m p (some (.inr (D, N, q))) := ⟨_, rfl, fun D' N' p' h => by
  have h := Sum.inr.inj h
  have : q = p' := congrArg (fun z => z.2.2) h
  subst this
  exact ⟨h1, h2⟩⟩
section FUEL
variable {u : Nat → Int} {m : Nat} {fd : Nat → Int} {bk : Nat → Bool}
theorem sg_lt {p : Nat} {s : Int} (hp : p ≤ m) (h : isSg u m p s = true) : p < tkT u m p ∧ tkT u m p ≤ m := by
  obtain ⟨t1, t2, t3⟩ := tk_le (u := u) hp
  have t4 := tk_lt (u := u) (m := m) (p := p) (by have := (isSg_iff.mp h).1; omega)
  omega
theorem k_lt {p : Nat} (hp : p ≤ m) (h : tkK u m p ≠ 0) : p < tkT u m p ∧ tkT u m p ≤ m := by
  obtain ⟨t1, t2, t3⟩ := tk_le (u := u) hp
  have t4 := tk_lt (u := u) (m := m) (p := p) h
  omega
theorem lev_lt {p : Nat} {lst : Int} (hp : p ≤ m) (h0 : 0 ≤ lst) (h : lst ≤ levF u m p) : p < tkT u m p ∧ tkT u m p ≤ m := by
  refine k_lt hp (fun e => ?_)
  unfold levF at h
  rw [e, if_neg (by decide)] at h
  omega
theorem pS_ok : ∀ g : Nat,
    (∀ dp p acc, p ≤ m → 4 * (m - p) + 4 ≤ g → Okr m p (pS u m fd bk g 0 0 dp p acc)) ∧
    (∀ lst dp p acc, (0 : Int) ≤ lst → p ≤ m → 4 * (m - p) + 3 ≤ g → Okr m p (pS u m fd bk g 1 lst dp p acc)) ∧
    (∀ lst dp p0 p acc, (0 : Int) ≤ lst → p0 < p → p ≤ m → 4 * (m - p) + 3 ≤ g → Okr m p0 (pS u m fd bk g 2 lst dp p acc)) ∧
    (∀ dp p acc, p ≤ m → 4 * (m - p) + 2 ≤ g → Okr m p (pS u m fd bk g 3 0 dp p acc))
  | 0 => ⟨fun _ _ _ _ h => by omega, fun _ _ _ _ _ _ h => by omega, fun _ _ _ _ _ _ _ _ h => by omega, fun _ _ _ _ h => by omega⟩
  | g + 1 => by
    obtain ⟨iA, iB, iC, iD⟩ := pS_ok g
    refine ⟨fun dp p acc hp hg => ?_, fun lst dp p acc hl hp hg => ?_, fun lst dp p0 p acc hl h0 hp hg => ?_, fun dp p acc hp hg => ?_⟩
    · unfold pS
      rw [if_pos rfl]
      obtain ⟨r1, e1, k1⟩ := iB 0 dp p acc (by decide) hp (by omega)
      rw [e1]
      rcases r1 with e | ⟨D, N, p1⟩
      · exact Okr.l
      dsimp only
      obtain ⟨a1, a2⟩ := k1 D N p1 rfl
      cases hq : isSg u m p1 63 with
      | false => exact Okr.r a1 a2
      | true =>
      obtain ⟨b1, b2⟩ := sg_lt a2 hq
      rw [if_pos rfl]
      by_cases h24 : 24 ≤ dp
      · rw [if_pos h24]; exact Okr.l
      rw [if_neg h24]
      obtain ⟨r2, e2, k2⟩ := iA (dp + 1) (tkT u m p1) acc b2 (by omega)
      rw [e2]
      rcases r2 with e | ⟨D2, N2, p2⟩
      · exact Okr.l
      dsimp only
      obtain ⟨c1, c2⟩ := k2 D2 N2 p2 rfl
      cases hq2 : isSg u m p2 58 with
      | false => exact Okr.l
      | true =>
      obtain ⟨d1, d2⟩ := sg_lt c2 hq2
      rw [if_pos rfl]
      obtain ⟨r3, e3, k3⟩ := iA (dp + 1) (tkT u m p2) acc d2 (by omega)
      rw [e3]
      rcases r3 with e | ⟨D3, N3, p3⟩
      · exact Okr.l
      obtain ⟨f1, f2⟩ := k3 D3 N3 p3 rfl
      exact Okr.r (by omega) f2
    · unfold pS
      rw [if_neg (by decide), if_pos rfl]
      obtain ⟨r1, e1, k1⟩ := iD dp p acc hp (by omega)
      rw [e1]
      rcases r1 with e | ⟨D, N, p1⟩
      · exact Okr.l
      obtain ⟨a1, a2⟩ := k1 D N p1 rfl
      exact iC lst dp p p1 (D, N) hl a1 a2 (by omega)
    · unfold pS
      rw [if_neg (by decide), if_neg (by decide), if_pos rfl]
      by_cases hl2 : lst ≤ levF u m p
      · rw [if_pos hl2]
        obtain ⟨b1, b2⟩ := lev_lt hp hl hl2
        obtain ⟨r1, e1, k1⟩ := iB (levF u m p + 1) dp (tkT u m p) acc (by omega) b2 (by omega)
        rw [e1]
        rcases r1 with e | ⟨D, N, p1⟩
        · exact Okr.l
        obtain ⟨a1, a2⟩ := k1 D N p1 rfl
        exact iC lst dp p0 p1 _ hl (by omega) a2 (by omega)
      · rw [if_neg hl2]
        exact Okr.r h0 hp
    · unfold pS
      rw [if_neg (by decide), if_neg (by decide), if_neg (by decide)]
      by_cases hs : (isSg u m p 45 || isSg u m p 33) = true
      · rw [if_pos hs]
        obtain ⟨b1, b2⟩ : p < tkT u m p ∧ tkT u m p ≤ m := by
          rw [Bool.or_eq_true] at hs
          exact hs.elim (sg_lt hp) (sg_lt hp)
        by_cases h24 : 24 ≤ dp
        · rw [if_pos h24]; exact Okr.l
        rw [if_neg h24]
        obtain ⟨r1, e1, k1⟩ := iD (dp + 1) (tkT u m p) acc b2 (by omega)
        rw [e1]
        rcases r1 with e | ⟨D, N, p1⟩
        · exact Okr.l
        obtain ⟨a1, a2⟩ := k1 D N p1 rfl
        exact Okr.r (by omega) a2
      rw [if_neg hs]
      by_cases h40 : isSg u m p 40 = true
      · rw [if_pos h40]
        obtain ⟨b1, b2⟩ := sg_lt hp h40
        by_cases h24 : 24 ≤ dp
        · rw [if_pos h24]; exact Okr.l
        rw [if_neg h24]
        obtain ⟨r1, e1, k1⟩ := iA (dp + 1) (tkT u m p) acc b2 (by omega)
        rw [e1]
        rcases r1 with e | ⟨D, N, p1⟩
        · exact Okr.l
        dsimp only
        obtain ⟨a1, a2⟩ := k1 D N p1 rfl
        cases h41 : isSg u m p1 41 with
        | false => exact Okr.l
        | true =>
          obtain ⟨c1, c2⟩ := sg_lt a2 h41
          exact Okr.r (by omega) c2
      rw [if_neg h40]
      by_cases k2 : tkK u m p = 2
      · rw [if_pos k2]
        obtain ⟨-, o2, o3⟩ := numD_ok hp k2
        exact Okr.r o2 o3
      rw [if_neg k2]
      by_cases k1 : tkK u m p = 1
      · rw [if_pos k1]
        obtain ⟨b1, b2⟩ := k_lt (u := u) hp (by omega)
        by_cases hf : 0 ≤ fnW u m p
        · rw [if_pos hf]
          cases h40b : isSg u m (tkT u m p) 40 with
          | false => exact Okr.l
          | true =>
          obtain ⟨c1, c2⟩ := sg_lt b2 h40b
          rw [if_pos rfl]
          by_cases h24 : 24 ≤ dp
          · rw [if_pos h24]; exact Okr.l
          rw [if_neg h24]
          obtain ⟨r1, e1, q1⟩ := iA (dp + 1) (tkT u m (tkT u m p)) acc c2 (by omega)
          rw [e1]
          rcases r1 with e | ⟨D, N, p1⟩
          · exact Okr.l
          dsimp only
          obtain ⟨a1, a2⟩ := q1 D N p1 rfl
          by_cases f4 : 4 < fnW u m p
          · rw [if_pos f4]
            cases h41 : isSg u m p1 41 with
            | false => exact Okr.l
            | true =>
              obtain ⟨c3, c4⟩ := sg_lt a2 h41
              exact Okr.r (by omega) c4
          rw [if_neg f4]
          cases h44 : isSg u m p1 44 with
          | false => exact Okr.l
          | true =>
          obtain ⟨c3, c4⟩ := sg_lt a2 h44
          rw [if_pos rfl]
          obtain ⟨r2, e2, q2⟩ := iA (dp + 1) (tkT u m p1) acc c4 (by omega)
          rw [e2]
          rcases r2 with e | ⟨D2, N2, p2⟩
          · exact Okr.l
          dsimp only
          obtain ⟨a3, a4⟩ := q2 D2 N2 p2 rfl
          by_cases f5 : fnW u m p < 4
          · rw [if_pos f5]
            cases h41 : isSg u m p2 41 with
            | false => exact Okr.l
            | true =>
              obtain ⟨c5, c6⟩ := sg_lt a4 h41
              exact Okr.r (by omega) c6
          rw [if_neg f5]
          cases h44b : isSg u m p2 44 with
          | false => exact Okr.l
          | true =>
          obtain ⟨c5, c6⟩ := sg_lt a4 h44b
          rw [if_pos rfl]
          obtain ⟨r3, e3, q3⟩ := iA (dp + 1) (tkT u m p2) acc c6 (by omega)
          rw [e3]
          rcases r3 with e | ⟨D3, N3, p3⟩
          · exact Okr.l
          dsimp only
          obtain ⟨a5, a6⟩ := q3 D3 N3 p3 rfl
          cases h41 : isSg u m p3 41 with
          | false => exact Okr.l
          | true =>
            obtain ⟨c7, c8⟩ := sg_lt a6 h41
            exact Okr.r (by omega) c8
        · rw [if_neg hf]
          by_cases f0 : fd p < 0
          · rw [if_pos f0]; exact Okr.l
          rw [if_neg f0]
          by_cases hb : bk (fd p).toNat = true
          · rw [if_pos hb]; exact Okr.l
          · rw [if_neg hb]; exact Okr.r b1 b2
      · rw [if_neg k1]; exact Okr.l
end FUEL
