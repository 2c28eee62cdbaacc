/-! L3: the model goes over the grains by their middles -/
def scV (N c : Nat) : Prop := tyN (c % N % 8) (c / N % N % 8) (c / (N * N) % 8) < 24
def scG (n c : Nat) : Int := gAt n ((c % (8 * n) : Nat) : Int) ((c / (8 * n) % (8 * n) : Nat) : Int) ((c / (8 * n * (8 * n)) : Nat) : Int)
/-- place s comes next -/
def scN (B N : Nat) (h : AH) (s : Nat) : Prop := (∃ z y x : Nat, z < N ∧ y < N ∧ x ≤ N ∧ hv h (B + 149) 74 = (z : Int) ∧ hv h (B + 149) 75 = (y : Int) ∧ hv h (B + 149) 76 = (x : Int) - 1 ∧ s = rw3 N z y x) ∨ (hv h (B + 149) 74 = (N : Int) ∧ hv h (B + 149) 75 = 0 ∧ hv h (B + 149) 76 = -1 ∧ s = rw3 N N 0 0)
def scW (B : Nat) : Nat → Nat → Prop := fun c k => c = B + 149 ∧ 74 ≤ k ∧ k ≤ 76
section SCAN
variable {gv : Nat → Int} {B n d s : Nat} {h : AH}
theorem rw3_let {N t t' : Nat} (w : t ≤ t') : rw3 N t 0 0 ≤ rw3 N t' 0 0 := by
  unfold rw3
  exact Nat.mul_le_mul_right _ (Nat.mul_le_mul_right _ w)
theorem rw3_all {N z y x : Nat} (hz : z < N) (hy : y < N) (hx : x < N) : rw3 N z y x < rw3 N N 0 0 := by
  have h1 : rw3 N z y x < rw3 N z (y + 1) 0 := by rw [rw3_z]; unfold rw3; omega
  have h2 : rw3 N z (y + 1) 0 ≤ rw3 N z N 0 := rw3_lez (by omega)
  have h3 : rw3 N z N 0 = rw3 N (z + 1) 0 0 := rw3_t.symm
  have h4 : rw3 N (z + 1) 0 0 ≤ rw3 N N 0 0 := rw3_let (by omega)
  omega
theorem scV_at {N z y x : Nat} (hz : z < N) (hy : y < N) (hx : x < N) : scV N (rw3 N z y x) ↔ tyN (x % 8) (y % 8) (z % 8) < 24 := by
  unfold scV
  rw [dec_y hx, dec_z hy hx, dec_t hy hx]
theorem scN_agr {W : Nat → Nat → Prop} {N : Nat} {t : AH} (i : scN B N h s) (g : Agr W h t) (hW : ∀ k, 74 ≤ k → k ≤ 76 → ¬ W (B + 149) k) : scN B N t s := by
  unfold scN
  rw [g.at _ _ (hW 74 (by decide) (by decide)), g.at _ _ (hW 75 (by decide) (by decide)), g.at _ _ (hW 76 (by decide) (by decide))]
  exact i
theorem c_beginScan556 (l : LX B n h) (hd : 10 ≤ d) (hn0 : 0 < n) : Vd (cll PP (ev PP (gsF gv) B) d 556 [(2, rf (B + 149))] h) (fun h' => Agr (scW B) h h' ∧ scN B (8 * n) h' 0) := by
  refine Vd.inq (D := 9) hd (Nat.le_of_ble_eq_true rfl) rfl (fun d hd Q K => ?_)
  refine Ends.eq (b556_0 (n := n) (by (repeat' first | assumption | refine LX.setF _ _ ?_ (by decide +kernel) | refine LX.setS ?_ rfl | refine LX.setA ?_ (by first | assumption | omega))) (by first | assumption | omega)) ?_
  refine Ends.sm (K _ ⟨((Agr.rf.set ⟨rfl, by decide⟩).set ⟨rfl, by decide⟩).set ⟨rfl, by decide⟩, Or.inl ⟨0, 0, 0, by omega, by omega, by omega, ?_, ?_, ?_, ?_⟩⟩)
  · rw [hv_set_ne (by omega), hv_set_ne (by omega)]; exact hv_set_at ..
  · rw [hv_set_ne (by omega)]; exact hv_set_at ..
  · exact hv_set_at ..
  · unfold rw3; simp
theorem c_scan812 (l : LX B n h) (hd : 10 ≤ d) (hn0 : 0 < n) (hn : n ≤ 52) (m : TbM B h) (i : scN B (8 * n) h s) :
    Vt 0 (cll PP (ev PP (gsF gv) B) d 812 [(2, rf (B + 149))] h) (fun v h' => Agr (scW B) h h' ∧ ((∃ c, s ≤ c ∧ c < rw3 (8 * n) (8 * n) 0 0 ∧ scV (8 * n) c ∧ (∀ c', s ≤ c' → c' < c → ¬ scV (8 * n) c') ∧ v = scG n c ∧ scN B (8 * n) h' (c + 1)) ∨ ((∀ c', s ≤ c' → c' < rw3 (8 * n) (8 * n) 0 0 → ¬ scV (8 * n) c') ∧ v = -1 ∧ scN B (8 * n) h' (rw3 (8 * n) (8 * n) 0 0)))) := by
  have hb0 := l.2.2
  refine Vt.inq (D := 9) hd (Nat.le_of_ble_eq_true rfl) rfl (fun d hd P K => ?_)
  refine Ends.eq (b812_0 (n := n) (by (repeat' first | assumption | refine LX.setF _ _ ?_ (by decide +kernel) | refine LX.setS ?_ rfl | refine LX.setA ?_ (by first | assumption | omega))) (by first | assumption | omega)) ?_
  rw [show bop32 104 (8 : Int) (n : Int) = ((8 * n : Nat) : Int) from mulNN (x := 8) (by omega)]
  obtain ⟨N, eN⟩ : ∃ N, N = 8 * n := ⟨_, rfl⟩
  have hN : N ≤ 416 := by omega
  have hN0 : 0 < N := by omega
  have sg : ∀ z y x : Nat, z < N → y < N → x < N → scG n (rw3 N z y x) = gAt n (x : Int) (y : Int) (z : Int) := fun z y x hz hy hx => by
    unfold scG
    rw [← eN, dec_y hx, dec_z hy hx, dec_t hy hx]
  rw [← eN] at i K ⊢
  have mt : ∀ {q : AH}, Agr (scW B) h q → TbM B q := fun g => m.agr g (fun c k a1 a2 a3 w => by unfold scW at w; omega)
  have lx : ∀ (z y : Nat), z < N → y < N → ∀ (c x : Nat) (q : AH), x + c = N → LX B n q → Agr (scW B) h q → hv q (B + 149) 74 = (z : Int) → hv q (B + 149) 75 = (y : Int) → hv q (B + 149) 76 = (x : Int) → s ≤ rw3 N z y x → (∀ c', s ≤ c' → c' < rw3 N z y x → ¬ scV N c') → (∀ q', LX B n q' → Agr (scW B) h q' → hv q' (B + 149) 74 = (z : Int) → hv q' (B + 149) 75 = ((y + 1 : Nat) : Int) → hv q' (B + 149) 76 = -1 → s ≤ rw3 N z (y + 1) 0 → (∀ c', s ≤ c' → c' < rw3 N z (y + 1) 0 → ¬ scV N c') → Ends (ev PP (gsF gv) B d 812 16 [(2, rf (B + 149)), (0, (N : Int))] [] q') P) → Ends (ev PP (gsF gv) B d 812 34 [(2, rf (B + 149)), (0, (N : Int))] [] q) P := by
    intro z y hz hy c
    induction c with
    | zero =>
      intro x q hx lq gq f4 f5 f6 sl no nx
      obtain rfl : N = x := by omega
      refine Ends.eq (b812_34 lq (by omega)) ?_
      rw [f6]
      refine Ends.b3 (fun _ => ?_) (fun w => absurd w (by omega))
      refine Ends.eq (b812_92 lq (by omega)) ?_
      rw [f6, f5]
      refine Ends.b3 (fun _ => ?_) (fun w => absurd w (by omega))
      rw [show bop32 96 (y : Int) 1 = ((y + 1 : Nat) : Int) from addNN (y := 1) (by omega)]
      refine nx _ (LX.setF 149 75 (LX.setF 149 76 lq (by decide +kernel)) (by decide +kernel)) ((gq.set ⟨rfl, by decide⟩).set ⟨rfl, by decide⟩) ?_ (hv_set_at ..) ?_ (by rw [rw3_z]; exact sl) (by rw [rw3_z]; exact no)
      · rw [hv_set_ne (by omega), hv_set_ne (by omega)]; exact f4
      · rw [hv_set_ne (by omega)]; exact hv_set_at ..
    | succ c ih =>
      intro x q hx lq gq f4 f5 f6 sl no nx
      have hxN : x < N := by omega
      have mq := mt gq
      have tv := mq.2.1 (x % 8) (y % 8) (z % 8) (by omega) (by omega) (by omega)
      refine Ends.eq (b812_34 lq (by omega)) ?_
      rw [f6, f5, f4, and7, and7, and7, show bop32 104 (64 : Int) ((z % 8 : Nat) : Int) = ((64 * (z % 8) : Nat) : Int) from mulNN (x := 64) (by omega), show bop32 104 (8 : Int) ((y % 8 : Nat) : Int) = ((8 * (y % 8) : Nat) : Int) from mulNN (x := 8) (by omega), addNN (by omega), addNN (by omega), tn, tv]
      refine Ends.b3 (fun w => absurd w (by omega)) (fun _ => Ends.g ⟨by omega, by omega⟩ ?_)
      by_cases v : tyN (x % 8) (y % 8) (z % 8) < 24
      · rw [if_pos v]
        refine Ends.b3 (fun _ => ?_) (fun w => absurd w (by omega))
        obtain ⟨k1, k2⟩ := gAt_is (x := hv q (B + 149) 76) (y := hv q (B + 149) 75) (z := hv q (B + 149) 74) mq hn (fun _ _ _ => by rw [f6, f5, f4, tn, tn, tn]; exact v)
        have e6 : hv q (B + 149) 76 = ((x + 1 : Nat) : Int) - 1 := by rw [f6]; omega
        have i2 : scN B N q (rw3 N z y x + 1) := Or.inl ⟨z, y, x + 1, hz, hy, hxN, f4, f5, e6, rfl⟩
        have a1 := rw3_all hz hy hxN
        have a2 := (scV_at hz hy hxN).mpr v
        have a3 : gAt n (hv q (B + 149) 76) (hv q (B + 149) 75) (hv q (B + 149) 74) = scG n (rw3 N z y x) := by rw [f6, f5, f4]; exact (sg z y x hz hy hxN).symm
        refine Ends.eq (b812_92 lq (by omega)) ?_
        rw [k2]
        exact Ends.b3 (fun w => absurd w (by omega)) (fun _ => Ends.g k1 (Ends.sm (K _ q ⟨gq, Or.inl ⟨rw3 N z y x, sl, a1, a2, no, a3, i2⟩⟩)))
      · rw [if_neg v]
        refine Ends.b3 (fun w => absurd w (by decide)) (fun _ => ?_)
        rw [show bop32 96 (x : Int) 1 = ((x + 1 : Nat) : Int) from addNN (y := 1) (by omega)]
        refine ih (x + 1) _ (by omega) (LX.setF 149 76 lq (by decide +kernel)) (gq.set ⟨rfl, by decide⟩) ?_ ?_ (hv_set_at ..) (Nat.le_succ_of_le sl) (fun c' h1 h2 => ?_) nx
        · rw [hv_set_ne (by omega)]; exact f4
        · rw [hv_set_ne (by omega)]; exact f5
        · have h2 : c' < rw3 N z y x + 1 := h2
          by_cases e : c' = rw3 N z y x
          · rw [e]; exact fun w => v ((scV_at hz hy hxN).mp w)
          · exact no c' h1 (by omega)
  have ly : ∀ (z : Nat), z < N → ∀ (c y x : Nat) (q : AH), y + c = N → x ≤ N → (y = N → x = 0) → LX B n q → Agr (scW B) h q → hv q (B + 149) 74 = (z : Int) → hv q (B + 149) 75 = (y : Int) → hv q (B + 149) 76 = (x : Int) - 1 → s ≤ rw3 N z y x → (∀ c', s ≤ c' → c' < rw3 N z y x → ¬ scV N c') → (∀ q', LX B n q' → Agr (scW B) h q' → hv q' (B + 149) 74 = ((z + 1 : Nat) : Int) → hv q' (B + 149) 75 = 0 → hv q' (B + 149) 76 = -1 → s ≤ rw3 N (z + 1) 0 0 → (∀ c', s ≤ c' → c' < rw3 N (z + 1) 0 0 → ¬ scV N c') → Ends (ev PP (gsF gv) B d 812 8 [(2, rf (B + 149)), (0, (N : Int))] [] q') P) → Ends (ev PP (gsF gv) B d 812 16 [(2, rf (B + 149)), (0, (N : Int))] [] q) P := by
    intro z hz c
    induction c with
    | zero =>
      intro y x q hy hx yx lq gq f4 f5 f6 sl no nx
      obtain rfl : N = y := by omega
      obtain rfl := yx rfl
      refine Ends.eq (b812_16 lq (by omega)) ?_
      rw [f5, f4]
      refine Ends.b3 (fun _ => ?_) (fun w => absurd w (by omega))
      rw [show bop32 96 (z : Int) 1 = ((z + 1 : Nat) : Int) from addNN (y := 1) (by omega)]
      refine nx _ (LX.setF 149 74 (LX.setF 149 75 lq (by decide +kernel)) (by decide +kernel)) ((gq.set ⟨rfl, by decide⟩).set ⟨rfl, by decide⟩) (hv_set_at ..) ?_ ?_ (by rw [rw3_t]; exact sl) (by rw [rw3_t]; exact no)
      · rw [hv_set_ne (by omega)]; exact hv_set_at ..
      · rw [hv_set_ne (by omega), hv_set_ne (by omega)]; exact f6
    | succ c ih =>
      intro y x q hy hx yx lq gq f4 f5 f6 sl no nx
      have hyN : y < N := by omega
      refine Ends.eq (b812_16 lq (by omega)) ?_
      rw [f5, f6]
      refine Ends.b3 (fun w => absurd w (by omega)) (fun _ => ?_)
      rw [show bop32 96 ((x : Int) - 1) 1 = (x : Int) from by rw [add32 (by omega) (by omega)]; omega]
      refine lx z y hz hyN (N - x) x _ (by omega) (LX.setF 149 76 lq (by decide +kernel)) (gq.set ⟨rfl, by decide⟩) ?_ ?_ (hv_set_at ..) sl no (fun q' l' g' e4 e5 e6 sl' no' => ih (y + 1) 0 q' (by omega) (Nat.zero_le _) (fun _ => rfl) l' g' e4 e5 e6 sl' no' nx)
      · rw [hv_set_ne (by omega)]; exact f4
      · rw [hv_set_ne (by omega)]; exact f5
  have lz : ∀ (c z y x : Nat) (q : AH), z + c = N → (c = 0 → y = 0 ∧ x = 0) → y < N → x ≤ N → LX B n q → Agr (scW B) h q → hv q (B + 149) 74 = (z : Int) → hv q (B + 149) 75 = (y : Int) → hv q (B + 149) 76 = (x : Int) - 1 → s ≤ rw3 N z y x → (∀ c', s ≤ c' → c' < rw3 N z y x → ¬ scV N c') → Ends (ev PP (gsF gv) B d 812 8 [(2, rf (B + 149)), (0, (N : Int))] [] q) P := by
    intro c
    induction c with
    | zero =>
      intro z y x q hz w0 hy hx lq gq f4 f5 f6 sl no
      obtain ⟨rfl, rfl⟩ := w0 rfl
      obtain rfl : N = z := by omega
      refine Ends.eq (b812_8 lq (by omega)) ?_
      rw [f4]
      exact Ends.b3 (fun _ => Ends.sm (K _ _ ⟨gq, Or.inr ⟨no, rfl, Or.inr ⟨f4, f5, f6, rfl⟩⟩⟩)) (fun w => absurd w (by omega))
    | succ c ih =>
      intro z y x q hz w0 hy hx lq gq f4 f5 f6 sl no
      refine Ends.eq (b812_8 lq (by omega)) ?_
      rw [f4]
      refine Ends.b3 (fun w => absurd w (by omega)) (fun _ => ?_)
      exact ly z (by omega) (N - y) y x q (by omega) hx (fun e => absurd e (by omega)) lq gq f4 f5 f6 sl no (fun q' l' g' e4 e5 e6 sl' no' => ih (z + 1) 0 0 q' (by omega) (fun _ => ⟨rfl, rfl⟩) hN0 (Nat.zero_le _) l' g' e4 e5 e6 sl' no')
  rcases i with ⟨z, y, x, hz, hy, hx, f4, f5, f6, e⟩ | ⟨f4, f5, f6, e⟩
  · exact lz (N - z) z y x h (by omega) (fun w => absurd w (by omega)) hy hx l Agr.rf f4 f5 f6 (Nat.le_of_eq e) (fun c' h1 h2 => absurd h2 (by omega))
  · exact lz 0 N 0 0 h rfl (fun _ => ⟨rfl, rfl⟩) hN0 (Nat.zero_le _) l Agr.rf f4 f5 f6 (Nat.le_of_eq e) (fun c' h1 h2 => absurd h2 (by omega))
end SCAN
