/-! L3: the model's designs: a new one -/
section NEWD
variable {gv : Nat → Int} {B n d : Nat} {h : AH} {w : Nat}
def smK (kd : Nat → Nat × Nat) : Nat → Nat
  | 0 => 0
  | j + 1 => smK kd j + (kd (j + 1)).2
/-- an object in w (class cl) with its first j arrays behind it, held by the fields from f0 on -/
def Arr (B n w cl f0 : Nat) (kd : Nat → Nat × Nat) (h : AH) (j : Nat) (s : AH) : Prop :=
  LX B n s ∧ hnx s = w + 1 + j ∧ hk s w = (1, cl) ∧ (∀ i, i < j → hk s (w + (i + 1)) = kd (i + 1) ∧ hv s w (f0 + i) = rf (w + (i + 1)) ∧ ∀ k, hv s (w + (i + 1)) k = 0) ∧ (∀ c, c ≤ w → hk s c = hk h c) ∧ (∀ c k, c < w → hv s c k = hv h c k) ∧ (∀ k, k < f0 → hv s w k = hv h w k) ∧ hus s = hus h + smK kd j
theorem Arr.ini {cl f0 : Nat} {kd : Nat → Nat × Nat} (l : LX B n h) (hn : hnx h = w + 1) (hc : hk h w = (1, cl)) : Arr B n w cl f0 kd h 0 h :=
  ⟨l, hn, hc, fun i hi => absurd hi (by omega), fun _ _ => rfl, fun _ _ _ => rfl, fun _ _ => rfl, rfl⟩
theorem Arr.step {cl f0 j : Nat} {kd : Nat → Nat × Nat} {s : AH} (a : Arr B n w cl f0 kd h j s) (hw : B + 246 ≤ w) : Arr B n w cl f0 kd h (j + 1) (hset (hnew s (kd (j + 1)) (kd (j + 1)).2) w (f0 + j) (rf (hnx s))) := by
  obtain ⟨l, a1, a2, a3, a4, a5, a6, a7⟩ := a
  refine ⟨lx_na l.new hw, ?_, ?_, fun i hi => ⟨?_, ?_, fun k => ?_⟩, fun c hc => ?_, fun c k hc => ?_, fun k hk => ?_, ?_⟩
  · show hnx s + 1 = _; omega
  · show hk (hnew s (kd (j + 1)) (kd (j + 1)).2) w = _
    rw [hk_new, if_neg (by omega)]; exact a2
  · show hk (hnew s (kd (j + 1)) (kd (j + 1)).2) (w + (i + 1)) = _
    rw [hk_new]
    by_cases e : i = j
    · subst e; rw [if_pos (by omega)]
    · rw [if_neg (by omega)]; exact (a3 i (by omega)).1
  · by_cases e : i = j
    · subst e; rw [hv_set_at, show hnx s = w + (i + 1) by omega]
    · rw [hv_set_ne (by omega), hv_new, if_neg (by omega)]; exact (a3 i (by omega)).2.1
  · rw [hv_na (by omega), hv_new]
    by_cases e : i = j
    · subst e; rw [if_pos (by omega)]
    · rw [if_neg (by omega)]; exact (a3 i (by omega)).2.2 k
  · show hk (hnew s (kd (j + 1)) (kd (j + 1)).2) c = _
    rw [hk_new, if_neg (by omega)]; exact a4 c hc
  · rw [hv_na (by omega), hv_new, if_neg (by omega)]; exact a5 c k hc
  · rw [hv_set_ne (by omega), hv_new, if_neg (by omega)]; exact a6 k hk
  · show hus s + (kd (j + 1)).2 = hus h + (smK kd j + (kd (j + 1)).2)
    rw [a7]; exact Nat.add_assoc _ _ _
theorem Arr.ext {cl f0 j : Nat} {kd : Nat → Nat × Nat} {s : AH} (a : Arr B n w cl f0 kd h j s) (hn : hnx h = w + 1) : Ext (fun c k => c = w ∧ f0 ≤ k) j (smK kd j) h s := by
  obtain ⟨l, a1, a2, a3, a4, a5, a6, a7⟩ := a
  refine ⟨fun c hc => a4 c (by omega), fun c k hc hw => ?_, by omega, by omega, by omega, by omega⟩
  by_cases e : c = w
  · subst e; exact a6 k (by omega)
  · exact a5 c k (by omega)
def skK (i : Nat) : Nat × Nat := (if i = 5 ∨ i = 12 then 5 else if i = 7 ∨ i = 13 then 8 else 2, skL i)
def ftK (_ : Nat) : Nat × Nat := (11, 7)
def dsK (i : Nat) : Nat × Nat := if i = 1 then (2, 480) else if i = 2 then (2, 40) else if i = 3 then (8, 160) else if i = 4 then (2, 4) else if i = 5 then (9, 6) else if i = 6 then (10, 24) else (2, 24)
theorem c_initSk (l : LX B n h) (hd : 10 ≤ d) (hn : hnx h = w + 1) (hc : hk h w = (1, 25)) (hw : B + 246 ≤ w) :
    Vd (cll PP (ev PP (gsF gv) B) d 875 [(2, (rf w))] h) (fun h' => Arr B n w 25 6 skK h 13 h') := by
  refine Vd.into (D := 9) hd (Nat.le_of_ble_eq_true rfl) rfl (fun d hd => ?_)
  have a0 : Arr B n w 25 6 skK h 0 h := Arr.ini l hn hc
  have l_0 := l
  refine Ends.eq (b875_0 (n := n) ) ?_
  refine Ends.g (rf_pos _) ?_
  refine Ends.g ⟨by decide, by decide⟩ ?_
  have ln0 : LX B n (hnew h (skK 1) (skK 1).2) := l_0.new
  have kn0 : hk (hnew h (skK 1) (skK 1).2) w = (1, 25) := by rw [hk_new, if_neg (by have := a0.2.1; omega)]; exact a0.2.2.1
  refine Ends.eq (b875_9 (n := n) ) ?_
  rw [ad_rf]
  refine Ends.g ⟨rf_pos _, kn0, by omega, rfl⟩ ?_
  have a1 : Arr B n w 25 6 skK h 1 (hset (hnew h (skK 1) (skK 1).2) w 6 (rf (hnx h))) := a0.step hw
  have l_1 := a1.1
  change Ends (ev PP (gsF gv) B d 875 _ _ _ (hset (hnew h (skK 1) (skK 1).2) w 6 (rf (hnx h)))) _
  revert a1 l_1
  generalize hset (hnew h (skK 1) (skK 1).2) w 6 (rf (hnx h)) = s1
  intro a1 l_1
  refine Ends.eq (b875_12 (n := n) ) ?_
  refine Ends.g ⟨by decide, by decide⟩ ?_
  have ln1 : LX B n (hnew s1 (skK 2) (skK 2).2) := l_1.new
  have kn1 : hk (hnew s1 (skK 2) (skK 2).2) w = (1, 25) := by rw [hk_new, if_neg (by have := a1.2.1; omega)]; exact a1.2.2.1
  refine Ends.eq (b875_17 (n := n) ) ?_
  rw [ad_rf]
  refine Ends.g ⟨rf_pos _, kn1, by omega, rfl⟩ ?_
  have a2 : Arr B n w 25 6 skK h 2 (hset (hnew s1 (skK 2) (skK 2).2) w 7 (rf (hnx s1))) := a1.step hw
  have l_2 := a2.1
  change Ends (ev PP (gsF gv) B d 875 _ _ _ (hset (hnew s1 (skK 2) (skK 2).2) w 7 (rf (hnx s1)))) _
  revert a2 l_2
  generalize hset (hnew s1 (skK 2) (skK 2).2) w 7 (rf (hnx s1)) = s2
  intro a2 l_2
  refine Ends.eq (b875_20 (n := n) ) ?_
  refine Ends.g ⟨by decide, by decide⟩ ?_
  have ln2 : LX B n (hnew s2 (skK 3) (skK 3).2) := l_2.new
  have kn2 : hk (hnew s2 (skK 3) (skK 3).2) w = (1, 25) := by rw [hk_new, if_neg (by have := a2.2.1; omega)]; exact a2.2.2.1
  refine Ends.eq (b875_25 (n := n) ) ?_
  rw [ad_rf]
  refine Ends.g ⟨rf_pos _, kn2, by omega, rfl⟩ ?_
  have a3 : Arr B n w 25 6 skK h 3 (hset (hnew s2 (skK 3) (skK 3).2) w 8 (rf (hnx s2))) := a2.step hw
  have l_3 := a3.1
  change Ends (ev PP (gsF gv) B d 875 _ _ _ (hset (hnew s2 (skK 3) (skK 3).2) w 8 (rf (hnx s2)))) _
  revert a3 l_3
  generalize hset (hnew s2 (skK 3) (skK 3).2) w 8 (rf (hnx s2)) = s3
  intro a3 l_3
  refine Ends.eq (b875_28 (n := n) ) ?_
  refine Ends.g ⟨by decide, by decide⟩ ?_
  have ln3 : LX B n (hnew s3 (skK 4) (skK 4).2) := l_3.new
  have kn3 : hk (hnew s3 (skK 4) (skK 4).2) w = (1, 25) := by rw [hk_new, if_neg (by have := a3.2.1; omega)]; exact a3.2.2.1
  refine Ends.eq (b875_33 (n := n) ) ?_
  rw [ad_rf]
  refine Ends.g ⟨rf_pos _, kn3, by omega, rfl⟩ ?_
  have a4 : Arr B n w 25 6 skK h 4 (hset (hnew s3 (skK 4) (skK 4).2) w 9 (rf (hnx s3))) := a3.step hw
  have l_4 := a4.1
  change Ends (ev PP (gsF gv) B d 875 _ _ _ (hset (hnew s3 (skK 4) (skK 4).2) w 9 (rf (hnx s3)))) _
  revert a4 l_4
  generalize hset (hnew s3 (skK 4) (skK 4).2) w 9 (rf (hnx s3)) = s4
  intro a4 l_4
  refine Ends.eq (b875_36 (n := n) ) ?_
  refine Ends.g ⟨by decide, by decide⟩ ?_
  have ln4 : LX B n (hnew s4 (skK 5) (skK 5).2) := l_4.new
  have kn4 : hk (hnew s4 (skK 5) (skK 5).2) w = (1, 25) := by rw [hk_new, if_neg (by have := a4.2.1; omega)]; exact a4.2.2.1
  refine Ends.eq (b875_41 (n := n) ) ?_
  rw [ad_rf]
  refine Ends.g ⟨rf_pos _, kn4, by omega, rfl⟩ ?_
  have a5 : Arr B n w 25 6 skK h 5 (hset (hnew s4 (skK 5) (skK 5).2) w 10 (rf (hnx s4))) := a4.step hw
  have l_5 := a5.1
  change Ends (ev PP (gsF gv) B d 875 _ _ _ (hset (hnew s4 (skK 5) (skK 5).2) w 10 (rf (hnx s4)))) _
  revert a5 l_5
  generalize hset (hnew s4 (skK 5) (skK 5).2) w 10 (rf (hnx s4)) = s5
  intro a5 l_5
  refine Ends.eq (b875_44 (n := n) ) ?_
  refine Ends.g ⟨by decide, by decide⟩ ?_
  have ln5 : LX B n (hnew s5 (skK 6) (skK 6).2) := l_5.new
  have kn5 : hk (hnew s5 (skK 6) (skK 6).2) w = (1, 25) := by rw [hk_new, if_neg (by have := a5.2.1; omega)]; exact a5.2.2.1
  refine Ends.eq (b875_49 (n := n) ) ?_
  rw [ad_rf]
  refine Ends.g ⟨rf_pos _, kn5, by omega, rfl⟩ ?_
  have a6 : Arr B n w 25 6 skK h 6 (hset (hnew s5 (skK 6) (skK 6).2) w 11 (rf (hnx s5))) := a5.step hw
  have l_6 := a6.1
  change Ends (ev PP (gsF gv) B d 875 _ _ _ (hset (hnew s5 (skK 6) (skK 6).2) w 11 (rf (hnx s5)))) _
  revert a6 l_6
  generalize hset (hnew s5 (skK 6) (skK 6).2) w 11 (rf (hnx s5)) = s6
  intro a6 l_6
  refine Ends.eq (b875_52 (n := n) ) ?_
  refine Ends.g ⟨by decide, by decide⟩ ?_
  have ln6 : LX B n (hnew s6 (skK 7) (skK 7).2) := l_6.new
  have kn6 : hk (hnew s6 (skK 7) (skK 7).2) w = (1, 25) := by rw [hk_new, if_neg (by have := a6.2.1; omega)]; exact a6.2.2.1
  refine Ends.eq (b875_58 (n := n) ) ?_
  rw [ad_rf]
  refine Ends.g ⟨rf_pos _, kn6, by omega, rfl⟩ ?_
  have a7 : Arr B n w 25 6 skK h 7 (hset (hnew s6 (skK 7) (skK 7).2) w 12 (rf (hnx s6))) := a6.step hw
  have l_7 := a7.1
  change Ends (ev PP (gsF gv) B d 875 _ _ _ (hset (hnew s6 (skK 7) (skK 7).2) w 12 (rf (hnx s6)))) _
  revert a7 l_7
  generalize hset (hnew s6 (skK 7) (skK 7).2) w 12 (rf (hnx s6)) = s7
  intro a7 l_7
  refine Ends.eq (b875_61 (n := n) ) ?_
  refine Ends.g ⟨by decide, by decide⟩ ?_
  have ln7 : LX B n (hnew s7 (skK 8) (skK 8).2) := l_7.new
  have kn7 : hk (hnew s7 (skK 8) (skK 8).2) w = (1, 25) := by rw [hk_new, if_neg (by have := a7.2.1; omega)]; exact a7.2.2.1
  refine Ends.eq (b875_66 (n := n) ) ?_
  rw [ad_rf]
  refine Ends.g ⟨rf_pos _, kn7, by omega, rfl⟩ ?_
  have a8 : Arr B n w 25 6 skK h 8 (hset (hnew s7 (skK 8) (skK 8).2) w 13 (rf (hnx s7))) := a7.step hw
  have l_8 := a8.1
  change Ends (ev PP (gsF gv) B d 875 _ _ _ (hset (hnew s7 (skK 8) (skK 8).2) w 13 (rf (hnx s7)))) _
  revert a8 l_8
  generalize hset (hnew s7 (skK 8) (skK 8).2) w 13 (rf (hnx s7)) = s8
  intro a8 l_8
  refine Ends.eq (b875_69 (n := n) ) ?_
  refine Ends.g ⟨by decide, by decide⟩ ?_
  have ln8 : LX B n (hnew s8 (skK 9) (skK 9).2) := l_8.new
  have kn8 : hk (hnew s8 (skK 9) (skK 9).2) w = (1, 25) := by rw [hk_new, if_neg (by have := a8.2.1; omega)]; exact a8.2.2.1
  refine Ends.eq (b875_74 (n := n) ) ?_
  rw [ad_rf]
  refine Ends.g ⟨rf_pos _, kn8, by omega, rfl⟩ ?_
  have a9 : Arr B n w 25 6 skK h 9 (hset (hnew s8 (skK 9) (skK 9).2) w 14 (rf (hnx s8))) := a8.step hw
  have l_9 := a9.1
  change Ends (ev PP (gsF gv) B d 875 _ _ _ (hset (hnew s8 (skK 9) (skK 9).2) w 14 (rf (hnx s8)))) _
  revert a9 l_9
  generalize hset (hnew s8 (skK 9) (skK 9).2) w 14 (rf (hnx s8)) = s9
  intro a9 l_9
  refine Ends.eq (b875_77 (n := n) ) ?_
  refine Ends.g ⟨by decide, by decide⟩ ?_
  have ln9 : LX B n (hnew s9 (skK 10) (skK 10).2) := l_9.new
  have kn9 : hk (hnew s9 (skK 10) (skK 10).2) w = (1, 25) := by rw [hk_new, if_neg (by have := a9.2.1; omega)]; exact a9.2.2.1
  refine Ends.eq (b875_82 (n := n) ) ?_
  rw [ad_rf]
  refine Ends.g ⟨rf_pos _, kn9, by omega, rfl⟩ ?_
  have a10 : Arr B n w 25 6 skK h 10 (hset (hnew s9 (skK 10) (skK 10).2) w 15 (rf (hnx s9))) := a9.step hw
  have l_10 := a10.1
  change Ends (ev PP (gsF gv) B d 875 _ _ _ (hset (hnew s9 (skK 10) (skK 10).2) w 15 (rf (hnx s9)))) _
  revert a10 l_10
  generalize hset (hnew s9 (skK 10) (skK 10).2) w 15 (rf (hnx s9)) = s10
  intro a10 l_10
  refine Ends.eq (b875_85 (n := n) ) ?_
  refine Ends.g ⟨by decide, by decide⟩ ?_
  have ln10 : LX B n (hnew s10 (skK 11) (skK 11).2) := l_10.new
  have kn10 : hk (hnew s10 (skK 11) (skK 11).2) w = (1, 25) := by rw [hk_new, if_neg (by have := a10.2.1; omega)]; exact a10.2.2.1
  refine Ends.eq (b875_90 (n := n) ) ?_
  rw [ad_rf]
  refine Ends.g ⟨rf_pos _, kn10, by omega, rfl⟩ ?_
  have a11 : Arr B n w 25 6 skK h 11 (hset (hnew s10 (skK 11) (skK 11).2) w 16 (rf (hnx s10))) := a10.step hw
  have l_11 := a11.1
  change Ends (ev PP (gsF gv) B d 875 _ _ _ (hset (hnew s10 (skK 11) (skK 11).2) w 16 (rf (hnx s10)))) _
  revert a11 l_11
  generalize hset (hnew s10 (skK 11) (skK 11).2) w 16 (rf (hnx s10)) = s11
  intro a11 l_11
  refine Ends.eq (b875_93 (n := n) ) ?_
  refine Ends.g ⟨by decide, by decide⟩ ?_
  have ln11 : LX B n (hnew s11 (skK 12) (skK 12).2) := l_11.new
  have kn11 : hk (hnew s11 (skK 12) (skK 12).2) w = (1, 25) := by rw [hk_new, if_neg (by have := a11.2.1; omega)]; exact a11.2.2.1
  refine Ends.eq (b875_98 (n := n) ) ?_
  rw [ad_rf]
  refine Ends.g ⟨rf_pos _, kn11, by omega, rfl⟩ ?_
  have a12 : Arr B n w 25 6 skK h 12 (hset (hnew s11 (skK 12) (skK 12).2) w 17 (rf (hnx s11))) := a11.step hw
  have l_12 := a12.1
  change Ends (ev PP (gsF gv) B d 875 _ _ _ (hset (hnew s11 (skK 12) (skK 12).2) w 17 (rf (hnx s11)))) _
  revert a12 l_12
  generalize hset (hnew s11 (skK 12) (skK 12).2) w 17 (rf (hnx s11)) = s12
  intro a12 l_12
  refine Ends.eq (b875_101 (n := n) ) ?_
  refine Ends.g ⟨by decide, by decide⟩ ?_
  have ln12 : LX B n (hnew s12 (skK 13) (skK 13).2) := l_12.new
  have kn12 : hk (hnew s12 (skK 13) (skK 13).2) w = (1, 25) := by rw [hk_new, if_neg (by have := a12.2.1; omega)]; exact a12.2.2.1
  refine Ends.eq (b875_107 (n := n) ) ?_
  rw [ad_rf]
  refine Ends.g ⟨rf_pos _, kn12, by omega, rfl⟩ ?_
  have a13 : Arr B n w 25 6 skK h 13 (hset (hnew s12 (skK 13) (skK 13).2) w 18 (rf (hnx s12))) := a12.step hw
  have l_13 := a13.1
  change Ends (ev PP (gsF gv) B d 875 _ _ _ (hset (hnew s12 (skK 13) (skK 13).2) w 18 (rf (hnx s12)))) _
  revert a13 l_13
  generalize hset (hnew s12 (skK 13) (skK 13).2) w 18 (rf (hnx s12)) = s13
  intro a13 l_13
  refine Ends.eq (b875_110 (n := n) ) ?_
  exact Ends.sm ⟨_, rfl, a13⟩
theorem c_initFt (l : LX B n h) (hd : 10 ≤ d) (hn : hnx h = w + 1) (hc : hk h w = (1, 22)) (hw : B + 246 ≤ w) :
    Vd (cll PP (ev PP (gsF gv) B) d 871 [(2, (rf w))] h) (fun h' => Arr B n w 22 5 ftK h 1 h') := by
  refine Vd.into (D := 9) hd (Nat.le_of_ble_eq_true rfl) rfl (fun d hd => ?_)
  have a0 : Arr B n w 22 5 ftK h 0 h := Arr.ini l hn hc
  have l_0 := l
  refine Ends.eq (b871_0 (n := n) ) ?_
  refine Ends.g (rf_pos _) ?_
  refine Ends.g ⟨by decide, by decide⟩ ?_
  have ln0 : LX B n (hnew h (ftK 1) (ftK 1).2) := l_0.new
  have kn0 : hk (hnew h (ftK 1) (ftK 1).2) w = (1, 22) := by rw [hk_new, if_neg (by have := a0.2.1; omega)]; exact a0.2.2.1
  refine Ends.eq (b871_10 (n := n) ) ?_
  rw [ad_rf]
  refine Ends.g ⟨rf_pos _, kn0, by omega, rfl⟩ ?_
  have a1 : Arr B n w 22 5 ftK h 1 (hset (hnew h (ftK 1) (ftK 1).2) w 5 (rf (hnx h))) := a0.step hw
  have l_1 := a1.1
  change Ends (ev PP (gsF gv) B d 871 _ _ _ (hset (hnew h (ftK 1) (ftK 1).2) w 5 (rf (hnx h)))) _
  revert a1 l_1
  generalize hset (hnew h (ftK 1) (ftK 1).2) w 5 (rf (hnx h)) = s1
  intro a1 l_1
  refine Ends.eq (b871_13 (n := n) ) ?_
  exact Ends.sm ⟨_, rfl, a1⟩
theorem Arr.ys {s : AH} (a : Arr B n w 25 6 skK h 13 s) (hw : B + 246 ≤ w) : YS B w s := by
  obtain ⟨l, a1, a2, a3, a4, a5, a6, a7⟩ := a
  exact ⟨⟨a2, hw⟩, ⟨(a3 0 (by decide)).1, (a3 1 (by decide)).1, (a3 2 (by decide)).1, (a3 3 (by decide)).1, (a3 4 (by decide)).1, (a3 5 (by decide)).1, (a3 6 (by decide)).1, (a3 7 (by decide)).1, (a3 8 (by decide)).1, (a3 9 (by decide)).1, (a3 10 (by decide)).1, (a3 11 (by decide)).1, (a3 12 (by decide)).1⟩, ⟨(a3 0 (by decide)).2.1, (a3 1 (by decide)).2.1, (a3 2 (by decide)).2.1, (a3 3 (by decide)).2.1, (a3 4 (by decide)).2.1, (a3 5 (by decide)).2.1, (a3 6 (by decide)).2.1, (a3 7 (by decide)).2.1, (a3 8 (by decide)).2.1, (a3 9 (by decide)).2.1, (a3 10 (by decide)).2.1, (a3 11 (by decide)).2.1, (a3 12 (by decide)).2.1⟩⟩
theorem Arr.yf {s : AH} (a : Arr B n w 22 5 ftK h 1 s) (hw : B + 246 ≤ w) : YF B w s := by
  obtain ⟨l, a1, a2, a3, a4, a5, a6, a7⟩ := a
  exact ⟨⟨a2, hw⟩, (a3 0 (by decide)).1, (a3 0 (by decide)).2.1⟩
theorem YS.ext {t : AH} {W : Nat → Nat → Prop} {cc ss : Nat} (y : YS B w h) (hx : w + 14 ≤ hnx h) (g : Ext W cc ss h t) (hW : ∀ k, 6 ≤ k → ¬ W w k) : YS B w t := by
  have K : ∀ j, j ≤ 13 → hk t (w + j) = hk h (w + j) := fun j hj => g.1 _ (by omega)
  have F : ∀ k, 6 ≤ k → hv t w k = hv h w k := fun k hk => g.at k (by omega) (hW k hk)
  unfold YS at *
  rw [show hk t w = hk h w from g.1 _ (by omega), K 1 (by decide), K 2 (by decide), K 3 (by decide), K 4 (by decide), K 5 (by decide), K 6 (by decide), K 7 (by decide), K 8 (by decide), K 9 (by decide), K 10 (by decide), K 11 (by decide), K 12 (by decide), K 13 (by decide), F 6 (by decide), F 7 (by decide), F 8 (by decide), F 9 (by decide), F 10 (by decide), F 11 (by decide), F 12 (by decide), F 13 (by decide), F 14 (by decide), F 15 (by decide), F 16 (by decide), F 17 (by decide), F 18 (by decide)]
  exact y
theorem YF.ext {t : AH} {W : Nat → Nat → Prop} {cc ss : Nat} (y : YF B w h) (hx : w + 2 ≤ hnx h) (g : Ext W cc ss h t) (hW : ¬ W w 5) : YF B w t := by
  unfold YF at *
  rw [g.1 w (by omega), g.1 (w + 1) (by omega), g.at 5 (by omega) hW]
  exact y
theorem Ext.ml' {W : Nat → Nat → Prop} {c s c' s' : Nat} {h t : AH} (e : Ext W c s h t) (h1 : c ≤ c') (h2 : s ≤ s') : Ext W c' s' h t := e.sub (fun _ _ _ z => z) h1 h2
/-- a new design is empty -/
def New0 (w : Nat) (s : AH) : Prop := (∀ k, k < 6 → hv s w k = if k = 1 then 1 else 0) ∧ ∀ c k, w < c → c < w + 140 → ¬ ptr w c k → hv s c k = 0
set_option maxHeartbeats 2000000 in
theorem c_initD (l : LX B n h) (hd : 12 ≤ d) (hn : hnx h = w + 1) (hc : hk h w = (1, 21)) (hw : B + 246 ≤ w) (hz : ∀ k, hv h w k = 0) :
    Vd (cll PP (ev PP (gsF gv) B) d 869 [(2, (rf w))] h) (fun h' => LX B n h' ∧ YD B w h' ∧ New0 w h' ∧ hnx h' = w + 140 ∧ Ext (fun c _ => c = w) 139 2964 h h') := by
  refine Vd.into (D := 11) hd (Nat.le_of_ble_eq_true rfl) rfl (fun d hd => ?_)
  refine Ends.eq (b869_0 (n := n) ) ?_
  rw [ad_rf]
  refine Ends.g (rf_pos _) (Ends.g ⟨rf_pos _, hc, by omega, rfl⟩ ?_)
  have l0 : LX B n (hset h w 1 1) := lx_na l hw
  have a0 : Arr B n w 21 6 dsK (hset h w 1 1) 0 (hset h w 1 1) := Arr.ini l0 hn hc
  have z0 : ∀ k, k < 6 → hv (hset h w 1 1) w k = if k = 1 then 1 else 0 := fun k _ => by
    by_cases e : k = 1
    · subst e; rw [hv_set_at]; rfl
    · rw [hv_set_ne (by omega), if_neg e]; exact hz k
  have x0 : Ext (fun c _ => c = w) 0 0 h (hset h w 1 1) := Ext.rf.set (fun _ => rfl)
  generalize hset h w 1 1 = s0 at *
  have l_0 := l0
  refine Ends.eq (b869_9 (n := n) ) ?_
  refine Ends.g ⟨by decide, by decide⟩ ?_
  have ln0 : LX B n (hnew s0 (dsK 1) (dsK 1).2) := l_0.new
  have kn0 : hk (hnew s0 (dsK 1) (dsK 1).2) w = (1, 21) := by rw [hk_new, if_neg (by have := a0.2.1; omega)]; exact a0.2.2.1
  refine Ends.eq (b869_15 (n := n) ) ?_
  rw [ad_rf]
  refine Ends.g ⟨rf_pos _, kn0, by omega, rfl⟩ ?_
  have a1 : Arr B n w 21 6 dsK s0 1 (hset (hnew s0 (dsK 1) (dsK 1).2) w 6 (rf (hnx s0))) := a0.step hw
  have l_1 := a1.1
  change Ends (ev PP (gsF gv) B d 869 _ _ _ (hset (hnew s0 (dsK 1) (dsK 1).2) w 6 (rf (hnx s0)))) _
  revert a1 l_1
  generalize hset (hnew s0 (dsK 1) (dsK 1).2) w 6 (rf (hnx s0)) = s1
  intro a1 l_1
  refine Ends.eq (b869_18 (n := n) ) ?_
  refine Ends.g ⟨by decide, by decide⟩ ?_
  have ln1 : LX B n (hnew s1 (dsK 2) (dsK 2).2) := l_1.new
  have kn1 : hk (hnew s1 (dsK 2) (dsK 2).2) w = (1, 21) := by rw [hk_new, if_neg (by have := a1.2.1; omega)]; exact a1.2.2.1
  refine Ends.eq (b869_23 (n := n) ) ?_
  rw [ad_rf]
  refine Ends.g ⟨rf_pos _, kn1, by omega, rfl⟩ ?_
  have a2 : Arr B n w 21 6 dsK s0 2 (hset (hnew s1 (dsK 2) (dsK 2).2) w 7 (rf (hnx s1))) := a1.step hw
  have l_2 := a2.1
  change Ends (ev PP (gsF gv) B d 869 _ _ _ (hset (hnew s1 (dsK 2) (dsK 2).2) w 7 (rf (hnx s1)))) _
  revert a2 l_2
  generalize hset (hnew s1 (dsK 2) (dsK 2).2) w 7 (rf (hnx s1)) = s2
  intro a2 l_2
  refine Ends.eq (b869_26 (n := n) ) ?_
  refine Ends.g ⟨by decide, by decide⟩ ?_
  have ln2 : LX B n (hnew s2 (dsK 3) (dsK 3).2) := l_2.new
  have kn2 : hk (hnew s2 (dsK 3) (dsK 3).2) w = (1, 21) := by rw [hk_new, if_neg (by have := a2.2.1; omega)]; exact a2.2.2.1
  refine Ends.eq (b869_33 (n := n) ) ?_
  rw [ad_rf]
  refine Ends.g ⟨rf_pos _, kn2, by omega, rfl⟩ ?_
  have a3 : Arr B n w 21 6 dsK s0 3 (hset (hnew s2 (dsK 3) (dsK 3).2) w 8 (rf (hnx s2))) := a2.step hw
  have l_3 := a3.1
  change Ends (ev PP (gsF gv) B d 869 _ _ _ (hset (hnew s2 (dsK 3) (dsK 3).2) w 8 (rf (hnx s2)))) _
  revert a3 l_3
  generalize hset (hnew s2 (dsK 3) (dsK 3).2) w 8 (rf (hnx s2)) = s3
  intro a3 l_3
  refine Ends.eq (b869_36 (n := n) ) ?_
  refine Ends.g ⟨by decide, by decide⟩ ?_
  have ln3 : LX B n (hnew s3 (dsK 4) (dsK 4).2) := l_3.new
  have kn3 : hk (hnew s3 (dsK 4) (dsK 4).2) w = (1, 21) := by rw [hk_new, if_neg (by have := a3.2.1; omega)]; exact a3.2.2.1
  refine Ends.eq (b869_40 (n := n) ) ?_
  rw [ad_rf]
  refine Ends.g ⟨rf_pos _, kn3, by omega, rfl⟩ ?_
  have a4 : Arr B n w 21 6 dsK s0 4 (hset (hnew s3 (dsK 4) (dsK 4).2) w 9 (rf (hnx s3))) := a3.step hw
  have l_4 := a4.1
  change Ends (ev PP (gsF gv) B d 869 _ _ _ (hset (hnew s3 (dsK 4) (dsK 4).2) w 9 (rf (hnx s3)))) _
  revert a4 l_4
  generalize hset (hnew s3 (dsK 4) (dsK 4).2) w 9 (rf (hnx s3)) = s4
  intro a4 l_4
  refine Ends.eq (b869_43 (n := n) ) ?_
  refine Ends.g ⟨by decide, by decide⟩ ?_
  have ln4 : LX B n (hnew s4 (dsK 5) (dsK 5).2) := l_4.new
  have kn4 : hk (hnew s4 (dsK 5) (dsK 5).2) w = (1, 21) := by rw [hk_new, if_neg (by have := a4.2.1; omega)]; exact a4.2.2.1
  refine Ends.eq (b869_49 (n := n) ) ?_
  rw [ad_rf]
  refine Ends.g ⟨rf_pos _, kn4, by omega, rfl⟩ ?_
  have a5 : Arr B n w 21 6 dsK s0 5 (hset (hnew s4 (dsK 5) (dsK 5).2) w 10 (rf (hnx s4))) := a4.step hw
  have l_5 := a5.1
  change Ends (ev PP (gsF gv) B d 869 _ _ _ (hset (hnew s4 (dsK 5) (dsK 5).2) w 10 (rf (hnx s4)))) _
  revert a5 l_5
  generalize hset (hnew s4 (dsK 5) (dsK 5).2) w 10 (rf (hnx s4)) = s5
  intro a5 l_5
  refine Ends.eq (b869_52 (n := n) ) ?_
  refine Ends.g ⟨by decide, by decide⟩ ?_
  have ln5 : LX B n (hnew s5 (dsK 6) (dsK 6).2) := l_5.new
  have kn5 : hk (hnew s5 (dsK 6) (dsK 6).2) w = (1, 21) := by rw [hk_new, if_neg (by have := a5.2.1; omega)]; exact a5.2.2.1
  refine Ends.eq (b869_58 (n := n) ) ?_
  rw [ad_rf]
  refine Ends.g ⟨rf_pos _, kn5, by omega, rfl⟩ ?_
  have a6 : Arr B n w 21 6 dsK s0 6 (hset (hnew s5 (dsK 6) (dsK 6).2) w 11 (rf (hnx s5))) := a5.step hw
  have l_6 := a6.1
  change Ends (ev PP (gsF gv) B d 869 _ _ _ (hset (hnew s5 (dsK 6) (dsK 6).2) w 11 (rf (hnx s5)))) _
  revert a6 l_6
  generalize hset (hnew s5 (dsK 6) (dsK 6).2) w 11 (rf (hnx s5)) = s6
  intro a6 l_6
  refine Ends.eq (b869_61 (n := n) ) ?_
  refine Ends.g ⟨by decide, by decide⟩ ?_
  have ln6 : LX B n (hnew s6 (dsK 7) (dsK 7).2) := l_6.new
  have kn6 : hk (hnew s6 (dsK 7) (dsK 7).2) w = (1, 21) := by rw [hk_new, if_neg (by have := a6.2.1; omega)]; exact a6.2.2.1
  refine Ends.eq (b869_66 (n := n) ) ?_
  rw [ad_rf]
  refine Ends.g ⟨rf_pos _, kn6, by omega, rfl⟩ ?_
  have a7 : Arr B n w 21 6 dsK s0 7 (hset (hnew s6 (dsK 7) (dsK 7).2) w 12 (rf (hnx s6))) := a6.step hw
  have l_7 := a7.1
  change Ends (ev PP (gsF gv) B d 869 _ _ _ (hset (hnew s6 (dsK 7) (dsK 7).2) w 12 (rf (hnx s6)))) _
  revert a7 l_7
  generalize hset (hnew s6 (dsK 7) (dsK 7).2) w 12 (rf (hnx s6)) = s7
  intro a7 l_7
  have n0 : hnx s0 = w + 1 := a0.2.1
  have x7 : Ext (fun c _ => c = w) 7 738 h s7 := (x0.tr (a7.ext n0) (fun c k _ z => z.1)).ml' (by decide) (by decide)
  obtain ⟨-, b1, b2, b3, b4, b5, b6, b7⟩ := a7
  have e5 : hk s7 (w + 5) = (9, 6) := (b3 4 (by decide)).1
  have e6 : hk s7 (w + 6) = (10, 24) := (b3 5 (by decide)).1
  refine Ends.eq (b869_69 (n := n) ) ?_
  -- the sketches
  refine lp 6 (fun i L s => (L = [(2, rf w), (0, (i : Int))]) ∧ LX B n s ∧ i ≤ 6 ∧ hnx s = w + 8 + 14 * i ∧ Ext (fun c _ => c = w + 5) (14 * i) (319 * i) s7 s ∧ (∀ z, z < i → YS B (w + (8 + 14 * z)) s ∧ hv s (w + 5) z = rf (w + (8 + 14 * z))) ∧ ∀ z c k, z < i → w + (8 + 14 * z) ≤ c → c ≤ w + (8 + 14 * z) + 13 → ¬ (c = w + (8 + 14 * z) ∧ 6 ≤ k) → hv s c k = 0) ?_ ?_ 0 ⟨rfl, l_7, by omega, by omega, Ext.rf, fun z hz => absurd hz (by omega), fun z c k hz => absurd hz (by omega)⟩
  · rintro i _ s hi ⟨rfl, ls, -, hns, xs, ys, zs⟩ ih
    have kw : hk s w = (1, 21) := by rw [xs.1 w (by omega)]; exact b2
    have f10 : hv s w 10 = rf (w + 5) := by rw [xs.at 10 (by omega) (by omega)]; exact (b3 4 (by decide)).2.1
    have k5 : hk s (w + 5) = (9, 6) := by rw [xs.1 _ (by omega)]; exact e5
    refine Ends.eq (b869_71 (n := n) ) ?_
    rw [ad_rf, f10]
    refine Ends.b3 (fun z => by omega) (fun _ => Ends.g ⟨rf_pos _, kw⟩ ?_)
    have l1 : LX B n (hnew s (1, 25) 19) := ls.new
    have k1 : hk (hnew s (1, 25) 19) (hnx s) = (1, 25) := by rw [hk_new, if_pos rfl]
    refine Ends.eq (b869_85 (n := n) ) ?_
    refine Ends.g (rf_pos _) ?_
    refine Ends.cv l1 (by decide +kernel) (c_initSk (w := hnx s) l1 (by omega) rfl k1 (by omega)) (fun s2 l2 _ _ _ A2 => ?_)
    have x2 : Ext (fun c k => c = hnx s ∧ 6 ≤ k) 13 300 (hnew s (1, 25) 19) s2 := A2.ext rfl
    have Y2 := A2.ys (by omega)
    have X2 : Ext (fun c _ => c = w + 5) 14 319 s s2 := ((Ext.new (W := fun c _ => c = w + 5)).tr x2 (fun c k hc z => by omega)).ml' (by decide) (by decide)
    have k52 : hk s2 (w + 5) = (9, 6) := by rw [X2.1 _ (by omega)]; exact k5
    refine Ends.eq (b869_89 (n := n) ) ?_
    rw [ad_rf, ad_rf, k52, tn]
    refine Ends.g ⟨rf_pos _, rfl, by omega, by show (i : Int) < ((6 : Nat) : Int); omega, by omega, Or.inr ⟨rf_pos _, by rw [Y2.kd]; rfl⟩⟩ ?_
    have l3 : LX B n (hset s2 (w + 5) i (rf (hnx s))) := lx_na l2 (by omega)
    refine Ends.eq (b869_90 (n := n) ) ?_
    rw [w_succ (by omega)]
    have X3 : Ext (fun c _ => c = w + 5) 14 319 s (hset s2 (w + 5) i (rf (hnx s))) := X2.set (fun _ => rfl)
    have hn2 : hnx s2 = hnx s + 14 := by have := A2.2.1; omega
    have agr3 : Agr (fun c k => c = w + 5) s2 (hset s2 (w + 5) i (rf (hnx s))) := Agr.rf.set rfl
    refine ih _ _ ⟨rfl, l3, hi, by show hnx s2 = _; omega, (xs.tr X3 (fun _ _ _ z => z)).ml' (by omega) (by omega), fun z hz => ?_, fun z c k hz h1 h2 h3 => ?_⟩
    · by_cases e : z = i
      · subst e
        have eh : w + (8 + 14 * z) = hnx s := by omega
        rw [eh]
        exact ⟨Y2.agr agr3 (fun k _ => by omega), hv_set_at ..⟩
      · obtain ⟨y1, y2⟩ := ys z (by omega)
        refine ⟨(y1.ext (by omega) X3 (fun k _ => by omega)), ?_⟩
        rw [hv_set_ne (by omega), x2.at _ (by show w + 5 < hnx s + 1; omega) (by omega), hv_new, if_neg (by omega)]; exact y2
    · by_cases e : z = i
      · subst e
        rw [hv_na (by omega)]
        by_cases e1 : c = hnx s
        · subst e1
          rw [x2.at _ (by show hnx s < hnx s + 1; omega) (by omega), hv_new, if_pos rfl]
        · have := (A2.2.2.2.1 (c - hnx s - 1) (by omega)).2.2 k
          rw [show hnx s + (c - hnx s - 1 + 1) = c by omega] at this
          exact this
      · rw [X3.at _ (by omega) (by omega)]; exact zs z c k (by omega) h1 h2 h3
  rintro i _ s hi ⟨rfl, ls, hi2, hns, xs, ys, zs⟩
  obtain rfl : i = 6 := by omega
  refine Ends.eq (b869_71 (n := n) ) ?_
  refine Ends.b3 (fun _ => ?_) (fun z => absurd z (by decide))
  -- the features
  have q5 : ∀ z, z < 6 → YS B (w + (8 + 14 * z)) s ∧ hv s (w + 5) z = rf (w + (8 + 14 * z)) := ys
  refine lp 24 (fun i L r => (L = [(2, rf w), (0, (i : Int))]) ∧ LX B n r ∧ i ≤ 24 ∧ hnx r = w + 92 + 2 * i ∧ Ext (fun c _ => c = w + 6) (2 * i) (13 * i) s r ∧ (∀ z, z < i → YF B (w + (92 + 2 * z)) r ∧ hv r (w + 6) z = rf (w + (92 + 2 * z))) ∧ ∀ z c k, z < i → w + (92 + 2 * z) ≤ c → c ≤ w + (92 + 2 * z) + 1 → ¬ (c = w + (92 + 2 * z) ∧ 5 ≤ k) → hv r c k = 0) ?_ ?_ 0 ⟨rfl, ls, by omega, by omega, Ext.rf, fun z hz => absurd hz (by omega), fun z c k hz => absurd hz (by omega)⟩
  · rintro i _ r hi ⟨rfl, lr, -, hnr, xr, yr, zr⟩ ih
    have kw : hk r w = (1, 21) := by rw [xr.1 w (by omega), xs.1 w (by omega)]; exact b2
    have f11 : hv r w 11 = rf (w + 6) := by rw [xr.at 11 (by omega) (by omega), xs.at 11 (by omega) (by omega)]; exact (b3 5 (by decide)).2.1
    have k6 : hk r (w + 6) = (10, 24) := by rw [xr.1 _ (by omega), xs.1 _ (by omega)]; exact e6
    refine Ends.eq (b869_98 (n := n) ) ?_
    rw [ad_rf, f11]
    refine Ends.b3 (fun z => by omega) (fun _ => Ends.g ⟨rf_pos _, kw⟩ ?_)
    have l1 : LX B n (hnew r (1, 22) 6) := lr.new
    have k1 : hk (hnew r (1, 22) 6) (hnx r) = (1, 22) := by rw [hk_new, if_pos rfl]
    refine Ends.eq (b869_112 (n := n) ) ?_
    refine Ends.g (rf_pos _) ?_
    refine Ends.cv l1 (by decide +kernel) (c_initFt (w := hnx r) l1 (by omega) rfl k1 (by omega)) (fun s2 l2 _ _ _ A2 => ?_)
    have x2 : Ext (fun c k => c = hnx r ∧ 5 ≤ k) 1 7 (hnew r (1, 22) 6) s2 := A2.ext rfl
    have Y2 := A2.yf (by omega)
    have X2 : Ext (fun c _ => c = w + 6) 2 13 r s2 := ((Ext.new (W := fun c _ => c = w + 6)).tr x2 (fun c k hc z => by omega)).ml' (by decide) (by decide)
    have k62 : hk s2 (w + 6) = (10, 24) := by rw [X2.1 _ (by omega)]; exact k6
    refine Ends.eq (b869_116 (n := n) ) ?_
    rw [ad_rf, ad_rf, k62, tn]
    refine Ends.g ⟨rf_pos _, rfl, by omega, by show (i : Int) < ((24 : Nat) : Int); omega, by omega, Or.inr ⟨rf_pos _, by rw [Y2.kd]; rfl⟩⟩ ?_
    have l3 : LX B n (hset s2 (w + 6) i (rf (hnx r))) := lx_na l2 (by omega)
    refine Ends.eq (b869_117 (n := n) ) ?_
    rw [w_succ (by omega)]
    have X3 : Ext (fun c _ => c = w + 6) 2 13 r (hset s2 (w + 6) i (rf (hnx r))) := X2.set (fun _ => rfl)
    have hn2 : hnx s2 = hnx r + 2 := by have := A2.2.1; omega
    have agr3 : Agr (fun c k => c = w + 6) s2 (hset s2 (w + 6) i (rf (hnx r))) := Agr.rf.set rfl
    refine ih _ _ ⟨rfl, l3, hi, by show hnx s2 = _; omega, (xr.tr X3 (fun _ _ _ z => z)).ml' (by omega) (by omega), fun z hz => ?_, fun z c k hz h1 h2 h3 => ?_⟩
    · by_cases e : z = i
      · subst e
        have eh : w + (92 + 2 * z) = hnx r := by omega
        rw [eh]
        exact ⟨Y2.agr agr3 (by omega), hv_set_at ..⟩
      · obtain ⟨y1, y2⟩ := yr z (by omega)
        refine ⟨(y1.ext (by omega) X3 (by omega)), ?_⟩
        rw [hv_set_ne (by omega), x2.at _ (by show w + 6 < hnx r + 1; omega) (by omega), hv_new, if_neg (by omega)]; exact y2
    · by_cases e : z = i
      · subst e
        rw [hv_na (by omega)]
        by_cases e1 : c = hnx r
        · subst e1
          rw [x2.at _ (by show hnx r < hnx r + 1; omega) (by omega), hv_new, if_pos rfl]
        · have := (A2.2.2.2.1 (c - hnx r - 1) (by omega)).2.2 k
          rw [show hnx r + (c - hnx r - 1 + 1) = c by omega] at this
          exact this
      · rw [X3.at _ (by omega) (by omega)]; exact zr z c k (by omega) h1 h2 h3
  rintro i _ r hi ⟨rfl, lr, hi2, hnr, xr, yr, zr⟩
  obtain rfl : i = 24 := by omega
  refine Ends.eq (b869_98 (n := n) ) ?_
  refine Ends.b3 (fun _ => ?_) (fun z => absurd z (by decide))
  have K : ∀ j, j < 8 → hk r (w + j) = hk s7 (w + j) := fun j hj => by rw [xr.1 _ (by omega), xs.1 _ (by omega)]
  have F : ∀ k, hv r w k = hv s7 w k := fun k => by rw [xr.at _ (by omega) (by omega), xs.at _ (by omega) (by omega)]
  refine Ends.sm ⟨_, rfl, lr, ⟨⟨by rw [show hk r w = hk s7 w from K 0 (by decide)]; exact b2, hw⟩, ⟨by rw [K 1 (by decide)]; exact (b3 0 (by decide)).1, by rw [K 2 (by decide)]; exact (b3 1 (by decide)).1, by rw [K 3 (by decide)]; exact (b3 2 (by decide)).1, by rw [K 4 (by decide)]; exact (b3 3 (by decide)).1, by rw [K 5 (by decide)]; exact (b3 4 (by decide)).1, by rw [K 6 (by decide)]; exact (b3 5 (by decide)).1, by rw [K 7 (by decide)]; exact (b3 6 (by decide)).1⟩, ⟨by rw [F]; exact (b3 0 (by decide)).2.1, by rw [F]; exact (b3 1 (by decide)).2.1, by rw [F]; exact (b3 2 (by decide)).2.1, by rw [F]; exact (b3 3 (by decide)).2.1, by rw [F]; exact (b3 4 (by decide)).2.1, by rw [F]; exact (b3 5 (by decide)).2.1, by rw [F]; exact (b3 6 (by decide)).2.1⟩, fun z hz => ⟨(q5 z hz).1.ext (by omega) xr (fun k _ => by omega), by rw [xr.at _ (by omega) (by omega)]; exact (q5 z hz).2⟩, yr⟩, ⟨fun k hk => by rw [F, b6 k hk]; exact z0 k hk, fun c k h1 h2 hp => ?_⟩, by omega, (((x7.tr xs (fun c k hc z => by omega)).tr xr (fun c k hc z => by omega)).ml' (by omega) (by omega))⟩
  by_cases c8 : c < w + 8
  · have n5 : c ≠ w + 5 := fun e => hp (Or.inr (Or.inl e))
    have n6 : c ≠ w + 6 := fun e => hp (Or.inr (Or.inr (Or.inl e)))
    rw [xr.at _ (by omega) (by omega), xs.at _ (by omega) (by omega)]
    have := (b3 (c - w - 1) (by omega)).2.2 k
    rw [show w + (c - w - 1 + 1) = c by omega] at this
    exact this
  · by_cases c92 : c < w + 92
    · rw [xr.at _ (by omega) (by omega)]
      refine zs ((c - w - 8) / 14) c k (by omega) (by omega) (by omega) (fun e => hp (Or.inr (Or.inr (Or.inr (Or.inl ⟨(c - w - 8) / 14, by omega, e.1, e.2⟩)))))
    · refine zr ((c - w - 92) / 2) c k (by omega) (by omega) (by omega) (fun e => hp (Or.inr (Or.inr (Or.inr (Or.inr ⟨(c - w - 92) / 2, by omega, e.1, e.2⟩)))))
end NEWD
