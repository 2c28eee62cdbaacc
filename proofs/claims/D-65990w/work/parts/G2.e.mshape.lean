/-! L3: tools on sketches (model) -/
noncomputable section MSK
variable {gv : Nat → Int} {B n d ax f1 q s g kd tt np nl nd : Nat} {h : AH} {ab dw nb : Nat → Int} {lv dlv dgk : Nat → Bool} {fr to_ dc : Nat → Nat} {be : Nat → Int} {o : Int}
/-- what isIn says of features on sketches, their profile being good -/
theorem c_isInSk (l : LX B n h) (hd : 12 ≤ d) (hn : n ≤ 52) (m : TbM B h) (hg : g < gN n) (hq : hv h (B + 149) 19 = rf q) (Dq : YD B q h) (F1 : YF B f1 h) (hk : hv h f1 1 = (kd : Int)) (ho : hv h f1 3 = (s : Int)) (hs : s < 6) (e0 : hv h (q + (8 + 14 * s)) 0 = (ax : Int)) (e1 : hv h (q + (8 + 14 * s)) 1 = o) (hax : ax < 3) (pv : PvM B h 3 nb) (nbb : ∀ k, k < 3 → -200 ≤ nb k ∧ nb k ≤ 200) (n0 : kd = 8 → 0 ≤ nb 0) (ob : -200 ≤ o ∧ o ≤ 200) (hkd : kd = 1 ∨ kd = 2 ∨ kd = 3 ∨ kd = 8) (n6 : nd ≤ 6) (hl : ∀ k, lv k = true → k < 24) (hf : HfM B n h ab lv fr to_) (pf : kd ≠ 8 → PfM B n h ab lv fr to_ nd dlv dc dw ∧ PrR n false ab be lv fr to_ nd dlv dc dgk dw 0) (sq : kd = 2 ∨ kd = 3 → SqM B n h (sqS ab dw lv fr to_ nd dlv dc)) :
    Vt 0 (cll PP (ev PP (gsF gv) B) d 693 [(2, rf (B + 149)), (2, rf f1), (0, (g : Int))] h) (fun v h' => h' = h ∧ v = if skT n kd ax o nb ab dw lv fr to_ nd dlv dc g = true then 1 else 0) := by
  rcases hkd with rfl | rfl | rfl | rfl
  · obtain ⟨pf1, pr⟩ := pf (by decide)
    exact c_isIn_1 l hd hn m hg hq Dq F1 hk ho hs e0 e1 hax (fun k hk => pv k (by omega)) (fun k hk => nbb k (by omega)) ob hf.1 hf.2 hl (dsc_M n6 pf1 pr)
  · exact c_isIn_2 l hd hn m hg hq Dq F1 hk ho hs e0 e1 hax (fun k hk => pv k (by omega)) (fun k hk => nbb k (by omega)) ob (fun _ _ => sqS_1) (sq (Or.inl rfl))
  · exact c_isIn_3 l hd hn m hg hq Dq F1 hk ho hs e0 e1 hax (fun k hk => pv k (by omega)) (nbb 0 (by decide)) ob (fun _ _ => sqS_1) (sq (Or.inr rfl))
  · exact c_isIn_8 l hd hn m hg hq Dq F1 hk ho hs e0 e1 hax (fun k hk => pv k (by omega)) (fun k hk => nbb k (by omega)) (n0 rfl) ob hf.1 (seg_bd (n := n) (by omega) (fun k lk => hf.2 k (hl k lk) lk)) hl
/-- the tool of a feature on a sketch comes to a row -/
theorem c_shapeSk (l : LX B n h) (hd : 14 ≤ d) (hn : n ≤ 52) (m : TbM B h) (ht : tt < 19) (hq : hv h (B + 149) 19 = rf q) (Dq : YD B q h) (F1 : YF B f1 h) (hk : hv h f1 1 = (kd : Int)) (ho : hv h f1 3 = (s : Int)) (hs : s < 6) (e0 : hv h (q + (8 + 14 * s)) 0 = (ax : Int)) (e1 : hv h (q + (8 + 14 * s)) 1 = o) (hax : ax < 3) (pv : PvM B h 3 nb) (nbb : ∀ k, k < 3 → -200 ≤ nb k ∧ nb k ≤ 200) (n0 : kd = 8 → 0 ≤ nb 0) (ob : -200 ≤ o ∧ o ≤ 200) (hkd : kd = 1 ∨ kd = 2 ∨ kd = 3 ∨ kd = 8) (n6 : nd ≤ 6) (hl : ∀ k, lv k = true → k < 24) (hf : HfM B n h ab lv fr to_) (pf : kd ≠ 8 → PfM B n h ab lv fr to_ nd dlv dc dw ∧ PrR n false ab be lv fr to_ nd dlv dc dgk dw 0) (sq : kd = 2 ∨ kd = 3 → SqM B n h (sqS ab dw lv fr to_ nd dlv dc)) :
    Vd (cll PP (ev PP (gsF gv) B) d 820 [(2, rf (B + 149)), (2, rf f1), (0, (tt : Int))] h) (fun h' => Agr (wto B n tt (wN n)) h h' ∧ MB B n h' tt (skT n kd ax o nb ab dw lv fr to_ nd dlv dc)) := by
  have lo := Dq.lo
  have fl := F1.lo
  refine c_shape820 l hd hn ht (fun q' d' g' lq hd' hg' ag => ?_)
  have w2 : ∀ c j, wto B n tt (wN n) c j → c = B + 236 := fun c j z => z.1
  have at_ : ∀ c j, c ≠ B + 236 → hv q' c j = hv h c j := fun c j hc => ag.at _ _ (fun z => hc z.1)
  refine c_isInSk lq hd' hn (m.agr ag (fun c j h1 h2 h3 z => by have := w2 _ _ z; omega)) hg' (by rw [at_ _ _ (by omega)]; exact hq) (Dq.far ag (fun c k h1 _ z => by have := w2 _ _ z; omega)) (F1.agr ag (fun z => by have := w2 _ _ z; omega)) (by rw [at_ _ _ (by omega)]; exact hk) (by rw [at_ _ _ (by omega)]; exact ho) hs (by rw [at_ _ _ (by omega)]; exact e0) (by rw [at_ _ _ (by omega)]; exact e1) hax (fun k hk => by rw [at_ _ _ (by omega)]; exact pv k hk) nbb n0 ob hkd n6 hl (hf.agr ag (fun c k z => by have := w2 _ _ z; unfold pqW; omega)) (fun z => ⟨(pf z).1.agr ag (fun c k z => by have := w2 _ _ z; unfold pqW; omega), (pf z).2⟩) (fun z => ?_)
  have s0 := sq z
  exact ⟨by rw [ag.hk]; exact s0.1, fun u v hu hv0 => by rw [at_ _ _ (by omega)]; exact s0.2 u v hu hv0⟩
end MSK
