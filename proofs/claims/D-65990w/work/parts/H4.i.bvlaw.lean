/-! L3: plain law of changes by names: what desk and model make of level faces -/
noncomputable section BVL
variable {n g K Ka Kb ax : Nat} {S V E : Nat → Bool} {x hh w : Int} {nb : Nat → Int}
theorem lev_all : ∀ t : Fin 24, ∀ f : Fin 4, axD (drT (4 * t.val + f.val)) = -1 ∨ (f.val = 0 ∧ axD (drT (4 * t.val + f.val)) = ((aC t.val : Nat) : Int) ∧ (if 13 < drT (4 * t.val + f.val) then (1 : Int) else -1) = (if hiC t.val = true then 1 else -1) ∧ ∀ a : Fin 3, nvI (drT (4 * t.val + f.val)) a.val = (if a.val = aC t.val then (if hiC t.val = true then 1 else -1) else 0) ∧ (a.val = aC t.val → fcC (4 * t.val + f.val) a.val = if hiC t.val = true then 2 else 0)) := by decide +kernel
theorem lev_off {d c : Nat} {s : Int} {th : Nat} {X Y Z : Nat} {f0 f1 f2 : Nat} (hc : c < 3) (n0 : nvI d 0 = if 0 = c then s else 0) (n1 : nvI d 1 = if 1 = c then s else 0) (n2 : nvI d 2 = if 2 = c then s else 0) (e0 : 0 = c → f0 = 2 * th) (e1 : 1 = c → f1 = 2 * th) (e2 : 2 = c → f2 = 2 * th) : nvI d 0 * ((X + f0 / 2 : Nat) : Int) + nvI d 1 * ((Y + f1 / 2 : Nat) : Int) + nvI d 2 * ((Z + f2 / 2 : Nat) : Int) = s * (((if c = 0 then X else if c = 1 then Y else Z) + th : Nat) : Int) ∧ nvI d 0 * (2 * (X : Int) + (f0 : Int)) + nvI d 1 * (2 * (Y : Int) + (f1 : Int)) + nvI d 2 * (2 * (Z : Int) + (f2 : Int)) = s * (2 * (((if c = 0 then X else if c = 1 then Y else Z) + th : Nat) : Int)) := by
  rw [n0, n1, n2]
  clear n0 n1 n2
  rcases (by omega : c = 0 ∨ c = 1 ∨ c = 2) with rfl | rfl | rfl
  · rw [e0 rfl, if_pos rfl, if_neg (by decide), if_neg (by decide), if_pos rfl, Int.zero_mul, Int.zero_mul, Int.zero_mul, Int.zero_mul, Int.add_zero, Int.add_zero, Int.add_zero, Int.add_zero]
    exact ⟨by rw [show 2 * th / 2 = th by omega], by rw [show 2 * (X : Int) + ((2 * th : Nat) : Int) = 2 * ((X + th : Nat) : Int) by omega]⟩
  · rw [e1 rfl, if_neg (by decide), if_pos rfl, if_neg (by decide), if_neg (by decide), if_pos rfl, Int.zero_mul, Int.zero_mul, Int.zero_mul, Int.zero_mul, Int.add_zero, Int.add_zero, Int.zero_add, Int.zero_add]
    exact ⟨by rw [show 2 * th / 2 = th by omega], by rw [show 2 * (Y : Int) + ((2 * th : Nat) : Int) = 2 * ((Y + th : Nat) : Int) by omega]⟩
  · rw [e2 rfl, if_neg (by decide), if_neg (by decide), if_pos rfl, if_neg (by decide), if_neg (by decide), Int.zero_mul, Int.zero_mul, Int.zero_mul, Int.zero_mul, Int.add_zero, Int.zero_add, Int.zero_add]
    exact ⟨by rw [show 2 * th / 2 = th by omega], by rw [show 2 * (Z : Int) + ((2 * th : Nat) : Int) = 2 * ((Z + th : Nat) : Int) by omega]⟩
theorem gC_if {c : Nat} (hc : c < 3) : (if c = 0 then gX n g else if c = 1 then gY n g else gZ n g) = gC n g c := by
  rcases (by omega : c = 0 ∨ c = 1 ∨ c = 2) with rfl | rfl | rfl <;> rfl
/-- a level face's facet -/
theorem lev_K (lev : 0 ≤ axD (drT (K % 96))) : K % 4 = 0 ∧ bvA K = aC (gSo (K / 4)) ∧ sgF K = (if hiC (gSo (K / 4)) = true then 1 else -1) ∧ plK n K = ((gC n (K / 4) (aC (gSo (K / 4))) + (if hiC (gSo (K / 4)) = true then 1 else 0) : Nat) : Int) ∧ of2 n K = sgF K * (2 * plK n K) := by
  have e96 : K % 96 = 4 * gSo (K / 4) + K % 4 := by unfold gSo; omega
  have t24 : gSo (K / 4) < 24 := Nat.mod_lt _ (by decide)
  have f4 : K % 4 < 4 := Nat.mod_lt _ (by decide)
  have h3 : aC (gSo (K / 4)) < 3 := (ax_lt ⟨_, t24⟩).2.2
  rcases lev_all ⟨gSo (K / 4), t24⟩ ⟨K % 4, f4⟩ with z | ⟨z0, z1, z2, z3⟩
  · have z : axD (drT (4 * gSo (K / 4) + K % 4)) = -1 := z
    rw [e96, z] at lev
    exact absurd lev (by decide)
  have z1 : axD (drT (K % 96)) = ((aC (gSo (K / 4)) : Nat) : Int) := by rw [e96]; exact z1
  have z2 : (if 13 < drT (K % 96) then (1 : Int) else -1) = (if hiC (gSo (K / 4)) = true then 1 else -1) := by rw [e96]; exact z2
  have n0 : nvI (drT (K % 96)) 0 = if 0 = aC (gSo (K / 4)) then (if hiC (gSo (K / 4)) = true then 1 else -1) else 0 := by rw [e96]; exact (z3 ⟨0, by decide⟩).1
  have n1 : nvI (drT (K % 96)) 1 = if 1 = aC (gSo (K / 4)) then (if hiC (gSo (K / 4)) = true then 1 else -1) else 0 := by rw [e96]; exact (z3 ⟨1, by decide⟩).1
  have n2 : nvI (drT (K % 96)) 2 = if 2 = aC (gSo (K / 4)) then (if hiC (gSo (K / 4)) = true then 1 else -1) else 0 := by rw [e96]; exact (z3 ⟨2, by decide⟩).1
  have th2 : (if hiC (gSo (K / 4)) = true then 2 else 0) = 2 * (if hiC (gSo (K / 4)) = true then 1 else 0) := by split <;> rfl
  have e0 : 0 = aC (gSo (K / 4)) → fcC (K % 96) 0 = 2 * (if hiC (gSo (K / 4)) = true then 1 else 0) := fun w => by rw [e96, ← th2]; exact (z3 ⟨0, by decide⟩).2 w
  have e1 : 1 = aC (gSo (K / 4)) → fcC (K % 96) 1 = 2 * (if hiC (gSo (K / 4)) = true then 1 else 0) := fun w => by rw [e96, ← th2]; exact (z3 ⟨1, by decide⟩).2 w
  have e2 : 2 = aC (gSo (K / 4)) → fcC (K % 96) 2 = 2 * (if hiC (gSo (K / 4)) = true then 1 else 0) := fun w => by rw [e96, ← th2]; exact (z3 ⟨2, by decide⟩).2 w
  obtain ⟨o1, o2⟩ := lev_off (X := gX n (K / 4)) (Y := gY n (K / 4)) (Z := gZ n (K / 4)) h3 n0 n1 n2 e0 e1 e2
  rw [gC_if h3] at o1 o2
  have o1 : ofF n K = _ := o1
  have o2 : of2 n K = _ := o2
  have sg : sgF K = (if hiC (gSo (K / 4)) = true then 1 else -1) := z2
  have pl : plK n K = ((gC n (K / 4) (aC (gSo (K / 4))) + (if hiC (gSo (K / 4)) = true then 1 else 0) : Nat) : Int) := by
    unfold plK
    rw [o1, ← sg]
    unfold sgF
    by_cases z : 13 < drT (K % 96)
    · rw [if_pos z, if_pos z, Int.one_mul]
    · rw [if_neg z, if_neg z, Int.neg_mul, Int.one_mul, Int.neg_neg]
  refine ⟨z0, ?_, sg, pl, ?_⟩
  · unfold bvA; rw [z1, tn]
  · rw [o2, pl, sg]
/-- the facets of one level face -/
theorem lev_F {a b : Nat} (r : FRe n E a b) (lev : 0 ≤ axD (drT (a % 96))) : 0 ≤ axD (drT (b % 96)) ∧ bvA b = bvA a ∧ plK n b = plK n a := by
  obtain ⟨p1, p2⟩ := r.pl
  have lb : 0 ≤ axD (drT (b % 96)) := by rw [p1]; exact lev
  have sg : sgF b = sgF a := by unfold sgF; rw [p1]
  refine ⟨lb, by unfold bvA; rw [p1], ?_⟩
  have x := (lev_K (n := n) lb).2.2.2.2
  have y := (lev_K (n := n) lev).2.2.2.2
  rw [p2, y, sg] at x
  clear p2 y r lb lev sg p1
  rcases sgF_pm (K := a) with e | e
  · rw [e, Int.one_mul, Int.one_mul] at x; omega
  · rw [e, Int.neg_mul, Int.neg_mul, Int.one_mul, Int.one_mul] at x; omega
theorem gCu_C {a : Nat} (ha : a < 3) : gCu n g a = gC n g a := by
  rcases (by omega : a = 0 ∨ a = 1 ∨ a = 2) with rfl | rfl | rfl <;> rfl
/-- the two planes' edge, as both ask for it -/
theorem mq_ed {a b : Nat} {pa pb : Int} (lev : 0 ≤ axD (drT (K % 96))) (ea : bvA K = a) (ep : plK n K = pa) (hb : b < 3) (ab : a ≠ b) : mqC n a b pa pb K = edK n (3 - a - b) pb K := by
  obtain ⟨-, k2, -, k4, -⟩ := lev_K (n := n) lev
  have t24 : gSo (K / 4) < 24 := Nat.mod_lt _ (by decide)
  obtain ⟨n1, n2, n3, n4, n5, n6, n7⟩ := ax_ne t24
  obtain ⟨t, et⟩ : ∃ t, t = gSo (K / 4) := ⟨_, rfl⟩
  rw [← et] at k2 k4 n1 n2 n3 n4 n5 n6 n7
  rw [k2] at ea
  subst ea
  rw [k4] at ep
  clear k4 k2 lev
  have ca : ∀ k, k < 2 → ((mcC n (K / 4) k (aC t) : Nat) : Int) = 2 * pa := fun k hk => by
    unfold mcC coT
    rw [← et, if_neg (by omega), if_pos rfl, gCu_C n6, ← ep]
    split <;> omega
  rw [Bool.eq_iff_iff, mqC_iff, edK_iff, ← et]
  have cb : b = aA t ∨ b = aB t := by rcases n7 b hb with w | w | w; exact Or.inl w; exact Or.inr w; exact absurd w.symm ab
  rcases cb with rfl | rfl
  · constructor
    · intro z
      have z0 := (z 0 (by decide)).2
      have z1 := (z 1 (by decide)).2
      unfold mcC coT at z0 z1
      rw [← et, if_neg (by decide), if_neg (fun w => ab w.symm), if_neg (by decide), if_neg n1, if_pos rfl] at z0
      rw [← et, if_neg (by decide), if_neg (fun w => ab w.symm), if_neg (by decide), if_neg n1, if_neg (by decide)] at z1
      omega
    · intro ⟨z, _⟩; omega
  · have e3 : aA t = 3 - aC t - aB t := by omega
    have cc : ∀ k, k < 2 → mcC n (K / 4) k (aB t) = 2 * (gC n (K / 4) (aB t) + (if hiB t = true then 1 else 0)) := fun k hk => by
      unfold mcC coT
      rw [← et, if_neg (by omega), if_neg (fun w => ab w.symm), if_neg (by omega), if_pos rfl, gCu_C n5]
      split <;> omega
    have cI : (((if hiB t = true then 1 else 0 : Nat)) : Int) = if hiB t = true then 1 else 0 := by split <;> rfl
    constructor
    · intro z
      refine ⟨e3, ?_⟩
      have z0 := (z 0 (by decide)).2
      rw [cc 0 (by decide)] at z0
      rw [← cI]
      omega
    · intro ⟨_, z⟩ k hk
      refine ⟨ca k hk, ?_⟩
      rw [cc k hk]
      rw [← cI] at z
      omega
theorem mq_sw {a b : Nat} {pa pb : Int} : mqC n a b pa pb K = mqC n b a pb pa K := by
  rw [Bool.eq_iff_iff, mqC_iff, mqC_iff]
  exact ⟨fun z k hk => ⟨(z k hk).2, (z k hk).1⟩, fun z k hk => ⟨(z k hk).2, (z k hk).1⟩⟩
/-- where the edge of two faces lies on one of them -/
theorem mq_em {b c : Nat} {pb : Int} (lev : 0 ≤ axD (drT (K % 96))) (hb : b < 3) (ab : bvA K ≠ b) (hc : c = 3 - bvA K - b) {y : Nat} : mqB n (bvA K) b c (plK n K) pb (FRb n E K) y = emB n c pb (FRb n E K) y := by
  rw [Bool.eq_iff_iff, mqB_iff, emB_iff]
  constructor
  · rintro ⟨k, h1, h2, h3, h4⟩
    obtain ⟨l1, l2, l3⟩ := lev_F (FRb_iff.mp h2) lev
    exact ⟨k, h1, h2, by rw [hc, ← mq_ed l1 l2 l3 hb ab]; exact h3, h4⟩
  · rintro ⟨k, h1, h2, h3, h4⟩
    obtain ⟨l1, l2, l3⟩ := lev_F (FRb_iff.mp h2) lev
    exact ⟨k, h1, h2, by rw [mq_ed l1 l2 l3 hb ab, ← hc]; exact h3, h4⟩
theorem mq_em2 {b c : Nat} {pb : Int} (lev : 0 ≤ axD (drT (K % 96))) (hb : b < 3) (ab : bvA K ≠ b) (hc : c = 3 - bvA K - b) {y : Nat} : mqB n b (bvA K) c pb (plK n K) (FRb n E K) y = emB n c pb (FRb n E K) y := by
  rw [← mq_em lev hb ab hc, Bool.eq_iff_iff, mqB_iff, mqB_iff]
  exact ⟨fun ⟨k, h1, h2, h3, h4⟩ => ⟨k, h1, h2, by rw [mq_sw]; exact h3, h4⟩, fun ⟨k, h1, h2, h3, h4⟩ => ⟨k, h1, h2, by rw [mq_sw]; exact h3, h4⟩⟩
theorem lk_cl (hg : g < gN n) (hax : ax < 3) : lkB n ax V (quT ax (gSo g)) (gC n g (sA ax)) (gC n g (fA ax)) = clB n ax V (colG n ax g) := by
  rw [Bool.eq_iff_iff, lkB_iff, clB_iff]
  constructor
  · rintro ⟨k, h1, h2, h3, h4, h5⟩
    exact ⟨k, h1, h2, (col_iff (by omega) hg hax).mpr ⟨h3, h5, h4⟩⟩
  · rintro ⟨k, h1, h2, h3⟩
    obtain ⟨e1, e2, e3⟩ := (col_iff (by omega) hg hax).mp h3
    exact ⟨k, h1, h2, e1, e3, e2⟩
theorem pr_g8 {Q : Nat → Nat → Nat → Bool} {fr to : Int} (hg : g < gN n) (hax : ax < 3) : prG n Q ax fr to g = (decide (8 * fr < ((g8 n g ax : Nat) : Int) ∧ ((g8 n g ax : Nat) : Int) < 8 * to) && Q (quT ax (gSo g)) (gC n g (sA ax)) (gC n g (fA ax))) := by
  have rb := rT_b hg hax
  rw [prG_ax hax, g8_C hax]
  congr 1
  rw [decide_eq_decide]
  omega
theorem mm_pl {p e : Int} : v892 p e = (if e < p then e else p) ∧ v891 p e = (if p < e then e else p) := ⟨minI, max_J⟩
/-- pulls -/
theorem pu_eq (hg : g < gN n) (lev : 0 ≤ axD (drT (K % 96))) : puG n S K x g = puM n S K x g := by
  have hA : bvA K < 3 := by
    rcases axD_lt (K := K) with z | z
    · rw [z] at lev; exact absurd lev (by decide)
    · exact z.2
  unfold puG puM
  rw [pr_g8 hg hA, lk_cl hg hA, mm_pl.1, mm_pl.2]
  congr 1
  rw [decide_eq_decide]
  unfold farM puE sgF
  by_cases z : 13 < drT (K % 96)
  · rw [if_pos z, if_pos z, Int.one_mul]
    clear z
    by_cases y : 0 < x
    · rw [if_pos y, if_neg (by omega), if_pos (by omega)]; omega
    · rw [if_neg y, if_neg (show ¬ plK n K < plK n K + x by omega)]
      by_cases w : plK n K + x < plK n K
      · rw [if_pos w]; omega
      · rw [if_neg w]; omega
  · rw [if_neg z, if_neg z, Int.neg_mul, Int.one_mul]
    clear z
    by_cases y : 0 < x
    · rw [if_pos y, if_pos (by omega), if_neg (by omega)]; omega
    · rw [if_neg y, if_neg (show ¬ plK n K - x < plK n K by omega)]
      by_cases w : plK n K < plK n K - x
      · rw [if_pos w]; omega
      · rw [if_neg w]; omega
/-- a disc's quarters by middles -/
theorem ds_g8 {r : Nat} {cu cv : Int} (hg : g < gN n) (hax : ax < 3) : dsQ r cu cv (quT ax (gSo g)) (gC n g (sA ax)) (gC n g (fA ax)) = und r (((g8 n g (fA ax) : Nat) : Int) - 8 * cu) (((g8 n g (sA ax) : Nat) : Int) - 8 * cv) 0 := by
  obtain ⟨_, _, _, _, ht⟩ := g_lt hg
  have hf : fA ax < 3 := by have := fA_2 (ax := ax); omega
  have hsA : sA ax < 3 := by have := sA_2 (ax := ax); omega
  rw [g8_C hf, g8_C hsA, show ((8 * gC n g (fA ax) + rT (gSo g) (fA ax) : Nat) : Int) - 8 * cu = 8 * (((gC n g (fA ax) : Nat) : Int) - cu) + ((rT (gSo g) (fA ax) : Nat) : Int) by omega, show ((8 * gC n g (sA ax) + rT (gSo g) (sA ax) : Nat) : Int) - 8 * cv = 8 * (((gC n g (sA ax) : Nat) : Int) - cv) + ((rT (gSo g) (sA ax) : Nat) : Int) by omega, und_q hax ht]
  rfl
/-- bores -/
theorem bo_eq (hg : g < gN n) (lev : 0 ≤ axD (drT (K % 96))) : boG n K nb g = boM n K nb g := by
  have hA : bvA K < 3 := by
    rcases axD_lt (K := K) with z | z
    · rw [z] at lev; exact absurd lev (by decide)
    · exact z.2
  unfold boG boM
  rw [pr_g8 hg hA, ds_g8 hg hA, mm_pl.1, mm_pl.2, ← Bool.and_assoc]
  congr 1
  rw [Bool.eq_iff_iff, Bool.and_eq_true, decide_eq_true_iff, decide_eq_true_iff, decide_eq_true_iff]
  unfold farM puE sgF
  by_cases z : 13 < drT (K % 96)
  · rw [if_pos z, if_pos z, Int.one_mul]
    clear z
    by_cases y : 0 < nb 3
    · rw [if_pos (by omega), if_neg (by omega)]; omega
    · constructor
      · intro w; exact absurd w.1 y
      · intro w; omega
  · rw [if_neg z, if_neg z, Int.neg_mul, Int.one_mul]
    clear z
    by_cases y : 0 < nb 3
    · rw [if_neg (by omega), if_pos (by omega)]; omega
    · constructor
      · intro w; exact absurd w.1 y
      · intro w; omega
theorem bvq_s {wa wb pa pb u v u' v' a c : Int} (Q : sdQ u v u' v') (ha : wa = 1 ∨ wa = -1) (hb : wb = 1 ∨ wb = -1) : ((0 ≤ wa * (8 * a + u' - 8 * pa) ∧ 0 ≤ wb * (8 * c + v' - 8 * pb)) ∧ wa * (8 * a + u' - 8 * pa) + wb * (8 * c + v' - 8 * pb) ≤ 8 * hh) ↔ ((0 < wa * (8 * a + u - 8 * pa) ∧ 0 < wb * (8 * c + v - 8 * pb)) ∧ wa * (8 * a + u - 8 * pa) + wb * (8 * c + v - 8 * pb) ≤ 8 * hh) := by
  obtain ⟨⟨a1, a2, a3, a4⟩, b1, b2⟩ := Q
  rcases ha with rfl | rfl <;> rcases hb with rfl | rfl <;> simp only [Int.one_mul, Int.neg_mul] <;> omega
/-- bevels -/
theorem bv_q {A C al : Nat} {wa wb pa pb : Int} (hg : g < gN n) (hA : A < 3) (hC : C < 3) (ne : A ≠ C) (hal : al = 3 - A - C) (ha : wa = 1 ∨ wa = -1) (hb : wb = 1 ∨ wb = -1) : bvQ wa wb (decide (A < C)) pa pb hh (quT al (gSo g)) (gC n g (sA al)) (gC n g (fA al)) = decide ((0 < wa * (((g8 n g A : Nat) : Int) - 8 * pa) ∧ 0 < wb * (((g8 n g C : Nat) : Int) - 8 * pb)) ∧ wa * (((g8 n g A : Nat) : Int) - 8 * pa) + wb * (((g8 n g C : Nat) : Int) - 8 * pb) ≤ 8 * hh) := by
  obtain ⟨_, _, _, _, ht⟩ := g_lt hg
  have hl : al < 3 := by omega
  have Q := sd_is hl ht
  unfold bvQ bvU
  rw [decide_eq_decide]
  by_cases z : A < C
  · have e1 : fA al = A ∧ sA al = C := by unfold fA sA; split <;> split <;> omega
    rw [e1.1, e1.2] at Q ⊢
    rw [show decide (A < C) = true from decide_eq_true z, show (!true) = false from rfl, if_pos rfl, if_neg (by decide), g8_C hA, g8_C hC, show ((8 * gC n g A + rT (gSo g) A : Nat) : Int) = 8 * ((gC n g A : Nat) : Int) + ((rT (gSo g) A : Nat) : Int) by omega, show ((8 * gC n g C + rT (gSo g) C : Nat) : Int) = 8 * ((gC n g C : Nat) : Int) + ((rT (gSo g) C : Nat) : Int) by omega]
    exact bvq_s Q ha hb
  · have e1 : fA al = C ∧ sA al = A := by unfold fA sA; split <;> split <;> omega
    rw [e1.1, e1.2] at Q ⊢
    rw [show decide (A < C) = false from decide_eq_false z, show (!false) = true from rfl, if_neg (by decide), if_pos rfl, g8_C hA, g8_C hC, show ((8 * gC n g A + rT (gSo g) A : Nat) : Int) = 8 * ((gC n g A : Nat) : Int) + ((rT (gSo g) A : Nat) : Int) by omega, show ((8 * gC n g C + rT (gSo g) C : Nat) : Int) = 8 * ((gC n g C : Nat) : Int) + ((rT (gSo g) C : Nat) : Int) by omega]
    have x := bvq_s (hh := hh) (pa := pb) (pb := pa) (a := ((gC n g C : Nat) : Int)) (c := ((gC n g A : Nat) : Int)) Q hb ha
    rw [Int.add_comm (wa * _), Int.add_comm (wa * _)]
    exact ⟨fun y => by obtain ⟨⟨y1, y2⟩, y3⟩ := x.mp ⟨⟨y.1.2, y.1.1⟩, y.2⟩; exact ⟨⟨y2, y1⟩, y3⟩, fun y => by obtain ⟨⟨y1, y2⟩, y3⟩ := x.mpr ⟨⟨y.1.2, y.1.1⟩, y.2⟩; exact ⟨⟨y2, y1⟩, y3⟩⟩
theorem w_sg (hw : w = 1 ∨ w = -1) : w * sgF K = 1 ∨ w * sgF K = -1 := by
  rcases hw with rfl | rfl <;> rcases sgF_pm (K := K) with e | e <;> rw [e]
  · exact Or.inl rfl
  · exact Or.inr rfl
  · exact Or.inr rfl
  · exact Or.inl rfl
theorem bv_eq (hg : g < gN n) (hw : w = 1 ∨ w = -1) (la : 0 ≤ axD (drT (Ka % 96))) (lb : 0 ≤ axD (drT (Kb % 96))) (ne : axD (drT (Kb % 96)) ≠ axD (drT (Ka % 96))) : bvG n S w Ka Kb hh g = bvM n S w Ka Kb hh g := by
  have hA : axD (drT (Ka % 96)) = ((bvA Ka : Nat) : Int) ∧ bvA Ka < 3 := by
    rcases axD_lt (K := Ka) with z | z
    · rw [z] at la; exact absurd la (by decide)
    · exact z
  have hB : axD (drT (Kb % 96)) = ((bvA Kb : Nat) : Int) ∧ bvA Kb < 3 := by
    rcases axD_lt (K := Kb) with z | z
    · rw [z] at lb; exact absurd lb (by decide)
    · exact z
  have n1 : bvA Ka ≠ bvA Kb := fun z => ne (by rw [hA.1, hB.1, z])
  have n2 : bvA Kb ≠ bvA Ka := fun z => n1 z.symm
  unfold bvG bvM
  rw [mq_em (E := bdr n S) (pb := plK n Kb) la hB.2 n1 rfl, mq_em2 (E := bdr n S) (pb := plK n Ka) lb hA.2 n2 (show 3 - bvA Ka - bvA Kb = 3 - bvA Kb - bvA Ka by omega), Bool.and_comm]
  congr 1
  exact bv_q hg hA.2 hB.2 n1 rfl (w_sg hw) (w_sg hw)
end BVL
