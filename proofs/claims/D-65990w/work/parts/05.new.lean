/-! L1: arrays of references, new cells -/
section NROWS
variable {D : va_G} {cl : List vw_C} {dA : Nat → ClassId} {NT : Nat} {ft : Nat → Nat → Nat} {B : Nat} {h0 : AH} {rt : Nat → FieldType}
variable {p : Program} {l : Launch} {e : Env} {R : Room} {s : State} {m : MethodId} {args : Array Value} {below : List Frame} {meth : Method} {c : Code} {nL : Nat} {Q : State → Prop}
variable {cc : ByteArray} {pc nx : Nat} {L : List AV} {st : List AV} {h : AH}
/-- which references an array takes: a cell of its component's class -/
def okRef (cl : List vw_C) (rt : Nat → FieldType) (h : AH) (t : Nat) (b : Nat) : Prop :=
  (∃ ci r, hk h b = (1, ci) ∧ cl[ci]? = some r ∧ rt t = .object r.1) ∨ ∃ t' n, hk h b = (t' + 2, n) ∧ rt t = .array (aT rt t') ∧ t' ≠ 0
theorem ws_aast0 (hx : p.tables.exec = Jvm.exec) (hb : c.code = cc) (hrt : ∀ n, (rt n).isReference = true) {t n a : Nat} {i : Int} (hK : va_K D cl (tysOf rt dA NT) s) (hKR : KR rt dA NT s) (hd : decode cc pc = .ok (.aastore, 1)) (ho : hk h a = (t + 4 + 2, n)) (hi1 : 0 ≤ i) (hi2 : i < n) (hB : B ≤ a)
    (kk : WS D cl dA NT ft B h0 p l e R s m args below meth c nL Q (pc + 1) L st (hset h a i.toNat 0)) : WS D cl dA NT ft B h0 p l e R s m args below meth c nL Q pc L ((2, 0) :: (0, i) :: (2, (a : Int) + 1) :: st) h := by
  intro H locs cells slots ls h1 h2 h3 h4 h5 h6
  obtain ⟨f1, f2⟩ := cnt h6
  obtain ⟨g1, g2⟩ := cnt f2
  obtain ⟨g3, g4⟩ := cnt g2
  have g1 : cn 0 i := g1
  obtain ⟨c0, cX, cO, c1, c2, c3⟩ := h1.2.2 a (t + 4) n ho
  have hcx : cX.cls = dA (t + 4) := okA_cls cO (by omega)
  obtain ⟨b1, b2⟩ := inb_of g1 hi1 hi2
  have hlt : i.toNat < n := by omega
  rw [List.map_cons, List.map_cons, List.map_cons, vp_ref]
  obtain ⟨kA, comp, kc, k1, k2, k3, k4⟩ := hKR.1 t c0
  intro T hT X
  have hT' : T.heap[a]? = some (arrX cX n (fun j => vv (et (t + 4)) (hv h a j))) := by rw [hT]; exact c1
  have hin : ¬ Int32.ofInt i < 0 ∧ (Int32.ofInt i).toNatClampNeg < (arrX cX n (fun j => vv (et (t + 4)) (hv h a j))).slots.size := by
    rw [arrX_size, b2]
    exact ⟨fun q => b1 (Or.inl q), hlt⟩
  obtain ⟨X', st'⟩ := X.aastoreNullIn hx hT' cO.2.2 cO.2.1 (show s.vm.classes[cX.cls]? = some kA by rw [hcx]; exact k1) k2 (hrt t) hin (g := F0 m pc ls (vp (2, 0) :: vp (0, i) :: .ref a :: st.map vp)) rfl rfl (by rw [hb]; exact hd)
  have hlt2 : a < T.heap.size := (Array.getElem?_eq_some_iff.mp hT').1
  have e1 := heapAt_setCell_self ((arrX cX n (fun j => vv (et (t + 4)) (hv h a j))).setSlot (Int32.ofInt i).toNatClampNeg .null) hlt2
  have e2 : (T.setCell a ((arrX cX n (fun j => vv (et (t + 4)) (hv h a j))).setSlot (Int32.ofInt i).toNatClampNeg .null)).heap.size = H.size := by rw [size_setCell, hT]
  have e3 : ∀ q, q ≠ a → (T.setCell a ((arrX cX n (fun j => vv (et (t + 4)) (hv h a j))).setSlot (Int32.ofInt i).toNatClampNeg .null)).heap[q]? = H[q]? := fun q hq => by rw [heapAt_setCell_ne _ (Ne.symm hq), hT]
  have e1' := e1
  rw [b2] at e1'
  obtain ⟨tt, a1, b9⟩ := kk _ _ cells slots ls (h1.ast cO ho (show (0 : Int) ≤ 0 by decide) e1' (by rw [← b2]; exact e2) (by rw [← b2]; exact e3)) (h2.put (k := (Int32.ofInt i).toNatClampNeg) (by rw [← b2]; exact e2) (by rw [← b2]; exact e3) hB) h3 h4 h5 g4 _ rfl (by rw [← b2]; exact X')
  exact ⟨tt, st' tt (by rw [b2]; exact a1), b9⟩
theorem ws_aast (hx : p.tables.exec = Jvm.exec) (hb : c.code = cc) (hrt : ∀ n, (rt n).isReference = true) {t n a b : Nat} {i : Int} (hK : va_K D cl (tysOf rt dA NT) s) (hKR : KR rt dA NT s) (hd : decode cc pc = .ok (.aastore, 1)) (ho : hk h a = (t + 4 + 2, n)) (hi1 : 0 ≤ i) (hi2 : i < n) (hB : B ≤ a) (hok : okRef cl rt h t b)
    (kk : WS D cl dA NT ft B h0 p l e R s m args below meth c nL Q (pc + 1) L st (hset h a i.toNat ((b : Int) + 1))) : WS D cl dA NT ft B h0 p l e R s m args below meth c nL Q pc L ((2, (b : Int) + 1) :: (0, i) :: (2, (a : Int) + 1) :: st) h := by
  intro H locs cells slots ls h1 h2 h3 h4 h5 h6
  obtain ⟨f1, f2⟩ := cnt h6
  obtain ⟨g1, g2⟩ := cnt f2
  obtain ⟨g3, g4⟩ := cnt g2
  have g1 : cn 0 i := g1
  obtain ⟨c0, cX, cO, c1, c2, c3⟩ := h1.2.2 a (t + 4) n ho
  have hcx : cX.cls = dA (t + 4) := okA_cls cO (by omega)
  obtain ⟨b1, b2⟩ := inb_of g1 hi1 hi2
  have hlt : i.toNat < n := by omega
  rw [List.map_cons, List.map_cons, List.map_cons, vp_ref, vp_ref]
  obtain ⟨kA, comp, kc, k1, k2, k3, k4⟩ := hKR.1 t c0
  have hin : ¬ Int32.ofInt i < 0 ∧ (Int32.ofInt i).toNatClampNeg < (arrX cX n (fun j => vv (et (t + 4)) (hv h a j))).slots.size := by
    rw [arrX_size, b2]
    exact ⟨fun q => b1 (Or.inl q), hlt⟩
  have hcv : ∃ cv : Cell, H[b]? = some cv ∧ (∀ q, cv.vm ≠ .statics q) ∧ cv.cls = comp := by
    rcases hok with ⟨ci, r, q1, q2, q3⟩ | ⟨t', n', q1, q2, q3⟩
    · obtain ⟨r', cell, d1, d2, d3, d4, -⟩ := h1.2.1 b ci q1
      refine ⟨cell, d2, (fun q h => by have z := d4.2.1; rw [h] at z; cases z), ?_⟩
      have hcls := (hK.1 ci r q2).2
      rw [q3] at k4
      rw [d3]
      exact Option.some.inj (hcls.1.symm.trans k4)
    · obtain ⟨d0, dX, dO, d1, d2, d3⟩ := h1.2.2 b t' n' q1
      refine ⟨_, d1, dO.2.2, ?_⟩
      show dX.cls = comp
      rw [okA_cls dO q3]
      have k9 := hKR.2.1 t' d0
      rw [q2] at k4
      exact Option.some.inj (k9.symm.trans k4)
  obtain ⟨cv, v1, v2, v3⟩ := hcv
  refine W.aast hx hb c1 cO.2.2 cO.2.1 (show s.vm.classes[cX.cls]? = some kA by rw [hcx]; exact k1) k2 (hrt t) k3 hin v1 v2 (by rw [v3]; exact k3) (by rw [v3]; exact va_asg _ _) rfl rfl hd fun H' e1 e2 e3 => ?_
  rw [b2] at e1
  have e9 : vv (et (t + 4)) ((b : Int) + 1) = .ref b := vp_ref
  exact kk H' _ cells slots ls (h1.ast cO ho (show (0 : Int) ≤ (b : Int) + 1 by omega) (by rw [e9]; exact e1) e2 e3) (h2.put e2 e3 hB) h3 h4 h5 g4
/-- a new cell -/
theorem hk_new (h : AH) (kd : Nat × Nat) (sz b : Nat) : hk (hnew h kd sz) b = if b = hnx h then kd else hk h b := rfl
theorem hv_new (h : AH) (kd : Nat × Nat) (sz b j : Nat) : hv (hnew h kd sz) b j = if b = hnx h then 0 else hv h b j := rfl
theorem hnx_new (h : AH) (kd : Nat × Nat) (sz : Nat) : hnx (hnew h kd sz) = hnx h + 1 := rfl
theorem hus_new (h : AH) (kd : Nat × Nat) (sz : Nat) : hus (hnew h kd sz) = hus h + sz := rfl
theorem RH.new {H H1 : Heap} {kd : Nat × Nat} {sz : Nat} (hR : RH D cl dA NT ft h H) (e2 : H1.size = H.size + 1) (e3 : ∀ q, q < H.size → H1[q]? = H[q]?)
    (ho : ∀ ci, kd = (1, ci) → CO D cl ft (hnew h kd sz) H1 H.size ci) (ha : ∀ t n, kd = (t + 2, n) → t < NT ∧ CA dA (hnew h kd sz) H1 H.size t n) : RH D cl dA NT ft (hnew h kd sz) H1 := by
  obtain ⟨r1, r2, r3⟩ := hR
  refine ⟨by rw [hnx_new, r1, e2], fun b cj hb => ?_, fun b t n hb => ?_⟩
  · rw [hk_new] at hb
    split at hb
    · next q => rw [q, r1]; exact ho cj hb
    · next q =>
      obtain ⟨r, cell', c1, c2, c3, c4, c5m, c5⟩ := r2 b cj hb
      have hlt : b < H.size := (Array.getElem?_eq_some_iff.mp c2).1
      refine ⟨r, cell', c1, by rw [e3 b hlt]; exact c2, c3, c4, c5m, fun j hj => ?_⟩
      rw [hv_new, if_neg q]
      exact c5 j hj
  · rw [hk_new] at hb
    split at hb
    · next q => rw [q, r1]; exact ha t n hb
    · next q =>
      obtain ⟨g0, cX, gO, g1, g2, g3⟩ := r3 b t n hb
      have hlt : b < H.size := (Array.getElem?_eq_some_iff.mp g1).1
      refine ⟨g0, cX, gO, ?_, g2, fun j hj => ?_⟩
      · rw [e3 b hlt, g1]
        simp only [hv_new, if_neg q]
      · rw [hv_new, if_neg q]
        exact g3 j hj
theorem va_S.new {A : Nat → Prop} {H0 H H1 : Heap} {locs : List Loc} (hS : va_S A H0 H locs) (e2 : H1.size = H.size + 1) (e3 : ∀ q, q < H.size → H1[q]? = H[q]?) : va_S A H0 H1 locs :=
  ⟨Nat.le_trans hS.1 (by omega), fun x h1 h2 => (e3 x (Nat.lt_of_lt_of_le h1 hS.1)).trans (hS.2.1 x h1 h2), hS.2.2⟩
def naT (t : Nat) : ArrayType := match t with
  | 0 => .int
  | 1 => .long
  | 2 => .byte
  | _ => .boolean
theorem ws_newa (hx : p.tables.exec = Jvm.exec) (hb : c.code = cc) {t : Nat} {n : Int} (ht : t < 4) (hNT : 4 ≤ NT) (hKR : KR rt dA NT s) (harr : (Cond.arrayClass (newarray.typeOf (naT t))).before args s = true) (hd : decode cc pc = .ok (.newarray (naT t), 2)) (hn : 0 ≤ n) (hn2 : n ≤ 16777216)
    (hcells : hnx h + 1 ≤ R.cells + hnx h0) (hslots : hus h + n.toNat ≤ R.slots + hus h0)
    (kk : WS D cl dA NT ft B h0 p l e R s m args below meth c nL Q (pc + 2) L ((2, (hnx h : Int) + 1) :: st) (hnew h (t + 2, n.toNat) n.toNat)) : WS D cl dA NT ft B h0 p l e R s m args below meth c nL Q pc L ((0, n) :: st) h := by
  intro H locs cells slots ls h1 h2 h3 h4 h5 h6
  obtain ⟨g1, g2⟩ := cnt h6
  have g1 : cn 0 n := g1
  have hr1 := h1.1
  have eN : (Int32.ofInt n).toNatClampNeg = n.toNat := by
    show (Int32.ofInt n).toInt.toNat = _
    rw [to32, w32_id g1]
  have hty : newarray.typeOf (naT t) = aT rt t := by
    obtain rfl | rfl | rfl | rfl : t = 0 ∨ t = 1 ∨ t = 2 ∨ t = 3 := by omega
    all_goals rfl
  have hbytes : n.toNat * componentBytes (newarray.typeOf (naT t)) ≤ 536870912 := by
    have : componentBytes (newarray.typeOf (naT t)) ≤ 8 := by
      obtain rfl | rfl | rfl | rfl : t = 0 ∨ t = 1 ∨ t = 2 ∨ t = 3 := by omega
      all_goals decide
    exact Nat.le_trans (Nat.mul_le_mul_left _ this) (by omega)
  have hdef : defaultValue (newarray.typeOf (naT t)) = vv (et t) 0 := by
    obtain rfl | rfl | rfl | rfl : t = 0 ∨ t = 1 ∨ t = 2 ∨ t = 3 := by omega
    all_goals rfl
  refine va_newaK hx hb harr rfl hd rfl (n := Int32.ofInt n) (fun q => by have := (lt32 g1 cn00).mp q; omega) eN hbytes (by omega) (by omega) rfl fun H' cA e1 e2 e3 e4 e5 => ?_
  have hcA : cA = dA t := by
    have := hKR.2.1 t (by omega)
    rw [hty] at e5
    exact Option.some.inj (e5.symm.trans this)
  subst hcA
  have hz : ∀ j, hv (hnew h (t + 2, n.toNat) n.toNat) H.size j = 0 := fun j => by rw [hv_new, if_pos hr1.symm]
  have hcn0 : ea t 0 := ea_0 t
  have k9 := kk H' locs (cells + 1) (slots + n.toNat) ls (h1.new e2 e3 (fun ci hq => by cases hq) (fun t' n' hq => by
    have : t' = t ∧ n' = n.toNat := by cases hq; exact ⟨rfl, rfl⟩
    obtain ⟨rfl, rfl⟩ := this
    refine ⟨by omega, _, okA_arr dA t' 0 (fun _ => .null), ?_, by omega, fun j hj => by rw [hz]; exact hcn0⟩
    show _ = some (arrV (dA t') n.toNat (fun j => vv (et t') (hv (hnew h (t' + 2, n.toNat) n.toNat) H.size j)))
    rw [e1, hdef]
    simp only [hz])) (h2.new e2 e3) (by rw [hnx_new]; omega) (by rw [hus_new]; omega) h5 (cns (show (0 : Int) ≤ _ by omega) g2)
  rw [List.map_cons, vp_ref, hr1] at k9
  exact k9
theorem ws_new (hx : p.tables.exec = Jvm.exec) (hb : c.code = cc) {Ts : List Cond} (hts : ∀ w ∈ Ts, w.before args s = true) {own C : String} {T : u_T} {N ci idx nI : Nat} {ty0 : Nat → FieldType} (hc : ClsOK cl ft ci C T N ty0 Ts) (hK : va_K D cl (tysOf rt dA NT) s) (hown : s.vm.findClass own = some m.cls)
    (hcl : (Cond.classLink own idx C).before args s = true) (hinst : (Cond.instantiable C nI).before args s = true) (hini : (Cond.initialized C).before args s = true) (h19 : ci = 19 → nI = 7) (hd : decode cc pc = .ok (.new idx, 3))
    (hcells : hnx h + 1 ≤ R.cells + hnx h0) (hslots : hus h + nI ≤ R.slots + hus h0)
    (kk : WS D cl dA NT ft B h0 p l e R s m args below meth c nL Q (pc + 3) L ((2, (hnx h : Int) + 1) :: st) (hnew h (1, ci) nI)) : WS D cl dA NT ft B h0 p l e R s m args below meth c nL Q pc L st h := by
  intro H locs cells slots ls h1 h2 h3 h4 h5 h6
  have hr1 := h1.1
  have hKn := hK.1 ci _ hc.1
  refine W.newcK hx hb hown hcl hinst hini rfl hd (by omega) (by omega) hKn.2.1 rfl fun H1 kC hkC e1 z1 o1 => ?_
  obtain ⟨cell, b1, b2, b3, b4⟩ := u_born ty0 hts hc.2.1 hKn hkC e1 hc.2.2.1
  have hnI : kC.instanceTypes.size = nI := by
    obtain ⟨c1, kX', q1, q2, -, -, -, q6⟩ := Cond.instantiable_spec hinst
    cases Option.some.inj (q1.symm.trans hKn.2.1)
    cases Option.some.inj (q2.symm.trans hkC)
    exact q6
  have hz : ∀ j, hv (hnew h (1, ci) nI) H.size j = 0 := fun j => by rw [hv_new, if_pos hr1.symm]
  have k9 := kk H1 locs (cells + 1) (slots + nI) ls (h1.new z1 o1 (fun cj hq => by
    have : cj = ci := by cases hq; rfl
    subst this
    refine ⟨_, cell, hc.1, b1, b2, ⟨(by rw [b3]; exact fun h => by cases h), (by rw [b3]; rfl), fun _ => b3⟩, fun q19 => (by rw [Option.some.inj (b1.symm.trans e1)]; exact ⟨rfl, rfl, (Array.size_map ..).trans (hnI.trans (h19 q19))⟩), fun k hk => ?_⟩
    obtain ⟨d1, d2⟩ := hc.2.2.2.2 k hk
    obtain ⟨d3, d4⟩ := def_vv d2
    rw [hz, d1, ← d3]
    exact ⟨b4 k hk, d4⟩) (fun t' n' hq => by have := congrArg Prod.fst hq; simp at this)) (h2.new z1 o1) (by rw [hnx_new]; omega) (by rw [hus_new]; omega) h5 (cns (show (0 : Int) ≤ _ by omega) h6)
  rw [List.map_cons, vp_ref, hr1] at k9
  exact k9
/-- a new array of references -/
theorem ws_anew (hx : p.tables.exec = Jvm.exec) (hb : c.code = cc) {own : String} {idx t : Nat} {n : Int} (ht : t + 4 < NT) (hKR : KR rt dA NT s) (hown : s.vm.findClass own = some m.cls)
    (hcl : (Cond.classLink own idx (cnm (rt t))).before args s = true) (hover : (Cond.arrayOver (rt t)).before args s = true) (hrt : (∃ C, rt t = .object C) ∨ ∃ t', rt t = .array t') (hd : decode cc pc = .ok (.anewarray idx, 3)) (hn : 0 ≤ n) (hn2 : n ≤ 16777216)
    (hcells : hnx h + 1 ≤ R.cells + hnx h0) (hslots : hus h + n.toNat ≤ R.slots + hus h0)
    (kk : WS D cl dA NT ft B h0 p l e R s m args below meth c nL Q (pc + 3) L ((2, (hnx h : Int) + 1) :: st) (hnew h (t + 4 + 2, n.toNat) n.toNat)) : WS D cl dA NT ft B h0 p l e R s m args below meth c nL Q pc L ((0, n) :: st) h := by
  intro H locs cells slots ls h1 h2 h3 h4 h5 h6
  obtain ⟨g1, g2⟩ := cnt h6
  have g1 : cn 0 n := g1
  have hr1 := h1.1
  have eN : (Int32.ofInt n).toNatClampNeg = n.toNat := by
    show (Int32.ofInt n).toInt.toNat = _
    rw [to32, w32_id g1]
  have key : ∀ cA : ClassId, s.vm.findClass ("[" ++ (rt t).toString) = some cA → W p l e R s m args below meth c (H.push { cls := cA, slots := Array.replicate (Int32.ofInt n).toNatClampNeg .null, vm := .none }) locs (cells + 1) (slots + (Int32.ofInt n).toNatClampNeg) Q (F0 m (pc + 3) ls (.ref H.size :: st.map vp)) := by
    intro cA e5
    have hcA : cA = dA (t + 4) := Option.some.inj (e5.symm.trans (hKR.2.1 (t + 4) ht))
    subst hcA
    rw [eN]
    generalize hH1 : H.push ({ cls := dA (t + 4), slots := Array.replicate n.toNat .null, vm := .none } : Cell) = H1
    have z1 : H1.size = H.size + 1 := by rw [← hH1, Array.size_push]
    have e1 : H1[H.size]? = some (arrV (dA (t + 4)) n.toNat (fun _ => .null)) := by rw [← hH1, Array.getElem?_push_size, ← arrV_new]
    have o1 : ∀ q : Nat, q < H.size → H1[q]? = H[q]? := fun q hq => by rw [← hH1, Array.getElem?_push, if_neg (Nat.ne_of_lt hq)]
    have hz : ∀ j, hv (hnew h (t + 4 + 2, n.toNat) n.toNat) H.size j = 0 := fun j => by rw [hv_new, if_pos hr1.symm]
    have k9 := kk H1 locs (cells + 1) (slots + n.toNat) ls (h1.new z1 o1 (fun ci hq => by have := congrArg Prod.fst hq; simp at this) (fun t' n' hq => by
      have : t' = t + 4 ∧ n' = n.toNat := by
        have a1 := congrArg Prod.fst hq
        have a2 := congrArg Prod.snd hq
        simp at a1 a2
        omega
      obtain ⟨rfl, rfl⟩ := this
      refine ⟨ht, _, okA_arr dA (t + 4) 0 (fun _ => .null), ?_, by omega, fun j hj => by rw [hz]; exact (show (0 : Int) ≤ 0 by decide)⟩
      show _ = some (arrV (dA (t + 4)) n.toNat (fun j => vv (et (t + 4)) (hv (hnew h (t + 4 + 2, n.toNat) n.toNat) H.size j)))
      rw [e1]
      simp only [hz]
      rfl)) (h2.new z1 o1) (by rw [hnx_new]; omega) (by rw [hus_new]; omega) h5 (cns (show (0 : Int) ≤ _ by omega) g2)
    rw [List.map_cons, vp_ref, hr1] at k9
    exact k9
  have hneg : ¬ Int32.ofInt n < 0 := fun q => by have := (lt32 g1 cn00).mp q; omega
  rcases hrt with ⟨C, hC⟩ | ⟨t', hC⟩
  · rw [hC] at hcl hover key
    exact W.anew hx hb hown hcl hover rfl hd rfl hneg (by rw [eN]; omega) (by omega) (by rw [eN]; omega) fun cA kA comp f1 f2 f3 f4 => key cA f1
  · rw [hC] at hcl hover key
    exact W.anewA hx hb hown hcl hover rfl hd rfl hneg (by rw [eN]; omega) (by omega) (by rw [eN]; omega) fun cA kA comp f1 f2 f3 f4 => key cA f1
end NROWS
