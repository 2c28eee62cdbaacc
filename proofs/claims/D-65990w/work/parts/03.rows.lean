/-! L1: one row an instruction, at the abstract machine -/
section ROWS
variable {D : va_G} {cl : List vw_C} {dA : Nat → ClassId} {NT : Nat} {ft : Nat → Nat → Nat} {B : Nat} {h0 : AH}
variable {p : Program} {l : Launch} {e : Env} {R : Room} {s : State} {m : MethodId} {args : Array Value} {below : List Frame} {meth : Method} {c : Code} {nL : Nat} {Q : State → Prop}
variable {cc : ByteArray} {pc nx : Nat} {L : List AV} {st : List AV} {h : AH}
/-- the walk stands here: with any heap that holds h, any locals that hold L, the stack st, it comes to Q -/
def WS (D : va_G) (cl : List vw_C) (dA : Nat → ClassId) (NT : Nat) (ft : Nat → Nat → Nat) (B : Nat) (h0 : AH) (p : Program) (l : Launch) (e : Env) (R : Room) (s : State) (m : MethodId) (args : Array Value) (below : List Frame) (meth : Method) (c : Code) (nL : Nat) (Q : State → Prop) (pc : Nat) (L : List AV) (st : List AV) (h : AH) : Prop :=
  ∀ (H : Heap) (locs : List Loc) (cells slots : Nat) (ls : Array Slot), RH D cl dA NT ft h H → va_S (fun q => B ≤ q) s.heap H locs → cells + hnx h0 = hnx h → slots + hus h0 = hus h → LR ls nL L → (∀ q ∈ st, cn q.1 q.2) →
    W p l e R s m args below meth c H locs cells slots Q (F0 m pc ls (st.map vp))
theorem cns {q : AV} {st : List AV} (h : cn q.1 q.2) (hs : ∀ q ∈ st, cn q.1 q.2) : ∀ z ∈ q :: st, cn z.1 z.2 := fun z hz => by
  rcases List.mem_cons.mp hz with rfl | hz
  · exact h
  · exact hs z hz
theorem cnt {q : AV} {st : List AV} (hs : ∀ z ∈ q :: st, cn z.1 z.2) : cn q.1 q.2 ∧ ∀ z ∈ st, cn z.1 z.2 := ⟨hs q List.mem_cons_self, fun z hz => hs z (List.mem_cons_of_mem _ hz)⟩
/-- constants -/
theorem ws_int (hx : p.tables.exec = Jvm.exec) (hb : c.code = cc) {v : Int}
    (hr : ∀ {H : Heap} {locs : List Loc} {cells slots : Nat} {ls : Array Slot} {rest : List Value}, W p l e R s m args below meth c H locs cells slots Q (F0 m nx ls (.int (Int32.ofInt v) :: rest)) → W p l e R s m args below meth c H locs cells slots Q (F0 m pc ls rest)) (hc : cn 0 v)
    (k : WS D cl dA NT ft B h0 p l e R s m args below meth c nL Q nx L ((0, v) :: st) h) : WS D cl dA NT ft B h0 p l e R s m args below meth c nL Q pc L st h :=
  fun H locs cells slots ls h1 h2 h3 h4 h5 h6 => hr (k H locs cells slots ls h1 h2 h3 h4 h5 (cns hc h6))
theorem ws_long (hx : p.tables.exec = Jvm.exec) (hb : c.code = cc) {v : Int}
    (hr : ∀ {H : Heap} {locs : List Loc} {cells slots : Nat} {ls : Array Slot} {rest : List Value}, W p l e R s m args below meth c H locs cells slots Q (F0 m nx ls (.long (Int64.ofInt v) :: rest)) → W p l e R s m args below meth c H locs cells slots Q (F0 m pc ls rest)) (hc : cn 1 v)
    (k : WS D cl dA NT ft B h0 p l e R s m args below meth c nL Q nx L ((1, v) :: st) h) : WS D cl dA NT ft B h0 p l e R s m args below meth c nL Q pc L st h :=
  fun H locs cells slots ls h1 h2 h3 h4 h5 h6 => hr (k H locs cells slots ls h1 h2 h3 h4 h5 (cns hc h6))
theorem ws_null (hx : p.tables.exec = Jvm.exec) (hb : c.code = cc) (hd : decode cc pc = .ok (.aconst_null, 1))
    (k : WS D cl dA NT ft B h0 p l e R s m args below meth c nL Q (pc + 1) L ((2, 0) :: st) h) : WS D cl dA NT ft B h0 p l e R s m args below meth c nL Q pc L st h :=
  fun H locs cells slots ls h1 h2 h3 h4 h5 h6 => lv_null hx hb hd (k H locs cells slots ls h1 h2 h3 h4 h5 (cns (show (0 : Int) ≤ 0 by decide) h6))
/-- loads -/
theorem ws_iload (hx : p.tables.exec = Jvm.exec) (hb : c.code = cc) {i : Nat} {v : Int} (hd : (∃ k : Fin 4, (k : Nat) = i ∧ decode cc pc = .ok (.iload_n k, 1)) ∧ nx = pc + 1 ∨ decode cc pc = .ok (.iload i, 2) ∧ nx = pc + 2) (hl : L[i]? = some (0, v))
    (k : WS D cl dA NT ft B h0 p l e R s m args below meth c nL Q nx L ((0, v) :: st) h) : WS D cl dA NT ft B h0 p l e R s m args below meth c nL Q pc L st h := by
  intro H locs cells slots ls h1 h2 h3 h4 h5 h6
  obtain ⟨g1, g2⟩ := h5.2.2 i 0 v hl (by decide)
  have k' := k H locs cells slots ls h1 h2 h3 h4 h5 (cns g2 h6)
  rcases hd with ⟨⟨j, hj, hd⟩, rfl⟩ | ⟨hd, rfl⟩
  · exact lv_iload_n hx hb hd hj g1 k'
  · exact lv_iload hx hb hd g1 k'
theorem ws_lload (hx : p.tables.exec = Jvm.exec) (hb : c.code = cc) {i : Nat} {v : Int} (hd : (∃ k : Fin 4, (k : Nat) = i ∧ decode cc pc = .ok (.lload_n k, 1)) ∧ nx = pc + 1 ∨ decode cc pc = .ok (.lload i, 2) ∧ nx = pc + 2) (hl : L[i]? = some (1, v))
    (k : WS D cl dA NT ft B h0 p l e R s m args below meth c nL Q nx L ((1, v) :: st) h) : WS D cl dA NT ft B h0 p l e R s m args below meth c nL Q pc L st h := by
  intro H locs cells slots ls h1 h2 h3 h4 h5 h6
  obtain ⟨g1, g2⟩ := h5.2.2 i 1 v hl (by decide)
  have k' := k H locs cells slots ls h1 h2 h3 h4 h5 (cns g2 h6)
  rcases hd with ⟨⟨j, hj, hd⟩, rfl⟩ | ⟨hd, rfl⟩
  · exact lv_lload_n hx hb hd hj g1 k'
  · exact lv_lload hx hb hd g1 k'
theorem ws_aload (hx : p.tables.exec = Jvm.exec) (hb : c.code = cc) {i : Nat} {v : Int} (hd : (∃ k : Fin 4, (k : Nat) = i ∧ decode cc pc = .ok (.aload_n k, 1)) ∧ nx = pc + 1 ∨ decode cc pc = .ok (.aload i, 2) ∧ nx = pc + 2) (hl : L[i]? = some (2, v))
    (k : WS D cl dA NT ft B h0 p l e R s m args below meth c nL Q nx L ((2, v) :: st) h) : WS D cl dA NT ft B h0 p l e R s m args below meth c nL Q pc L st h := by
  intro H locs cells slots ls h1 h2 h3 h4 h5 h6
  obtain ⟨g1, g2⟩ := h5.2.2 i 2 v hl (by decide)
  have k' := k H locs cells slots ls h1 h2 h3 h4 h5 (cns g2 h6)
  have k' : W p l e R s m args below meth c H locs cells slots Q (F0 m nx ls ((if v = 0 then Value.null else Value.ref (v.toNat - 1)) :: st.map vp)) := k'
  have g1 : ls[i]? = some (.val (if v = 0 then Value.null else Value.ref (v.toNat - 1))) := g1
  by_cases hz : v = 0
  · rw [if_pos hz] at k' g1
    rcases hd with ⟨⟨j, hj, hd⟩, rfl⟩ | ⟨hd, rfl⟩
    · exact lv_aload_nN hx hb hd hj g1 k'
    · exact lv_aloadN hx hb hd g1 k'
  · rw [if_neg hz] at k' g1
    rcases hd with ⟨⟨j, hj, hd⟩, rfl⟩ | ⟨hd, rfl⟩
    · exact lv_aload_n hx hb hd hj g1 k'
    · exact lv_aload hx hb hd g1 k'
/-- stores -/
theorem ws_istore (hx : p.tables.exec = Jvm.exec) (hb : c.code = cc) {i : Nat} {v : Int} (hd : (∃ k : Fin 4, (k : Nat) = i ∧ decode cc pc = .ok (.istore_n k, 1)) ∧ nx = pc + 1 ∨ decode cc pc = .ok (.istore i, 2) ∧ nx = pc + 2) (hi : i < nL)
    (k : WS D cl dA NT ft B h0 p l e R s m args below meth c nL Q nx (lst1 L i (0, v)) st h) : WS D cl dA NT ft B h0 p l e R s m args below meth c nL Q pc L ((0, v) :: st) h := by
  intro H locs cells slots ls h1 h2 h3 h4 h5 h6
  obtain ⟨g1, g2⟩ := cnt h6
  have kk : ∀ ls' : Array Slot, lv_has ls' nL ((i, vv 0 v) :: (toL L).filter (fun q => !(q.1 == i) && !(q.1 + 1 == i && q.2.category == 2))) → W p l e R s m args below meth c H locs cells slots Q (F0 m nx ls' (st.map vp)) :=
    fun ls' h' => k H locs cells slots ls' h1 h2 h3 h4 (h5.st1 g1 (by decide) h') g2
  rcases hd with ⟨⟨j, hj, hd⟩, rfl⟩ | ⟨hd, rfl⟩
  · exact lv_istore_n hx hb hd hj h5.has hi rfl kk
  · exact lv_istore hx hb hd h5.has hi rfl kk
theorem ws_lstore (hx : p.tables.exec = Jvm.exec) (hb : c.code = cc) {i : Nat} {v : Int} (hd : (∃ k : Fin 4, (k : Nat) = i ∧ decode cc pc = .ok (.lstore_n k, 1)) ∧ nx = pc + 1 ∨ decode cc pc = .ok (.lstore i, 2) ∧ nx = pc + 2) (hi : i + 1 < nL)
    (k : WS D cl dA NT ft B h0 p l e R s m args below meth c nL Q nx (lst2 L i (1, v)) st h) : WS D cl dA NT ft B h0 p l e R s m args below meth c nL Q pc L ((1, v) :: st) h := by
  intro H locs cells slots ls h1 h2 h3 h4 h5 h6
  obtain ⟨g1, g2⟩ := cnt h6
  have kk : ∀ ls' : Array Slot, lv_has ls' nL ((i, vv 1 v) :: (toL L).filter (fun q => !(q.1 == i) && (!(q.1 == i + 1) && !(q.1 + 1 == i && q.2.category == 2)))) → W p l e R s m args below meth c H locs cells slots Q (F0 m nx ls' (st.map vp)) :=
    fun ls' h' => k H locs cells slots ls' h1 h2 h3 h4 (h5.st2 g1 h') g2
  rcases hd with ⟨⟨j, hj, hd⟩, rfl⟩ | ⟨hd, rfl⟩
  · exact lv_lstore_n hx hb hd hj h5.has hi rfl kk
  · exact lv_lstore hx hb hd h5.has hi rfl kk
theorem ws_astore (hx : p.tables.exec = Jvm.exec) (hb : c.code = cc) {i : Nat} {v : Int} (hd : (∃ k : Fin 4, (k : Nat) = i ∧ decode cc pc = .ok (.astore_n k, 1)) ∧ nx = pc + 1 ∨ decode cc pc = .ok (.astore i, 2) ∧ nx = pc + 2) (hi : i < nL)
    (k : WS D cl dA NT ft B h0 p l e R s m args below meth c nL Q nx (lst1 L i (2, v)) st h) : WS D cl dA NT ft B h0 p l e R s m args below meth c nL Q pc L ((2, v) :: st) h := by
  intro H locs cells slots ls h1 h2 h3 h4 h5 h6
  obtain ⟨g1, g2⟩ := cnt h6
  have kk : ∀ ls' : Array Slot, lv_has ls' nL ((i, vv 2 v) :: (toL L).filter (fun q => !(q.1 == i) && !(q.1 + 1 == i && q.2.category == 2))) → W p l e R s m args below meth c H locs cells slots Q (F0 m nx ls' (st.map vp)) :=
    fun ls' h' => k H locs cells slots ls' h1 h2 h3 h4 (h5.st1 g1 (by decide) h') g2
  have kk : ∀ ls' : Array Slot, lv_has ls' nL ((i, (if v = 0 then Value.null else Value.ref (v.toNat - 1))) :: (toL L).filter (fun q => !(q.1 == i) && !(q.1 + 1 == i && q.2.category == 2))) → W p l e R s m args below meth c H locs cells slots Q (F0 m nx ls' (st.map vp)) := kk
  show W p l e R s m args below meth c H locs cells slots Q (F0 m pc ls ((if v = 0 then Value.null else Value.ref (v.toNat - 1)) :: st.map vp))
  by_cases hz : v = 0
  · rw [if_pos hz] at kk ⊢
    rcases hd with ⟨⟨j, hj, hd⟩, rfl⟩ | ⟨hd, rfl⟩
    · exact lv_astore_nN hx hb hd hj h5.has hi rfl kk
    · exact lv_astoreN hx hb hd h5.has hi rfl kk
  · rw [if_neg hz] at kk ⊢
    rcases hd with ⟨⟨j, hj, hd⟩, rfl⟩ | ⟨hd, rfl⟩
    · exact lv_astore_n hx hb hd hj h5.has hi rfl kk
    · exact lv_astore hx hb hd h5.has hi rfl kk
theorem ws_iinc (hx : p.tables.exec = Jvm.exec) (hb : c.code = cc) {i : Nat} {v n : Int} (hd : decode cc pc = .ok (.iinc i n, 3)) (hi : i < nL) (hl : L[i]? = some (0, v))
    (k : WS D cl dA NT ft B h0 p l e R s m args below meth c nL Q (pc + 3) (lst1 L i (0, w32 (v + n))) st h) : WS D cl dA NT ft B h0 p l e R s m args below meth c nL Q pc L st h := by
  intro H locs cells slots ls h1 h2 h3 h4 h5 h6
  have kk : ∀ ls' : Array Slot, lv_has ls' nL ((i, vv 0 (w32 (v + n))) :: (toL L).filter (fun q => !(q.1 == i) && !(q.1 + 1 == i && q.2.category == 2))) → W p l e R s m args below meth c H locs cells slots Q (F0 m (pc + 3) ls' (st.map vp)) :=
    fun ls' h' => k H locs cells slots ls' h1 h2 h3 h4 (h5.st1 (w32_cn _) (by decide) h') h6
  have hm : (i, Value.int (Int32.ofInt v)) ∈ toL L := mem_toL.mpr ⟨0, v, hl, by decide, rfl⟩
  obtain ⟨j, hj⟩ := List.getElem?_of_mem hm
  exact lv_iinc hx hb hd h5.has hj (v := Int32.ofInt (w32 (v + n))) (by rw [of32, Int32.ofInt_add]) hi rfl kk
/-- two numbers -/
def ibop (o : Nat) : Instr := match o with
  | 96 => .iadd
  | 100 => .isub
  | 104 => .imul
  | 108 => .idiv
  | 112 => .irem
  | 126 => .iand
  | 128 => .ior
  | 130 => .ixor
  | 120 => .ishl
  | 122 => .ishr
  | _ => .iushr
def lbop (o : Nat) : Instr := match o with
  | 97 => .ladd
  | 101 => .lsub
  | 105 => .lmul
  | 109 => .ldiv
  | 113 => .lrem
  | 127 => .land
  | 129 => .lor
  | _ => .lxor
def lsop (o : Nat) : Instr := match o with
  | 121 => .lshl
  | 123 => .lshr
  | _ => .lushr
theorem ne0_32 {y : Int} (hc : cn 0 y) (h : y ≠ 0) : ¬ Int32.ofInt y = 0 := fun q => h ((eq32 hc (show cn 0 0 from ⟨by decide, by decide⟩)).mp q)
theorem ne0_64 {y : Int} (hc : cn 1 y) (h : y ≠ 0) : ¬ Int64.ofInt y = 0 := fun q => h ((eq64 hc (show cn 1 0 from ⟨by decide, by decide⟩)).mp q)
theorem div32 {x y : Int} (hx : cn 0 x) (hy : cn 0 y) : Int32.ofInt (w32 (x.tdiv y)) = Int32.ofInt x / Int32.ofInt y := by
  apply Int32.toInt_inj.mp
  rw [Int32.toInt_div, to32, to32, to32, w32_id hx, w32_id hy, w32_id (w32_cn _)]
  rfl
theorem div64 {x y : Int} (hx : cn 1 x) (hy : cn 1 y) : Int64.ofInt (w64 (x.tdiv y)) = Int64.ofInt x / Int64.ofInt y := by
  apply Int64.toInt_inj.mp
  rw [Int64.toInt_div, to64, to64, to64, w64_id hx, w64_id hy, w64_id (w64_cn _)]
  rfl
theorem rem32 {x y : Int} (hx : cn 0 x) (hy : cn 0 y) : Int32.ofInt (w32 (x.tmod y)) = Int32.ofInt x - Int32.ofInt x / Int32.ofInt y * Int32.ofInt y := by
  rw [← div32 hx hy, of32, of32, ← Int32.ofInt_mul, ← Int32.ofInt_sub]
  congr 1
  have := Int.mul_tdiv_add_tmod x y
  rw [Int.mul_comm] at this
  omega
theorem rem64 {x y : Int} (hx : cn 1 x) (hy : cn 1 y) : Int64.ofInt (w64 (x.tmod y)) = Int64.ofInt x - Int64.ofInt x / Int64.ofInt y * Int64.ofInt y := by
  rw [← div64 hx hy, of64, of64, ← Int64.ofInt_mul, ← Int64.ofInt_sub]
  congr 1
  have := Int.mul_tdiv_add_tmod x y
  rw [Int.mul_comm] at this
  omega
theorem ws_bop32 (hx : p.tables.exec = Jvm.exec) (hb : c.code = cc) {o : Nat} {x y : Int} (hd : decode cc pc = .ok (ibop o, 1)) (hz : o = 108 ∨ o = 112 → y ≠ 0)
    (k : WS D cl dA NT ft B h0 p l e R s m args below meth c nL Q (pc + 1) L ((0, bop32 o x y) :: st) h) : WS D cl dA NT ft B h0 p l e R s m args below meth c nL Q pc L ((0, y) :: (0, x) :: st) h := by
  intro H locs cells slots ls h1 h2 h3 h4 h5 h6
  obtain ⟨g1, g2⟩ := cnt h6
  obtain ⟨g3, g4⟩ := cnt g2
  have g1 : cn 0 y := g1
  have g3 : cn 0 x := g3
  have k' := k H locs cells slots ls h1 h2 h3 h4 h5 (cns (bop32_cn o x y) g4)
  have k' : W p l e R s m args below meth c H locs cells slots Q (F0 m (pc + 1) ls (.int (Int32.ofInt (bop32 o x y)) :: st.map vp)) := k'
  show W p l e R s m args below meth c H locs cells slots Q (F0 m pc ls (.int (Int32.ofInt y) :: .int (Int32.ofInt x) :: st.map vp))
  unfold ibop at hd
  split at hd
  · rw [show Int32.ofInt (bop32 96 x y) = Int32.ofInt x + Int32.ofInt y from (of32 _).trans (Int32.ofInt_add ..)] at k'; exact lv_iadd hx hb hd k'
  · rw [show Int32.ofInt (bop32 100 x y) = Int32.ofInt x - Int32.ofInt y from (of32 _).trans (Int32.ofInt_sub ..)] at k'; exact lv_isub hx hb hd k'
  · rw [show Int32.ofInt (bop32 104 x y) = Int32.ofInt x * Int32.ofInt y from (of32 _).trans (Int32.ofInt_mul ..)] at k'; exact lv_imul hx hb hd k'
  · rw [show Int32.ofInt (bop32 108 x y) = _ from div32 g3 g1] at k'; exact lv_idiv hx hb hd (ne0_32 g1 (hz (Or.inl rfl))) k'
  · rw [show Int32.ofInt (bop32 112 x y) = _ from rem32 g3 g1] at k'; exact lv_irem hx hb hd (ne0_32 g1 (hz (Or.inr rfl))) k'
  · rw [show Int32.ofInt (bop32 126 x y) = _ from of_to32 _] at k'; exact lv_iand hx hb hd k'
  · rw [show Int32.ofInt (bop32 128 x y) = _ from of_to32 _] at k'; exact lv_ior hx hb hd k'
  · rw [show Int32.ofInt (bop32 130 x y) = _ from of_to32 _] at k'; exact lv_ixor hx hb hd k'
  · rw [show Int32.ofInt (bop32 120 x y) = _ from of_to32 _] at k'; exact lv_ishl hx hb hd k'
  · rw [show Int32.ofInt (bop32 122 x y) = _ from of_to32 _] at k'; exact lv_ishr hx hb hd k'
  · next z1 z2 z3 z4 z5 z6 z7 z8 z9 z10 =>
    have e9 : bop32 o x y = (((Int32.ofInt x).toUInt32 >>> ((Int32.ofInt y).toUInt32 &&& Int32.toUInt32 31)).toInt32).toInt := by
      unfold bop32
      split <;> first | contradiction | rfl
    rw [e9, of_to32] at k'
    exact lv_iushr hx hb hd rfl k'
theorem ws_bop64 (hx : p.tables.exec = Jvm.exec) (hb : c.code = cc) {o : Nat} {x y : Int} (hd : decode cc pc = .ok (lbop o, 1)) (hz : o = 109 ∨ o = 113 → y ≠ 0)
    (k : WS D cl dA NT ft B h0 p l e R s m args below meth c nL Q (pc + 1) L ((1, bop64 o x y) :: st) h) : WS D cl dA NT ft B h0 p l e R s m args below meth c nL Q pc L ((1, y) :: (1, x) :: st) h := by
  intro H locs cells slots ls h1 h2 h3 h4 h5 h6
  obtain ⟨g1, g2⟩ := cnt h6
  obtain ⟨g3, g4⟩ := cnt g2
  have g1 : cn 1 y := g1
  have g3 : cn 1 x := g3
  have k' := k H locs cells slots ls h1 h2 h3 h4 h5 (cns (bop64_cn o x y) g4)
  have k' : W p l e R s m args below meth c H locs cells slots Q (F0 m (pc + 1) ls (.long (Int64.ofInt (bop64 o x y)) :: st.map vp)) := k'
  show W p l e R s m args below meth c H locs cells slots Q (F0 m pc ls (.long (Int64.ofInt y) :: .long (Int64.ofInt x) :: st.map vp))
  unfold lbop at hd
  split at hd
  · rw [show Int64.ofInt (bop64 97 x y) = Int64.ofInt x + Int64.ofInt y from (of64 _).trans (Int64.ofInt_add ..)] at k'; exact lv_ladd hx hb hd k'
  · rw [show Int64.ofInt (bop64 101 x y) = Int64.ofInt x - Int64.ofInt y from (of64 _).trans (Int64.ofInt_sub ..)] at k'; exact lv_lsub hx hb hd k'
  · rw [show Int64.ofInt (bop64 105 x y) = Int64.ofInt x * Int64.ofInt y from (of64 _).trans (Int64.ofInt_mul ..)] at k'; exact lv_lmul hx hb hd k'
  · rw [show Int64.ofInt (bop64 109 x y) = _ from div64 g3 g1] at k'; exact lv_ldiv hx hb hd (ne0_64 g1 (hz (Or.inl rfl))) k'
  · rw [show Int64.ofInt (bop64 113 x y) = _ from rem64 g3 g1] at k'; exact lv_lrem hx hb hd (ne0_64 g1 (hz (Or.inr rfl))) k'
  · rw [show Int64.ofInt (bop64 127 x y) = _ from of_to64 _] at k'; exact lv_land hx hb hd k'
  · rw [show Int64.ofInt (bop64 129 x y) = _ from of_to64 _] at k'; exact lv_lor hx hb hd k'
  · next z1 z2 z3 z4 z5 z6 z7 =>
    have e9 : bop64 o x y = (Int64.ofInt x ^^^ Int64.ofInt y).toInt := by
      unfold bop64
      split <;> first | contradiction | rfl
    rw [e9, of_to64] at k'
    exact lv_lxor hx hb hd k'
theorem ws_sop64 (hx : p.tables.exec = Jvm.exec) (hb : c.code = cc) {o : Nat} {x y : Int} (hd : decode cc pc = .ok (lsop o, 1))
    (k : WS D cl dA NT ft B h0 p l e R s m args below meth c nL Q (pc + 1) L ((1, sop64 o x y) :: st) h) : WS D cl dA NT ft B h0 p l e R s m args below meth c nL Q pc L ((0, y) :: (1, x) :: st) h := by
  intro H locs cells slots ls h1 h2 h3 h4 h5 h6
  obtain ⟨g1, g2⟩ := cnt h6
  obtain ⟨g3, g4⟩ := cnt g2
  have k' := k H locs cells slots ls h1 h2 h3 h4 h5 (cns (sop64_cn o x y) g4)
  have k' : W p l e R s m args below meth c H locs cells slots Q (F0 m (pc + 1) ls (.long (Int64.ofInt (sop64 o x y)) :: st.map vp)) := k'
  show W p l e R s m args below meth c H locs cells slots Q (F0 m pc ls (.int (Int32.ofInt y) :: .long (Int64.ofInt x) :: st.map vp))
  unfold lsop at hd
  split at hd
  · rw [show Int64.ofInt (sop64 121 x y) = _ from of_to64 _] at k'; exact lv_lshl hx hb hd rfl k'
  · rw [show Int64.ofInt (sop64 123 x y) = _ from of_to64 _] at k'; exact lv_lshr hx hb hd rfl k'
  · next z1 z2 =>
    have e9 : sop64 o x y = (((Int64.ofInt x).toUInt64 >>> ((Int32.ofInt y).toInt64.toUInt64 &&& Int64.toUInt64 63)).toInt64).toInt := by
      unfold sop64
      split <;> first | contradiction | rfl
    rw [e9, of_to64] at k'
    exact lv_lushr hx hb hd rfl k'
/-- one number: 0 ineg, 1 lneg, 2 i2l, 3 l2i, 4 i2b, 5 i2c -/
def uop (o : Nat) (x : Int) : Int := match o with
  | 0 => w32 (-x)
  | 1 => w64 (-x)
  | 2 => x
  | 3 => w32 x
  | 4 => x.bmod 256
  | _ => x.emod 65536
def uins (o : Nat) : Instr := match o with
  | 0 => .ineg
  | 1 => .lneg
  | 2 => .i2l
  | 3 => .l2i
  | 4 => .i2b
  | _ => .i2c
def ufr (o : Nat) : Nat := match o with
  | 1 => 1
  | 3 => 1
  | _ => 0
def uto (o : Nat) : Nat := match o with
  | 1 => 1
  | 2 => 1
  | _ => 0
theorem uop_cn {o : Nat} {x : Int} (h : cn (ufr o) x) : cn (uto o) (uop o x) := by
  match o, h with
  | 0, _ => exact w32_cn _
  | 1, _ => exact w64_cn _
  | 2, h =>
    have h : -2147483648 ≤ x ∧ x < 2147483648 := h
    show -9223372036854775808 ≤ x ∧ x < 9223372036854775808
    omega
  | 3, _ => exact w32_cn _
  | 4, _ =>
    have h1 := @Int.le_bmod x 256 (by decide)
    have h2 := @Int.bmod_lt x 256 (by decide)
    show -2147483648 ≤ x.bmod 256 ∧ x.bmod 256 < 2147483648
    omega
  | n + 5, _ =>
    show -2147483648 ≤ x.emod 65536 ∧ x.emod 65536 < 2147483648
    have h1 := Int.emod_nonneg x (show (65536 : Int) ≠ 0 by decide)
    have h2 := Int.emod_lt_of_pos x (show (0 : Int) < 65536 by decide)
    have e : x.emod 65536 = x % 65536 := rfl
    omega
theorem uop_5 (x : Int) : ((Int32.ofInt x).toUInt32 % 65536).toInt32 = Int32.ofInt (x.emod 65536) := by
  apply Int32.toInt_inj.mp
  rw [to32]
  have e1 : ((Int32.ofInt x).toUInt32 % 65536).toNat = (x % 65536).toNat := by
    rw [UInt32.toNat_mod]
    have : (Int32.ofInt x).toUInt32.toNat = (x % 4294967296).toNat := by
      show (BitVec.ofInt 32 x).toNat = _
      rw [BitVec.toNat_ofInt]
      rfl
    rw [this]
    show (x % 4294967296).toNat % 65536 = _
    omega
  have e2 : ((Int32.ofInt x).toUInt32 % 65536).toInt32.toInt = (((Int32.ofInt x).toUInt32 % 65536).toNat : Int).bmod 4294967296 := by
    show (((Int32.ofInt x).toUInt32 % 65536).toBitVec).toInt = _
    rw [BitVec.toInt_eq_toNat_bmod]
    rfl
  rw [e2, e1]
  show _ = (x % 65536).bmod 4294967296
  congr 1
  omega
theorem ws_uop (hx : p.tables.exec = Jvm.exec) (hb : c.code = cc) {o : Nat} {x : Int} (hd : decode cc pc = .ok (uins o, 1))
    (k : WS D cl dA NT ft B h0 p l e R s m args below meth c nL Q (pc + 1) L ((uto o, uop o x) :: st) h) : WS D cl dA NT ft B h0 p l e R s m args below meth c nL Q pc L ((ufr o, x) :: st) h := by
  intro H locs cells slots ls h1 h2 h3 h4 h5 h6
  obtain ⟨g1, g2⟩ := cnt h6
  have k' := k H locs cells slots ls h1 h2 h3 h4 h5 (cns (uop_cn g1) g2)
  match o, hd, k', g1 with
  | 0, hd, k', g1 =>
    have k' : W p l e R s m args below meth c H locs cells slots Q (F0 m (pc + 1) ls (.int (Int32.ofInt (w32 (-x))) :: st.map vp)) := k'
    rw [of32, Int32.ofInt_neg] at k'
    exact lv_ineg hx hb hd k'
  | 1, hd, k', g1 =>
    have k' : W p l e R s m args below meth c H locs cells slots Q (F0 m (pc + 1) ls (.long (Int64.ofInt (w64 (-x))) :: st.map vp)) := k'
    rw [of64, Int64.ofInt_neg] at k'
    exact lv_lneg hx hb hd k'
  | 2, hd, k', g1 =>
    have g1 : -2147483648 ≤ x ∧ x < 2147483648 := g1
    have g9 : x ≤ Int32.maxValue.toInt := by
      have : Int32.maxValue.toInt = 2147483647 := by decide
      omega
    exact lv_i2l hx hb hd (v := Int64.ofInt x) (Int32.toInt64_ofInt g1.1 g9) k'
  | 3, hd, k', g1 =>
    have k' : W p l e R s m args below meth c H locs cells slots Q (F0 m (pc + 1) ls (.int (Int32.ofInt (w32 x)) :: st.map vp)) := k'
    rw [of32] at k'
    exact lv_l2i hx hb hd (v := Int32.ofInt x) Int64.toInt32_ofInt k'
  | 4, hd, k', g1 =>
    refine lv_i2b hx hb hd (v := Int32.ofInt (x.bmod 256)) ?_ k'
    apply Int32.toInt_inj.mp
    have g1 : cn 0 x := g1
    have c2 : cn 0 (x.bmod 256) := uop_cn (o := 4) g1
    rw [to32, w32_id c2]
    rw [Int8.toInt_toInt32, Int32.toInt_toInt8, to32, w32_id g1]
  | n + 5, hd, k', g1 => exact lv_i2c hx hb hd (v := Int32.ofInt (x.emod 65536)) (uop_5 x) k'
theorem ws_lcmp (hx : p.tables.exec = Jvm.exec) (hb : c.code = cc) {x y : Int} (hd : decode cc pc = .ok (.lcmp, 1))
    (k : WS D cl dA NT ft B h0 p l e R s m args below meth c nL Q (pc + 1) L ((0, cmp64 x y) :: st) h) : WS D cl dA NT ft B h0 p l e R s m args below meth c nL Q pc L ((1, y) :: (1, x) :: st) h := by
  intro H locs cells slots ls h1 h2 h3 h4 h5 h6
  obtain ⟨g1, g2⟩ := cnt h6
  obtain ⟨g3, g4⟩ := cnt g2
  have g1 : cn 1 y := g1
  have g3 : cn 1 x := g3
  have k' := k H locs cells slots ls h1 h2 h3 h4 h5 (cns (cmp64_cn x y) g4)
  have k' : W p l e R s m args below meth c H locs cells slots Q (F0 m (pc + 1) ls (.int (Int32.ofInt (cmp64 x y)) :: st.map vp)) := k'
  refine W.lcmp hx hb (x := Int64.ofInt x) (y := Int64.ofInt y) hd ?_
  have e : lg_cmp (Int64.ofInt x) (Int64.ofInt y) = Int32.ofInt (cmp64 x y) := by
    unfold lg_cmp cmp64
    by_cases e1 : x < y
    · rw [if_neg (fun q => by have := (lt64 g1 g3).mp q; omega), if_neg (fun q => by have := (eq64 g3 g1).mp q; omega), if_pos e1]
      rfl
    · rw [if_neg e1]
      by_cases e2 : x = y
      · rw [if_pos e2, if_neg (fun q => by have := (lt64 g1 g3).mp q; omega), if_pos (by rw [e2])]
        rfl
      · rw [if_neg e2, if_pos ((lt64 g1 g3).mpr (by omega))]
        rfl
  rw [e]
  exact k'
/-- the stack's own rows -/
theorem vp_c1 {q : AV} (h : q.1 ≠ 1) : (vp q).category = 1 := by
  unfold vp
  rw [vv_cat, if_neg h]
theorem vp_c2 {q : AV} (h : q.1 = 1) : (vp q).category = 2 := by
  unfold vp
  rw [vv_cat, if_pos h]
theorem ws_dup (hx : p.tables.exec = Jvm.exec) (hb : c.code = cc) {q : AV} (hq : q.1 ≠ 1) (hd : decode cc pc = .ok (.dup, 1))
    (k : WS D cl dA NT ft B h0 p l e R s m args below meth c nL Q (pc + 1) L (q :: q :: st) h) : WS D cl dA NT ft B h0 p l e R s m args below meth c nL Q pc L (q :: st) h :=
  fun H locs cells slots ls h1 h2 h3 h4 h5 h6 => lv_dup hx hb hd (vp_c1 hq) (k H locs cells slots ls h1 h2 h3 h4 h5 (cns (cnt h6).1 h6))
theorem ws_dup_x1 (hx : p.tables.exec = Jvm.exec) (hb : c.code = cc) {q r : AV} (hq : q.1 ≠ 1) (hr : r.1 ≠ 1) (hd : decode cc pc = .ok (.dup_x1, 1))
    (k : WS D cl dA NT ft B h0 p l e R s m args below meth c nL Q (pc + 1) L (q :: r :: q :: st) h) : WS D cl dA NT ft B h0 p l e R s m args below meth c nL Q pc L (q :: r :: st) h :=
  fun H locs cells slots ls h1 h2 h3 h4 h5 h6 => lv_dup_x1 hx hb hd (vp_c1 hq) (vp_c1 hr) (k H locs cells slots ls h1 h2 h3 h4 h5 (cns (cnt h6).1 (cns (cnt (cnt h6).2).1 (cns (cnt h6).1 (cnt (cnt h6).2).2))))
theorem ws_dup2 (hx : p.tables.exec = Jvm.exec) (hb : c.code = cc) {q r : AV} (hq : q.1 ≠ 1) (hr : r.1 ≠ 1) (hd : decode cc pc = .ok (.dup2, 1))
    (k : WS D cl dA NT ft B h0 p l e R s m args below meth c nL Q (pc + 1) L (q :: r :: q :: r :: st) h) : WS D cl dA NT ft B h0 p l e R s m args below meth c nL Q pc L (q :: r :: st) h :=
  fun H locs cells slots ls h1 h2 h3 h4 h5 h6 => lv_dup2_11 hx hb hd (vp_c1 hq) (vp_c1 hr) (k H locs cells slots ls h1 h2 h3 h4 h5 (cns (cnt h6).1 (cns (cnt (cnt h6).2).1 h6)))
theorem ws_dup2L (hx : p.tables.exec = Jvm.exec) (hb : c.code = cc) {q : AV} (hq : q.1 = 1) (hd : decode cc pc = .ok (.dup2, 1))
    (k : WS D cl dA NT ft B h0 p l e R s m args below meth c nL Q (pc + 1) L (q :: q :: st) h) : WS D cl dA NT ft B h0 p l e R s m args below meth c nL Q pc L (q :: st) h :=
  fun H locs cells slots ls h1 h2 h3 h4 h5 h6 => lv_dup2_2 hx hb hd (vp_c2 hq) (k H locs cells slots ls h1 h2 h3 h4 h5 (cns (cnt h6).1 h6))
theorem ws_pop (hx : p.tables.exec = Jvm.exec) (hb : c.code = cc) {q : AV} (hq : q.1 ≠ 1) (hd : decode cc pc = .ok (.pop, 1))
    (k : WS D cl dA NT ft B h0 p l e R s m args below meth c nL Q (pc + 1) L st h) : WS D cl dA NT ft B h0 p l e R s m args below meth c nL Q pc L (q :: st) h :=
  fun H locs cells slots ls h1 h2 h3 h4 h5 h6 => lv_pop hx hb hd (vp_c1 hq) (k H locs cells slots ls h1 h2 h3 h4 h5 (cnt h6).2)
/-- branches: 0 eq, 1 ne, 2 lt, 3 ge, 4 gt, 5 le -/
def cnd (o : Nat) (x y : Int) : Prop := match o with
  | 0 => x = y
  | 1 => ¬ x = y
  | 2 => x < y
  | 3 => y ≤ x
  | 4 => y < x
  | _ => x ≤ y
def cndC (o : Nat) : Jvm.ClassFile.Cond := match o with
  | 0 => .eq
  | 1 => .ne
  | 2 => .lt
  | 3 => .ge
  | 4 => .gt
  | _ => .le
theorem cn00 : cn 0 0 := ⟨by decide, by decide⟩
theorem ws_icmp (hx : p.tables.exec = Jvm.exec) (hb : c.code = cc) {o tgt : Nat} {x y off : Int} (hd : decode cc pc = .ok (.if_icmp (cndC o) off, 3)) (ht : (pc : Int) + off = (tgt : Int))
    (kt : cnd o x y → WS D cl dA NT ft B h0 p l e R s m args below meth c nL Q tgt L st h) (kf : ¬ cnd o x y → WS D cl dA NT ft B h0 p l e R s m args below meth c nL Q (pc + 3) L st h) : WS D cl dA NT ft B h0 p l e R s m args below meth c nL Q pc L ((0, y) :: (0, x) :: st) h := by
  intro H locs cells slots ls h1 h2 h3 h4 h5 h6
  obtain ⟨g1, g2⟩ := cnt h6
  obtain ⟨g3, g4⟩ := cnt g2
  have g1 : cn 0 y := g1
  have g3 : cn 0 x := g3
  have kt : cnd o x y → W p l e R s m args below meth c H locs cells slots Q (F0 m tgt ls (st.map vp)) := fun q => kt q H locs cells slots ls h1 h2 h3 h4 h5 g4
  have kf : ¬ cnd o x y → W p l e R s m args below meth c H locs cells slots Q (F0 m (pc + 3) ls (st.map vp)) := fun q => kf q H locs cells slots ls h1 h2 h3 h4 h5 g4
  match o, hd, kt, kf with
  | 0, hd, kt, kf => exact lv_icmp_eq hx hb hd ht (fun q => kt ((eq32 g3 g1).mp q)) (fun q => kf fun z => q ((eq32 g3 g1).mpr z))
  | 1, hd, kt, kf => exact lv_icmp_ne hx hb hd ht (fun q => kt fun z => q ((eq32 g3 g1).mpr z)) (fun q => kf fun z => z ((eq32 g3 g1).mp q))
  | 2, hd, kt, kf => exact lv_icmp_lt hx hb hd ht (fun q => kt ((lt32 g3 g1).mp q)) (fun q => kf fun z => q ((lt32 g3 g1).mpr z))
  | 3, hd, kt, kf => exact lv_icmp_ge hx hb hd ht (fun q => kt ((le32 g1 g3).mp q)) (fun q => kf fun z => q ((le32 g1 g3).mpr z))
  | 4, hd, kt, kf => exact lv_icmp_gt hx hb hd ht (fun q => kt ((lt32 g1 g3).mp q)) (fun q => kf fun z => q ((lt32 g1 g3).mpr z))
  | n + 5, hd, kt, kf => exact lv_icmp_le hx hb hd ht (fun q => kt ((le32 g3 g1).mp q)) (fun q => kf fun z => q ((le32 g3 g1).mpr z))
theorem ws_if (hx : p.tables.exec = Jvm.exec) (hb : c.code = cc) {o tgt : Nat} {x off : Int} (hd : decode cc pc = .ok (.ifCond (cndC o) off, 3)) (ht : (pc : Int) + off = (tgt : Int))
    (kt : cnd o x 0 → WS D cl dA NT ft B h0 p l e R s m args below meth c nL Q tgt L st h) (kf : ¬ cnd o x 0 → WS D cl dA NT ft B h0 p l e R s m args below meth c nL Q (pc + 3) L st h) : WS D cl dA NT ft B h0 p l e R s m args below meth c nL Q pc L ((0, x) :: st) h := by
  intro H locs cells slots ls h1 h2 h3 h4 h5 h6
  obtain ⟨g3, g4⟩ := cnt h6
  have g3 : cn 0 x := g3
  have g1 := cn00
  have kt : cnd o x 0 → W p l e R s m args below meth c H locs cells slots Q (F0 m tgt ls (st.map vp)) := fun q => kt q H locs cells slots ls h1 h2 h3 h4 h5 g4
  have kf : ¬ cnd o x 0 → W p l e R s m args below meth c H locs cells slots Q (F0 m (pc + 3) ls (st.map vp)) := fun q => kf q H locs cells slots ls h1 h2 h3 h4 h5 g4
  match o, hd, kt, kf with
  | 0, hd, kt, kf => exact lv_if_eq hx hb hd ht (fun q => kt ((eq32 g3 g1).mp q)) (fun q => kf fun z => q ((eq32 g3 g1).mpr z))
  | 1, hd, kt, kf => exact lv_if_ne hx hb hd ht (fun q => kt fun z => q ((eq32 g3 g1).mpr z)) (fun q => kf fun z => z ((eq32 g3 g1).mp q))
  | 2, hd, kt, kf => exact lv_if_lt hx hb hd ht (fun q => kt ((lt32 g3 g1).mp q)) (fun q => kf fun z => q ((lt32 g3 g1).mpr z))
  | 3, hd, kt, kf => exact lv_if_ge hx hb hd ht (fun q => kt ((le32 g1 g3).mp q)) (fun q => kf fun z => q ((le32 g1 g3).mpr z))
  | 4, hd, kt, kf => exact lv_if_gt hx hb hd ht (fun q => kt ((lt32 g1 g3).mp q)) (fun q => kf fun z => q ((lt32 g1 g3).mpr z))
  | n + 5, hd, kt, kf => exact lv_if_le hx hb hd ht (fun q => kt ((le32 g3 g1).mp q)) (fun q => kf fun z => q ((le32 g3 g1).mpr z))
theorem ws_ifnull (hx : p.tables.exec = Jvm.exec) (hb : c.code = cc) {tgt : Nat} {x off : Int} (hd : decode cc pc = .ok (.ifnull off, 3)) (ht : (pc : Int) + off = (tgt : Int))
    (kt : x = 0 → WS D cl dA NT ft B h0 p l e R s m args below meth c nL Q tgt L st h) (kf : ¬ x = 0 → WS D cl dA NT ft B h0 p l e R s m args below meth c nL Q (pc + 3) L st h) : WS D cl dA NT ft B h0 p l e R s m args below meth c nL Q pc L ((2, x) :: st) h := by
  intro H locs cells slots ls h1 h2 h3 h4 h5 h6
  obtain ⟨g3, g4⟩ := cnt h6
  show W p l e R s m args below meth c H locs cells slots Q (F0 m pc ls ((if x = 0 then Value.null else Value.ref (x.toNat - 1)) :: st.map vp))
  by_cases hz : x = 0
  · rw [if_pos hz]
    exact lv_ifnullN hx hb hd ht (kt hz H locs cells slots ls h1 h2 h3 h4 h5 g4)
  · rw [if_neg hz]
    exact lv_ifnull hx hb hd (kf hz H locs cells slots ls h1 h2 h3 h4 h5 g4)
theorem ws_ifnonnull (hx : p.tables.exec = Jvm.exec) (hb : c.code = cc) {tgt : Nat} {x off : Int} (hd : decode cc pc = .ok (.ifnonnull off, 3)) (ht : (pc : Int) + off = (tgt : Int))
    (kt : ¬ x = 0 → WS D cl dA NT ft B h0 p l e R s m args below meth c nL Q tgt L st h) (kf : x = 0 → WS D cl dA NT ft B h0 p l e R s m args below meth c nL Q (pc + 3) L st h) : WS D cl dA NT ft B h0 p l e R s m args below meth c nL Q pc L ((2, x) :: st) h := by
  intro H locs cells slots ls h1 h2 h3 h4 h5 h6
  obtain ⟨g3, g4⟩ := cnt h6
  show W p l e R s m args below meth c H locs cells slots Q (F0 m pc ls ((if x = 0 then Value.null else Value.ref (x.toNat - 1)) :: st.map vp))
  by_cases hz : x = 0
  · rw [if_pos hz]
    exact lv_ifnonnullN hx hb hd (kf hz H locs cells slots ls h1 h2 h3 h4 h5 g4)
  · rw [if_neg hz]
    exact lv_ifnonnull hx hb hd ht (kt hz H locs cells slots ls h1 h2 h3 h4 h5 g4)
theorem ws_goto (hx : p.tables.exec = Jvm.exec) (hb : c.code = cc) {tgt : Nat} {off : Int} (hd : decode cc pc = .ok (.goto off, 3)) (ht : (pc : Int) + off = (tgt : Int))
    (k : WS D cl dA NT ft B h0 p l e R s m args below meth c nL Q tgt L st h) : WS D cl dA NT ft B h0 p l e R s m args below meth c nL Q pc L st h :=
  fun H locs cells slots ls h1 h2 h3 h4 h5 h6 => lv_goto hx hb hd ht (k H locs cells slots ls h1 h2 h3 h4 h5 h6)
/-- a switch goes to the place that its table says -/
theorem ws_table (hx : p.tables.exec = Jvm.exec) (hb : c.code = cc) {tgt len : Nat} {x dflt lo hi : Int} {offs : Array Int} (hd : decode cc pc = .ok (.tableswitch dflt lo hi offs, len))
    (ht : (x < lo ∨ hi < x) ∧ (pc : Int) + dflt = (tgt : Int) ∨ ¬ x < lo ∧ ¬ hi < x ∧ ∃ off, offs[(x - lo).toNat]? = some off ∧ (pc : Int) + off = (tgt : Int))
    (k : WS D cl dA NT ft B h0 p l e R s m args below meth c nL Q tgt L st h) : WS D cl dA NT ft B h0 p l e R s m args below meth c nL Q pc L ((0, x) :: st) h := by
  intro H locs cells slots ls h1 h2 h3 h4 h5 h6
  obtain ⟨g3, g4⟩ := cnt h6
  have g3 : cn 0 x := g3
  have e : (Int32.ofInt x).toInt = x := by rw [to32, w32_id g3]
  have k' := k H locs cells slots ls h1 h2 h3 h4 h5 g4
  rcases ht with ⟨t1, t2⟩ | ⟨t1, t2, off, t3, t4⟩
  · exact lv_tableOut hx hb hd (x := Int32.ofInt x) (by rw [e]; exact t1) t2 k'
  · exact lv_tableIn hx hb hd (x := Int32.ofInt x) (by rw [e]; exact t1) (by rw [e]; exact t2) (by rw [e]; exact t3) t4 k'
theorem ws_lookup (hx : p.tables.exec = Jvm.exec) (hb : c.code = cc) {tgt len : Nat} {x dflt off : Int} {ps : Array (Int × Int)} (hd : decode cc pc = .ok (.lookupswitch dflt ps, len)) (hp : (ps.toList.zip (ps.toList.drop 1)).all (fun (a, next) => a.1 < next.1) = true) (ho : Op.lookupswitch.offset ps.toList dflt x = off) (ht : (pc : Int) + off = (tgt : Int))
    (k : WS D cl dA NT ft B h0 p l e R s m args below meth c nL Q tgt L st h) : WS D cl dA NT ft B h0 p l e R s m args below meth c nL Q pc L ((0, x) :: st) h := by
  intro H locs cells slots ls h1 h2 h3 h4 h5 h6
  obtain ⟨g3, g4⟩ := cnt h6
  have g3 : cn 0 x := g3
  have e : (Int32.ofInt x).toInt = x := by rw [to32, w32_id g3]
  exact lv_lookup hx hb hd (x := Int32.ofInt x) hp (by rw [e]; exact ho) ht (k H locs cells slots ls h1 h2 h3 h4 h5 g4)
end ROWS
