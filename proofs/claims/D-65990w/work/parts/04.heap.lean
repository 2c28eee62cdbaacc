/-! L1: rows of the heap -/
def cnm (t : FieldType) : String := match t with
  | .object C => C
  | t => t.toString
/-- what the tables say of the array classes -/
def KR (rt : Nat → FieldType) (dA : Nat → ClassId) (NT : Nat) (s : State) : Prop :=
  (∀ n, n + 4 < NT → ∃ (kA : Class) (comp : ClassId) (kc : Class), s.vm.classes[dA (n + 4)]? = some kA ∧ kA.kind = .array comp (rt n) ∧ s.vm.classes[comp]? = some kc ∧ s.vm.findClass (cnm (rt n)) = some comp) ∧
  (∀ t, t < NT → s.vm.findClass ("[" ++ (aT rt t).toString) = some (dA t)) ∧ ArrOfT s (dA 100) .int
theorem KR.moved {rt : Nat → FieldType} {dA : Nat → ClassId} {NT : Nat} {u U : State} (hvm : u.vm.Alike U.vm) (h : KR rt dA NT u) : KR rt dA NT U := by
  refine ⟨fun n hn => ?_, fun t ht => by rw [hvm.findClass]; exact h.2.1 t ht, arrOfT_moved hvm h.2.2⟩
  obtain ⟨kA, comp, kc, h1, h2, h3, h4⟩ := h.1 n hn
  obtain ⟨kA', hA', eA⟩ := hvm.2.2 _ _ h1
  obtain ⟨kc', hc', ec⟩ := hvm.2.2 _ _ h3
  exact ⟨kA', comp, kc', hA', by rw [eA]; exact h2, hc', by rw [hvm.findClass]; exact h4⟩
/-- a known array's cell is an array of its components -/
theorem okA_is {D : va_G} {cl : List vw_C} {rt : Nat → FieldType} {dA : Nat → ClassId} {NT t n : Nat} {s : State} {cX : Cell} {f : Nat → Value} (hK : va_K D cl (tysOf rt dA NT) s) (hKR : KR rt dA NT s) (ht : t < NT) (h : okA dA t cX) : s.isArrayOf (arrX cX n f) (aT rt t) := by
  refine ⟨h.2.2, ?_⟩
  show ∃ k, s.vm.classes[cX.cls]? = some k ∧ ∃ comp, k.kind = .array comp (aT rt t)
  rcases h.1 with e | ⟨e0, e⟩
  · have := ((hK.2 t _ (tysOf_at ht)).1 0 (fun _ => .null)).2
    rw [e]; exact this
  · have := (hKR.2.2 0 (fun _ => .null)).2
    subst e0
    rw [e]; exact this
theorem okA_cls {dA : Nat → ClassId} {t : Nat} {cX : Cell} (h : okA dA t cX) (ht : t ≠ 0) : cX.cls = dA t := h.1.resolve_right (fun z => ht z.1)
/-- the tag of a field's type: 3 a boolean -/
def tgT (ty : FieldType) : Nat := match ty with
  | .int => 0
  | .byte => 0
  | .char => 0
  | .short => 0
  | .long => 1
  | .boolean => 3
  | _ => 2
def noF (ty : FieldType) : Bool := match ty with
  | .float => false
  | .double => false
  | _ => true
theorem def_vv {ty : FieldType} (h : noF ty = true) : defaultValue ty = vv (vt (tgT ty)) 0 ∧ cn (vt (tgT ty)) 0 := by
  cases ty <;> first | exact ⟨rfl, by decide, by decide⟩ | exact ⟨rfl, show (0 : Int) ≤ 0 by decide⟩ | cases h
/-- a class as the tables have it -/
def ClsOK (cl : List vw_C) (ft : Nat → Nat → Nat) (ci : Nat) (C : String) (T : u_T) (N : Nat) (ty0 : Nat → FieldType) (Ts : List Cond) : Prop :=
  cl[ci]? = some (C, T, N) ∧ (∀ w ∈ u_ws C T N, w ∈ Ts) ∧ (∀ k, k < N → parseFieldDescriptor (T k).2.2.1 = some (ty0 k)) ∧ (∀ a, a < N → ∀ b, b < N → a ≠ b → (T a).2.1 ≠ (T b).2.1) ∧ ∀ k, k < N → ft ci k = tgT (ty0 k) ∧ noF (ty0 k) = true
/-- may be put into a field of a tag -/
def okPut (ty : FieldType) (t : Nat) (x : Int) : Prop := match ty with
  | .int => t = 0
  | .long => t = 1
  | .boolean => t = 0 ∧ (x = 0 ∨ x = 1)
  | .object _ => t = 2
  | .array _ => t = 2
  | _ => False
theorem okPut_ok {ty : FieldType} {t : Nat} {x : Int} (h : okPut ty t x) : narrow ty (vv t x) = vv t x ∧ fits ty (vv t x) = true ∧ vt (tgT ty) = t := by
  unfold okPut at h
  split at h
  · subst h; exact ⟨rfl, rfl, rfl⟩
  · subst h; exact ⟨rfl, rfl, rfl⟩
  · obtain ⟨rfl, rfl | rfl⟩ := h
    · exact ⟨rfl, rfl, rfl⟩
    · exact ⟨rfl, rfl, rfl⟩
  · subst h
    show narrow _ (if x = 0 then Value.null else Value.ref (x.toNat - 1)) = _ ∧ fits _ (if x = 0 then Value.null else Value.ref (x.toNat - 1)) = true ∧ _
    refine ⟨?_, ?_, rfl⟩
    · show _ = (if x = 0 then Value.null else Value.ref (x.toNat - 1))
      split <;> rfl
    · split <;> rfl
  · subst h
    show narrow _ (if x = 0 then Value.null else Value.ref (x.toNat - 1)) = _ ∧ fits _ (if x = 0 then Value.null else Value.ref (x.toNat - 1)) = true ∧ _
    refine ⟨?_, ?_, rfl⟩
    · show _ = (if x = 0 then Value.null else Value.ref (x.toNat - 1))
      split <;> rfl
    · split <;> rfl
  · exact h.elim
theorem hv_set (h : AH) (a k b j : Nat) (x : Int) : hv (hset h a k x) b j = if b = a then (if j = k then x else hv h b j) else hv h b j := rfl
theorem hk_set (h : AH) (a k b : Nat) (x : Int) : hk (hset h a k x) b = hk h b := rfl
theorem hnx_set (h : AH) (a k : Nat) (x : Int) : hnx (hset h a k x) = hnx h := rfl
theorem hus_set (h : AH) (a k : Nat) (x : Int) : hus (hset h a k x) = hus h := rfl
section HROWS
variable {D : va_G} {cl : List vw_C} {dA : Nat → ClassId} {NT : Nat} {ft : Nat → Nat → Nat} {B : Nat} {h0 : AH} {rt : Nat → FieldType}
variable {p : Program} {l : Launch} {e : Env} {R : Room} {s : State} {m : MethodId} {args : Array Value} {below : List Frame} {meth : Method} {c : Code} {nL : Nat} {Q : State → Prop}
variable {cc : ByteArray} {pc nx : Nat} {L : List AV} {st : List AV} {h : AH}
/-- a reference's value -/
theorem vp_ref {a : Nat} : vp (2, (a : Int) + 1) = .ref a := by
  show (if (a : Int) + 1 = 0 then Value.null else Value.ref (((a : Int) + 1).toNat - 1)) = _
  rw [if_neg (by omega)]
  congr 1
/-- a field's link, plain or a nest mate's -/
def FLk (s : State) (args : Array Value) (own : String) (idx : Nat) (T : u_T) (k : Nat) : Prop :=
  ∃ ref : String, (∀ x, s.fieldFound? (T k).1 (T k).2.1 (T k).2.2.1 = some x → s.fieldFound? ref (T k).2.1 (T k).2.2.1 = some x) ∧ ((Cond.fieldLink own idx ref (T k).2.1 (T k).2.2.1).before args s = true ∨ ∃ host, (Cond.fieldLinkNest own idx ref (T k).2.1 (T k).2.2.1 host).before args s = true)
theorem ws_get (hx : p.tables.exec = Jvm.exec) (hb : c.code = cc) {Ts : List Cond} (hts : ∀ w ∈ Ts, w.before args s = true) {own C : String} {T : u_T} {N ci k a idx : Nat} {ty0 : Nat → FieldType} (hc : ClsOK cl ft ci C T N ty0 Ts) (hK : va_K D cl (tysOf rt dA NT) s) (hown : s.vm.findClass own = some m.cls)
    (hk1 : k < N) (hlink : FLk s args own idx T k) (hd : decode cc pc = .ok (.getfield idx, 3)) (ho : hk h a = (1, ci))
    (kk : WS D cl dA NT ft B h0 p l e R s m args below meth c nL Q (pc + 3) L ((vt (ft ci k), hv h a k) :: st) h) : WS D cl dA NT ft B h0 p l e R s m args below meth c nL Q pc L ((2, (a : Int) + 1) :: st) h := by
  intro H locs cells slots ls h1 h2 h3 h4 h5 h6
  obtain ⟨g3, g4⟩ := cnt h6
  obtain ⟨r, cell, c1, c2, c3, c4, c5m, c5⟩ := h1.2.1 a ci ho
  have hr : r = (C, T, N) := Option.some.inj (c1.symm.trans hc.1)
  subst hr
  obtain ⟨c6, c7⟩ := c5 k hk1
  have k' := kk H locs cells slots ls h1 h2 h3 h4 h5 (cns c7 g4)
  rw [List.map_cons, vp_ref]
  obtain ⟨hS, hfc, kC, hkC, hkind⟩ := hK.1 ci _ hc.1
  obtain ⟨cf, kf, fi, f, hi, hsl⟩ := hS k hk1
  obtain ⟨ref, hsame, hlink | ⟨host, hlink⟩⟩ := hlink
  · exact W.getf hx hb hown hlink (hsame _ hi) (u_facts hfc hkC (u_lays hts hc.2.1 hk1) hi).1 c2 c4.1 (by rw [hsl]; exact c6) rfl rfl hd k'
  · exact va_Wgetf hx hb hown hlink (hsame _ hi) (u_facts hfc hkC (u_lays hts hc.2.1 hk1) hi).1 c2 c4.1 (by rw [hsl]; exact c6) rfl rfl hd k'
/-- the heap's picture behind a store into an object -/
theorem RH.put {H H1 : Heap} {a ci k : Nat} {C : String} {T : u_T} {N : Nat} {x : Int} {cell : Cell} (hR : RH D cl dA NT ft h H) (ho : hk h a = (1, ci)) (hc : cl[ci]? = some (C, T, N)) (hk1 : k < N) (hcn : cn (vt (ft ci k)) x)
    (hcell : H[a]? = some cell) (hap : ∀ x y, x < N → y < N → x ≠ y → (D.2 ci) x ≠ (D.2 ci) y)
    (e1 : H1[a]? = some (cell.setSlot (D.2 ci k) (vv (vt (ft ci k)) x))) (e2 : H1.size = H.size) (e3 : ∀ q, q ≠ a → H1[q]? = H[q]?) : RH D cl dA NT ft (hset h a k x) H1 := by
  obtain ⟨r1, r2, r3⟩ := hR
  refine ⟨by rw [hnx_set, r1, e2], fun b cj hb => ?_, fun b t n hb => ?_⟩
  · rw [hk_set] at hb
    by_cases hba : b = a
    · subst hba
      have : cj = ci := by rw [ho] at hb; cases hb; rfl
      subst this
      obtain ⟨r, cell', c1, c2, c3, c4, c5m, c5⟩ := r2 b cj ho
      have hcl : cell' = cell := Option.some.inj (c2.symm.trans hcell)
      subst hcl
      have hr : r = (C, T, N) := Option.some.inj (c1.symm.trans hc)
      subst hr
      refine ⟨(C, T, N), _, hc, e1, c3, c4, fun q => ⟨(c5m q).1, (c5m q).2.1, (Array.size_setIfInBounds ..).trans (c5m q).2.2⟩, fun j hj => ?_⟩
      obtain ⟨g1, g2⟩ := c5 j hj
      rw [hv_set, if_pos rfl]
      by_cases hjk : j = k
      · subst hjk
        rw [if_pos rfl]
        refine ⟨?_, hcn⟩
        show (cell'.slots.setIfInBounds _ _)[_]? = _
        rw [Array.getElem?_setIfInBounds_self_of_lt (k2_hasslot g1)]
      · rw [if_neg hjk]
        refine ⟨?_, g2⟩
        show (cell'.slots.setIfInBounds _ _)[_]? = _
        rw [Array.getElem?_setIfInBounds_ne (hap _ _ hk1 hj (Ne.symm hjk))]
        exact g1
    · obtain ⟨r, cell', c1, c2, c3, c4, c5m, c5⟩ := r2 b cj hb
      refine ⟨r, cell', c1, by rw [e3 b hba]; exact c2, c3, c4, c5m, fun j hj => ?_⟩
      rw [hv_set, if_neg hba]
      exact c5 j hj
  · rw [hk_set] at hb
    have hba : b ≠ a := fun q => by subst q; rw [ho] at hb; cases hb
    obtain ⟨g0, cX, gO, g1, g2, g3⟩ := r3 b t n hb
    refine ⟨g0, cX, gO, ?_, g2, fun j hj => ?_⟩
    · rw [e3 b hba, g1]
      simp only [hv_set, if_neg hba]
    · rw [hv_set, if_neg hba]
      exact g3 j hj
theorem ws_put (hx : p.tables.exec = Jvm.exec) (hb : c.code = cc) {Ts : List Cond} (hts : ∀ w ∈ Ts, w.before args s = true) {own C : String} {T : u_T} {N ci k a idx t : Nat} {x : Int} {ty0 : Nat → FieldType} (hc : ClsOK cl ft ci C T N ty0 Ts) (hK : va_K D cl (tysOf rt dA NT) s) (hown : s.vm.findClass own = some m.cls)
    (hk1 : k < N) (hlink : FLk s args own idx T k) (hd : decode cc pc = .ok (.putfield idx, 3)) (h29 : ci ≠ 29) (ho : hk h a = (1, ci)) (hB : B ≤ a) (hok : okPut (ty0 k) t x)
    (hfin : (T k).2.2.2 = false ∨ ((T k).2.2.2 = true ∧ meth.name = "<init>" ∧ (T k).1 = own ∧ ∃ ref : String, (∀ x, s.fieldFound? (T k).1 (T k).2.1 (T k).2.2.1 = some x → s.fieldFound? ref (T k).2.1 (T k).2.2.1 = some x) ∧ (Cond.fieldLink own idx ref (T k).2.1 (T k).2.2.1).before args s = true))
    (kk : WS D cl dA NT ft B h0 p l e R s m args below meth c nL Q (pc + 3) L st (hset h a k x)) : WS D cl dA NT ft B h0 p l e R s m args below meth c nL Q pc L ((t, x) :: (2, (a : Int) + 1) :: st) h := by
  intro H locs cells slots ls h1 h2 h3 h4 h5 h6
  obtain ⟨g1, g2⟩ := cnt h6
  obtain ⟨g3, g4⟩ := cnt g2
  obtain ⟨hn, hfit, htag⟩ := okPut_ok hok
  have htag : vt (ft ci k) = t := by rw [(hc.2.2.2.2 k hk1).1]; exact htag
  have hap := va_apart (own := own) hts hc.2.1 ty0 hc.2.2.1 hc.2.2.2.1 hK hc.1
  obtain ⟨r, cell, c1, c2, c3, c4, c5m, c5⟩ := h1.2.1 a ci ho
  have hr : r = (C, T, N) := Option.some.inj (c1.symm.trans hc.1)
  subst hr
  obtain ⟨c6, c7⟩ := c5 k hk1
  rw [List.map_cons, List.map_cons, vp_ref]
  obtain ⟨hS, hfc, kC, hkC, hkind⟩ := hK.1 ci _ hc.1
  obtain ⟨cf, kf, fi, f, hi, hsl⟩ := hS k hk1
  have hst := (u_facts hfc hkC (u_lays hts hc.2.1 hk1) hi).1
  have key : ∀ H' : Heap, H'[a]? = some (cell.setSlot f.slot (vp (t, x))) → H'.size = H.size → (∀ q, q ≠ a → H'[q]? = H[q]?) → W p l e R s m args below meth c H' (locs ++ [⟨a, f.slot⟩]) cells slots Q (F0 m (pc + 3) ls (st.map vp)) := by
    intro H' e1 e2 e3
    refine kk H' _ cells slots ls (h1.put ho hc.1 hk1 (x := x) (by rw [htag]; exact g1) c2 hap (by rw [htag, ← hsl]; exact e1) e2 e3) (h2.put e2 e3 hB) h3 h4 h5 g4
  have hd0 := hc.2.2.1 k hk1
  rcases hfin with hfin | ⟨hfin, hini, hdecl, ref, hsame, hlink⟩
  · have hlay := hts _ (hc.2.1 _ (u_in_lay hk1))
    unfold u_lay at hlay
    rw [if_neg (by rw [hfin]; decide)] at hlay
    have h9 := u_store hfc hkC hkind hlay hi hd0 hn hfit
    obtain ⟨ref, hsame, hlink | ⟨host, hlink⟩⟩ := hlink
    · exact W.putK hx hb (f := f) ⟨hown, hlink, ⟨_, _, _, hsame _ hi⟩, hst⟩ (by rw [c3]; exact h9) c2 (c4.2.2 h29) (by rw [hsl]; exact k2_hasslot c6) rfl rfl hd key
    · exact va_WputK hx hb (f := f) hown hlink (hsame _ hi) hst (by rw [c3]; exact h9) c2 (c4.2.2 h29) (by rw [hsl]; exact k2_hasslot c6) rfl rfl hd key
  · have hlay := hts _ (hc.2.1 _ (u_in_lay hk1))
    unfold u_lay at hlay
    rw [if_pos hfin] at hlay
    have hcf : m.cls = cf := by
      obtain ⟨_, _, c', _, _, _, -, -, hf', -, -, -, hown2, -⟩ := Cond.laysFinal_spec hlay
      have e1 : c' = cf := by have := hi.symm.trans hf'; simp at this; exact this.1.symm
      rw [hdecl] at hown2
      rw [← e1]; exact Option.some.inj (hown.symm.trans hown2)
    have h9 := u_fits hfc hkC hkind (Or.inr hlay) hi hd0 hn hfit
    exact W.putFinK hx hb hown hlink (hsame _ hi) hst hcf hini (by rw [c3]; exact h9) c2 (c4.2.2 h29) (by rw [hsl]; exact k2_hasslot c6) rfl rfl hd key
/-- an index within -/
theorem inb_of {i : Int} {n : Nat} (hc : cn 0 i) (h1 : 0 ≤ i) (h2 : i < n) : ¬ (Int32.ofInt i < 0 ∨ n ≤ (Int32.ofInt i).toNatClampNeg) ∧ (Int32.ofInt i).toNatClampNeg = i.toNat := by
  have e : (Int32.ofInt i).toNatClampNeg = i.toNat := by
    show (Int32.ofInt i).toInt.toNat = _
    rw [to32, w32_id hc]
  refine ⟨fun q => ?_, e⟩
  rcases q with q | q
  · have := (lt32 hc cn00).mp q
    omega
  · rw [e] at q
    omega
/-- an array's loads: 46 iaload, 47 laload, 50 aaload, 51 baload -/
def aldI (t : Nat) : Instr := match t with
  | 0 => .iaload
  | 1 => .laload
  | 2 => .baload
  | 3 => .baload
  | _ => .aaload
theorem rt_ref {rt : Nat → FieldType} (hrt : ∀ n, (rt n).isReference = true) (n : Nat) : (aT rt (n + 4)).isReference = true := hrt n
theorem ws_ald (hx : p.tables.exec = Jvm.exec) (hb : c.code = cc) (hrt : ∀ n, (rt n).isReference = true) {t n a : Nat} {i : Int} (hK : va_K D cl (tysOf rt dA NT) s) (hKR : KR rt dA NT s) (hd : decode cc pc = .ok (aldI t, 1)) (ho : hk h a = (t + 2, n)) (hi1 : 0 ≤ i) (hi2 : i < n)
    (kk : WS D cl dA NT ft B h0 p l e R s m args below meth c nL Q (pc + 1) L ((et t, hv h a i.toNat) :: st) h) : WS D cl dA NT ft B h0 p l e R s m args below meth c nL Q pc L ((0, i) :: (2, (a : Int) + 1) :: st) h := by
  intro H locs cells slots ls h1 h2 h3 h4 h5 h6
  obtain ⟨g1, g2⟩ := cnt h6
  obtain ⟨g3, g4⟩ := cnt g2
  have g1 : cn 0 i := g1
  obtain ⟨c0, cX, cO, c1, c2, c3⟩ := h1.2.2 a t n ho
  obtain ⟨b1, b2⟩ := inb_of g1 hi1 hi2
  have hlt : i.toNat < n := by omega
  have k' := kk H locs cells slots ls h1 h2 h3 h4 h5 (cns (ea_cn (c3 _ hlt)) g4)
  rw [List.map_cons, List.map_cons, vp_ref]
  have hA := okA_is (n := n) (f := fun j => vv (et t) (hv h a j)) hK hKR c0 cO
  have cU := cO.2.1
  have hin : ¬ (Int32.ofInt i < 0 ∨ (arrX cX n (fun j => vv (et t) (hv h a j))).slots.size ≤ (Int32.ofInt i).toNatClampNeg) := by rw [arrX_size]; exact b1
  have hval : (arrX cX n (fun j => vv (et t) (hv h a j))).slots[(Int32.ofInt i).toNatClampNeg]? = some (vv (et t) (hv h a i.toNat)) := by rw [b2, arrX_read _ _ hlt]
  match t, hd, hA, hin, hval, c1, k' with
  | 0, hd, hA, hin, hval, c1, k' => exact W.iald hx hb c1 hA cU hin hval rfl rfl hd k'
  | 1, hd, hA, hin, hval, c1, k' => exact W.lald hx hb c1 hA cU hin hval rfl rfl hd k'
  | 2, hd, hA, hin, hval, c1, k' => exact W.bald hx hb c1 hA cU hin hval rfl rfl hd k'
  | 3, hd, hA, hin, hval, c1, k' => exact W.zald hx hb c1 hA cU hin hval rfl rfl hd k'
  | n + 4, hd, hA, hin, hval, c1, k' => exact W.aald hx hb c1 hA (rt_ref hrt n) cU hin hval rfl rfl hd k'
theorem ws_alen (hx : p.tables.exec = Jvm.exec) (hb : c.code = cc) {t n a : Nat} (hK : va_K D cl (tysOf rt dA NT) s) (hKR : KR rt dA NT s) (hd : decode cc pc = .ok (.arraylength, 1)) (ho : hk h a = (t + 2, n))
    (kk : WS D cl dA NT ft B h0 p l e R s m args below meth c nL Q (pc + 1) L ((0, (n : Int)) :: st) h) : WS D cl dA NT ft B h0 p l e R s m args below meth c nL Q pc L ((2, (a : Int) + 1) :: st) h := by
  intro H locs cells slots ls h1 h2 h3 h4 h5 h6
  obtain ⟨g3, g4⟩ := cnt h6
  obtain ⟨c0, cX, cO, c1, c2, c3⟩ := h1.2.2 a t n ho
  have k' := kk H locs cells slots ls h1 h2 h3 h4 h5 (cns (show cn 0 (n : Int) from ⟨by omega, by omega⟩) g4)
  rw [List.map_cons, vp_ref]
  have hA := okA_is (n := n) (f := fun j => vv (et t) (hv h a j)) hK hKR c0 cO
  have cU := cO.2.1
  exact W.alen (n := Int32.ofInt n) hx hb c1 hA (by rw [arrX_size]; rfl) rfl rfl hd k'
/-- an array's stores -/
def astI (t : Nat) : Instr := match t with
  | 0 => .iastore
  | 1 => .lastore
  | 2 => .bastore
  | 3 => .bastore
  | _ => .aastore
/-- what an array keeps of a number -/
def anar (t : Nat) (x : Int) : Int := match t with
  | 2 => x.bmod 256
  | 3 => x.emod 2
  | _ => x
theorem anar_ea {t : Nat} {x : Int} (h : cn (et t) x) : ea t (anar t x) := by
  match t, h with
  | 0, h => exact h
  | 1, h => exact h
  | 2, h =>
    have h1 := @Int.le_bmod x 256 (by decide)
    have h2 := @Int.bmod_lt x 256 (by decide)
    show -128 ≤ x.bmod 256 ∧ x.bmod 256 < 128
    omega
  | 3, h =>
    have e : x.emod 2 = x % 2 := rfl
    show x.emod 2 = 0 ∨ x.emod 2 = 1
    omega
  | n + 4, h => exact h
theorem anar_cn {t : Nat} {x : Int} (h : cn (et t) x) : cn (et t) (anar t x) := ea_cn (anar_ea h)
theorem RH.ast {H H1 : Heap} {a t n i : Nat} {x : Int} {cX : Cell} (hR : RH D cl dA NT ft h H) (hO : okA dA t cX) (ho : hk h a = (t + 2, n)) (hcn : ea t x)
    (e1 : H1[a]? = some ((arrX cX n (fun j => vv (et t) (hv h a j))).setSlot i (vv (et t) x))) (e2 : H1.size = H.size) (e3 : ∀ q, q ≠ a → H1[q]? = H[q]?) : RH D cl dA NT ft (hset h a i x) H1 := by
  obtain ⟨r1, r2, r3⟩ := hR
  refine ⟨by rw [hnx_set, r1, e2], fun b cj hb => ?_, fun b t' n' hb => ?_⟩
  · rw [hk_set] at hb
    have hba : b ≠ a := fun q => by subst q; rw [ho] at hb; cases hb
    obtain ⟨r, cell', c1, c2, c3, c4, c5m, c5⟩ := r2 b cj hb
    refine ⟨r, cell', c1, by rw [e3 b hba]; exact c2, c3, c4, c5m, fun j hj => ?_⟩
    rw [hv_set, if_neg hba]
    exact c5 j hj
  · rw [hk_set] at hb
    by_cases hba : b = a
    · subst hba
      have : t' = t ∧ n' = n := by rw [ho] at hb; cases hb; exact ⟨rfl, rfl⟩
      obtain ⟨rfl, rfl⟩ := this
      obtain ⟨g0, cY, gO, g1, g2, g3⟩ := r3 b t' n' ho
      refine ⟨g0, cX, hO, ?_, g2, fun j hj => ?_⟩
      · rw [e1, arrX_store]
        congr 2
        funext j
        unfold updV
        rw [hv_set, if_pos rfl]
        split <;> rfl
      · rw [hv_set, if_pos rfl]
        split
        · exact hcn
        · exact g3 j hj
    · obtain ⟨g0, cY, gO, g1, g2, g3⟩ := r3 b t' n' hb
      refine ⟨g0, cY, gO, ?_, g2, fun j hj => ?_⟩
      · rw [e3 b hba, g1]
        simp only [hv_set, if_neg hba]
      · rw [hv_set, if_neg hba]
        exact g3 j hj
theorem vp_narB (x : Int) (hc : cn 0 x) : (Int32.ofInt x).toInt8.toInt32 = Int32.ofInt (x.bmod 256) := by
  apply Int32.toInt_inj.mp
  have c2 : cn 0 (x.bmod 256) := uop_cn (o := 4) hc
  rw [to32, w32_id c2, Int8.toInt_toInt32, Int32.toInt_toInt8, to32, w32_id hc]
theorem vp_narZ (x : Int) (hc : cn 0 x) : Int32.ofInt x &&& 1 = Int32.ofInt (x.emod 2) := by
  apply Int32.toInt_inj.mp
  have c2 : cn 0 (x.emod 2) := anar_cn (t := 3) hc
  rw [to32, w32_id c2]
  have e : x.emod 2 = x % 2 := rfl
  show (BitVec.ofInt 32 x &&& 1#32).toInt = x % 2
  rw [BitVec.toInt_eq_toNat_bmod, BitVec.toNat_and]
  have e1 : (BitVec.ofInt 32 x).toNat &&& (1#32).toNat = (BitVec.ofInt 32 x).toNat % 2 := Nat.and_one_is_mod _
  rw [e1, BitVec.toNat_ofInt]
  have e2 : ((x % ((2 ^ 32 : Nat) : Int)).toNat % 2 : Nat) = (x % 2).toNat := by omega
  rw [e2]
  have e3 : (((x % 2).toNat : Nat) : Int) = x % 2 := by omega
  rw [e3]
  exact Int.bmod_eq_of_le (by omega) (by omega)
theorem ws_ast (hx : p.tables.exec = Jvm.exec) (hb : c.code = cc) {t n a : Nat} {i x : Int} (hK : va_K D cl (tysOf rt dA NT) s) (hKR : KR rt dA NT s) (hd : decode cc pc = .ok (astI t, 1)) (ht : t < 4) (ho : hk h a = (t + 2, n)) (hi1 : 0 ≤ i) (hi2 : i < n) (hB : B ≤ a)
    (kk : WS D cl dA NT ft B h0 p l e R s m args below meth c nL Q (pc + 1) L st (hset h a i.toNat (anar t x))) : WS D cl dA NT ft B h0 p l e R s m args below meth c nL Q pc L ((et t, x) :: (0, i) :: (2, (a : Int) + 1) :: st) h := by
  intro H locs cells slots ls h1 h2 h3 h4 h5 h6
  obtain ⟨f1, f2⟩ := cnt h6
  obtain ⟨g1, g2⟩ := cnt f2
  obtain ⟨g3, g4⟩ := cnt g2
  have g1 : cn 0 i := g1
  have f1 : cn (et t) x := f1
  obtain ⟨c0, cX, cO, c1, c2, c3⟩ := h1.2.2 a t n ho
  obtain ⟨b1, b2⟩ := inb_of g1 hi1 hi2
  have hlt : i.toNat < n := by omega
  rw [List.map_cons, List.map_cons, List.map_cons, vp_ref]
  have hA := okA_is (n := n) (f := fun j => vv (et t) (hv h a j)) hK hKR c0 cO
  have cU := cO.2.1
  have hin : ¬ (Int32.ofInt i < 0 ∨ (arrX cX n (fun j => vv (et t) (hv h a j))).slots.size ≤ (Int32.ofInt i).toNatClampNeg) := by rw [arrX_size]; exact b1
  have key : ∀ H' : Heap, H'[a]? = some ((arrX cX n (fun j => vv (et t) (hv h a j))).setSlot (Int32.ofInt i).toNatClampNeg (vv (et t) (anar t x))) → H'.size = H.size → (∀ q, q ≠ a → H'[q]? = H[q]?) → W p l e R s m args below meth c H' (locs ++ [⟨a, (Int32.ofInt i).toNatClampNeg⟩]) cells slots Q (F0 m (pc + 1) ls (st.map vp)) := by
    intro H' e1 e2 e3
    rw [b2] at e1
    exact kk H' _ cells slots ls (h1.ast cO ho (anar_ea f1) e1 e2 e3) (h2.put e2 e3 hB) h3 h4 h5 g4
  obtain rfl | rfl | rfl | rfl : t = 0 ∨ t = 1 ∨ t = 2 ∨ t = 3 := by omega
  · exact W.iast hx hb c1 hA cU hin rfl rfl hd key
  · exact W.last hx hb c1 hA cU hin rfl rfl hd key
  · have e9 : narrow .byte (.int (Int32.ofInt x)) = vv (et 2) (anar 2 x) := congrArg Value.int (vp_narB x f1)
    refine W.bast (x := Int32.ofInt x) hx hb c1 hA cU hin rfl rfl hd (fun H' e1 e2 e3 => key H' ?_ e2 e3)
    rw [e1, e9]
  · have e9 : narrow .boolean (.int (Int32.ofInt x)) = vv (et 3) (anar 3 x) := congrArg Value.int (vp_narZ x f1)
    refine W.zast (x := Int32.ofInt x) hx hb c1 hA cU hin rfl rfl hd (fun H' e1 e2 e3 => key H' ?_ e2 e3)
    rw [e1, e9]
end HROWS
