/-! L1: the abstract machine -/
abbrev Rs : Type := (Nat × AV) × AH
/-- the tables of a program: code (method, place: what, a, b, the next place), switches, field tags, a class's slots, arguments, locals, a method's class, what a class selects, handlers, which cells an array of references takes -/
abbrev PT : Type := (Nat → Nat → Option (Nat × Nat × Int × Nat)) × (Nat → Nat → Int → Nat) × (Nat → Nat → Nat) × (Nat → Nat) × (Nat → Nat) × (Nat → Nat) × (Nat → Nat) × (Nat → Nat → Nat) × (Nat → Nat → Nat → Option (Option Nat)) × (Nat → Nat × Nat → Bool)
def pCode (P : PT) : Nat → Nat → Option (Nat × Nat × Int × Nat) := P.1
def pSw (P : PT) : Nat → Nat → Int → Nat := P.2.1
def pFt (P : PT) : Nat → Nat → Nat := P.2.2.1
def pNf (P : PT) : Nat → Nat := P.2.2.2.1
def pNa (P : PT) : Nat → Nat := P.2.2.2.2.1
def pNl (P : PT) : Nat → Nat := P.2.2.2.2.2.1
def pMc (P : PT) : Nat → Nat := P.2.2.2.2.2.2.1
def pVt (P : PT) : Nat → Nat → Nat := P.2.2.2.2.2.2.2.1
def pHn (P : PT) : Nat → Nat → Nat → Option (Option Nat) := P.2.2.2.2.2.2.2.2.1
def pRo (P : PT) : Nat → Nat × Nat → Bool := P.2.2.2.2.2.2.2.2.2
def ad (x : Int) : Nat := x.toNat - 1
def brc {α : Type} (o : Nat) (x y : Int) (t f : α) : α := match o with
  | 0 => if x = y then t else f
  | 1 => if x = y then f else t
  | 2 => if x < y then t else f
  | 3 => if x < y then f else t
  | 4 => if y < x then t else f
  | _ => if y < x then f else t
/-- the words of the stack's rest -/
def csum (st : List AV) : Nat := match st with
  | [] => 0
  | q :: r => (if q.1 = 1 then 2 else 1) + csum r
def entL (av : List AV) : List AV := match av with
  | [] => []
  | q :: r => if q.1 = 1 then q :: (9, 0) :: entL r else q :: entL r
def ent (n : Nat) (av : List AV) : List AV := entL av ++ List.replicate (n - (entL av).length) (9, 0)
def okp (t : Nat) (x : Int) : Bool := match t with
  | 3 => x == 0 || x == 1
  | _ => true
def thr (P : PT) (j pc : Nat) (L : List AV) (x : Int) (h : AH) (k : Nat → List AV → List AV → AH → Option Rs) : Option Rs :=
  match pHn P j pc (hk h (ad x)).2 with
  | some (some q) => k q L [(2, x)] h
  | some none => some ((1, (2, x)), h)
  | none => none
def aft (P : PT) (j pc nx : Nat) (L rest : List AV) (k : Nat → List AV → List AV → AH → Option Rs) (r : Option Rs) : Option Rs := match r with
  | none => none
  | some ((0, v), h) => k nx L (if v.1 = 9 then rest else v :: rest) h
  | some ((_, v), h) => thr P j pc L v.2 h k
/-- some places of the cell s come to the cell d -/
def hcpy (h : AH) (s d sp dp n : Nat) : AH := (h.1, fun b j => if b = d ∧ dp ≤ j ∧ j < dp + n then h.2.1 s (sp + (j - dp)) else h.2.1 b j, h.2.2)
def exec1 (P : PT) (gs : Nat → AV) (B : Nat) (j pc op a : Nat) (b : Int) (nx : Nat) (L st : List AV) (h : AH) (k : Nat → List AV → List AV → AH → Option Rs) (call : Nat → List AV → AH → Option Rs) : Option Rs :=
  match op with
  | 0 => k nx L ((0, b) :: st) h
  | 1 => k nx L ((1, b) :: st) h
  | 2 => k nx L ((2, 0) :: st) h
  | 3 => match L[a]? with
    | some q => if (q.1 : Int) = b then k nx L (q :: st) h else none
    | none => none
  | 4 => match st with
    | q :: r => if (q.1 : Int) = b then k nx (lst1 L a q) r h else none
    | [] => none
  | 5 => match st with
    | q :: r => if q.1 = 1 then k nx (lst2 L a q) r h else none
    | [] => none
  | 6 => match L[a]? with
    | some q => if q.1 = 0 then k nx (lst1 L a (0, w32 (q.2 + b))) st h else none
    | none => none
  | 7 => match st with
    | y :: x :: r => if y.1 = 0 ∧ x.1 = 0 then (if (a = 108 ∨ a = 112) ∧ y.2 = 0 then none else k nx L ((0, bop32 a x.2 y.2) :: r) h) else none
    | _ => none
  | 8 => match st with
    | y :: x :: r => if y.1 = 1 ∧ x.1 = 1 then (if (a = 109 ∨ a = 113) ∧ y.2 = 0 then none else k nx L ((1, bop64 a x.2 y.2) :: r) h) else none
    | _ => none
  | 9 => match st with
    | y :: x :: r => if y.1 = 0 ∧ x.1 = 1 then k nx L ((1, sop64 a x.2 y.2) :: r) h else none
    | _ => none
  | 10 => match st with
    | x :: r => if x.1 = ufr a then k nx L ((uto a, uop a x.2) :: r) h else none
    | [] => none
  | 11 => match st with
    | y :: x :: r => if y.1 = 1 ∧ x.1 = 1 then k nx L ((0, cmp64 x.2 y.2) :: r) h else none
    | _ => none
  | 12 => match st with
    | q :: r => if q.1 = 1 then none else k nx L (q :: q :: r) h
    | [] => none
  | 13 => match st with
    | q :: q2 :: r => if q.1 = 1 ∨ q2.1 = 1 then none else k nx L (q :: q2 :: q :: r) h
    | _ => none
  | 14 => match st with
    | q :: r => if q.1 = 1 then k nx L (q :: q :: r) h else (match r with
      | q2 :: r2 => if q2.1 = 1 then none else k nx L (q :: q2 :: q :: q2 :: r2) h
      | [] => none)
    | [] => none
  | 15 => match st with
    | q :: r => if q.1 = 1 then none else k nx L r h
    | [] => none
  | 16 => match st with
    | x :: r => if x.1 = 0 then brc a x.2 0 (k b.toNat L r h) (k nx L r h) else none
    | [] => none
  | 17 => match st with
    | y :: x :: r => if y.1 = 0 ∧ x.1 = 0 then brc a x.2 y.2 (k b.toNat L r h) (k nx L r h) else none
    | _ => none
  | 18 => match st with
    | x :: r => if x.1 = 2 then (if x.2 = 0 then k b.toNat L r h else k nx L r h) else none
    | [] => none
  | 19 => match st with
    | x :: r => if x.1 = 2 then (if x.2 = 0 then k nx L r h else k b.toNat L r h) else none
    | [] => none
  | 20 => k b.toNat L st h
  | 21 => match st with
    | x :: r => if x.1 = 0 then k (pSw P j pc x.2) L r h else none
    | [] => none
  | 22 => match st with
    | x :: r => if x.1 = 2 then (if 0 < x.2 ∧ hk h (ad x.2) = (1, a) then k nx L ((vt (pFt P a b.toNat), hv h (ad x.2) b.toNat) :: r) h else none) else none
    | [] => none
  | 23 => match st with
    | v :: x :: r => if x.1 = 2 ∧ v.1 = vt (pFt P a b.toNat) then (if 0 < x.2 ∧ hk h (ad x.2) = (1, a) ∧ B ≤ ad x.2 ∧ okp (pFt P a b.toNat) v.2 = true then k nx L r (hset h (ad x.2) b.toNat v.2) else none) else none
    | _ => none
  | 24 => match st with
    | i :: x :: r => if i.1 = 0 ∧ x.1 = 2 then (if 0 < x.2 ∧ (hk h (ad x.2)).1 = a + 2 ∧ 0 ≤ i.2 ∧ i.2 < (hk h (ad x.2)).2 then k nx L ((et a, hv h (ad x.2) i.2.toNat) :: r) h else none) else none
    | _ => none
  | 25 => match st with
    | v :: i :: x :: r => if i.1 = 0 ∧ x.1 = 2 ∧ v.1 = et a then (if 0 < x.2 ∧ (hk h (ad x.2)).1 = a + 2 ∧ 0 ≤ i.2 ∧ i.2 < (hk h (ad x.2)).2 ∧ B ≤ ad x.2 then k nx L r (hset h (ad x.2) i.2.toNat (anar a v.2)) else none) else none
    | _ => none
  | 26 => match st with
    | v :: i :: x :: r => if i.1 = 0 ∧ x.1 = 2 ∧ v.1 = 2 then (if 0 < x.2 ∧ (hk h (ad x.2)).1 = a + 4 + 2 ∧ 0 ≤ i.2 ∧ i.2 < (hk h (ad x.2)).2 ∧ B ≤ ad x.2 ∧ (v.2 = 0 ∨ (0 < v.2 ∧ pRo P a (hk h (ad v.2)) = true)) then k nx L r (hset h (ad x.2) i.2.toNat v.2) else none) else none
    | _ => none
  | 27 => match st with
    | x :: r => if x.1 = 2 then (if 0 < x.2 ∧ 2 ≤ (hk h (ad x.2)).1 then k nx L ((0, ((hk h (ad x.2)).2 : Int)) :: r) h else none) else none
    | [] => none
  | 28 => match st with
    | n :: r => if n.1 = 0 then (if 0 ≤ n.2 ∧ n.2 ≤ 16777216 then k nx L ((2, (hnx h : Int) + 1) :: r) (hnew h (a + 2, n.2.toNat) n.2.toNat) else none) else none
    | [] => none
  | 29 => k nx L ((2, (hnx h : Int) + 1) :: st) (hnew h (1, a) (pNf P a))
  | 30 => match st with
    | n :: r => if n.1 = 0 then (if 0 ≤ n.2 ∧ n.2 ≤ 16777216 then k nx L ((2, (hnx h : Int) + 1) :: r) (hnew h (a + 4 + 2, n.2.toNat) n.2.toNat) else none) else none
    | [] => none
  | 31 => k nx L (gs a :: st) h
  | 32 => if pNa P a ≤ st.length ∧ csum (st.drop (pNa P a)) ≤ 8 then aft P j pc nx L (st.drop (pNa P a)) k (call a (st.take (pNa P a)).reverse h) else none
  | 33 => match st.drop (pNa P a - 1) with
    | x :: r => if x.1 = 2 ∧ 0 < pNa P a ∧ csum r ≤ 8 then (if 0 < x.2 ∧ hk h (ad x.2) = (1, pMc P a) then aft P j pc nx L r k (call a (x :: (st.take (pNa P a - 1)).reverse) h) else none) else none
    | [] => none
  | 34 => match st.drop (pNa P a - 1) with
    | x :: r => if x.1 = 2 ∧ 0 < pNa P a ∧ csum r ≤ 8 then (if 0 < x.2 then aft P j pc nx L r k (call a (x :: (st.take (pNa P a - 1)).reverse) h) else none) else none
    | [] => none
  | 35 => match st.drop (pNa P a - 1) with
    | x :: r => if x.1 = 2 ∧ 0 < pNa P a ∧ csum r ≤ 8 then (if 0 < x.2 ∧ (hk h (ad x.2)).1 = 1 ∧ pVt P a (hk h (ad x.2)).2 ≠ 0 then aft P j pc nx L r k (call (pVt P a (hk h (ad x.2)).2) (x :: (st.take (pNa P a - 1)).reverse) h) else none) else none
    | [] => none
  | 36 => match st with
    | x :: r => if x.1 = 2 ∧ csum r ≤ 8 then (if 0 < x.2 then k nx L r h else none) else none
    | [] => none
  | 37 => if csum st ≤ 8 then k nx L ((2, (hnx h : Int) + 1) :: st) (hnew h (1, a) 6) else none
  | 38 => match st with
    | x :: r => if x.1 = 2 then (if 0 < x.2 ∧ (hk h (ad x.2)).1 = 1 then thr P j pc L x.2 h k else none) else none
    | [] => none
  | 39 => match st with
    | [q] => if q.1 = a then some ((0, q), h) else none
    | _ => none
  | 40 => match st with
    | [q] => if q.1 = 0 then (if q.2 = 0 ∨ q.2 = 1 then some ((0, q), h) else none) else none
    | _ => none
  | 41 => match st with
    | [] => some ((0, (9, 0)), h)
    | _ => none
  | 42 => match st with
    | n :: dp :: x :: sp :: y :: r => if n.1 = 0 ∧ dp.1 = 0 ∧ x.1 = 2 ∧ sp.1 = 0 ∧ y.1 = 2 ∧ csum r ≤ 8 then (if 0 < x.2 ∧ 0 < y.2 ∧ (hk h (ad x.2)).1 = a + 2 ∧ (hk h (ad y.2)).1 = a + 2 ∧ 0 ≤ n.2 ∧ 0 ≤ dp.2 ∧ 0 ≤ sp.2 ∧ sp.2 + n.2 ≤ (hk h (ad y.2)).2 ∧ dp.2 + n.2 ≤ (hk h (ad x.2)).2 ∧ B ≤ ad x.2 then k nx L r (hcpy h (ad y.2) (ad x.2) sp.2.toNat dp.2.toNat n.2.toNat) else none) else none
    | _ => none
  | 43 => match st with
    | x :: r => if x.1 = 2 ∧ csum r ≤ 8 then (if 0 < x.2 ∧ hk h (ad x.2) = (1, 19) ∧ hv h (ad x.2) 1 = 0 ∧ B ≤ ad x.2 then k nx L r h else none) else none
    | [] => none
  | 44 => match st.drop (pNa P a - 1) with
    | x :: r => if x.1 = 2 ∧ 0 < pNa P a ∧ csum r ≤ 8 then (if 0 < x.2 ∧ (hk h (ad x.2)).1 = 1 ∧ pVt P a (hk h (ad x.2)).2 ≠ 0 then aft P j pc nx L r k (call (pVt P a (hk h (ad x.2)).2) (x :: (st.take (pNa P a - 1)).reverse) h) else none) else none
    | [] => none
  | 45 => match st with
    | [q] => if q.1 = 0 then (if uop a q.2 = q.2 then some ((0, q), h) else none) else none
    | _ => none
  | _ => none
def arun (P : PT) (gs : Nat → AV) (B : Nat) : Nat → Nat → Nat → Nat → List AV → List AV → AH → Option Rs
  | 0, _, _, _, _, _, _ => none
  | n + 1, d, j, pc, L, st, h => match pCode P j pc with
    | none => none
    | some i => exec1 P gs B j pc i.1 i.2.1 i.2.2.1 i.2.2.2 L st h (fun pc' L' st' h' => arun P gs B n d j pc' L' st' h') (fun j' av h' => match d with
      | 0 => none
      | d' + 1 => if (entL av).length ≤ pNl P j' then arun P gs B n d' j' 0 (ent (pNl P j') av) [] h' else none)
