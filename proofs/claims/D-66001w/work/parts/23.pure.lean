-- the pure reference: words and tokens
abbrev Nm : Type := List Nat
def isLt (c : Nat) : Bool := decide (97 ≤ c) && decide (c ≤ 122)
def isDg (c : Nat) : Bool := decide (48 ≤ c) && decide (c ≤ 57)
def isBl (c : Nat) : Bool := decide (c = 32) || decide (c = 10)
def kwL : List Nm := [[11, 9, 14, 4], [9, 14, 19, 5, 18, 20], [4, 5, 12, 5, 20, 5], [23, 8, 5, 18, 5], [19, 5, 20], [12, 5, 20], [16, 18, 9, 14, 20], [5, 1, 3, 8], [2, 25], [9, 6], [5, 12, 19, 5], [23, 8, 9, 12, 5], [18, 5, 13, 15, 22, 5], [1, 14, 4], [15, 18], [14, 15, 20], [3, 15, 21, 14, 20], [19, 21, 13], [12, 5, 1, 19, 20], [7, 18, 5, 1, 20, 5, 19, 20]]
def sgn (c : Nat) (two : Bool) : Nat :=
  if c = 61 then 30 else if c = 33 then (if two then 31 else 99) else if c = 60 then (if two then 33 else 32) else if c = 62 then (if two then 35 else 34)
  else if c = 43 then 36 else if c = 45 then 37 else if c = 42 then 38 else if c = 47 then 39 else if c = 37 then 40 else if c = 40 then 41 else if c = 41 then 42
  else if c = 123 then 43 else if c = 125 then 44 else if c = 44 then 45 else if c = 59 then 46 else if c = 58 then 47 else if c = 46 then 48 else 99
def dv (ds : List Nat) : Nat := ds.foldl (fun v c => 10 * v + (c - 48)) 0
/-- the token at the head: kind, word, value, what is left -/
def lx : List Nat → Nat × Nm × Nat × List Nat
  | [] => (22, [], 0, [])
  | c :: r =>
    if isLt c then
      (if 8 < ((c :: r).takeWhile isLt).length then (99, [], 0, []) else (kwL.idxOf (((c :: r).takeWhile isLt).map (fun x => x - 96)), ((c :: r).takeWhile isLt).map (fun x => x - 96), 0, (c :: r).dropWhile isLt))
    else if isDg c then
      (if 2147483647 < dv ((c :: r).takeWhile isDg) then (99, [], 0, []) else (21, [], dv ((c :: r).takeWhile isDg), (c :: r).dropWhile isDg))
    else (sgn c (r.head? == some 61), [], 0, if sgn c (r.head? == some 61) = 99 then [] else if (r.head? == some 61) && (decide (c = 33) || decide (c = 60) || decide (c = 62)) then r.tail else r)
def rm (bs : List Nat) : Nat → List Nat
  | 0 => bs.dropWhile isBl
  | j + 1 => (lx (rm bs j)).2.2.2.dropWhile isBl
def tK (bs : List Nat) (j : Nat) : Nat := if 150 ≤ j ∧ rm bs j ≠ [] then 98 else (lx (rm bs j)).1
def tW (bs : List Nat) (j : Nat) : Nm := (lx (rm bs j)).2.1
def tV (bs : List Nat) (j : Nat) : Nat := (lx (rm bs j)).2.2.1
def tP (bs : List Nat) (j : Nat) : Nat := bs.length - (rm bs j).length
-- what the parser keeps: the token, the kinds, the variables
abbrev Fs : Type := List (Nm × Nat)
abbrev Kt : Type := List (Nm × Fs)
abbrev PS : Type := Nat × Kt × List Nm
abbrev Pr (α : Type) : Type := PS → Nat ⊕ (α × PS)
abbrev So : Type := Nat × Nat × Nat × Nat
abbrev EO : Type := So × List So
abbrev Ex : Type := List EO
def pr {α : Type} (a : α) : Pr α := fun s => .inr (a, s)
def pe {α : Type} : Pr α := fun s => .inl s.1
def pn : Pr Unit := fun s => .inr ((), s.1 + 1, s.2)
def pb {α β : Type} (f : Pr α) (g : α → Pr β) : Pr β := fun s => match f s with
  | .inl e => .inl e
  | .inr (a, s') => g a s'
/-- by the token that is here -/
def pk {α : Type} (bs : List Nat) (f : Nat → Pr α) : Pr α := fun s => f (tK bs s.1) s
def pi {α : Type} (c : Prop) [Decidable c] (f g : Pr α) : Pr α := if c then f else g
def pt (bs : List Nat) (k : Nat) : Pr Unit := pk bs fun x => pi (x = k) pn pe
def kOf (kd : Kt) (nm : Nm) : Option Nat := kd.findIdx? (fun x => x.1 == nm)
def fsOf (kd : Kt) (k : Nat) : Fs := match kd[k]? with
  | some x => x.2
  | none => []
def fOf (fs : Fs) (nm : Nm) : Option Nat := fs.findIdx? (fun x => x.1 == nm)
def vOf (vr : List Nm) (nm : Nm) : Option Nat := vr.findIdx? (fun x => x == nm)
def lvOf : List Nat → Nat → Option Nat
  | [], _ => none
  | c :: r, k => if c = k then some r.length else lvOf r k
/-- an answer, or an error here; then the token is passed by -/
def po (o : PS → Option Nat) : Pr Nat := fun s => match o s with
  | some k => .inr (k, s.1 + 1, s.2)
  | none => .inl s.1
def pKind (bs : List Nat) : Pr Nat := po fun s => if tK bs s.1 = 20 then kOf s.2.1 (tW bs s.1) else none
def pField (bs : List Nat) (k : Nat) : Pr Nat := po fun s => if tK bs s.1 = 20 then fOf (fsOf s.2.1 k) (tW bs s.1) else none
/-- the kind of a cursor and its level -/
def pCur (bs : List Nat) (cu : List Nat) : Pr (Nat × Nat) := fun s => match (if tK bs s.1 = 20 then kOf s.2.1 (tW bs s.1) else none) with
  | some k => (match lvOf cu k with
    | some c => .inr ((c, k), s.1 + 1, s.2)
    | none => .inl s.1)
  | none => .inl s.1
def pVar (bs : List Nat) : Pr Nat := fun s => match vOf s.2.2 (tW bs s.1) with
  | some v => .inr (v, s.1 + 1, s.2)
  | none => if s.2.2.length = 20 then .inl s.1 else .inr (s.2.2.length, s.1 + 1, s.2.1, s.2.2 ++ [tW bs s.1])
-- expressions
def o1 (op a b c : Nat) : EO := ((op, a, b, c), [])
def pMany (bs : List Nat) (k : Nat) : Nat → Pr Nat
  | 0 => pr 0
  | n + 1 => pk bs fun x => pi (x = k) (pb pn fun _ => pb (pMany bs k n) fun m => pr (m + 1)) (pr 0)
def pLoop (bs : List Nat) (lo hi : Nat) (it : Pr Ex) : Nat → Pr Ex
  | 0 => pr []
  | n + 1 => pk bs fun x => pi (lo ≤ x ∧ x ≤ hi) (pb pn fun _ => pb it fun e => pb (pLoop bs lo hi it n) fun r => pr (e ++ o1 x 0 0 0 :: r)) (pr [])
def pChain (bs : List Nat) (lo hi : Nat) (it : Pr Ex) : Pr Ex := pb it fun e => pb (pLoop bs lo hi it 151) fun r => pr (e ++ r)
def pNamed (bs : List Nat) (wi : Option Nat) (cu : List Nat) : Pr Ex := fun s =>
  match (match wi with | some k => (fOf (fsOf s.2.1 k) (tW bs s.1)).map (fun f => (k, f)) | none => none) with
  | some (k, f) => .inr ([o1 52 k f 0], s.1 + 1, s.2)
  | none => (match kOf s.2.1 (tW bs s.1) with
    | some _ => (pb (pCur bs cu) fun ck => pb (pt bs 48) fun _ => pb (pField bs ck.2) fun f => pr [o1 53 ck.1 ck.2 f]) s
    | none => (pb (pVar bs) fun v => pr [o1 51 v 0 0]) s)
def pOpen (bs : List Nat) (b k : Nat) : Pr Unit := pk bs fun x => pi (x = k ∧ 0 < b) pn pe
def pAgg (bs : List Nat) (b : Nat) (X : Option Nat → Pr Ex) (which : Nat) : Pr Ex :=
  pb pn fun _ => pb (pOpen bs b 41) fun _ => pb (pKind bs) fun k => pb (pi (which = 16) (pr 0) (pb (pt bs 48) fun _ => pField bs k)) fun f =>
  pb (pk bs fun x => pi (x = 3) (pb pn fun _ => pb (X (some k)) fun e => pr (e.map (fun y => y.1))) (pr [(50, 1, 0, 0)])) fun i => pb (pt bs 42) fun _ => pr [((56, which, k, f), i)]
def pAtom (bs : List Nat) (wi : Option Nat) (cu : List Nat) (b : Nat) (X : Option Nat → Pr Ex) : Pr Ex := pk bs fun x =>
  pi (x = 21) (fun s => .inr ([o1 50 (tV bs s.1) 0 0], s.1 + 1, s.2))
  (pi (x = 41) (pb (pOpen bs b 41) fun _ => pb (X wi) fun e => pb (pt bs 42) fun _ => pr e)
  (pi (16 ≤ x ∧ x ≤ 19) (pi (wi.isSome = true) pe (pAgg bs b X x))
  (pi (x = 20) (pNamed bs wi cu) pe)))
def pSigned (bs : List Nat) (at_ : Pr Ex) : Pr Ex := pb (pMany bs 37 151) fun n => pb at_ fun e => pr (if n = 0 then e else e ++ [o1 54 n 0 0])
def pSum (bs : List Nat) (at_ : Pr Ex) : Pr Ex := pChain bs 36 37 (pChain bs 38 40 (pSigned bs at_))
def pNeg (bs : List Nat) (sm : Pr Ex) : Pr Ex := pb (pMany bs 15 151) fun n => pb sm fun e =>
  pb (pk bs fun x => pi (30 ≤ x ∧ x ≤ 35) (pb pn fun _ => pb sm fun r => pr (r ++ [o1 x 0 0 0])) (pr [])) fun r => pr (if n = 0 then e ++ r else e ++ r ++ [o1 15 n 0 0])
def pEith (bs : List Nat) (at_ : Pr Ex) : Pr Ex := pChain bs 14 14 (pChain bs 13 13 (pNeg bs (pSum bs at_)))
def pExp (bs : List Nat) (cu : List Nat) : Nat → Option Nat → Pr Ex
  | 0 => fun wi => pEith bs (pAtom bs wi cu 0 (fun _ => pe))
  | b + 1 => fun wi => pEith bs (pAtom bs wi cu (b + 1) (pExp bs cu b))
def pWh (bs : List Nat) (cu : List Nat) (b k : Nat) : Pr Ex := pk bs fun x => pi (x = 3) (pb pn fun _ => pExp bs cu b (some k)) (pr [])
-- statements: what, its numbers, an expression, what is put
abbrev Pay : Type := Nat × Nat × Nat × Ex × List (Nat × Ex)
def Tr : Nat → Type
  | 0 => Unit
  | b + 1 => List (Pay × Tr b × Tr b)
def em : (b : Nat) → Tr b
  | 0 => ()
  | _ + 1 => ([] : List _)
def pBits (bs : List Nat) (bits : Nat) : Pr Nat := po fun s => if tK bs s.1 = 21 ∧ 1 ≤ tV bs s.1 ∧ tV bs s.1 ≤ 32 ∧ bits + tV bs s.1 ≤ 84 then some (tV bs s.1) else none
def pFresh (bs : List Nat) (ok : PS → Bool) : Pr Nm := fun s => if tK bs s.1 = 20 ∧ ok s = true then .inr (tW bs s.1, s.1 + 1, s.2) else .inl s.1
def sumB (fs : Fs) : Nat := (fs.map (fun x => x.2)).sum
def pFl (bs : List Nat) : Nat → Fs → Pr Fs
  | 0, _ => pe
  | n + 1, fs => pb (pFresh bs (fun s => (fOf fs (tW bs s.1)).isNone)) fun g => pb (pt bs 47) fun _ => pb (pBits bs (sumB fs)) fun v =>
    pk bs fun x => pi (x = 45) (pi (n = 0) pe (pb pn fun _ => pFl bs n (fs ++ [(g, v)]))) (pr (fs ++ [(g, v)]))
def pDecl (bs : List Nat) : Pr Unit := pb (pFresh bs (fun s => (kOf s.2.1 (tW bs s.1)).isNone && (vOf s.2.2 (tW bs s.1)).isNone && decide (s.2.1.length < 7))) fun nm =>
  pb (pFl bs 6 []) fun fs s => .inr ((), s.1, s.2.1 ++ [(nm, fs)], s.2.2)
def pPuts (bs : List Nat) (k : Nat) (e_ : Pr Ex) : Nat → List Nat → Pr (List (Nat × Ex))
  | 0, _ => pe
  | n + 1, seen => pb (po fun s => if tK bs s.1 = 20 then (match fOf (fsOf s.2.1 k) (tW bs s.1) with | some f => if f ∈ seen then none else some f | none => none) else none) fun f =>
    pb (pt bs 30) fun _ => pb e_ fun e => pk bs fun x => pi (x = 45) (pb pn fun _ => pb (pPuts bs k e_ n (f :: seen)) fun r => pr ((f, e) :: r)) (pr [(f, e)])
def pBlock {α : Type} (bs : List Nat) (b : Nat) (Y : Pr α) : Pr α := pb (pOpen bs b 43) fun _ => pb Y fun t => pb (pt bs 44) fun _ => pr t
def pEnd {α : Type} (bs : List Nat) (f : Pr α) : Pr α := pb f fun a => pb (pt bs 46) fun _ => pr a
def pSt (bs : List Nat) (b : Nat) (cu : List Nat) (Y : List Nat → Pr (Tr b)) : Pr (Pay × Tr b × Tr b) := pk bs fun x =>
  pi (x = 20) (pEnd bs (pb (pCur bs cu) fun ck => pb (pt bs 48) fun _ => pb (pField bs ck.2) fun f => pb (pt bs 30) fun _ => pb (pExp bs cu b none) fun e => pr ((20, ck.1, ck.2, [], [(f, e)]), em b, em b)))
  (pi (x = 0) (pEnd bs (pb pn fun _ => pb (pDecl bs) fun _ => pr ((0, 0, 0, [], []), em b, em b)))
  (pi (x = 1) (pEnd bs (pb pn fun _ => pb (pKind bs) fun k => pb (pPuts bs k (pExp bs cu b none) 7 []) fun ps => pr ((1, k, 0, [], ps), em b, em b)))
  (pi (x = 2) (pEnd bs (pb pn fun _ => pb (pKind bs) fun k => pb (pWh bs cu b k) fun c => pr ((2, k, 0, c, []), em b, em b)))
  (pi (x = 4) (pEnd bs (pb pn fun _ => pb (pKind bs) fun k => pb (pWh bs cu b k) fun c => pb (pt bs 47) fun _ => pb (pPuts bs k (pExp bs cu b (some k)) 7 []) fun ps => pr ((4, k, 0, c, ps), em b, em b)))
  (pi (x = 5) (pEnd bs (pb pn fun _ => pb (fun s => if tK bs s.1 = 20 ∧ kOf s.2.1 (tW bs s.1) = none then pVar bs s else .inl s.1) fun v => pb (pt bs 30) fun _ => pb (pExp bs cu b none) fun e => pr ((5, v, 0, e, []), em b, em b)))
  (pi (x = 6) (pEnd bs (pb pn fun _ => pb (pExp bs cu b none) fun e => pr ((6, 0, 0, e, []), em b, em b)))
  (pi (x = 7) (pb pn fun _ => pb (pKind bs) fun k => pb (pt bs 8) fun _ => pb (pField bs k) fun f => pb (pWh bs cu b k) fun c => pb (pBlock bs b (Y (k :: cu))) fun t => pr ((7, k, f, c, []), t, em b))
  (pi (x = 9) (pb pn fun _ => pb (pExp bs cu b none) fun e => pb (pBlock bs b (Y cu)) fun t => pb (pk bs fun z => pi (z = 10) (pb pn fun _ => pBlock bs b (Y cu)) (pr (em b))) fun t2 => pr ((9, 0, 0, e, []), t, t2))
  (pi (x = 11) (pb pn fun _ => pb (pExp bs cu b none) fun e => pb (pBlock bs b (Y cu)) fun t => pr ((11, 0, 0, e, []), t, em b))
  (pi (x = 12) (pEnd bs (pb pn fun _ => pb (pCur bs cu) fun ck => pr ((12, ck.1, ck.2, [], []), em b, em b)))
  pe))))))))))
def pSts {α : Type} (bs : List Nat) (stop : Nat) (st_ : Pr α) : Nat → Pr (List α)
  | 0 => pr []
  | n + 1 => pk bs fun x => pi (x = stop) (pr []) (pb st_ fun a => pb (pSts bs stop st_ n) fun r => pr (a :: r))
def pY (bs : List Nat) : (b : Nat) → List Nat → Pr (Tr b)
  | 0 => fun _ => pe
  | b + 1 => fun cu => pSts bs 44 (pSt bs b cu (pY bs b)) 151
def pTop (bs : List Nat) : Pr (Tr 11) := pSts bs 22 (pSt bs 10 [] (pY bs 10)) 151
