set_option maxRecDepth 100000
/-! WHAT ORDERS DO over the whole, as a specification. A state: text, present, held, out, files, marks, next id, replaced. An answer: a reason, or what comes. -/
abbrev St : Type := List SLine × Nat × List (List Int) × List (List Int) × (Nat → List (List Int)) × (Nat → Option Int) × Int × Bool
abbrev oAll (o : SOrd0) : Bool := o.1
abbrev oFst (o : SOrd0) : Option SAdr := o.2.1
abbrev oSnd (o : SOrd0) : Option SAdr := o.2.2.1
abbrev oAct (o : SOrd0) : Int := o.2.2.2.1
abbrev oNum (o : SOrd0) : Int := o.2.2.2.2.1
abbrev oRows (o : SOrd0) : List (List Int) := o.2.2.2.2.2.1
abbrev oTgt (o : SOrd0) : Option SAdr := o.2.2.2.2.2.2.1
abbrev oPat (o : SOrd0) : SPat := o.2.2.2.2.2.2.2.1
abbrev oPut (o : SOrd0) : List Int := o.2.2.2.2.2.2.2.2.1
abbrev oLet (o : SOrd0) : List Int := o.2.2.2.2.2.2.2.2.2.1
abbrev oEac (o : SOrd0) : Bool := o.2.2.2.2.2.2.2.2.2.2
def rowAt (t : List SLine) (k : Nat) : List Int := (t.getD k (0, [])).2
def idAt (t : List SLine) (k : Nat) : Int := (t.getD k (0, [])).1
/-- the k-th line that is looked at -/
def sTurn (back : Bool) (p m k : Nat) : Nat := (if back = true then (p + m - 1 - k) % m else (p - 1 + k) % m) + 1
def sSeekF (t : List SLine) (p : Nat) (pt : SPat) (back : Bool) : Nat → Nat → Nat
  | 0, _ => 0
  | n + 1, k => if (mFind pt (rowAt t (sTurn back p t.length k - 1)) 0).isSome = true then sTurn back p t.length k else sSeekF t p pt back n (k + 1)
def sSeek (t : List SLine) (p : Nat) (pt : SPat) (back : Bool) : Nat := sSeekF t p pt back t.length 1
def sSpot (A : St) (a : SAdr) : Nat ⊕ Int := match A with
  | (t, p, _, _, _, mks, _, _) =>
    if a.1 = 48 then .inr a.2.1
    else if a.1 = 36 then .inr t.length
    else if a.1 = 39 then match mks a.2.1.toNat with
      | none => .inl 3
      | some x => .inr (linNo t x)
    else if a.1 = 46 then .inr p
    else if sSeek t p a.2.2.1 (decide (a.1 = 63)) = 0 then .inl 2 else .inr (sSeek t p a.2.2.1 (decide (a.1 = 63)))
def sAdr (A : St) (a : SAdr) : Nat ⊕ Nat := match sSpot A a with
  | .inl w => .inl w
  | .inr v => if v + a.2.2.2.1 < 0 ∨ (A.1.length : Int) < v + a.2.2.2.1 then .inl 1 else .inr (v + a.2.2.2.1).toNat
def sWide (c : Int) : Bool := decide (c = 103 ∨ c = 71 ∨ c = 119)
def sAhead (c : Int) : Bool := decide (c = 97 ∨ c = 114 ∨ c = 117)
def sAdO (A : St) (v : Nat) : Option SAdr → Nat ⊕ Nat
  | none => .inr v
  | some a => sAdr A a
def sRange (A : St) (o : SOrd0) : Nat ⊕ (Nat × Nat) :=
  if oAll o = true ∨ (oFst o = none ∧ sWide (oAct o) = true) then (if A.1.length = 0 ∧ sWide (oAct o) = false then .inl 1 else .inr (1, A.1.length))
  else match sAdO A A.2.1 (oFst o) with
    | .inl w => .inl w
    | .inr f => match sAdO A f (oSnd o) with
      | .inl w => .inl w
      | .inr l => if l < f then .inl 1 else if f = 0 ∧ ¬ (oSnd o = none ∧ sAhead (oAct o) = true) then .inl 1 else .inr (f, l)
def mkL : Int → List (List Int) → List SLine
  | _, [] => []
  | n, r :: rs => (n, r) :: mkL (n + 1) rs
/-- rows come as new lines behind some -/
def sIns (A : St) (b : Nat) (rows : List (List Int)) : Nat ⊕ St := match A with
  | (t, _, h, o, fi, mks, n, rp) => if 40 < t.length + rows.length then .inl 4 else .inr (t.take b ++ mkL n rows ++ t.drop b, b + rows.length, h, o, fi, mks, n + rows.length, rp)
/-- lines f to l -/
def seg (t : List SLine) (f l : Nat) : List SLine := (t.drop (f - 1)).take (l + 1 - f)
def rowsOfL (ls : List SLine) : List (List Int) := ls.map (fun q => q.2)
def idsOfL (ls : List SLine) : List Int := ls.map (fun q => q.1)
def unmL (m : Nat → Option Int) (xs : List Int) : Nat → Option Int := fun k => match m k with
  | some x => if x ∈ xs then none else some x
  | none => none
def sDel (A : St) (f l : Nat) : St := match A with
  | (t, p, h, o, fi, mks, n, rp) => (t.take (f - 1) ++ t.drop l, p, h, o, fi, unmL mks (idsOfL (seg t f l)), n, rp)
def sJoin (A : St) (f l : Nat) : Nat ⊕ St := match A with
  | (t, _, h, o, fi, mks, n, rp) =>
    if t.length < (if f = l then f + 1 else l) then .inl 1
    else if 30 < (rowsOfL (seg t f (if f = l then f + 1 else l))).flatten.length then .inl 4
    else .inr (t.take (f - 1) ++ (idAt t (f - 1), (rowsOfL (seg t f (if f = l then f + 1 else l))).flatten) :: t.drop (if f = l then f + 1 else l), f, h, o, fi, unmL mks (idsOfL (seg t (f + 1) (if f = l then f + 1 else l))), n, rp)
/-- lines in parts: room, lines, next id -/
def sPartL (size : Nat) : Nat → Int → List SLine → Option (List SLine × Int)
  | _, n, [] => some ([], n)
  | cap, n, (x, r) :: ls => if size < r.length then match cap with
      | 0 => none
      | cap + 1 => match sPartL size cap (n + 1) ls with
        | none => none
        | some (q, n1) => some ((x, r.take size) :: (n, r.drop size) :: q, n1)
    else match sPartL size cap n ls with
      | none => none
      | some (q, n1) => some ((x, r) :: q, n1)
def sPart (A : St) (size f l : Nat) : Nat ⊕ St := match A with
  | (t, _, h, o, fi, mks, n, rp) => match sPartL size (40 - t.length) n (seg t f l) with
    | none => .inl 4
    | some (q, n1) => .inr (t.take (f - 1) ++ q ++ t.drop l, f - 1 + q.length, h, o, fi, mks, n1, rp)
/-- lines that are like the one ahead go: those that stay, ids of the others -/
def sLess : List Int → List SLine → List SLine × List Int
  | _, [] => ([], [])
  | r, (x, q) :: ls => if q = r then ((sLess r ls).1, x :: (sLess r ls).2) else ((x, q) :: (sLess q ls).1, (sLess q ls).2)
def sLessL (ls : List SLine) : List SLine × List Int := match ls with
  | [] => ([], [])
  | (x, q) :: ls => ((x, q) :: (sLess q ls).1, (sLess q ls).2)
def sLeave (A : St) (f l : Nat) : St := match A with
  | (t, _, h, o, fi, mks, n, rp) => (t.take (f - 1) ++ (sLessL (seg t f l)).1 ++ t.drop l, f - 1 + (sLessL (seg t f l)).1.length, h, o, fi, unmL mks (sLessL (seg t f l)).2, n, rp)
def sNum (n : Nat) : List Int := (if 99 < n then [48 + ((n / 100 : Nat) : Int)] else []) ++ (if 9 < n then [48 + ((n / 10 % 10 : Nat) : Int)] else []) ++ [48 + ((n % 10 : Nat) : Int)]
def sTell (out : List (List Int)) (r : List Int) : Option (List (List Int)) := if out.length = 100 ∨ 30 < r.length then none else some (out ++ [r])
def sPrint (num : Bool) : Nat → List (List Int) → List (List Int) → Option (List (List Int))
  | _, [], out => some out
  | k, r :: rs, out => match sTell out ((if num = true then sNum k ++ [32] else []) ++ r) with
    | none => none
    | some out1 => sPrint num (k + 1) rs out1
def sHold (A : St) (first f l : Nat) : Nat ⊕ St := match A with
  | (t, _, h, o, fi, mks, n, rp) => if 40 < first + (l + 1 - f) then .inl 4 else .inr (t, l, h.take first ++ rowsOfL (seg t f l), o, fi, mks, n, rp)
def sXch (A : St) (f l : Nat) : Nat ⊕ St := if A.2.2.1 = [] then .inl 5 else match sIns (sDel A f l) (f - 1) A.2.2.1 with
  | .inl w => .inl w
  | .inr (t, p, _, o, fi, mks, n, rp) => .inr (t, p, rowsOfL (seg A.1 f l), o, fi, mks, n, rp)
/-- what a find puts -/
def sPut (row : List Int) (a e : Nat) (b c : MG) : List Int → List Int
  | [] => []
  | x :: q => if x = 38 then (row.drop a).take (e - a) ++ sPut row a e b c q
    else if x = 92 then (match q with
      | [] => []
      | y :: q => (row.drop (b (y - 48).toNat).toNat).take (c (y - 48).toNat - b (y - 48).toNat).toNat ++ sPut row a e b c q)
    else x :: sPut row a e b c q
/-- replacing: how many finds may come, how many were, from where on is to be copied, what was made, whether one was put -/
def sReplF (o : SOrd0) (row : List Int) : Nat → Option (Nat × Nat × MG × MG) → Int → Nat → List Int → Bool → List Int × Nat × Bool
  | 0, _, _, from', made, is => (made, from', is)
  | _, none, _, from', made, is => (made, from', is)
  | k + 1, some (a, e, b, c), found, from', made, is =>
    if oEac o = true then sReplF o row k (mNext (oPat o) row e) (found + 1) e (made ++ (row.drop from').take (a - from') ++ sPut row a e b c (oPut o)) true
    else if found + 1 = oNum o then (made ++ (row.drop from').take (a - from') ++ sPut row a e b c (oPut o), e, true)
    else sReplF o row k (mNext (oPat o) row e) (found + 1) from' made is
def sRepl (o : SOrd0) (row : List Int) : List Int × Bool :=
  match sReplF o row 40 (mFind (oPat o) row 0) 0 0 [] false with
  | (made, from', is) => if is = true then (made ++ row.drop from', true) else (row, false)
def sTrn (le pu row : List Int) : List Int := row.map (fun c => match le.findIdx? (fun x => x == c) with
  | some k => pu.getD k 0
  | none => c)
def sBlanks : Nat → List Int → Nat
  | 0, _ => 0
  | _, [] => 0
  | k + 1, c :: r => if c = 32 then sBlanks k r + 1 else 0
/-- one row by s, z, > or <: the row, whether it was replaced; none: too long -/
def sChg (o : SOrd0) (row : List Int) : Option (List Int × Bool) :=
  if oAct o = 115 then (if 30 < (sRepl o row).1.length then none else some (sRepl o row))
  else if oAct o = 122 then some (sTrn (oLet o) (oPut o) row, false)
  else if oAct o = 62 then (if 30 < (oNum o).toNat + row.length then none else some (List.replicate (oNum o).toNat 32 ++ row, false))
  else some (row.drop (sBlanks (oNum o).toNat row), false)
def sChgL (o : SOrd0) : List SLine → Bool → Option (List SLine × Bool)
  | [], rp => some ([], rp)
  | (x, r) :: ls, rp => match sChg o r with
    | none => none
    | some (r1, b) => match sChgL o ls (rp || b) with
      | none => none
      | some (q, rp1) => some ((x, r1) :: q, rp1)
def sChange (A : St) (o : SOrd0) (f l : Nat) : Nat ⊕ St := match A with
  | (t, _, h, ou, fi, mks, n, rp) => match sChgL o (seg t f l) rp with
    | none => .inl 4
    | some (q, rp1) => .inr (t.take (f - 1) ++ q ++ t.drop l, l, h, ou, fi, mks, n, rp1)
/-- below 0: the first row goes ahead -/
def sCmp : List Int → List Int → Int
  | x :: xs, y :: ys => if x = y then sCmp xs ys else x - y
  | x :: _, [] => x
  | [], y :: _ => -y
  | [], [] => 0
def sBef (o : SOrd0) (x y : SLine) : Bool := if oAct o = 111 then decide (sCmp (x.2.drop (oNum o).toNat) (y.2.drop (oNum o).toNat) < 0) else decide (0 < sCmp (x.2.drop (oNum o).toNat) (y.2.drop (oNum o).toNat))
/-- into what is sorted, the last one first -/
def sInsR (o : SOrd0) (x : SLine) : List SLine → List SLine
  | [] => [x]
  | y :: ys => if sBef o x y = true then y :: sInsR o x ys else x :: y :: ys
def sSortL (o : SOrd0) (ls : List SLine) : List SLine := (ls.foldl (fun acc x => sInsR o x acc) []).reverse
def sSort (A : St) (o : SOrd0) (f l : Nat) : St := match A with
  | (t, _, h, ou, fi, mks, n, rp) => (t.take (f - 1) ++ sSortL o (seg t f l) ++ t.drop l, l, h, ou, fi, mks, n, rp)
def sMove (A : St) (f l to : Nat) : Nat ⊕ St := match A with
  | (t, _, h, ou, fi, mks, n, rp) => if f ≤ to ∧ to < l then .inl 1
    else .inr ((t.take (f - 1) ++ t.drop l).take (if to < f then to else to - (l + 1 - f)) ++ seg t f l ++ (t.take (f - 1) ++ t.drop l).drop (if to < f then to else to - (l + 1 - f)), (if to < f then to else to - (l + 1 - f)) + (l + 1 - f), h, ou, fi, mks, n, rp)
def fup {α : Type} (g : Nat → α) (k : Nat) (v : α) : Nat → α := fun j => if j = k then v else g j
/-- an act with its range -/
def sAct (A : St) (o : SOrd0) (f l : Nat) : Nat ⊕ St :=
  if oAct o = 97 then sIns A l (oRows o)
  else if oAct o = 105 then sIns A (f - 1) (oRows o)
  else if oAct o = 99 then sIns (sDel A f l) (f - 1) (oRows o)
  else if oAct o = 100 then (match sDel A f l with | (t, _, h, ou, fi, mks, n, rp) => .inr (t, min f t.length, h, ou, fi, mks, n, rp))
  else if oAct o = 106 then sJoin A f l
  else if oAct o = 118 then sPart A (oNum o).toNat f l
  else if oAct o = 108 then .inr (sLeave A f l)
  else if oAct o = 112 ∨ oAct o = 110 then (match A with | (t, _, h, ou, fi, mks, n, rp) => match sPrint (decide (oAct o = 110)) f (rowsOfL (seg t f l)) ou with
    | none => .inl 4
    | some ou1 => .inr (t, l, h, ou1, fi, mks, n, rp))
  else if oAct o = 61 then (match A with | (t, p, h, ou, fi, mks, n, rp) => match sTell ou (sNum l) with
    | none => .inl 4
    | some ou1 => .inr (t, p, h, ou1, fi, mks, n, rp))
  else if oAct o = 104 then sHold A 0 f l
  else if oAct o = 72 then sHold A A.2.2.1.length f l
  else if oAct o = 117 then (if A.2.2.1 = [] then .inl 5 else sIns A l A.2.2.1)
  else if oAct o = 101 then sXch A f l
  else if oAct o = 62 ∨ oAct o = 60 ∨ oAct o = 115 ∨ oAct o = 122 then sChange A o f l
  else if oAct o = 111 ∨ oAct o = 79 then .inr (sSort A o f l)
  else if oAct o = 109 then (match sAdr A ((oTgt o).getD (0, 0, noPat, 0, false)) with
    | .inl w => .inl w
    | .inr to => sMove A f l to)
  else if oAct o = 116 then (match sAdr A ((oTgt o).getD (0, 0, noPat, 0, false)) with
    | .inl w => .inl w
    | .inr to => sIns A to (rowsOfL (seg A.1 f l)))
  else if oAct o = 114 then (if A.2.2.2.2.1 (oNum o).toNat = [] then .inr A else sIns A l (A.2.2.2.2.1 (oNum o).toNat))
  else if oAct o = 119 then (match A with | (t, p, h, ou, fi, mks, n, rp) => .inr (t, p, h, ou, fup fi (oNum o).toNat (rowsOfL (seg t f l)), mks, n, rp))
  else match A with | (t, p, h, ou, fi, mks, n, rp) => .inr (t, p, h, ou, fi, fup mks (oNum o).toNat (some (idAt t (l - 1))), n, rp)
def sPlain (A : St) (o : SOrd0) : Nat ⊕ St := match sRange A o with
  | .inl w => .inl w
  | .inr (f, l) => sAct A o f l
/-- inner orders, one behind the other; c: how many orders were come to -/
def sInn : List SOrd0 → Nat → St → Nat ⊕ (Nat × St)
  | [], c, A => .inr (c, A)
  | o :: os, c, A => if c = 60 then .inl 7 else match sPlain A o with
    | .inl w => .inl w
    | .inr A1 => sInn os (c + 1) A1
def setP (A : St) (p : Nat) : St := (A.1, p, A.2.2)
def sEachL (os : List SOrd0) : List Int → Nat → St → Nat ⊕ (Nat × St)
  | [], c, A => .inr (c, A)
  | x :: xs, c, A => if linNo A.1 x = 0 then sEachL os xs c A else match sInn os c (setP A (linNo A.1 x)) with
    | .inl w => .inl w
    | .inr (c1, A1) => sEachL os xs c1 A1
def sMet (o : SOrd0) (ls : List SLine) : List Int := idsOfL (ls.filter (fun q => decide (oAct o = 123) || ((mFind (oPat o) q.2 0).isSome == decide (oAct o = 103))))
def sIsG (c : Int) : Bool := decide (c = 123 ∨ c = 103 ∨ c = 71)
/-- an order that is no jump -/
def sOrd (A : St) (o : SOrd) (c : Nat) : Nat ⊕ (Nat × St) := match sRange A o.1 with
  | .inl w => .inl w
  | .inr (f, l) => if sIsG (oAct o.1) = true then sEachL o.2 (sMet o.1 (seg A.1 f l)) c A else match sAct A o.1 f l with
    | .inl w => .inl w
    | .inr A1 => .inr (c, A1)
def sLab (os : List SOrd) (nr : Int) : Option Nat := (os.findIdx? (fun o => oAct o.1 == 58 && oNum o.1 == nr))
def sJump (os : List SOrd) (o : SOrd0) : Nat ⊕ Nat := if oNum o = -1 then .inr os.length else match sLab os (oNum o) with
  | none => .inl 6
  | some k => .inr (k + 1)
def sSteers (c : Int) : Bool := decide (c = 98 ∨ c = 84 ∨ c = 113 ∨ c = 78)
def setR (A : St) (b : Bool) : St := match A with | (t, p, h, ou, fi, mks, n, _) => (t, p, h, ou, fi, mks, n, b)
/-- q, b, T and N at a place: where orders go on -/
def sSteer (os : List SOrd) (k : Nat) (o : SOrd0) (A : St) : Nat ⊕ (Nat × St) :=
  match (if oAll o = true ∨ oFst o ≠ none then (match sRange A o with | .inl w => .inl w | .inr (f, l) => .inr (decide (f ≤ A.2.1 ∧ A.2.1 ≤ l))) else .inr true : Nat ⊕ Bool) with
  | .inl w => .inl w
  | .inr false => .inr (k + 1, A)
  | .inr true =>
    if oAct o = 113 then .inr (os.length, A)
    else if oAct o = 78 then (if A.2.1 = A.1.length then .inl 1 else .inr (k + 1, setP A (A.2.1 + 1)))
    else if oAct o = 98 then (match sJump os o with | .inl w => .inl w | .inr j => .inr (j, A))
    else if A.2.2.2.2.2.2.2 = true then (match sJump os o with | .inl w => .inl w | .inr j => .inr (j, setR A false))
    else .inr (k + 1, A)
/-- the order at a place: place, orders come to, state -/
def sOne (os : List SOrd) (k : Nat) (o : SOrd) (c : Nat) (A : St) : Nat ⊕ (Nat × Nat × St) :=
  if oAct o.1 = 58 then .inr (k + 1, c, A)
  else if sSteers (oAct o.1) = true then (match sSteer os k o.1 A with | .inl w => .inl w | .inr (j, A1) => .inr (j, c, A1))
  else match sOrd A o c with | .inl w => .inl w | .inr (c1, A1) => .inr (k + 1, c1, A1)
/-- a deed: call, text, present, marks, as they were -/
abbrev SDeed : Type := Nat × List SLine × Nat × (Nat → Option Int)
def isDeedA (c : Int) : Bool := decide (c ≠ 58 ∧ c ≠ 98 ∧ c ≠ 84 ∧ c ≠ 113)
def keepD (ds : List SDeed) (d : SDeed) : List SDeed := if ds.length = 40 then ds.drop 1 ++ [d] else ds ++ [d]
/-- all orders: answer, reason, state, deeds -/
def sAllF (os : List SOrd) (play : Nat) : Nat → Nat → Nat → Nat → St → List SDeed → Nat × Nat × St × List SDeed
  | 0, _, _, done, A, ds => (done, 7, A, ds)
  | n + 1, k, c, done, A, ds => match os[k]? with
    | none => (done, 0, A, ds)
    | some o => if c = 60 then (done, 7, A, ds) else match sOne os k o (c + 1) A with
      | .inl w => (done, w, A, ds)
      | .inr (k1, c1, A1) => sAllF os play n k1 c1 (done + 1) A1 (if isDeedA (oAct o.1) = true then keepD ds (play, A.1, A.2.1, A.2.2.2.2.2.1) else ds)
def sAll (os : List SOrd) (play : Nat) (A : St) (ds : List SDeed) : Nat × Nat × St × List SDeed := sAllF os play 61 0 0 0 (setR A false) ds
