set_option maxRecDepth 100000
/-! WHAT IS READ: the orders' grammar over what is left of the signs. A fault: what is left there. -/
abbrev SPart : Type := Nat × Nat × List Int × Bool
abbrev SPat : Type := List SPart × Bool × Bool
abbrev SAdr : Type := Int × Int × SPat × Int × Bool
/-- all, first, second, act, number, rows, target, pattern, put, letters, each -/
abbrev SOrd0 : Type := Bool × Option SAdr × Option SAdr × Int × Int × List (List Int) × Option SAdr × SPat × List Int × List Int × Bool
abbrev SOrd : Type := SOrd0 × List SOrd0
abbrev PR (α : Type) : Type := List Int ⊕ (List Int × α)
def hd (l : List Int) : Int := l.headD 0
def isMrk (c : Int) : Bool := decide (97 ≤ c ∧ c ≤ 101)
def isLab (c : Int) : Bool := decide (65 ≤ c ∧ c ≤ 90)
def pTake (c : Int) (l : List Int) : PR Unit := if hd l = c ∧ l ≠ [] then .inr (l.tail, ()) else .inl l
def pTakeIf (b : Bool) (l : List Int) : PR Int := if b = true ∧ l ≠ [] then .inr (l.tail, hd l) else .inl l
def pNum (l : List Int) : PR Int := if isDig (hd l) = true ∧ l ≠ [] then (if isDig (hd l.tail) = true ∧ l.tail ≠ [] then .inr (l.tail.tail, 10 * (hd l - 48) + hd l.tail - 48) else .inr (l.tail, hd l - 48)) else .inl l
def pPlain (stars : Nat) (l : List Int) : PR (Nat × SPart) :=
  if l = [] then .inl l
  else if hd l = 42 then (if stars < 2 then .inr (l.tail, stars + 1, (2, 0, [], false)) else .inl l)
  else if hd l = 46 then .inr (l.tail, stars, (1, 0, [], false))
  else if hd l = 91 then
    (let neg := decide (hd l.tail = 94)
     let r := if neg = true then l.tail.tail else l.tail
     if r.takeWhile isChr = [] then .inl r
     else if hd (r.dropWhile isChr) = 93 then .inr ((r.dropWhile isChr).tail, stars, (3, 0, r.takeWhile isChr, neg))
     else .inl (r.dropWhile isChr))
  else if isChr (hd l) = true then .inr (l.tail, stars, (0, 0, [hd l], false))
  else .inl l
def pGrp : Nat → Nat → List SPart → List Int → PR (Nat × List SPart)
  | k, stars, acc, l => if hd l = 41 then .inr (l.tail, stars, acc) else match k with
    | 0 => .inl l
    | k + 1 => match pPlain stars l with
      | .inl f => .inl f
      | .inr (l1, st1, pt) => pGrp k st1 (acc ++ [pt]) l1
/-- one item of a pattern: groups closed, stars, what is added -/
def pItem (closed stars : Nat) (l : List Int) : PR (Nat × Nat × List SPart) :=
  if hd l = 40 then
    (if closed < 2 then match pGrp 12 stars [] l.tail with
      | .inl f => .inl f
      | .inr (l1, st1, ps) => .inr (l1, closed + 1, st1, (4, closed + 1, [], false) :: ps ++ [(5, closed + 1, [], false)])
     else .inl l)
  else if hd l = 92 then
    (if 0 < closed then (if 49 ≤ hd l.tail ∧ hd l.tail ≤ 48 + closed then .inr (l.tail.tail, closed, stars, [(6, (hd l.tail - 48).toNat, [], false)]) else .inl l.tail) else .inl l)
  else match pPlain stars l with
    | .inl f => .inl f
    | .inr (l1, st1, pt) => .inr (l1, closed, st1, [pt])
/-- the items up to $ or the end -/
def pItems (ends : Int) : Nat → Nat → Nat → List SPart → List Int → PR (Nat × List SPart)
  | k, closed, stars, acc, l => if hd l = 36 ∨ hd l = ends ∨ l = [] then .inr (l, closed, acc) else match k with
    | 0 => .inl l
    | k + 1 => match pItem closed stars l with
      | .inl f => .inl f
      | .inr (l1, c1, s1, ps) => pItems ends k c1 s1 (acc ++ ps) l1
/-- a pattern up to the sign that ends it (0: none), which isn't taken: groups, pattern -/
def pPat (ends : Int) (l : List Int) : PR (Nat × SPat) :=
  let fst := decide (hd l = 94)
  let l0 := if fst = true then l.tail else l
  match pItems ends 12 0 0 [] l0 with
  | .inl f => .inl f
  | .inr (l1, c, ps) =>
    let lst := decide (hd l1 = 36)
    let l2 := if lst = true then l1.tail else l1
    if ps = [] ∧ fst = false ∧ lst = false then .inl l2 else .inr (l2, c, ps, fst, lst)
def noPat : SPat := ([], false, false)
def isSpot (c : Int) : Bool := isDig c || decide (c = 46) || decide (c = 36) || decide (c = 39) || decide (c = 47) || decide (c = 63)
/-- a spot: kind, number, pattern -/
def pSpot (l : List Int) : PR (Int × Int × SPat) :=
  if isDig (hd l) = true then match pNum l with
    | .inl f => .inl f
    | .inr (l1, v) => .inr (l1, 48, v, noPat)
  else if hd l = 39 then (if isMrk (hd l.tail) = true then .inr (l.tail.tail, 39, hd l.tail - 97, noPat) else .inl l.tail)
  else if hd l = 47 ∨ hd l = 63 then match pPat (hd l) l.tail with
    | .inl f => .inl f
    | .inr (l1, _, pt) => if hd l1 = hd l then .inr (l1.tail, hd l, 0, pt) else .inl l1
  else if hd l = 46 ∨ hd l = 36 then .inr (l.tail, hd l, 0, noPat)
  else .inl l
/-- what is added behind a spot -/
def pMore : Nat → Int → Bool → List Int → PR (Int × Bool)
  | k, v, has, l => if hd l = 43 ∨ hd l = 45 then match k with
      | 0 => .inl l
      | k + 1 => match pNum l.tail with
        | .inl f => .inl f
        | .inr (l1, x) => pMore k (v + (if hd l = 43 then x else -x)) true l1
    else .inr (l, v, has)
def pAdr (l : List Int) : PR SAdr := match pSpot l with
  | .inl f => .inl f
  | .inr (l1, kd, nr, pt) => match pMore l1.length 0 false l1 with
    | .inl f => .inl f
    | .inr (l2, v, has) => .inr (l2, kd, nr, pt, v, has)
/-- where: all, first, second -/
def pWhere (l : List Int) : PR (Bool × Option SAdr × Option SAdr) :=
  if hd l = 37 then .inr (l.tail, true, none, none)
  else if isSpot (hd l) = true then match pAdr l with
    | .inl f => .inl f
    | .inr (l1, a) => if hd l1 = 44 then match pAdr l1.tail with
        | .inl f => .inl f
        | .inr (l2, b) => .inr (l2, false, some a, some b)
      else .inr (l1, false, some a, none)
  else .inr (l, false, none, none)
/-- rows told: each at most 30 signs -/
def pRows : Nat → List Int → PR (List (List Int))
  | k, l => if 30 < (l.takeWhile isChr).length then .inl (l.drop 30)
    else if hd (l.dropWhile isChr) = 124 then match k with
      | 0 => .inl l
      | k + 1 => match pRows k (l.dropWhile isChr).tail with
        | .inl f => .inl f
        | .inr (l1, rs) => .inr (l1, l.takeWhile isChr :: rs)
    else .inr (l.dropWhile isChr, [l.takeWhile isChr])
/-- what is put: & and \k stand in it as they are -/
def pPut (closed : Nat) : Nat → List Int → PR (List Int)
  | k, l => if hd l = 92 then
      (if 0 < closed then (if 49 ≤ hd l.tail ∧ hd l.tail ≤ 48 + closed then match k with
        | 0 => .inl l
        | k + 1 => match pPut closed k l.tail.tail with
          | .inl f => .inl f
          | .inr (l1, r) => .inr (l1, 92 :: hd l.tail :: r)
        else .inl l.tail) else .inl l)
    else if isChr (hd l) = true ∨ hd l = 38 then match k with
      | 0 => .inl l
      | k + 1 => match pPut closed k l.tail with
        | .inl f => .inl f
        | .inr (l1, r) => .inr (l1, hd l :: r)
    else .inr (l, [])
/-- s: pattern, put, each, number -/
def pRepl (l : List Int) : PR (SPat × List Int × Bool × Int) :=
  if hd l = 47 then match pPat 47 l.tail with
    | .inl f => .inl f
    | .inr (l1, c, pt) => if hd l1 = 47 then match pPut c l1.length l1.tail with
        | .inl f => .inl f
        | .inr (l2, pu) => if hd l2 = 47 then
            (if hd l2.tail = 103 then .inr (l2.tail.tail, pt, pu, true, 1)
             else if 49 ≤ hd l2.tail ∧ hd l2.tail ≤ 57 then .inr (l2.tail.tail, pt, pu, false, hd l2.tail - 48)
             else .inr (l2.tail, pt, pu, false, 1))
          else .inl l2
      else .inl l1
  else .inl l
/-- z: letters, put -/
def pTurn (l : List Int) : PR (List Int × List Int) :=
  if hd l = 47 then
    (let a := l.tail.takeWhile isChr
     let r := l.tail.dropWhile isChr
     if a = [] then .inl l.tail
     else if hd r = 47 then
       (let b := (r.tail.take a.length).takeWhile isChr
        if b.length < a.length then .inl (r.tail.drop b.length)
        else if hd (r.tail.drop a.length) = 47 then .inr ((r.tail.drop a.length).tail, a, b) else .inl (r.tail.drop a.length))
     else .inl r)
  else .inl l
def isBar (c : Int) : Bool := [100, 106, 108, 112, 61, 110, 104, 72, 117, 101, 113, 78].contains c
def isOut (c : Int) : Bool := [58, 98, 84, 113, 78].contains c
def ord0 (w : Bool × Option SAdr × Option SAdr) (c : Int) : SOrd0 := (w.1, w.2.1, w.2.2, c, 0, [], none, noPat, [], [], false)
/-- an act that has no orders in it, with its where -/
def pAct (inner : Bool) (w : Bool × Option SAdr × Option SAdr) (l : List Int) : PR SOrd0 :=
  let c := hd l
  let o := ord0 w c
  let r := l.tail
  if l = [] ∨ (isOut c = true ∧ inner = true) ∨ (c = 58 ∧ (w.1 = true ∨ w.2.1 ≠ none)) then .inl l
  else if c = 97 ∨ c = 105 ∨ c = 99 then match pRows r.length r with
    | .inl f => .inl f
    | .inr (l1, rs) => .inr (l1, o.1, o.2.1, o.2.2.1, c, 0, rs, none, noPat, [], [], false)
  else if c = 118 ∨ c = 62 ∨ c = 60 ∨ c = 111 ∨ c = 79 then match pNum r with
    | .inl f => .inl f
    | .inr (l1, v) => .inr (l1, o.1, o.2.1, o.2.2.1, c, v, [], none, noPat, [], [], false)
  else if c = 109 ∨ c = 116 then match pAdr r with
    | .inl f => .inl f
    | .inr (l1, a) => .inr (l1, o.1, o.2.1, o.2.2.1, c, 0, [], some a, noPat, [], [], false)
  else if c = 107 then (if isMrk (hd r) = true then .inr (r.tail, o.1, o.2.1, o.2.2.1, c, hd r - 97, [], none, noPat, [], [], false) else .inl r)
  else if c = 114 ∨ c = 119 then (if 48 ≤ hd r ∧ hd r ≤ 51 then .inr (r.tail, o.1, o.2.1, o.2.2.1, c, hd r - 48, [], none, noPat, [], [], false) else .inl r)
  else if c = 58 then (if isLab (hd r) = true then .inr (r.tail, o.1, o.2.1, o.2.2.1, c, hd r - 65, [], none, noPat, [], [], false) else .inl r)
  else if c = 98 ∨ c = 84 then (if isLab (hd r) = true then .inr (r.tail, o.1, o.2.1, o.2.2.1, c, hd r - 65, [], none, noPat, [], [], false) else .inr (r, o.1, o.2.1, o.2.2.1, c, -1, [], none, noPat, [], [], false))
  else if c = 115 then match pRepl r with
    | .inl f => .inl f
    | .inr (l1, pt, pu, ea, nr) => .inr (l1, o.1, o.2.1, o.2.2.1, c, nr, [], none, pt, pu, [], ea)
  else if c = 122 then match pTurn r with
    | .inl f => .inl f
    | .inr (l1, le, pu) => .inr (l1, o.1, o.2.1, o.2.2.1, c, 0, [], none, noPat, pu, le, false)
  else if isBar c = true then .inr (r, o)
  else .inl l
def pInner (l : List Int) : PR SOrd0 := match pWhere l with
  | .inl f => .inl f
  | .inr (l1, w) => pAct true w l1
/-- inner orders with ; between -/
def pInners : Nat → List Int → PR (List SOrd0)
  | k, l => match pInner l with
    | .inl f => .inl f
    | .inr (l1, o) => if hd l1 = 59 then match k with
        | 0 => .inl l1
        | k + 1 => match pInners k l1.tail with
          | .inl f => .inl f
          | .inr (l2, os) => .inr (l2, o :: os)
      else .inr (l1, [o])
/-- a block, from its { on -/
def pBlock (l : List Int) : PR (List SOrd0) :=
  if hd l = 123 then match pInners l.length l.tail with
    | .inl f => .inl f
    | .inr (l1, os) => if hd l1 = 125 then .inr (l1.tail, os) else .inl l1
  else .inl l
def pOrder (l : List Int) : PR SOrd := match pWhere l with
  | .inl f => .inl f
  | .inr (l1, w) =>
    if hd l1 = 123 then match pBlock l1 with
      | .inl f => .inl f
      | .inr (l2, os) => .inr (l2, ord0 w 123, os)
    else if hd l1 = 103 ∨ hd l1 = 71 then
      (if hd l1.tail = 47 then match pPat 47 l1.tail.tail with
        | .inl f => .inl f
        | .inr (l2, _, pt) => if hd l2 = 47 then
            (if hd l2.tail = 123 then match pBlock l2.tail with
              | .inl f => .inl f
              | .inr (l3, os) => .inr (l3, (w.1, w.2.1, w.2.2, hd l1, 0, [], none, pt, [], [], false), os)
             else match pInner l2.tail with
              | .inl f => .inl f
              | .inr (l3, o) => .inr (l3, (w.1, w.2.1, w.2.2, hd l1, 0, [], none, pt, [], [], false), [o]))
          else .inl l2
       else .inl l1.tail)
    else match pAct false w l1 with
      | .inl f => .inl f
      | .inr (l2, o) => .inr (l2, o, [])
def pOrders : Nat → List Int → PR (List SOrd)
  | k, l => match pOrder l with
    | .inl f => .inl f
    | .inr (l1, o) => if hd l1 = 59 then match k with
        | 0 => .inl l1
        | k + 1 => match pOrders k l1.tail with
          | .inl f => .inl f
          | .inr (l2, os) => .inr (l2, o :: os)
      else .inr (l1, [o])
/-- a whole text of orders; the fault's place -/
def sOrders (s : List Int) : Nat ⊕ List SOrd := match pOrders s.length s with
  | .inl f => .inl (s.length - f.length)
  | .inr (l, os) => if l = [] then .inr os else .inl (s.length - l.length)
def sPattern (s : List Int) : Nat ⊕ SPat := match pPat 0 s with
  | .inl f => .inl (s.length - f.length)
  | .inr (l, _, pt) => if l = [] then .inr pt else .inl (s.length - l.length)
