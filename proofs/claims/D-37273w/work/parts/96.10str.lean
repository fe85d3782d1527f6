set_option maxRecDepth 100000
/-! WHAT A STREAM DOES, as a specification. Of the lines: the work, whether it is gone, what is due, what is put, what is not taken yet. Of the rest: held, out, files, marks, next id, replaced. Then: steps, turn, over, and of each order (place, and place within a block + 1; 0: the order itself) when it was looked at, what came of it, whether its run goes on. -/
abbrev WG : Type := SLine × Bool × List (List Int) × List SLine × List SLine
abbrev BG : Type := List (List Int) × List (List Int) × (Nat → List (List Int)) × (Nat → Option Int) × Int × Bool
abbrev RG : Type := Nat × Bool × Bool
abbrev SS : Type := WG × BG × Nat × Nat × Bool × (Nat → Nat → RG)
/-- rows are put as new lines -/
def stPuts (W : WG) (B : BG) (rows : List (List Int)) : Nat ⊕ (WG × BG) := match W, B with
  | (x, g, du, pu, re), (h, o, fi, m, n, rp) => if 40 < pu.length + rows.length then .inl 4 else .inr ((x, g, du, pu ++ mkL n rows, re), h, o, fi, m, n + rows.length, rp)
/-- the work, if it is there, and what is due are put -/
def stPutWork (W : WG) (B : BG) : Nat ⊕ (WG × BG) := match W with
  | (x, g, du, pu, re) => if g = false ∧ pu.length = 40 then .inl 4 else match stPuts (x, g, [], (if g = true then pu else pu ++ [x]), re) B du with
    | .inl w => .inl w
    | .inr q => .inr q
def stGone (W : WG) (B : BG) : WG × BG := match W, B with
  | (x, _, du, pu, re), (h, o, fi, m, n, rp) => ((x, true, du, pu, re), h, o, fi, unmk m x.1, n, rp)
def stDue (W : WG) (rows : List (List Int)) : WG := match W with
  | (x, g, du, pu, re) => (x, g, du ++ rows, pu, re)
def stRow (W : WG) (r : List Int) : WG := match W with
  | (x, g, du, pu, re) => ((x.1, r), g, du, pu, re)
def stTell (W : WG) (B : BG) (r : List Int) : Nat ⊕ (WG × BG) := match B with
  | (h, o, fi, m, n, rp) => match sTell o r with
    | none => .inl 4
    | some o1 => .inr (W, h, o1, fi, m, n, rp)
def stJoin (W : WG) (B : BG) : Nat ⊕ (WG × BG) := match W, B with
  | (x, g, du, pu, re), (h, o, fi, m, n, rp) => match re with
    | [] => .inr (W, B)
    | y :: re => if 30 < (x.2 ++ y.2).length then .inl 4 else .inr (((x.1, x.2 ++ y.2), g, du, pu, re), h, o, fi, unmk m y.1, n, rp)
/-- an act with the work; L: how many lines; run: whether the order's run goes on -/
def stAct (L : Nat) (o : SOrd0) (run : Bool) (W : WG) (B : BG) : Nat ⊕ (WG × BG) :=
  if oAct o = 97 then .inr (stDue W (oRows o), B)
  else if oAct o = 105 then stPuts W B (oRows o)
  else if oAct o = 99 then (if oSnd o = none ∨ run = false then (match stPuts W B (oRows o) with
    | .inl w => .inl w
    | .inr (W1, B1) => .inr (stGone W1 B1)) else .inr (stGone W B))
  else if oAct o = 100 then .inr (stGone W B)
  else if oAct o = 106 then stJoin W B
  else if oAct o = 118 then (if (oNum o).toNat < W.1.2.length then .inr (stRow (stDue W [W.1.2.drop (oNum o).toNat]) (W.1.2.take (oNum o).toNat), B) else .inr (W, B))
  else if oAct o = 112 then stTell W B W.1.2
  else if oAct o = 61 then stTell W B (sNum (L - W.2.2.2.2.length))
  else if oAct o = 110 then stTell W B (sNum (L - W.2.2.2.2.length) ++ [32] ++ W.1.2)
  else if oAct o = 104 then .inr (W, [W.1.2], B.2)
  else if oAct o = 72 then (if B.1.length = 40 then .inl 4 else .inr (W, B.1 ++ [W.1.2], B.2))
  else if oAct o = 117 then (if B.1 = [] then .inl 5 else .inr (stDue W B.1, B))
  else if oAct o = 101 then (if B.1.length = 1 then .inr (stRow W (B.1.getD 0 []), [W.1.2], B.2) else .inl 5)
  else if oAct o = 107 then (match B with | (h, ou, fi, m, n, rp) => .inr (W, h, ou, fi, fup m (oNum o).toNat (some W.1.1), n, rp))
  else if oAct o = 114 then .inr (stDue W (B.2.2.1 (oNum o).toNat), B)
  else if oAct o = 119 then (match B with | (h, ou, fi, m, n, rp) => if (fi (oNum o).toNat).length = 40 then .inl 4 else .inr (W, h, ou, fup fi (oNum o).toNat (fi (oNum o).toNat ++ [W.1.2]), m, n, rp))
  else match sChg o W.1.2 with
    | none => .inl 4
    | some (r, b) => (match B with | (h, ou, fi, m, n, rp) => .inr (stRow W r, h, ou, fi, m, n, rp || b))
/-- what a number, or $, comes to -/
def stVal (L : Nat) (a : SAdr) : Int := (if a.1 = 36 then (L : Int) else a.2.1) + a.2.2.2.1
def stNumr (a : SAdr) : Bool := decide (a.1 = 48 ∨ a.1 = 36)
/-- whether an address holds with the work -/
def stAt (L : Nat) (W : WG) (B : BG) (a : SAdr) : Bool :=
  if stNumr a = true then decide (((L - W.2.2.2.2.length : Nat) : Int) = stVal L a)
  else if a.1 = 39 then decide (B.2.2.2.1 a.2.1.toNat = some W.1.1)
  else if a.1 = 46 then true
  else (mFind a.2.2.1 W.1.2 0).isSome
def stBarA (a : Option SAdr) : Bool := match a with
  | none => false
  | some a => a.2.2.2.2 && !stNumr a
def stBar (o : SOrd0) : Bool := decide (oAct o = 108 ∨ oAct o = 111 ∨ oAct o = 79 ∨ oAct o = 109 ∨ oAct o = 116) || stBarA (oFst o) || stBarA (oSnd o)
/-- a run that is looked at: whether it holds, whether it goes on -/
def stRun (L : Nat) (W : WG) (B : BG) (a b : SAdr) (run : Bool) : Bool × Bool :=
  if run = true ∧ ¬ (stNumr b = true ∧ stVal L b < ((L - W.2.2.2.2.length : Nat) : Int)) then (true, if stNumr b = true then decide (((L - W.2.2.2.2.length : Nat) : Int) < stVal L b) else !stAt L W B b)
  else (stAt L W B a, stAt L W B a && (!stNumr b || decide (((L - W.2.2.2.2.length : Nat) : Int) < stVal L b)))
/-- whether an order is to be done: and what is kept of it -/
def stHold (L : Nat) (W : WG) (B : BG) (turn : Nat) (o : SOrd0) (R : RG) : Bool × RG := match oFst o, oSnd o with
  | none, _ => (true, R)
  | some a, none => (stAt L W B a, R)
  | some a, some b => if R.1 = turn then (R.2.1, R) else ((stRun L W B a b R.2.2).1, turn, stRun L W B a b R.2.2)
def rup (f : Nat → Nat → RG) (k i : Nat) (R : RG) : Nat → Nat → RG := fun a b => if a = k ∧ b = i then R else f a b
/-- an order is come to: whether it is to be done -/
def stCome (L k i : Nat) (o : SOrd0) (S : SS) : Nat ⊕ (Bool × SS) := match S with
  | (W, B, st, tu, ov, ru) => if st = 400 then .inl 7 else if stBar o = true then .inl 8
    else .inr ((stHold L W B tu o (ru k i)).1, W, B, st + 1, tu, ov, rup ru k i (stHold L W B tu o (ru k i)).2)
def stDo (L k i : Nat) (o : SOrd0) (S : SS) : Nat ⊕ SS := match S with
  | (W, B, st, tu, ov, ru) => match stAct L o (ru k i).2.2 W B with
    | .inl w => .inl w
    | .inr (W1, B1) => .inr (W1, B1, st, tu, ov, ru)
abbrev sGoneS (S : SS) : Bool := S.1.2.1
abbrev sOverS (S : SS) : Bool := S.2.2.2.2.1
def stInn (L k : Nat) : List SOrd0 → Nat → SS → Nat ⊕ SS
  | [], _, S => .inr S
  | o :: os, i, S => if sGoneS S = true then .inr S else match stCome L k i o S with
    | .inl w => .inl w
    | .inr (false, S1) => stInn L k os (i + 1) S1
    | .inr (true, S1) => match stDo L k i o S1 with
      | .inl w => .inl w
      | .inr S2 => stInn L k os (i + 1) S2
def stTake (S : SS) : SS := match S with
  | ((x, g, du, pu, re), (h, o, fi, m, n, rp), st, tu, ov, ru) => match re with
    | [] => S
    | y :: re => ((y, false, [], pu, re), (h, o, fi, m, n, false), st, tu + 1, ov, ru)
def stOver (S : SS) : SS := match S with
  | (W, B, st, tu, _, ru) => (W, B, st, tu, true, ru)
def stPutS (S : SS) : Nat ⊕ SS := match S with
  | (W, B, st, tu, ov, ru) => match stPutWork W B with
    | .inl w => .inl w
    | .inr (W1, B1) => .inr (W1, B1, st, tu, ov, ru)
/-- all lines to come are put -/
def stRest (S : SS) : Nat ⊕ SS := match S with
  | ((x, g, du, pu, re), B, st, tu, ov, ru) => if 40 < pu.length + re.length then .inl 4 else .inr ((x, g, du, pu ++ re, []), B, st, tu, ov, ru)
def setRp (S : SS) (b : Bool) : SS := match S with
  | (W, (h, o, fi, m, n, _), q) => (W, (h, o, fi, m, n, b), q)
abbrev sRpS (S : SS) : Bool := S.2.1.2.2.2.2.2
/-- the order at a place: the next place -/
def stOne (L : Nat) (os : List SOrd) (k : Nat) (o : SOrd) (S : SS) : Nat ⊕ (Nat × SS) := match stCome L k 0 o.1 S with
  | .inl w => .inl w
  | .inr (false, S1) => .inr (k + 1, S1)
  | .inr (true, S1) =>
    if oAct o.1 = 58 then .inr (k + 1, S1)
    else if oAct o.1 = 98 then (match sJump os o.1 with | .inl w => .inl w | .inr j => .inr (j, S1))
    else if oAct o.1 = 84 then (if sRpS S1 = true then (match sJump os o.1 with | .inl w => .inl w | .inr j => .inr (j, setRp S1 false)) else .inr (k + 1, setRp S1 false))
    else if oAct o.1 = 113 then (match stPutS S1 with | .inl w => .inl w | .inr S2 => match stRest (stOver S2) with | .inl w => .inl w | .inr S3 => .inr (k + 1, S3))
    else if oAct o.1 = 78 then (match stPutS S1 with | .inl w => .inl w | .inr S2 => .inr (k + 1, if S2.1.2.2.2.2 = [] then stOver S2 else stTake S2))
    else if sIsG (oAct o.1) = true then (if oAct o.1 = 123 ∨ (mFind (oPat o.1) S1.1.1.2 0).isSome = decide (oAct o.1 = 103) then (match stInn L k o.2 1 S1 with | .inl w => .inl w | .inr S2 => .inr (k + 1, S2)) else .inr (k + 1, S1))
    else match stDo L k 0 o.1 S1 with | .inl w => .inl w | .inr S2 => .inr (k + 1, S2)
/-- all orders with a work -/
def stLine (L : Nat) (os : List SOrd) : Nat → Nat → SS → Nat ⊕ SS
  | 0, _, _ => .inl 7
  | n + 1, k, S => if sGoneS S = true ∨ sOverS S = true then .inr S else match os[k]? with
    | none => .inr S
    | some o => match stOne L os k o S with
      | .inl w => .inl w
      | .inr (j, S1) => stLine L os n j S1
def stAll (L : Nat) (os : List SOrd) : Nat → SS → Nat ⊕ SS
  | 0, S => .inr S
  | n + 1, S => if S.1.2.2.2.2 = [] ∨ sOverS S = true then .inr S else match stLine L os 402 0 (stTake S) with
    | .inl w => .inl w
    | .inr S1 => if sOverS S1 = true then .inr S1 else match stPutS S1 with
      | .inl w => .inl w
      | .inr S2 => stAll L os n S2
/-- files that are written begin empty -/
def stEmpty1 (fi : Nat → List (List Int)) (o : SOrd0) : Nat → List (List Int) := if oAct o = 119 then fup fi (oNum o).toNat [] else fi
def stEmpty (os : List SOrd) (fi : Nat → List (List Int)) : Nat → List (List Int) := os.foldl (fun f o => o.2.foldl stEmpty1 (stEmpty1 f o.1)) fi
/-- a script played line by line: answer, reason, state, deeds -/
def sStream (os : List SOrd) (play : Nat) (A : St) (ds : List SDeed) : Int × Nat × St × List SDeed := match A with
  | (t, p, h, o, fi, m, n, rp) => match stAll t.length os t.length (((0, []), true, [], [], t), (h, o, stEmpty os fi, m, n, rp), 0, 0, false, fun _ _ => (0, false, false)) with
    | .inl w => (-1, w, A, ds)
    | .inr ((_, _, _, pu, _), (h1, o1, fi1, m1, n1, rp1), st, _) => ((st : Int), 0, (pu, pu.length, h1, o1, fi1, m1, n1, rp1), keepD ds (play, t, p, m))
