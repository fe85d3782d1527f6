set_option maxRecDepth 100000
/-! WHAT CALLS ANSWER, as a specification. The state between calls: tape, scripts, text and the rest, deeds, calls, reason. An answer: which exception (by the law's number), or a value. -/
abbrev PW : Type := List Int × (Nat → Option (List Int)) × St × List SDeed × Nat × Nat
abbrev PA : Type := (Nat ⊕ Int) × PW
def isFo (k : Int) : Bool := decide (0 ≤ k ∧ k < 4)
def pType (p : Int) (w : PW) : PA := if p < 32 ∨ 126 < p then (.inl 1, w) else if w.1.length = 60 then (.inl 2, w) else (.inr ((w.1.length + 1 : Nat) : Int), w.1 ++ [p], w.2)
def pWipe (w : PW) : PA := (.inr (w.1.length : Int), [], w.2)
def flt {α : Type} (R : Nat ⊕ α) : Int := match R with
  | .inl k => (k : Int)
  | .inr _ => -1
def pFault (w : PW) : PA := (.inr (flt (sOrders w.1)), w)
def pPFault (w : PW) : PA := (.inr (flt (sPattern w.1)), w)
def doAllW (os : List SOrd) (w : PW) : PA := match w with
  | (tp, sc, A, ds, cl, _) => (.inr ((sAll os (cl + 1) A ds).1 : Int), tp, sc, (sAll os (cl + 1) A ds).2.2.1, (sAll os (cl + 1) A ds).2.2.2, cl + 1, (sAll os (cl + 1) A ds).2.1)
def strW (os : List SOrd) (w : PW) : PA := match w with
  | (tp, sc, A, ds, cl, _) => (.inr (sStream os (cl + 1) A ds).1, tp, sc, (sStream os (cl + 1) A ds).2.2.1, (sStream os (cl + 1) A ds).2.2.2, cl + 1, (sStream os (cl + 1) A ds).2.1)
def pRun (w : PW) : PA := match sOrders w.1 with
  | .inl _ => (.inl 1, w)
  | .inr os => doAllW os w
def pKeep (k : Int) (w : PW) : PA := if isFo k = false then (.inl 1, w) else match sOrders w.1 with
  | .inl _ => (.inl 2, w)
  | .inr _ => (.inr (w.1.length : Int), w.1, fup w.2.1 k.toNat (some w.1), w.2.2)
def pPlay (k : Int) (w : PW) : PA := if isFo k = false then (.inl 1, w) else match w.2.1 k.toNat with
  | none => (.inl 2, w)
  | some t => match sOrders t with
    | .inl _ => (.inl 2, w)
    | .inr os => doAllW os w
def pStream (k : Int) (w : PW) : PA := if isFo k = false then (.inl 1, w) else match w.2.1 k.toNat with
  | none => (.inl 2, w)
  | some t => match sOrders t with
    | .inl _ => (.inl 2, w)
    | .inr os => strW os w
def pReason (w : PW) : PA := (.inr (w.2.2.2.2.2 : Int), w)
def pSLen (k : Int) (w : PW) : PA := if isFo k = false then (.inl 1, w) else match w.2.1 k.toNat with
  | none => (.inr (-1), w)
  | some t => (.inr (t.length : Int), w)
/-- a sign of a row -/
def sgnAt (r : List Int) (p : Int) (w : PW) : PA := if 0 ≤ p ∧ p < (r.length : Int) then (.inr (r.getD p.toNat 0), w) else (.inl 1, w)
def pSAt (k p : Int) (w : PW) : PA := if isFo k = false then (.inl 1, w) else match w.2.1 k.toNat with
  | none => (.inl 1, w)
  | some t => sgnAt t p w
def undoA (A : St) (q : SDeed) : St := match A with
  | (_, _, h, o, fi, _, n, rp) => (q.2.1, q.2.2.1, h, o, fi, q.2.2.2, n, rp)
def noDeed : SDeed := (0, [], 0, fun _ => none)
def lastD (ds : List SDeed) : SDeed := ds.getD (ds.length - 1) noDeed
def setAD (w : PW) (A : St) (ds : List SDeed) : PW := (w.1, w.2.1, A, ds, w.2.2.2.2)
def pUndo (w : PW) : PA := if w.2.2.2.1 = [] then (.inl 1, w) else (.inr ((w.2.2.2.1.length - 1 : Nat) : Int), setAD w (undoA w.2.2.1 (lastD w.2.2.2.1)) (w.2.2.2.1.take (w.2.2.2.1.length - 1)))
def undoF (pl : Nat) : Nat → St → List SDeed → Nat × St × List SDeed
  | 0, A, ds => (0, A, ds)
  | n + 1, A, ds => if ds ≠ [] ∧ (lastD ds).1 = pl then ((undoF pl n (undoA A (lastD ds)) (ds.take (ds.length - 1))).1 + 1, (undoF pl n (undoA A (lastD ds)) (ds.take (ds.length - 1))).2) else (0, A, ds)
def pUndoRun (w : PW) : PA := if w.2.2.2.1 = [] then (.inl 1, w) else match undoF (lastD w.2.2.2.1).1 w.2.2.2.1.length w.2.2.1 w.2.2.2.1 with
  | (k, A, ds) => (.inr (k : Int), setAD w A ds)
def pDeeds (w : PW) : PA := (.inr (w.2.2.2.1.length : Int), w)
def pLines (w : PW) : PA := (.inr (w.2.2.1.1.length : Int), w)
/-- the n-th of some, from 1 on -/
def isNr (n : Int) (k : Nat) : Bool := decide (1 ≤ n ∧ n ≤ (k : Int))
def pLength (n : Int) (w : PW) : PA := if isNr n w.2.2.1.1.length = false then (.inl 1, w) else (.inr ((rowAt w.2.2.1.1 (n - 1).toNat).length : Int), w)
def pAt (n p : Int) (w : PW) : PA := if isNr n w.2.2.1.1.length = false then (.inl 1, w) else sgnAt (rowAt w.2.2.1.1 (n - 1).toNat) p w
def pId (n : Int) (w : PW) : PA := if isNr n w.2.2.1.1.length = false then (.inl 1, w) else (.inr (idAt w.2.2.1.1 (n - 1).toNat), w)
def pLineOf (x : Int) (w : PW) : PA := (.inr (if linNo w.2.2.1.1 x = 0 then -1 else (linNo w.2.2.1.1 x : Int)), w)
def pPresent (w : PW) : PA := (.inr (w.2.2.1.2.1 : Int), w)
def pMark (m : Int) (w : PW) : PA := if 0 ≤ m ∧ m < 5 then (match w.2.2.1.2.2.2.2.2.1 m.toNat with
    | none => (.inr (-1), w)
    | some x => (.inr (linNo w.2.2.1.1 x : Int), w)) else (.inl 1, w)
def lcg (x : Int) : Int := (25173 * x + 13849) % 65536
/-- a row's signs by chance: the row, the seed behind it -/
def smpR : Nat → Int → List Int × Int
  | 0, x => ([], x)
  | n + 1, x => ((if lcg x / 16 % 6 = 5 then 32 else 97 + lcg x / 16 % 6) :: (smpR n (lcg x)).1, (smpR n (lcg x)).2)
def smpL : Nat → Int → List (List Int)
  | 0, _ => []
  | n + 1, x => (smpR (lcg x / 16 % 9).toNat (lcg x)).1 :: smpL n (smpR (lcg x / 16 % 9).toNat (lcg x)).2
def smpA (A : St) (rows : List (List Int)) : St := match A with
  | (t, _, h, o, fi, mks, n, rp) => (t ++ mkL n rows, t.length + rows.length, h, o, fi, mks, n + rows.length, rp)
def pSample (x k : Int) (w : PW) : PA := if ¬ ((0 ≤ x ∧ x ≤ 65535) ∧ 1 ≤ k ∧ k ≤ 20) then (.inl 1, w) else if 40 < (w.2.2.1.1.length : Int) + k then (.inl 2, w) else match w with
  | (tp, sc, A, ds, cl, re) => (.inr ((A.1.length : Int) + k), tp, sc, smpA A (smpL k.toNat x), keepD ds (cl + 1, A.1, A.2.1, A.2.2.2.2.2.1), cl + 1, re)
/-- rows: how many; how long one is; a sign of it -/
def rLen (rows : List (List Int)) (n : Int) (w : PW) : PA := if isNr n rows.length = false then (.inl 1, w) else (.inr ((rows.getD (n - 1).toNat []).length : Int), w)
def rAt (rows : List (List Int)) (n p : Int) (w : PW) : PA := if isNr n rows.length = false then (.inl 1, w) else sgnAt (rows.getD (n - 1).toNat []) p w
def pHeld (w : PW) : PA := (.inr (w.2.2.1.2.2.1.length : Int), w)
def pOuts (w : PW) : PA := (.inr (w.2.2.1.2.2.2.1.length : Int), w)
def clrA (A : St) : St := match A with
  | (t, p, h, _, fi, mks, n, rp) => (t, p, h, [], fi, mks, n, rp)
def pClearOut (w : PW) : PA := (.inr (w.2.2.1.2.2.2.1.length : Int), setAD w (clrA w.2.2.1) w.2.2.2.1)
def pFRows (k : Int) (w : PW) : PA := if isFo k = false then (.inl 1, w) else (.inr ((w.2.2.1.2.2.2.2.1 k.toNat).length : Int), w)
def pFLen (k n : Int) (w : PW) : PA := if isFo k = false then (.inl 1, w) else rLen (w.2.2.1.2.2.2.2.1 k.toNat) n w
def pFAt (k n p : Int) (w : PW) : PA := if isFo k = false then (.inl 1, w) else rAt (w.2.2.1.2.2.2.2.1 k.toNat) n p w
def pFind (back : Bool) (w : PW) : PA := match sPattern w.1 with
  | .inl _ => (.inl 1, w)
  | .inr pt => (.inr (if sSeek w.2.2.1.1 w.2.2.1.2.1 pt back = 0 then -1 else (sSeek w.2.2.1.1 w.2.2.1.2.1 pt back : Int)), w)
/-- where a find begins, or ends -/
def fndV (e : Bool) (R : Option (Nat × Nat × MG × MG)) : Int := match R with
  | none => -1
  | some (a, b, _) => if e = true then (b : Int) else (a : Int)
def pFSE (e : Bool) (n : Int) (w : PW) : PA := if isNr n w.2.2.1.1.length = false then (.inl 1, w) else match sPattern w.1 with
  | .inl _ => (.inl 2, w)
  | .inr pt => (.inr (fndV e (mFind pt (rowAt w.2.2.1.1 (n - 1).toNat) 0)), w)
/-- the longest common part of two lists of rows -/
def lcsA (x : List Int) (f : List (List Int) → Nat) : List (List Int) → Nat
  | [] => 0
  | y :: ys => if x = y then f ys + 1 else max (f (y :: ys)) (lcsA x f ys)
def lcs : List (List Int) → List (List Int) → Nat
  | [] => fun _ => 0
  | x :: xs => lcsA x (lcs xs)
/-- pairs from places on: (line, row), both from 0 -/
def prF (a b : List (List Int)) : Nat → Nat → Nat → List (Nat × Nat)
  | 0, _, _ => []
  | n + 1, i, j => if i < a.length ∧ j < b.length then
      (if a.getD i [] = b.getD j [] then (i, j) :: prF a b n (i + 1) (j + 1)
       else if lcs (a.drop i) (b.drop (j + 1)) ≤ lcs (a.drop (i + 1)) (b.drop j) then prF a b n (i + 1) j else prF a b n i (j + 1)) else []
def prs (a b : List (List Int)) : List (Nat × Nat) := prF a b (a.length + b.length) 0 0
/-- the row of a line's pair, from 1 on; 0: none -/
def prOf (ps : List (Nat × Nat)) (i : Nat) : Nat := match ps.find? (fun q => q.1 == i) with
  | none => 0
  | some q => q.2 + 1
def pDiffer (k : Int) (w : PW) : PA := if isFo k = false then (.inl 1, w) else (.inr ((w.2.2.1.1.length : Int) + (w.2.2.1.2.2.2.2.1 k.toNat).length - 2 * (prs (rowsOfL w.2.2.1.1) (w.2.2.1.2.2.2.2.1 k.toNat)).length), w)
def pPairOf (k n : Int) (w : PW) : PA := if isFo k = false ∨ isNr n w.2.2.1.1.length = false then (.inl 1, w) else (.inr (if prOf (prs (rowsOfL w.2.2.1.1) (w.2.2.1.2.2.2.2.1 k.toNat)) (n - 1).toNat = 0 then -1 else (prOf (prs (rowsOfL w.2.2.1.1) (w.2.2.1.2.2.2.2.1 k.toNat)) (n - 1).toNat : Int)), w)
def pSound (w : PW) : PA := (.inr 1, w)
