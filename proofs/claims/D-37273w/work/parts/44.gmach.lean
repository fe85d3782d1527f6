set_option maxRecDepth 100000
/-! THE MACHINE G, pure: Lineorders and the JDK's methods that it runs. A value: an int, a long, a reference (none: null). A reference below 1000 is a constant; from 1000 on it is a cell of the heap (its address + 1000).
The heap: classes, int fields, reference fields, array lengths, int elements, reference elements, the next reference, cells and slots used. -/
abbrev GV : Type := Int ⊕ Int ⊕ Option Nat
abbrev GL : Type := List (Option GV)
abbrev GH : Type := (Nat → Nat) × (Nat → Nat → Int) × (Nat → Nat → Option Nat) × (Nat → Nat) × (Nat → Nat → Int) × (Nat → Nat → Option Nat) × Nat × Nat × Nat
abbrev gcls (g : GH) : Nat → Nat := g.1
abbrev gfi (g : GH) : Nat → Nat → Int := g.2.1
abbrev gfr (g : GH) : Nat → Nat → Option Nat := g.2.2.1
abbrev glen (g : GH) : Nat → Nat := g.2.2.2.1
abbrev gai (g : GH) : Nat → Nat → Int := g.2.2.2.2.1
abbrev gar (g : GH) : Nat → Nat → Option Nat := g.2.2.2.2.2.1
abbrev gsz (g : GH) : Nat := g.2.2.2.2.2.2.1
abbrev gnc (g : GH) : Nat := g.2.2.2.2.2.2.2.1
abbrev gns (g : GH) : Nat := g.2.2.2.2.2.2.2.2
def gsfi (g : GH) (F n : Nat) (v : Int) : GH := (g.1, (fun f m => if f = F ∧ m = n then v else g.2.1 f m), g.2.2)
def gsfr (g : GH) (F n : Nat) (r : Option Nat) : GH := (g.1, g.2.1, (fun f m => if f = F ∧ m = n then r else g.2.2.1 f m), g.2.2.2)
def gsai (g : GH) (n j : Nat) (v : Int) : GH := (g.1, g.2.1, g.2.2.1, g.2.2.2.1, (fun m k => if m = n ∧ k = j then v else g.2.2.2.2.1 m k), g.2.2.2.2.2)
def gsar (g : GH) (n j : Nat) (r : Option Nat) : GH := (g.1, g.2.1, g.2.2.1, g.2.2.2.1, g.2.2.2.2.1, (fun m k => if m = n ∧ k = j then r else g.2.2.2.2.2.1 m k), g.2.2.2.2.2.2)
/-- a new cell of class c with length L and s slots: all its fields and elements 0 or null -/
def gnew (g : GH) (c L s : Nat) : GH := ((fun m => if m = gsz g then c else gcls g m), (fun f m => if m = gsz g then 0 else gfi g f m), (fun f m => if m = gsz g then none else gfr g f m), (fun m => if m = gsz g then L else glen g m),
  (fun m k => if m = gsz g then 0 else gai g m k), (fun m k => if m = gsz g then none else gar g m k), gsz g + 1, gnc g + 1, gns g + s)
abbrev inL (x : Int) : Prop := -9223372036854775808 ≤ x ∧ x < 9223372036854775808
def ghas (c F : Nat) : Bool := decide (1 ≤ c ∧ c < 100) && (glay.getD (c - 1) []).contains F
/-- the fields of constants that are known -/
def gkf (F : Nat) : Bool := F == 91 || F == 92 || F == 134
def gfv (g : GH) (F n : Nat) : GV := if gfk F = 4 then .inr (.inr (gfr g F n)) else .inl (gfi g F n)
/-- whether an int fits a kind of field: int, boolean, byte, char -/
abbrev gfit (k : Nat) (x : Int) : Prop := (k = 0 ∧ inR x) ∨ (k = 1 ∧ (x = 0 ∨ x = 1)) ∨ (k = 2 ∧ -128 ≤ x ∧ x < 128) ∨ (k = 3 ∧ 0 ≤ x ∧ x < 65536)
def gbin (a : Nat) (x y : Int) : Option Int := match a with
  | 0 => some (x + y)
  | 1 => some (x - y)
  | 2 => some (x * y)
  | 3 => if (0 ≤ x ∧ x < 2147483648) ∧ 0 < y ∧ y < 2147483648 then some (x / y) else none
  | 4 => if (0 ≤ x ∧ x < 2147483648) ∧ 0 < y ∧ y < 2147483648 then some (x % y) else none
  | 5 => some (Int32.ofInt x <<< (Int32.ofInt y &&& 31)).toInt
  | 6 => some (Int32.ofInt x >>> (Int32.ofInt y &&& 31)).toInt
  | 7 => some ((Int32.ofInt x).toUInt32 >>> ((Int32.ofInt y).toUInt32 &&& Int32.toUInt32 31)).toInt32.toInt
  | 8 => some (Int32.ofInt x &&& Int32.ofInt y).toInt
  | 9 => some (Int32.ofInt x ||| Int32.ofInt y).toInt
  | 10 => some (Int32.ofInt x ^^^ Int32.ofInt y).toInt
  | _ => none
def glong (v : Option GV) : Bool := match v with
  | some (.inr (.inl _)) => true
  | _ => false
def gcat (v : GV) : Nat := match v with
  | .inr (.inl _) => 2
  | _ => 1
/-- a local variable is set: a long that lay half there is gone -/
def glset (ls : GL) (a : Nat) (v : GV) : GL := (match a with
  | 0 => ls
  | k + 1 => if glong (ls.getD k none) then ls.set k none else ls).set a (some v)
def gok (g : GH) (r : Option Nat) : Bool := match r with
  | none => true
  | some n => decide (gcls g n ≠ 0)
/-- two references can be held together: they are the same one, or cells that are known, not two constants -/
def gcan2 (g : GH) (r q : Option Nat) : Bool := decide (r = q) || (gok g r && gok g q && (match r, q with
  | some n, some m => decide (1000 ≤ n ∨ 1000 ≤ m)
  | _, _ => true))
def gasg (ca cv : Nat) : Bool := (ca == 104 && decide (1 ≤ cv ∧ cv < 100)) || (ca == 105 && cv == 13) || (ca == 106 && cv == 6)
def gswt (sw : Int × Nat × List (Int × Nat)) (x : Int) : Nat := ((sw.2.2.find? (fun q => q.1 == x)).map (fun q => q.2)).getD sw.2.1
/-- one step that is neither a call nor a return nor a throw -/
def gstep (i op a : Nat) (b : Int) (ls : GL) (st : List GV) (g : GH) : Option (Nat × GL × List GV × GH) :=
  match op, st with
  | 0, st => some (i + 1, ls, .inl b :: st, g)
  | 1, st => match ls[a]? with
    | some (some (.inl x)) => some (i + 1, ls, .inl x :: st, g)
    | _ => none
  | 2, st => match ls[a]? with
    | some (some (.inr (.inr r))) => some (i + 1, ls, .inr (.inr r) :: st, g)
    | _ => none
  | 3, .inl x :: st => if a < ls.length then some (i + 1, glset ls a (.inl x), st, g) else none
  | 4, .inr (.inr r) :: st => if a < ls.length then some (i + 1, glset ls a (.inr (.inr r)), st, g) else none
  | 5, st => match ls[a]? with
    | some (some (.inr (.inl x))) => some (i + 1, ls, .inr (.inl x) :: st, g)
    | _ => none
  | 6, .inr (.inl x) :: st => if a + 1 < ls.length then some (i + 1, (glset ls a (.inr (.inl x))).set (a + 1) none, st, g) else none
  | 7, .inr (.inr (some n)) :: st => if ghas (gcls g n) a = true ∧ (1000 ≤ n ∨ gkf a = true) then some (i + 1, ls, gfv g a n :: st, g) else none
  | 8, .inl x :: .inr (.inr (some n)) :: st => if ghas (gcls g n) a = true ∧ 1000 ≤ n ∧ gfit (gfk a) x then some (i + 1, ls, st, gsfi g a n x) else none
  | 8, .inr (.inr r) :: .inr (.inr (some n)) :: st => if ghas (gcls g n) a = true ∧ 1000 ≤ n ∧ gfk a = 4 then some (i + 1, ls, st, gsfr g a n r) else none
  | 9, .inl x :: .inr (.inr (some n)) :: st => if gcls g n = 100 ∧ 1000 ≤ n ∧ 0 ≤ x ∧ x < (glen g n : Int) then some (i + 1, ls, .inl (gai g n x.toNat) :: st, g) else none
  | 10, .inl v :: .inl x :: .inr (.inr (some n)) :: st => if gcls g n = 100 ∧ 1000 ≤ n ∧ (0 ≤ x ∧ x < (glen g n : Int)) ∧ inR v then some (i + 1, ls, st, gsai g n x.toNat v) else none
  | 11, .inl x :: .inr (.inr (some n)) :: st => if gcls g n = 101 ∧ 0 ≤ x ∧ x < (glen g n : Int) then some (i + 1, ls, .inl (gai g n x.toNat) :: st, g) else none
  | 12, .inl v :: .inl x :: .inr (.inr (some n)) :: st => if gcls g n = 101 ∧ 1000 ≤ n ∧ (0 ≤ x ∧ x < (glen g n : Int)) ∧ -128 ≤ v ∧ v < 128 then some (i + 1, ls, st, gsai g n x.toNat v) else none
  | 13, .inl x :: .inr (.inr (some n)) :: st => if gcls g n = 102 ∧ 1000 ≤ n ∧ 0 ≤ x ∧ x < (glen g n : Int) then some (i + 1, ls, .inr (.inl (gai g n x.toNat)) :: st, g) else none
  | 14, .inr (.inl v) :: .inl x :: .inr (.inr (some n)) :: st => if gcls g n = 102 ∧ 1000 ≤ n ∧ (0 ≤ x ∧ x < (glen g n : Int)) ∧ inL v then some (i + 1, ls, st, gsai g n x.toNat v) else none
  | 15, .inl x :: .inr (.inr (some n)) :: st => if ((104 ≤ gcls g n ∧ gcls g n ≤ 107 ∧ 1000 ≤ n) ∨ (gcls g n = 108 ∧ n = 333)) ∧ 0 ≤ x ∧ x < (glen g n : Int) then some (i + 1, ls, .inr (.inr (gar g n x.toNat)) :: st, g) else none
  | 16, .inr (.inr r) :: .inl x :: .inr (.inr (some n)) :: st => if ((104 ≤ gcls g n ∧ gcls g n ≤ 107) ∧ ((r = none ∧ gcls g n ≤ 106) ∨ gasg (gcls g n) (gcls g (r.getD 0)) = true ∨ (gcls g n = 107 ∧ gcls g (r.getD 0) = 105 ∧ 1000 ≤ r.getD 0))) ∧ 1000 ≤ n ∧ 0 ≤ x ∧ x < (glen g n : Int) then some (i + 1, ls, st, gsar g n x.toNat r) else none
  | 17, .inr (.inr (some n)) :: st => if (100 ≤ gcls g n ∧ gcls g n ≤ 107 ∧ gcls g n ≠ 103 ∧ 1000 ≤ n) ∨ (100 ≤ gcls g n ∧ n < 1000) then some (i + 1, ls, .inl (glen g n) :: st, g) else none
  | 18, .inl y :: .inl x :: st => match gbin a x y with
    | some z => some (i + 1, ls, .inl z :: st, g)
    | none => none
  | 19, .inl x :: st => some (i + 1, ls, .inl (-x) :: st, g)
  | 20, .inl x :: st => if inR x then some (i + 1, ls, .inr (.inl x) :: st, g) else none
  | 21, .inr (.inl x) :: st => some (i + 1, ls, .inl (Int32.ofInt x).toInt :: st, g)
  | 22, .inl x :: st => if 0 ≤ x ∧ x < 65536 then some (i + 1, ls, .inl x :: st, g) else none
  | 23, .inl x :: st => if -128 ≤ x ∧ x < 128 then some (i + 1, ls, .inl x :: st, g) else none
  | 24, .inr (.inl y) :: .inr (.inl x) :: st => if a = 0 then some (i + 1, ls, .inr (.inl (Int64.ofInt x &&& Int64.ofInt y).toInt) :: st, g) else some (i + 1, ls, .inr (.inl (Int64.ofInt x ||| Int64.ofInt y).toInt) :: st, g)
  | 25, .inl y :: .inr (.inl x) :: st => some (i + 1, ls, .inr (.inl (Int64.ofInt x <<< ((Int32.ofInt y).toInt64 &&& 63)).toInt) :: st, g)
  | 26, .inl y :: .inr (.inl x) :: st => some (i + 1, ls, .inr (.inl ((Int64.ofInt x).toUInt64 >>> ((Int32.ofInt y).toInt64.toUInt64 &&& Int64.toUInt64 63)).toInt64.toInt) :: st, g)
  | 27, st => some (a, ls, st, g)
  | 28, .inl x :: st => if inR x then some (if tcmp b x 0 then a else i + 1, ls, st, g) else none
  | 29, .inl y :: .inl x :: st => if inR x ∧ inR y then some (if tcmp b x y then a else i + 1, ls, st, g) else none
  | 30, .inr (.inr r) :: st => if gok g r = true then some (if r = none then a else i + 1, ls, st, g) else none
  | 31, .inr (.inr r) :: st => if gok g r = true then some (if r = none then i + 1 else a, ls, st, g) else none
  | 32, .inr (.inr q) :: .inr (.inr r) :: st => if gcan2 g r q = true then some (if r = q then a else i + 1, ls, st, g) else none
  | 33, .inr (.inr q) :: .inr (.inr r) :: st => if gcan2 g r q = true then some (if r = q then i + 1 else a, ls, st, g) else none
  | 34, st => some (i + 1, ls, .inr (.inr none) :: st, g)
  | 35, st => match ls[a]? with
    | some (some (.inl x)) => if a < ls.length then some (i + 1, glset ls a (.inl (x + b)), st, g) else none
    | _ => none
  | 36, x :: st => if gcat x = 1 then some (i + 1, ls, x :: x :: st, g) else none
  | 37, y :: x :: st => if gcat x = 1 ∧ gcat y = 1 then some (i + 1, ls, y :: x :: y :: x :: st, g) else none
  | 38, x :: st => if gcat x = 1 then some (i + 1, ls, st, g) else none
  | 39, y :: x :: st => if gcat x = 1 ∧ gcat y = 1 then some (i + 1, ls, y :: x :: y :: st, g) else none
  | 40, st => some (i + 1, ls, .inl b :: st, g)
  | 41, st => some (i + 1, ls, .inl b :: st, g)
  | 42, st => some (i + 1, ls, .inr (.inl b) :: st, g)
  | 43, st => some (i + 1, ls, .inr (.inl b) :: st, g)
  | 44, st => some (i + 1, ls, .inr (.inr (some b.toNat)) :: st, g)
  | 45, st => some (i + 1, ls, .inl (gstatI.getD a 0) :: st, g)
  | 46, st => some (i + 1, ls, .inr (.inr (some (gstatR.getD a 0))) :: st, g)
  | 47, st => some (i + 1, ls, .inr (.inr (some (gsz g))) :: st, gnew g (a + 1) 0 (glay.getD a []).length)
  | 48, .inl x :: st => if 0 ≤ x ∧ x < 65536 then some (i + 1, ls, .inr (.inr (some (gsz g))) :: st, gnew g a x.toNat x.toNat) else none
  | 49, .inl x :: st => if 0 ≤ x ∧ x < 65536 then some (i + 1, ls, .inr (.inr (some (gsz g))) :: st, gnew g a x.toNat x.toNat) else none
  | 50, .inr (.inr r) :: st => if r = none ∨ ((gcasts.getD a []).contains (gcls g (r.getD 0)) = true ∧ (gcls g (r.getD 0) < 100 ∨ 1000 ≤ r.getD 0)) then some (i + 1, ls, .inr (.inr r) :: st, g) else none
  | 51, .inr (.inr (some n)) :: st => if gcls g n = 13 then some (i + 1, ls, .inl 1 :: st, g) else none
  | 52, .inl x :: st => if inR x then some (gswt (gsws.getD a (0, 0, [])) x, ls, st, g) else none
  | 53, .inl x :: st => if inR x then some (gswt (gsws.getD a (0, 0, [])) x, ls, st, g) else none
  | 55, st => some (i + 1, ls, .inr (.inr (some b.toNat)) :: st, g)
  | 56, st => some (i + 1, ls, .inr (.inr (some 334)) :: st, g)
  | 54, .inr (.inl y) :: .inr (.inl x) :: st => if inL x ∧ inL y then some (i + 1, ls, .inl (if x < y then -1 else if x = y then 0 else 1) :: st, g) else none
  | _, _ => none
/-- what a method ends with: a value, or a throw (which class, and the cell if it is of this world) -/
abbrev GO : Type := Option GV ⊕ (Nat × Option Nat)
abbrev GC : Type := Nat → List GV → GH → Option (GO × GH)




def ghnd (hs : List (Nat × Nat × Nat × Nat)) (i : Nat) : Option (Nat × Nat) := (hs.find? (fun h => decide (h.1 ≤ i ∧ i < h.2.1))).map (fun h => (h.2.2.1, h.2.2.2))
def gcpy {α : Type} (f h : Nat → α) (sp dp n : Nat) : Nat → α := fun k => if dp ≤ k ∧ k < dp + n then f (sp + (k - dp)) else h k
def gslots (as : List GV) : GL := as.flatMap (fun v => if gcat v = 2 then [some v, none] else [some v])
def gentry (nL : Nat) (as : List GV) : GL := gslots as ++ List.replicate (nL - (gslots as).length) none
abbrev gretok (k : Nat) (x : Int) : Prop := (k = 1 ∧ inR x) ∨ (k = 2 ∧ (x = 0 ∨ x = 1)) ∨ (k = 3 ∧ 0 ≤ x ∧ x < 65536) ∨ (k = 4 ∧ -128 ≤ x ∧ x < 128)
/-- the first value is a cell of that class -/
def grecv (g : GH) (tag : Nat) (v : Option GV) : Bool := match v with
  | some (.inr (.inr (some n))) => decide (gcls g n = tag)
  | _ => false
/-- null, or an object -/
def gokO (g : GH) (r : Option Nat) : Bool := match r with
  | none => true
  | some n => decide (1 ≤ gcls g n ∧ gcls g n < 100)
/-- the first value is a cell of the world -/
def gnewv (v : Option GV) : Bool := match v with
  | some (.inr (.inr (some n))) => decide (1000 ≤ n)
  | _ => false
def gexec (call : GC) (M : GMeth) : Nat → Nat → GL → List GV → GH → Option (GO × GH)
  | 0, _, _, _, _ => none
  | N + 1, i, ls, st, g => match M.2.2.1[i]? with
    | none => none
    | some (op, a, b) =>
      if op < 60 then
        match gstep i op a b ls st g with
        | some (i', ls', st', g') => gexec call M N i' ls' st' g'
        | none => none
      else match op with
        | 60 => match gsites[a]? with
          | none => none
          | some (kind, mid, tag, num) =>
            if num ≤ st.length ∧ ((st.drop num).map gcat).sum ≤ 8 ∧ (tag = 0 ∨ grecv g tag (st.take num).reverse.head? = true) ∧ ((kind ≠ 4 ∧ kind ≠ 11) ∨ gnewv (st.take num).reverse.head? = true) then
              match call mid (st.take num).reverse g with
              | some (.inl r, g') => gexec call M N (i + 1) ls (r.toList ++ st.drop num) g'
              | some (.inr (E, q), g') => match ghnd M.2.2.2 i with
                | none => some (.inr (E, q), g')
                | some (h, E2) => match q with
                  | none => none
                  | some n => if E2 = E then gexec call M N h ls [.inr (.inr (some n))] g' else none
              | none => none
            else none
        | 61 => match ghnd M.2.2.2 i with
          | none => if ((a = 200 ∧ b = 70) ∨ (a = 201 ∧ b = 73) ∨ (a = 202 ∧ b = 67)) ∧ (st.map gcat).sum ≤ 8 then some (.inr (a, none), (g.1, g.2.1, g.2.2.1, g.2.2.2.1, g.2.2.2.2.1, g.2.2.2.2.2.1, gsz g + 1, gnc g + 1, gns g + 6)) else none
          | some _ => none
        | 62 => match st with
          | .inr (.inr (some n)) :: _ => if (gcls g n = 5 ∨ gcls g n = 11) ∧ 1000 ≤ n ∧ ghnd M.2.2.2 i = none then some (.inr (gcls g n, some n), g) else none
          | _ => none
        | 63 => match st with
          | [.inl x] => if gretok M.2.1 x then some (.inl (some (.inl x)), g) else none
          | _ => none
        | 64 => match st with
          | [.inr (.inr r)] => if M.2.1 = 5 then some (.inl (some (.inr (.inr r))), g) else none
          | _ => none
        | 65 => match st with
          | [] => if M.2.1 = 0 then some (.inl none, g) else none
          | _ => none
        | 66 => match st with
          | .inr (.inr (some n)) :: rest => if 1000 ≤ n ∧ (rest.map gcat).sum ≤ 8 then gexec call M N (i + 1) ls rest g else none
          | _ => none
        | 67 => match st with
          | .inl n :: .inl dp :: .inr (.inr (some d)) :: .inl sp :: .inr (.inr (some s)) :: rest =>
            if (rest.map gcat).sum ≤ 8 ∧ 1000 ≤ d ∧ gcls g d = gcls g s ∧ (0 ≤ n ∧ 0 ≤ sp ∧ 0 ≤ dp ∧ sp + n ≤ (glen g s : Int) ∧ dp + n ≤ (glen g d : Int)) ∧ (gcls g s = 101 ∨ (1000 ≤ s ∧ gcls g s = 102) ∨ (1000 ≤ s ∧ gcls g s = 104 ∧ ∀ k, k < n.toNat → gokO g (gar g s (sp.toNat + k)) = true)) then
              gexec call M N (i + 1) ls rest (if gcls g s = 104 then (g.1, g.2.1, g.2.2.1, g.2.2.2.1, g.2.2.2.2.1, (fun m => if m = d then gcpy (gar g s) (gar g d) sp.toNat dp.toNat n.toNat else gar g m), g.2.2.2.2.2.2)
                else (g.1, g.2.1, g.2.2.1, g.2.2.2.1, (fun m => if m = d then gcpy (gai g s) (gai g d) sp.toNat dp.toNat n.toNat else gai g m), g.2.2.2.2.2))
            else none
          | _ => none
        | 68 => match st with
          | .inr (.inr (some s)) :: rest => if (rest.map gcat).sum ≤ 8 ∧ 1000 ≤ s ∧ gcls g s = a then
              gexec call M N (i + 1) ls (.inr (.inr (some (gsz g))) :: rest) (let h := gnew g a (glen g s) (glen g s); (h.1, h.2.1, h.2.2.1, h.2.2.2.1, (fun m => if m = gsz g then gai g s else gai g m), h.2.2.2.2.2))
            else none
          | _ => none
        | 69 => match st with
          | .inr (.inr (some s)) :: rest => if (rest.map gcat).sum ≤ 8 ∧ 1000 ≤ s ∧ gcls g s = 104 then gexec call M N (i + 1) ls (.inr (.inr (some 334)) :: rest) g else none
          | _ => none
        | 70 => match st with
          | .inl y :: .inl x :: rest => if (rest.map gcat).sum ≤ 8 ∧ inR x ∧ inR y then gexec call M N (i + 1) ls (.inl (if x < y then y else x) :: rest) g else none
          | _ => none
        | 71 => match st with
          | .inl y :: .inl x :: rest => if (rest.map gcat).sum ≤ 8 ∧ inR x ∧ inR y then gexec call M N (i + 1) ls (.inl (if y < x then y else x) :: rest) g else none
          | _ => none
        | _ => none
def grun : Nat → Nat → GC
  | 0, _ => fun _ _ _ => none
  | d + 1, N => fun mid as g => match gmt[mid]? with
    | none => none
    | some M => if (gslots as).length ≤ M.1 then gexec (grun d N) M N 0 (gentry M.1 as) [] g else none
