-- C
set_option maxRecDepth 100000
/-! LINEORDERS: met, its bits and its list -/
section PM
variable {d n m q i a y cap c1 c2 cap' p p' B c k f e l u w yp pp it lr j first : Nat} {S S' S0 S1 S2 : BS} {K : Nat → Nat} {la : Int → Nat} {G : BG} {A : St} {F V : Nat → Prop} {v nn b1 x1 x2 x3 : Int} {dn rs t : List SLine} {x : SLine} {r : Option Nat} {Q : GO → BS → Prop} {od : SOrd0} {pt : SPat} {o : Obj} {zz : Prop}
/-- whether line j is met; the met lines ahead of k -/
def mtB (od : SOrd0) (t : List SLine) (j : Nat) : Bool := decide (oAct od = 123) || ((mFind (oPat od) (rowAt t (j - 1)) 0).isSome == decide (oAct od = 103))
def metT (od : SOrd0) (t : List SLine) (f k : Nat) : List Int := sMet od ((t.drop (f - 1)).take (k - f))
theorem metT_0 (h : k ≤ f) : metT od t f k = [] := by
  unfold metT
  rw [show k - f = 0 by omega]
  rfl
theorem metT_s (hf : 1 ≤ f) (hfk : f ≤ k) (hk : k ≤ t.length) : metT od t f (k + 1) = metT od t f k ++ (if mtB od t k = true then [idAt t (k - 1)] else []) := by
  unfold metT
  have hl : k - f < (t.drop (f - 1)).length := by rw [List.length_drop]; omega
  have e1 : (t.drop (f - 1))[k - f] = t.getD (k - 1) (0, []) := by
    rw [List.getElem_drop, List.getD_eq_getElem?_getD, List.getElem?_eq_getElem (show k - 1 < t.length by omega)]
    show t[f - 1 + (k - f)] = t[k - 1]
    congr 1
    omega
  rw [show k + 1 - f = (k - f) + 1 by omega, List.take_succ_eq_append_getElem hl, e1]
  unfold sMet idsOfL
  rw [List.filter_append, List.map_append]
  congr 1
  have e2 : (decide (oAct od = 123) || ((mFind (oPat od) (t.getD (k - 1) (0, [])).2 0).isSome == decide (oAct od = 103))) = mtB od t k := rfl
  by_cases z : mtB od t k = true
  · rw [if_pos z, List.filter_cons, if_pos (by rw [← e2] at z; exact z)]
    rfl
  · rw [if_neg z, List.filter_cons, if_neg (by rw [← e2] at z; exact z)]
    rfl
theorem metT_no (hf : 1 ≤ f) : ∀ (n k : Nat), k + n ≤ t.length + 1 → (∀ j, k ≤ j → j < k + n → f ≤ j → mtB od t j = false) → metT od t f (k + n) = metT od t f k := by
  intro n
  induction n with
  | zero => intro k _ _; rfl
  | succ n ih =>
    intro k hk hno
    have h1 := ih k (by omega) (fun j h1 h2 h3 => hno j h1 (by omega) h3)
    rcases Nat.lt_or_ge (k + n) f with z | z
    · rw [metT_0 (by omega : k + (n + 1) ≤ f), metT_0 (by omega : k ≤ f)]
    · have h2 := hno (k + n) (by omega) (by omega) z
      rw [show k + (n + 1) = (k + n) + 1 by omega, metT_s hf z (by omega), h1, h2]
      simp
end PM
