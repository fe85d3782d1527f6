set_option maxRecDepth 100000
/-! MATCHING, as a specification -/
abbrev MG : Type := Nat → Int
def gst (b : MG) (n : Nat) (v : Int) : MG := fun k => if k = n then v else b k
/-- a single part fits a sign: any, a sign, a set -/
def mFit (kd : Nat) (sg : List Int) (neg : Bool) (c : Int) : Bool := if kd = 1 then true else (sg.contains c != neg)
/-- what a group told is found again at a place -/
def mTold (row : List Int) (at' : Nat) (x y : Int) : Bool := decide (at' + (y - x) ≤ row.length) && decide (∀ j : Nat, j < (y - x).toNat → row.getD (at' + j) 0 = row.getD (x.toNat + j) 0)
/-- a run through the parts, the stars' lengths being told -/
def mRun (row : List Int) (one other : Nat) : List SPart → Nat → Nat → MG → MG → Option (Nat × MG × MG)
  | [], _, at', b, e => some (at', b, e)
  | (kd, nr, sg, neg) :: ps, i, at', b, e =>
    if kd = 4 then mRun row one other ps i at' (gst b nr at') e
    else if kd = 5 then mRun row one other ps i at' b (gst e nr at')
    else if kd = 2 then (if at' + (if i = 0 then one else other) ≤ row.length then mRun row one other ps (i + 1) (at' + (if i = 0 then one else other)) b e else none)
    else if kd = 6 then (if mTold row at' (b nr) (e nr) = true then mRun row one other ps i (at' + (e nr - b nr).toNat) b e else none)
    else if at' < row.length ∧ mFit kd sg neg (row.getD at' 0) = true then mRun row one other ps i (at' + 1) b e
    else none
/-- parts with their groups in order; S groups are closed, o: one is open -/
def wfp : Nat → Bool → List SPart → Prop
  | _, o, [] => o = false
  | S, o, (kd, nr, _, _) :: ps =>
    if kd = 4 then (o = false ∧ nr = S + 1 ∧ S < 2) ∧ wfp S true ps
    else if kd = 5 then (o = true ∧ nr = S + 1 ∧ S < 2) ∧ wfp (S + 1) false ps
    else if kd = 6 then (o = false ∧ 1 ≤ nr ∧ nr ≤ S) ∧ wfp S o ps
    else wfp S o ps
def clo : Nat → List SPart → Nat
  | S, [] => S
  | S, (kd, _, _, _) :: ps => if kd = 5 then clo (S + 1) ps else clo S ps
/-- alike in the groups that are closed, and in where the open one begins -/
def Agr (S : Nat) (o : Bool) (b b' e e' : MG) : Prop := (∀ n, 1 ≤ n → n ≤ S → b n = b' n ∧ e n = e' n) ∧ (o = true → b (S + 1) = b' (S + 1))
def AgO (S : Nat) : Option (Nat × MG × MG) → Option (Nat × MG × MG) → Prop
  | none, none => True
  | some (a, b, e), some (a', b', e') => a = a' ∧ Agr S false b b' e e'
  | _, _ => False
theorem mRun_agr {row : List Int} {one other : Nat} : ∀ (ps : List SPart) (S : Nat) (o : Bool) (i at' : Nat) (b b' e e' : MG), wfp S o ps → Agr S o b b' e e' → AgO (clo S ps) (mRun row one other ps i at' b e) (mRun row one other ps i at' b' e') := by
  intro ps
  induction ps with
  | nil =>
    intro S o i at' b b' e e' hw ha
    have ho : o = false := hw
    subst ho
    exact ⟨rfl, ha⟩
  | cons p ps ih =>
    intro S o i at' b b' e e' hw ha
    obtain ⟨kd, nr, sg, neg⟩ := p
    unfold mRun clo
    unfold wfp at hw
    by_cases h4 : kd = 4
    · rw [if_pos h4] at hw ⊢
      rw [if_pos h4, if_neg (by omega)]
      obtain ⟨⟨h1, h2, h3⟩, hw⟩ := hw
      refine ih S true i at' _ _ _ _ hw ⟨fun n n1 n2 => ?_, fun _ => ?_⟩
      · unfold gst
        rw [if_neg (by omega), if_neg (by omega)]
        exact ha.1 n n1 n2
      · unfold gst
        rw [if_pos (by omega), if_pos (by omega)]
    rw [if_neg h4] at hw ⊢
    rw [if_neg h4]
    by_cases h5 : kd = 5
    · rw [if_pos h5] at hw ⊢
      rw [if_pos h5, if_pos h5]
      obtain ⟨⟨h1, h2, h3⟩, hw⟩ := hw
      refine ih (S + 1) false i at' _ _ _ _ hw ⟨fun n n1 n2 => ?_, fun z => by cases z⟩
      unfold gst
      by_cases hn : n = S + 1
      · rw [if_pos (by omega), if_pos (by omega), hn]
        exact ⟨ha.2 h1, rfl⟩
      · rw [if_neg (by omega), if_neg (by omega)]
        exact ha.1 n n1 (by omega)
    rw [if_neg h5] at hw ⊢
    rw [if_neg h5, if_neg h5]
    by_cases h2 : kd = 2
    · rw [if_neg (by omega)] at hw
      rw [if_pos h2, if_pos h2]
      by_cases hl : at' + (if i = 0 then one else other) ≤ row.length
      · rw [if_pos hl, if_pos hl]
        exact ih S o _ _ _ _ _ _ hw ha
      · rw [if_neg hl, if_neg hl]
        exact True.intro
    rw [if_neg h2, if_neg h2]
    by_cases h6 : kd = 6
    · rw [if_pos h6] at hw
      rw [if_pos h6, if_pos h6]
      obtain ⟨⟨h1, h7, h8⟩, hw⟩ := hw
      have hb := ha.1 nr h7 h8
      rw [hb.1, hb.2]
      by_cases hl : mTold row at' (b' nr) (e' nr) = true
      · rw [if_pos hl, if_pos hl]
        exact ih S o _ _ _ _ _ _ hw ha
      · rw [if_neg hl, if_neg hl]
        exact True.intro
    rw [if_neg h6] at hw
    rw [if_neg h6, if_neg h6]
    by_cases hl : at' < row.length ∧ mFit kd sg neg (row.getD at' 0) = true
    · rw [if_pos hl, if_pos hl]
      exact ih S o _ _ _ _ _ _ hw ha
    · rw [if_neg hl, if_neg hl]
      exact True.intro
/-- the first from above -/
def fd {α : Type} (f : Nat → Option α) : Nat → Option α
  | 0 => f 0
  | n + 1 => match f (n + 1) with
    | some x => some x
    | none => fd f n
def stars (ps : List SPart) : Nat := (ps.filter (fun p => p.1 == 2)).length
def mTry (row : List Int) (ps : List SPart) (lst : Bool) (place : Nat) (b e : MG) (one other : Nat) : Option (Nat × MG × MG) := match mRun row one other ps 0 place b e with
  | some q => if lst = false ∨ q.1 = row.length then some q else none
  | none => none
def g0 : MG := fun _ => 0
/-- a match at a place: its end, its groups -/
def mAt (pt : SPat) (row : List Int) (place : Nat) : Option (Nat × MG × MG) :=
  if pt.2.1 = true ∧ 0 < place then none
  else fd (fun one => fd (fun other => mTry row pt.1 pt.2.2 place g0 g0 one other) (if 1 < stars pt.1 then row.length - place - one else 0)) (if 0 < stars pt.1 then row.length - place else 0)
/-- the first match from a place on; k places are left to try -/
def mFrom (pt : SPat) (row : List Int) : Nat → Nat → Option (Nat × Nat × MG × MG)
  | 0, _ => none
  | k + 1, place => match mAt pt row place with
    | some q => some (place, q)
    | none => mFrom pt row k (place + 1)
def mFind (pt : SPat) (row : List Int) (place : Nat) : Option (Nat × Nat × MG × MG) := mFrom pt row (row.length + 1 - place) place
/-- the next one behind a match that ended at e -/
def mNext (pt : SPat) (row : List Int) (e : Nat) : Option (Nat × Nat × MG × MG) := match mAt pt row e with
  | some q => if e < q.1 then some (e, q) else mFind pt row (e + 1)
  | none => mFind pt row (e + 1)
/-- what a run leaves: places in order -/
def GOk (S : Nat) (o : Bool) (b e : MG) (at' : Nat) : Prop := (∀ n, 1 ≤ n → n ≤ S → 0 ≤ b n ∧ b n ≤ e n ∧ e n ≤ at') ∧ (o = true → 0 ≤ b (S + 1) ∧ b (S + 1) ≤ at')
theorem GOk.le {S : Nat} {o : Bool} {b e : MG} {a a' : Nat} (h : GOk S o b e a) (ha : a ≤ a') : GOk S o b e a' := ⟨fun n h1 h2 => by have := h.1 n h1 h2; omega, fun ho => by have := h.2 ho; omega⟩
theorem GOk.opn {S : Nat} {b e : MG} {a : Nat} (h : GOk S false b e a) : GOk S true (gst b (S + 1) a) e a := ⟨fun n h1 h2 => by
  unfold gst; rw [if_neg (by omega)]; exact h.1 n h1 h2, fun _ => by unfold gst; rw [if_pos rfl]; omega⟩
theorem GOk.cls {S : Nat} {b e : MG} {a : Nat} (h : GOk S true b e a) : GOk (S + 1) false b (gst e (S + 1) a) a := ⟨fun n h1 h2 => by
  unfold gst
  by_cases hn : n = S + 1
  · rw [if_pos hn, hn]; have := h.2 rfl; omega
  · rw [if_neg hn]; exact h.1 n h1 (by omega), fun z => by cases z⟩
theorem mRun_ok {row : List Int} {one other : Nat} : ∀ (ps : List SPart) (S : Nat) (o : Bool) (i at' : Nat) (b e : MG), wfp S o ps → GOk S o b e at' → at' ≤ row.length → ∀ a b1 e1, mRun row one other ps i at' b e = some (a, b1, e1) → GOk (clo S ps) false b1 e1 a ∧ at' ≤ a ∧ a ≤ row.length := by
  intro ps
  induction ps with
  | nil =>
    intro S o i at' b e hw ha hl a b1 e1 hr
    have ho : o = false := hw
    subst ho
    cases hr
    exact ⟨ha, Nat.le_refl _, hl⟩
  | cons p ps ih =>
    intro S o i at' b e hw ha hl a b1 e1 hr
    obtain ⟨kd, nr, sg, neg⟩ := p
    unfold mRun at hr
    unfold clo
    unfold wfp at hw
    by_cases h4 : kd = 4
    · rw [if_pos h4] at hw hr
      rw [if_neg (by omega)]
      obtain ⟨⟨h1, h2, h3⟩, hw⟩ := hw
      subst h1 h2
      exact ih S true i at' _ _ hw ha.opn hl a b1 e1 hr
    rw [if_neg h4] at hw hr
    by_cases h5 : kd = 5
    · rw [if_pos h5] at hw hr
      rw [if_pos h5]
      obtain ⟨⟨h1, h2, h3⟩, hw⟩ := hw
      subst h1 h2
      exact ih (S + 1) false i at' _ _ hw ha.cls hl a b1 e1 hr
    rw [if_neg h5] at hw hr
    rw [if_neg h5]
    by_cases h2 : kd = 2
    · rw [if_neg (by omega)] at hw
      rw [if_pos h2] at hr
      by_cases hl2 : at' + (if i = 0 then one else other) ≤ row.length
      · rw [if_pos hl2] at hr
        have := ih S o _ _ _ _ hw (ha.le (Nat.le_add_right _ _)) hl2 a b1 e1 hr
        exact ⟨this.1, by omega, this.2.2⟩
      · rw [if_neg hl2] at hr
        cases hr
    rw [if_neg h2] at hr
    by_cases h6 : kd = 6
    · rw [if_pos h6] at hw hr
      obtain ⟨⟨h1, h7, h8⟩, hw⟩ := hw
      have hb := ha.1 nr h7 h8
      split at hr
      · rename_i hl2
        unfold mTold at hl2
        rw [Bool.and_eq_true, decide_eq_true_eq] at hl2
        have := ih S o _ _ _ _ hw (ha.le (Nat.le_add_right _ _)) (by omega) a b1 e1 hr
        exact ⟨this.1, by omega, this.2.2⟩
      · cases hr
    rw [if_neg h6] at hw hr
    split at hr
    · rename_i hl2
      have := ih S o _ _ _ _ hw (ha.le (Nat.le_add_right _ 1)) (by omega) a b1 e1 hr
      exact ⟨this.1, by omega, this.2.2⟩
    · cases hr
