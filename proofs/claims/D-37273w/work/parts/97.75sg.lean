set_option maxRecDepth 100000
/-! A PATTERN'S SEARCH, as the class does it, and that it finds what matching finds -/
/-- the search on from parts: each star's length from above -/
def sGo (row : List Int) (lst : Bool) : List SPart → Nat → MG → MG → Option (Nat × MG × MG)
  | [], at', b, e => if lst = false ∨ at' = row.length then some (at', b, e) else none
  | (kd, nr, sg, neg) :: ps, at', b, e =>
    if kd = 4 then sGo row lst ps at' (gst b nr at') e
    else if kd = 5 then sGo row lst ps at' b (gst e nr at')
    else if kd = 2 then fd (fun k => sGo row lst ps (at' + k) b e) (row.length - at')
    else if kd = 6 then (if mTold row at' (b nr) (e nr) = true then sGo row lst ps (at' + (e nr - b nr).toNat) b e else none)
    else if at' < row.length ∧ mFit kd sg neg (row.getD at' 0) = true then sGo row lst ps (at' + 1) b e
    else none
def mFin (row : List Int) (lst : Bool) (q : Option (Nat × MG × MG)) : Option (Nat × MG × MG) := match q with
  | some q => if lst = false ∨ q.1 = row.length then some q else none
  | none => none
section SG
variable {row : List Int} {lst : Bool}
theorem fd_ext {α : Type} {f g : Nat → Option α} : ∀ (n : Nat), (∀ k, k ≤ n → f k = g k) → fd f n = fd g n := by
  intro n
  induction n with
  | zero => intro h; exact h 0 (Nat.le_refl _)
  | succ n ih =>
    intro h
    rw [fd_succ, fd_succ, h (n + 1) (Nat.le_refl _), ih (fun k hk => h k (by omega))]
theorem fd_cut {α : Type} {f : Nat → Option α} {m : Nat} : ∀ (n : Nat), m ≤ n → (∀ k, m < k → k ≤ n → f k = none) → fd f n = fd f m := by
  intro n
  induction n with
  | zero =>
    intro h _
    rw [show m = 0 by omega]
  | succ n ih =>
    intro h hf
    by_cases e : m = n + 1
    · rw [e]
    · rw [fd_succ, hf (n + 1) (by omega) (Nat.le_refl _)]
      exact ih (by omega) (fun k h1 h2 => hf k h1 (by omega))
theorem fd_none {α : Type} {f : Nat → Option α} : ∀ (n : Nat), (∀ k, k ≤ n → f k = none) → fd f n = none := by
  intro n
  induction n with
  | zero => intro h; exact h 0 (Nat.le_refl _)
  | succ n ih =>
    intro h
    rw [fd_succ, h (n + 1) (Nat.le_refl _)]
    exact ih (fun k hk => h k (by omega))
theorem stars_cons (p : SPart) (ps : List SPart) : stars (p :: ps) = stars ps + (if p.1 = 2 then 1 else 0) := by
  unfold stars
  rw [List.filter_cons]
  by_cases e : p.1 = 2
  · rw [if_pos (beq_iff_eq.mpr e), if_pos e]; rfl
  · rw [if_neg (fun z => e (beq_iff_eq.mp z)), if_neg e]; rfl
/-- no star -/
theorem sGo_0 {one other : Nat} : ∀ (ps : List SPart) (i at' : Nat) (b e : MG), stars ps = 0 → sGo row lst ps at' b e = mFin row lst (mRun row one other ps i at' b e) := by
  intro ps
  induction ps with
  | nil => intro i at' b e _; rfl
  | cons p ps ih =>
    intro i at' b e hs
    obtain ⟨kd, nr, sg, neg⟩ := p
    rw [stars_cons] at hs
    have h2 : ¬ kd = 2 := fun z => by rw [if_pos z] at hs; omega
    have hs : stars ps = 0 := by omega
    unfold sGo mRun
    by_cases h4 : kd = 4
    · rw [if_pos h4, if_pos h4]; exact ih _ _ _ _ hs
    rw [if_neg h4, if_neg h4]
    by_cases h5 : kd = 5
    · rw [if_pos h5, if_pos h5]; exact ih _ _ _ _ hs
    rw [if_neg h5, if_neg h5, if_neg h2, if_neg h2]
    by_cases h6 : kd = 6
    · rw [if_pos h6, if_pos h6]
      by_cases c : mTold row at' (b nr) (e nr) = true
      · rw [if_pos c, if_pos c]; exact ih _ _ _ _ hs
      · rw [if_neg c, if_neg c]; rfl
    rw [if_neg h6, if_neg h6]
    by_cases c : at' < row.length ∧ mFit kd sg neg (row.getD at' 0) = true
    · rw [if_pos c, if_pos c]; exact ih _ _ _ _ hs
    · rw [if_neg c, if_neg c]; rfl
/-- one star: f gives the stars' lengths, it's the i-th -/
theorem sGo_1 {f1 f2 : Nat → Nat} (j : Nat) (hj : ∀ k, (if j = 0 then f1 k else f2 k) = k) : ∀ (ps : List SPart) (n at' : Nat) (b e : MG), stars ps = 1 → at' ≤ row.length → row.length ≤ at' + n → (∀ ps' a b e, mRun row (f1 0) (f2 0) ps' j a b e = mRun row (f1 0) (f2 0) ps' j a b e) → sGo row lst ps at' b e = fd (fun k => mFin row lst (mRun row (f1 k) (f2 k) ps j at' b e)) n := by
  intro ps
  induction ps with
  | nil => intro n at' b e hs; exact absurd hs (by decide)
  | cons p ps ih =>
    intro n at' b e hs hat hn htr
    obtain ⟨kd, nr, sg, neg⟩ := p
    rw [stars_cons] at hs
    unfold sGo
    by_cases h4 : kd = 4
    · rw [if_pos h4]
      rw [if_neg (show ¬ kd = 2 by omega)] at hs
      rw [ih n at' _ _ (by omega) hat hn htr]
      refine fd_ext n (fun k _ => ?_)
      conv => rhs; unfold mRun
      rw [if_pos h4]
    rw [if_neg h4]
    by_cases h5 : kd = 5
    · rw [if_pos h5]
      rw [if_neg (show ¬ kd = 2 by omega)] at hs
      rw [ih n at' _ _ (by omega) hat hn htr]
      refine fd_ext n (fun k _ => ?_)
      conv => rhs; unfold mRun
      rw [if_neg h4, if_pos h5]
    rw [if_neg h5]
    by_cases h2 : kd = 2
    · rw [if_pos h2]
      rw [if_pos h2] at hs
      have hs0 : stars ps = 0 := by omega
      rw [fd_cut (m := row.length - at') n (by omega) (fun k h1 _ => ?_)]
      · refine fd_ext _ (fun k hk => ?_)
        conv => rhs; unfold mRun
        rw [if_neg h4, if_neg h5, if_pos h2, hj k, if_pos (by omega)]
        exact sGo_0 ps _ _ _ _ hs0
      · unfold mRun
        rw [if_neg h4, if_neg h5, if_pos h2, hj k, if_neg (by omega)]
        rfl
    rw [if_neg h2]
    rw [if_neg h2] at hs
    by_cases h6 : kd = 6
    · rw [if_pos h6]
      by_cases c : mTold row at' (b nr) (e nr) = true
      · rw [if_pos c]
        have c2 := c
        unfold mTold at c2
        rw [Bool.and_eq_true, decide_eq_true_eq] at c2
        rw [ih n _ _ _ (by omega) (by omega) (by omega) htr]
        refine fd_ext n (fun k _ => ?_)
        conv => rhs; unfold mRun
        rw [if_neg h4, if_neg h5, if_neg h2, if_pos h6, if_pos c]
      · rw [if_neg c, fd_none n (fun k _ => ?_)]
        unfold mRun
        rw [if_neg h4, if_neg h5, if_neg h2, if_pos h6, if_neg c]
        rfl
    rw [if_neg h6]
    by_cases c : at' < row.length ∧ mFit kd sg neg (row.getD at' 0) = true
    · rw [if_pos c]
      rw [ih n _ _ _ (by omega) (by omega) (by omega) htr]
      refine fd_ext n (fun k _ => ?_)
      conv => rhs; unfold mRun
      rw [if_neg h4, if_neg h5, if_neg h2, if_neg h6, if_pos c]
    · rw [if_neg c, fd_none n (fun k _ => ?_)]
      unfold mRun
      rw [if_neg h4, if_neg h5, if_neg h2, if_neg h6, if_neg c]
      rfl
/-- two stars -/
theorem sGo_2 : ∀ (ps : List SPart) (n at' : Nat) (b e : MG), stars ps = 2 → at' ≤ row.length → row.length ≤ at' + n → sGo row lst ps at' b e = fd (fun one => fd (fun other => mFin row lst (mRun row one other ps 0 at' b e)) (n - one)) n := by
  intro ps
  induction ps with
  | nil => intro n at' b e hs; exact absurd hs (by decide)
  | cons p ps ih =>
    intro n at' b e hs hat hn
    obtain ⟨kd, nr, sg, neg⟩ := p
    rw [stars_cons] at hs
    unfold sGo
    by_cases h4 : kd = 4
    · rw [if_pos h4]
      rw [if_neg (show ¬ kd = 2 by omega)] at hs
      rw [ih n at' _ _ (by omega) hat hn]
      refine fd_ext n (fun k _ => fd_ext _ (fun k2 _ => ?_))
      conv => rhs; unfold mRun
      rw [if_pos h4]
    rw [if_neg h4]
    by_cases h5 : kd = 5
    · rw [if_pos h5]
      rw [if_neg (show ¬ kd = 2 by omega)] at hs
      rw [ih n at' _ _ (by omega) hat hn]
      refine fd_ext n (fun k _ => fd_ext _ (fun k2 _ => ?_))
      conv => rhs; unfold mRun
      rw [if_neg h4, if_pos h5]
    rw [if_neg h5]
    by_cases h2 : kd = 2
    · rw [if_pos h2]
      rw [if_pos h2] at hs
      have hs1 : stars ps = 1 := by omega
      rw [fd_cut (m := row.length - at') n (by omega) (fun k h1 _ => ?_)]
      · refine fd_ext _ (fun k hk => ?_)
        rw [sGo_1 (f1 := fun _ => k) (f2 := fun z => z) 1 (fun _ => rfl) ps (n - k) (at' + k) b e hs1 (by omega) (by omega) (fun _ _ _ _ => rfl)]
        refine fd_ext _ (fun k2 _ => ?_)
        conv => rhs; unfold mRun
        rw [if_neg h4, if_neg h5, if_pos h2, if_pos rfl, if_pos (by omega)]
      · refine fd_none _ (fun k2 _ => ?_)
        unfold mRun
        rw [if_neg h4, if_neg h5, if_pos h2, if_pos rfl, if_neg (by omega)]
        rfl
    rw [if_neg h2]
    rw [if_neg h2] at hs
    by_cases h6 : kd = 6
    · rw [if_pos h6]
      by_cases c : mTold row at' (b nr) (e nr) = true
      · rw [if_pos c]
        have c2 := c
        unfold mTold at c2
        rw [Bool.and_eq_true, decide_eq_true_eq] at c2
        rw [ih n _ _ _ (by omega) (by omega) (by omega)]
        refine fd_ext n (fun k _ => fd_ext _ (fun k2 _ => ?_))
        conv => rhs; unfold mRun
        rw [if_neg h4, if_neg h5, if_neg h2, if_pos h6, if_pos c]
      · rw [if_neg c, fd_none n (fun k _ => fd_none _ (fun k2 _ => ?_))]
        unfold mRun
        rw [if_neg h4, if_neg h5, if_neg h2, if_pos h6, if_neg c]
        rfl
    rw [if_neg h6]
    by_cases c : at' < row.length ∧ mFit kd sg neg (row.getD at' 0) = true
    · rw [if_pos c]
      rw [ih n _ _ _ (by omega) (by omega) (by omega)]
      refine fd_ext n (fun k _ => fd_ext _ (fun k2 _ => ?_))
      conv => rhs; unfold mRun
      rw [if_neg h4, if_neg h5, if_neg h2, if_neg h6, if_pos c]
    · rw [if_neg c, fd_none n (fun k _ => fd_none _ (fun k2 _ => ?_))]
      unfold mRun
      rw [if_neg h4, if_neg h5, if_neg h2, if_neg h6, if_neg c]
      rfl
/-- the search from a place on is the match there -/
theorem sGo_mAt {pt : SPat} {place : Nat} (hs : stars pt.1 ≤ 2) (hp : place ≤ row.length) (hf : ¬ (pt.2.1 = true ∧ 0 < place)) : sGo row pt.2.2 pt.1 place g0 g0 = mAt pt row place := by
  unfold mAt
  rw [if_neg hf]
  have e : ∀ one other, mTry row pt.1 pt.2.2 place g0 g0 one other = mFin row pt.2.2 (mRun row one other pt.1 0 place g0 g0) := fun one other => by
    unfold mTry mFin
    cases mRun row one other pt.1 0 place g0 g0 <;> rfl
  have h3 : stars pt.1 = 0 ∨ stars pt.1 = 1 ∨ stars pt.1 = 2 := by omega
  rcases h3 with h | h | h
  · rw [h, if_neg (by decide)]
    exact (sGo_0 (one := 0) (other := 0) pt.1 0 place g0 g0 h).trans (e 0 0).symm
  · rw [h, if_pos (by decide)]
    exact (sGo_1 (f1 := fun z => z) (f2 := fun _ => 0) 0 (fun _ => rfl) pt.1 (row.length - place) place g0 g0 h hp (by omega) (fun _ _ _ _ => rfl)).trans (fd_ext _ (fun k _ => (e k 0).symm))
  · rw [h, if_pos (by decide)]
    exact (sGo_2 pt.1 (row.length - place) place g0 g0 h hp (by omega)).trans (fd_ext _ (fun k _ => fd_ext _ (fun k2 _ => (e k k2).symm)))
theorem fd_agO {S : Nat} {f g : Nat → Option (Nat × MG × MG)} : ∀ (n : Nat), (∀ k, k ≤ n → AgO S (f k) (g k)) → AgO S (fd f n) (fd g n) := by
  intro n
  induction n with
  | zero => intro h; exact h 0 (Nat.le_refl _)
  | succ n ih =>
    intro h
    rw [fd_succ, fd_succ]
    have h1 := h (n + 1) (Nat.le_refl _)
    cases hf : f (n + 1) with
    | none =>
      cases hg : g (n + 1) with
      | none => exact ih (fun k hk => h k (by omega))
      | some y => rw [hf, hg] at h1; exact h1.elim
    | some x =>
      cases hg : g (n + 1) with
      | none => rw [hf, hg] at h1; obtain ⟨x1, x2, x3⟩ := x; exact h1.elim
      | some y => rw [hf, hg] at h1; exact h1
theorem sGo_agr : ∀ (ps : List SPart) (S : Nat) (o : Bool) (at' : Nat) (b b' e e' : MG), wfp S o ps → Agr S o b b' e e' → AgO (clo S ps) (sGo row lst ps at' b e) (sGo row lst ps at' b' e') := by
  intro ps
  induction ps with
  | nil =>
    intro S o at' b b' e e' hw ha
    have ho : o = false := hw
    subst ho
    unfold sGo
    by_cases c : lst = false ∨ at' = row.length
    · rw [if_pos c, if_pos c]; exact ⟨rfl, ha⟩
    · rw [if_neg c, if_neg c]; exact True.intro
  | cons p ps ih =>
    intro S o at' b b' e e' hw ha
    obtain ⟨kd, nr, sg, neg⟩ := p
    unfold sGo clo
    unfold wfp at hw
    by_cases h4 : kd = 4
    · rw [if_pos h4] at hw ⊢
      rw [if_pos h4, if_neg (by omega)]
      obtain ⟨⟨h1, h2, h3⟩, hw⟩ := hw
      refine ih S true at' _ _ _ _ hw ⟨fun n n1 n2 => ?_, fun _ => ?_⟩
      · unfold gst
        rw [if_neg (by omega), if_neg (by omega)]
        exact ha.1 n n1 n2
      · unfold gst
        rw [if_pos (by omega), if_pos (by omega)]
    rw [if_neg h4] at hw ⊢
    rw [if_neg h4]
    by_cases h5 : kd = 5
    · rw [if_pos h5] at hw ⊢
      rw [if_pos h5, if_pos h5]
      obtain ⟨⟨h1, h2, h3⟩, hw⟩ := hw
      refine ih (S + 1) false at' _ _ _ _ hw ⟨fun n n1 n2 => ?_, fun z => by cases z⟩
      unfold gst
      by_cases hn : n = S + 1
      · rw [if_pos (by omega), if_pos (by omega), hn]
        exact ⟨ha.2 h1, rfl⟩
      · rw [if_neg (by omega), if_neg (by omega)]
        exact ha.1 n n1 (by omega)
    rw [if_neg h5] at hw ⊢
    rw [if_neg h5, if_neg h5]
    by_cases h2 : kd = 2
    · rw [if_neg (by omega)] at hw
      rw [if_pos h2, if_pos h2]
      exact fd_agO _ (fun k _ => ih S o _ _ _ _ _ hw ha)
    rw [if_neg h2, if_neg h2]
    by_cases h6 : kd = 6
    · rw [if_pos h6] at hw
      rw [if_pos h6, if_pos h6]
      obtain ⟨⟨h1, h7, h8⟩, hw⟩ := hw
      have hb := ha.1 nr h7 h8
      rw [hb.1, hb.2]
      by_cases hl : mTold row at' (b' nr) (e' nr) = true
      · rw [if_pos hl, if_pos hl]
        exact ih S o _ _ _ _ _ hw ha
      · rw [if_neg hl, if_neg hl]
        exact True.intro
    rw [if_neg h6] at hw
    rw [if_neg h6, if_neg h6]
    by_cases hl : at' < row.length ∧ mFit kd sg neg (row.getD at' 0) = true
    · rw [if_pos hl, if_pos hl]
      exact ih S o _ _ _ _ _ hw ha
    · rw [if_neg hl, if_neg hl]
      exact True.intro
end SG
