set_option maxRecDepth 100000
/-! a stream ends with no line left -/
abbrev sReS (S : SS) : List SLine := S.1.2.2.2.2
def RelS (S S1 : SS) : Prop := (sReS S1).length ≤ (sReS S).length ∧ (sOverS S1 = sOverS S ∨ sReS S1 = [])
section TRel
variable {L k i j : Nat} {od : SOrd0} {o' : SOrd} {os : List SOrd} {S S1 S2 : SS} {W W1 : WG} {B B1 : BG} {rows : List (List Int)}
theorem RelS.rf : RelS S S := ⟨Nat.le_refl _, Or.inl rfl⟩
theorem RelS.tr (h : RelS S S1) (h2 : RelS S1 S2) : RelS S S2 := by
  refine ⟨Nat.le_trans h2.1 h.1, ?_⟩
  rcases h2.2 with z | z
  · rcases h.2 with y | y
    · exact Or.inl (z.trans y)
    · refine Or.inr (List.length_eq_zero_iff.mp ?_)
      have := h2.1
      rw [y] at this
      exact Nat.le_zero.mp this
  · exact Or.inr z
theorem rlPuts_re {q : WG × BG} (h : stPuts W B rows = .inr q) : q.1.2.2.2.2 = W.2.2.2.2 := by
  obtain ⟨x, g, du, pu, re⟩ := W
  obtain ⟨hh, o, fi, m, n, rp⟩ := B
  unfold stPuts at h
  dsimp only at h
  split at h
  · cases h
  · cases h; rfl
theorem stGone_re : (stGone W B).1.2.2.2.2 = W.2.2.2.2 := by
  obtain ⟨x, g, du, pu, re⟩ := W
  obtain ⟨hh, o, fi, m, n, rp⟩ := B
  rfl
theorem stDue_re : (stDue W rows).2.2.2.2 = W.2.2.2.2 := by obtain ⟨x, g, du, pu, re⟩ := W; rfl
theorem stRow_re {r : List Int} : (stRow W r).2.2.2.2 = W.2.2.2.2 := by obtain ⟨x, g, du, pu, re⟩ := W; rfl
theorem rlTell_re {r : List Int} {q : WG × BG} (h : stTell W B r = .inr q) : q.1.2.2.2.2 = W.2.2.2.2 := by
  obtain ⟨hh, o, fi, m, n, rp⟩ := B
  unfold stTell at h
  dsimp only at h
  split at h
  · cases h
  · cases h; rfl
theorem rlJoin_re {q : WG × BG} (h : stJoin W B = .inr q) : q.1.2.2.2.2.length ≤ W.2.2.2.2.length := by
  obtain ⟨x, g, du, pu, re⟩ := W
  obtain ⟨hh, o, fi, m, n, rp⟩ := B
  unfold stJoin at h
  dsimp only at h
  cases re with
  | nil => cases h; exact Nat.le_refl _
  | cons y re =>
    dsimp only at h
    split at h
    · cases h
    · cases h; exact Nat.le_succ _
theorem stAct_rl {run : Bool} {q : WG × BG} (h : stAct L od run W B = .inr q) : q.1.2.2.2.2.length ≤ W.2.2.2.2.length := by
  unfold stAct at h
  by_cases c : oAct od = 97
  · rw [if_pos c] at h; cases h; exact Nat.le_of_eq (congrArg List.length stDue_re)
  rw [if_neg c] at h; clear c
  by_cases c : oAct od = 105
  · rw [if_pos c] at h; exact Nat.le_of_eq (congrArg List.length (rlPuts_re h))
  rw [if_neg c] at h; clear c
  by_cases c : oAct od = 99
  · rw [if_pos c] at h
    split at h
    · cases hp : stPuts W B (oRows od) with
      | inl w => rw [hp] at h; cases h
      | inr q2 =>
        obtain ⟨W1, B1⟩ := q2
        have e := rlPuts_re hp
        rw [hp] at h
        cases h
        rw [stGone_re]
        exact Nat.le_of_eq (congrArg List.length e)
    · cases h; rw [stGone_re]; exact Nat.le_refl _
  rw [if_neg c] at h; clear c
  by_cases c : oAct od = 100
  · rw [if_pos c] at h; cases h; rw [stGone_re]; exact Nat.le_refl _
  rw [if_neg c] at h; clear c
  by_cases c : oAct od = 106
  · rw [if_pos c] at h; exact rlJoin_re h
  rw [if_neg c] at h; clear c
  by_cases c : oAct od = 118
  · rw [if_pos c] at h
    split at h
    · cases h; rw [stRow_re, stDue_re]; exact Nat.le_refl _
    · cases h; exact Nat.le_refl _
  rw [if_neg c] at h; clear c
  by_cases c : oAct od = 112
  · rw [if_pos c] at h; exact Nat.le_of_eq (congrArg List.length (rlTell_re h))
  rw [if_neg c] at h; clear c
  by_cases c : oAct od = 61
  · rw [if_pos c] at h; exact Nat.le_of_eq (congrArg List.length (rlTell_re h))
  rw [if_neg c] at h; clear c
  by_cases c : oAct od = 110
  · rw [if_pos c] at h; exact Nat.le_of_eq (congrArg List.length (rlTell_re h))
  rw [if_neg c] at h; clear c
  by_cases c : oAct od = 104
  · rw [if_pos c] at h; cases h; exact Nat.le_refl _
  rw [if_neg c] at h; clear c
  by_cases c : oAct od = 72
  · rw [if_pos c] at h
    split at h
    · cases h
    · cases h; exact Nat.le_refl _
  rw [if_neg c] at h; clear c
  by_cases c : oAct od = 117
  · rw [if_pos c] at h
    split at h
    · cases h
    · cases h; rw [stDue_re]; exact Nat.le_refl _
  rw [if_neg c] at h; clear c
  by_cases c : oAct od = 101
  · rw [if_pos c] at h
    split at h
    · cases h; rw [stRow_re]; exact Nat.le_refl _
    · cases h
  rw [if_neg c] at h; clear c
  obtain ⟨hh, o, fi, m, n, rp⟩ := B
  by_cases c : oAct od = 107
  · rw [if_pos c] at h; cases h; exact Nat.le_refl _
  rw [if_neg c] at h; clear c
  by_cases c : oAct od = 114
  · rw [if_pos c] at h; cases h; rw [stDue_re]; exact Nat.le_refl _
  rw [if_neg c] at h; clear c
  by_cases c : oAct od = 119
  · rw [if_pos c] at h
    dsimp only at h
    split at h
    · cases h
    · cases h; exact Nat.le_refl _
  rw [if_neg c] at h; clear c
  cases hs : sChg od W.1.2 with
  | none => rw [hs] at h; cases h
  | some q2 =>
    obtain ⟨r, b⟩ := q2
    rw [hs] at h
    cases h
    rw [stRow_re]; exact Nat.le_refl _
theorem stDo_rl (hs : stDo L k i od S = .inr S1) : RelS S S1 := by
  obtain ⟨W, B, st, tu, ov, ru⟩ := S
  unfold stDo at hs
  dsimp only at hs
  cases ha : stAct L od (ru k i).2.2 W B with
  | inl w => rw [ha] at hs; cases hs
  | inr q =>
    obtain ⟨W1, B1⟩ := q
    have := stAct_rl ha
    rw [ha] at hs
    cases hs
    exact ⟨this, Or.inl rfl⟩
theorem stCome_rl {b : Bool} (hs : stCome L k i od S = .inr (b, S1)) : RelS S S1 := by
  obtain ⟨W, B, st, tu, ov, ru⟩ := S
  unfold stCome at hs
  dsimp only at hs
  split at hs
  · cases hs
  · split at hs
    · cases hs
    · cases hs; exact RelS.rf
theorem stIn1_rl (hs : stIn1 L k i od S = .inr S1) : RelS S S1 := by
  unfold stIn1 at hs
  cases hc : stCome L k i od S with
  | inl w => rw [hc] at hs; cases hs
  | inr q =>
    obtain ⟨b, S2⟩ := q
    rw [hc] at hs
    cases b with
    | false => cases hs; exact stCome_rl hc
    | true => exact (stCome_rl hc).tr (stDo_rl hs)
theorem stInn_rl : ∀ (ods : List SOrd0) (i : Nat) (S S1 : SS), stInn L k ods i S = .inr S1 → RelS S S1 := by
  intro ods
  induction ods with
  | nil => intro i S S1 hs; cases hs; exact RelS.rf
  | cons od ods ih =>
    intro i S S1 hs
    cases hg : sGoneS S with
    | true => rw [stInn_gone hg] at hs; cases hs; exact RelS.rf
    | false =>
      rw [stInn_cons hg] at hs
      cases hc : stIn1 L k i od S with
      | inl w => rw [hc] at hs; cases hs
      | inr S2 =>
        rw [hc] at hs
        exact (stIn1_rl hc).tr (ih _ _ _ hs)
theorem stEac_rl (hs : stEac L k o' S = .inr S1) : RelS S S1 := by
  unfold stEac at hs
  split at hs
  · exact stInn_rl _ _ _ _ hs
  · cases hs; exact RelS.rf
theorem stPutS_rl (hs : stPutS S = .inr S1) : RelS S S1 ∧ sReS S1 = sReS S := by
  obtain ⟨⟨x, g, du, pu, re⟩, B, st, tu, ov, ru⟩ := S
  unfold stPutS at hs
  dsimp only at hs
  cases hp : stPutWork (x, g, du, pu, re) B with
  | inl w => rw [hp] at hs; cases hs
  | inr q =>
    obtain ⟨W1, B1⟩ := q
    rw [hp] at hs
    cases hs
    unfold stPutWork at hp
    dsimp only at hp
    split at hp
    · cases hp
    · cases hq : stPuts (x, g, [], (if g = true then pu else pu ++ [x]), re) B du with
      | inl w => rw [hq] at hp; cases hp
      | inr q =>
        have e := rlPuts_re hq
        rw [hq] at hp
        cases hp
        exact ⟨⟨Nat.le_of_eq (congrArg List.length e), Or.inl rfl⟩, e⟩
theorem stRest_rl (hs : stRest S = .inr S1) : RelS S S1 := by
  obtain ⟨⟨x, g, du, pu, re⟩, B, st, tu, ov, ru⟩ := S
  unfold stRest at hs
  dsimp only at hs
  split at hs
  · cases hs
  · cases hs; exact ⟨Nat.zero_le _, Or.inr rfl⟩
theorem stOver_re : sReS (stOver S) = sReS S := by obtain ⟨W, B, st, tu, ov, ru⟩ := S; rfl
theorem setRp_rl {b : Bool} : RelS S (setRp S b) := by obtain ⟨W, ⟨h, o, fi, m, n, rp⟩, st, tu, ov, ru⟩ := S; exact RelS.rf
theorem stTake_rl : RelS S (stTake S) ∧ (sReS S ≠ [] → (sReS (stTake S)).length + 1 = (sReS S).length) := by
  obtain ⟨⟨x, g, du, pu, re⟩, ⟨h, o, fi, m, n, rp⟩, st, tu, ov, ru⟩ := S
  cases re with
  | nil => exact ⟨RelS.rf, fun z => absurd rfl z⟩
  | cons y re => exact ⟨⟨Nat.le_succ _, Or.inl rfl⟩, fun _ => rfl⟩
theorem stSte_rl (hs : stSte os k o' S = .inr (j, S1)) : RelS S S1 := by
  unfold stSte at hs
  by_cases c98 : oAct o'.1 = 98
  · rw [if_pos c98] at hs
    cases hj : sJump os o'.1 with
    | inl w => rw [hj] at hs; cases hs
    | inr q => rw [hj] at hs; cases hs; exact RelS.rf
  rw [if_neg c98] at hs
  by_cases c84 : oAct o'.1 = 84
  · rw [if_pos c84] at hs
    split at hs
    · cases hj : sJump os o'.1 with
      | inl w => rw [hj] at hs; cases hs
      | inr q => rw [hj] at hs; cases hs; exact setRp_rl
    · cases hs; exact setRp_rl
  rw [if_neg c84] at hs
  by_cases c113 : oAct o'.1 = 113
  · rw [if_pos c113] at hs
    cases hp : stPutS S with
    | inl w => rw [hp] at hs; cases hs
    | inr S2 =>
      rw [hp] at hs
      dsimp only at hs
      cases hr : stRest (stOver S2) with
      | inl w => rw [hr] at hs; cases hs
      | inr S3 =>
        rw [hr] at hs
        cases hs
        have h1 := stRest_rl hr
        have h2 := (stPutS_rl hp).1
        have h3 : sReS S1 = [] := by
          obtain ⟨⟨x, g, du, pu, re⟩, B, st, tu, ov, ru⟩ := S2
          unfold stRest stOver at hr
          dsimp only at hr
          split at hr
          · cases hr
          · cases hr; rfl
        exact ⟨by rw [h3]; exact Nat.zero_le _, Or.inr h3⟩
  rw [if_neg c113] at hs
  cases hp : stPutS S with
  | inl w => rw [hp] at hs; cases hs
  | inr S2 =>
    rw [hp] at hs
    dsimp only at hs
    have e : (j, S1) = (k + 1, if S2.1.2.2.2.2 = [] then stOver S2 else stTake S2) := (Sum.inr.inj hs).symm
    have e2 : S1 = if S2.1.2.2.2.2 = [] then stOver S2 else stTake S2 := congrArg Prod.snd e
    have e3 := (stPutS_rl hp).1
    rw [e2]
    split
    · rename_i hz
      exact ⟨by rw [stOver_re, show sReS S2 = [] from hz]; exact Nat.zero_le _, Or.inr (by rw [stOver_re]; exact hz)⟩
    · exact e3.tr stTake_rl.1
theorem stOne_rl (hs : stOne L os k o' S = .inr (j, S1)) : RelS S S1 := by
  rw [stOne_eq] at hs
  cases hc : stCome L k 0 o'.1 S with
  | inl w => rw [hc] at hs; cases hs
  | inr q =>
    obtain ⟨b, S2⟩ := q
    have h2 := stCome_rl hc
    rw [hc] at hs
    cases b with
    | false => cases hs; exact h2
    | true =>
      dsimp only at hs
      split at hs
      · cases hs; exact h2
      split at hs
      · exact h2.tr (stSte_rl hs)
      split at hs
      · exact h2.tr (stEac_rl (nxP_out hs))
      · exact h2.tr (stDo_rl (nxP_out hs))
theorem stLine_rl : ∀ (q k : Nat) (S S1 : SS), stLine L os q k S = .inr S1 → RelS S S1 := by
  intro q
  induction q with
  | zero => intro k S S1 hs; cases hs
  | succ q ih =>
    intro k S S1 hs
    have e0 : stLine L os (q + 1) k S = if sGoneS S = true ∨ sOverS S = true then .inr S else match os[k]? with
        | none => .inr S
        | some o => match stOne L os k o S with
          | .inl w => .inl w
          | .inr (j, S1) => stLine L os q j S1 := rfl
    rw [e0] at hs
    split at hs
    · cases hs; exact RelS.rf
    · cases hk : os[k]? with
      | none => rw [hk] at hs; cases hs; exact RelS.rf
      | some o =>
        rw [hk] at hs
        dsimp only at hs
        cases h1 : stOne L os k o S with
        | inl w => rw [h1] at hs; cases hs
        | inr q2 =>
          obtain ⟨j, S2⟩ := q2
          rw [h1] at hs
          exact (stOne_rl h1).tr (ih _ _ _ hs)
theorem stLin_rl {q : Nat} (hs : stLin L os q k S = .inr S1) : RelS S S1 := by
  unfold stLin at hs
  cases h1 : stLine L os q k S with
  | inl w => rw [h1] at hs; cases hs
  | inr S2 =>
    rw [h1] at hs
    have h2 := stLine_rl _ _ _ _ h1
    dsimp only at hs
    split at hs
    · cases hs; exact h2
    · exact h2.tr (stPutS_rl hs).1
theorem stAll_re : ∀ (q : Nat) (S S1 : SS), (sReS S).length ≤ q → (sOverS S = true → sReS S = []) → stAll L os q S = .inr S1 → sReS S1 = [] := by
  intro q
  induction q with
  | zero =>
    intro S S1 hq _ hs
    have e : stAll L os 0 S = .inr S := rfl
    rw [e] at hs
    cases hs
    exact List.length_eq_zero_iff.mp (Nat.le_zero.mp hq)
  | succ q ih =>
    intro S S1 hq ho hs
    by_cases h1 : sReS S = []
    · have e : stAll L os (q + 1) S = .inr S := by
        show (if _ then _ else _) = _
        rw [if_pos (Or.inl h1)]
      rw [e] at hs
      cases hs
      exact h1
    · have h2 : sOverS S = false := by
        cases z : sOverS S with
        | true => exact absurd (ho z) h1
        | false => rfl
      rw [stAll_succ h1 h2] at hs
      have ht := stTake_rl (S := S)
      have htl := ht.2 h1
      cases hl : stLin L os 402 0 (stTake S) with
      | inl w => rw [hl] at hs; cases hs
      | inr S2 =>
        rw [hl] at hs
        have h3 := ht.1.tr (stLin_rl hl)
        have h4 := stLin_rl hl
        refine ih S2 S1 (by have := h4.1; omega) (fun z => ?_) hs
        rcases h3.2 with y | y
        · rw [y, h2] at z; cases z
        · exact y
end TRel
