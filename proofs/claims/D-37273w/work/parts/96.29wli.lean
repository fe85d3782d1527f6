set_option maxRecDepth 100000
/-! the twin's workLine -/
/-- all orders with a work, and the work is put -/
def stLin (L : Nat) (os : List SOrd) (q k : Nat) (S : SS) : Nat ⊕ SS := match stLine L os q k S with
  | .inl w => .inl w
  | .inr S1 => if sOverS S1 = true then .inr S1 else stPutS S1
def LiQ (σ : TS) (s : List Int) (t : List SLine) (os : List SOrd) (n0 : Int) (R : Nat ⊕ SS) (r : Option Int) (τ : TS) : Prop := TF σ τ ∧ match R with
  | .inl w => r = some (w : Int) ∧ 1 ≤ w ∧ w ≤ 8
  | .inr S1 => r = some 0 ∧ TSP τ s t os n0 S1
abbrev sStS (S : SS) : Nat := S.2.2.1
section TWli
variable {d : Nat} {σ τ υ : TS} {s l l1 l2 lx lb : List Int} {t pu re : List SLine} {du : List (List Int)} {x y : SLine} {g ov : Bool} {W W1 : WG} {B B1 : BG} {fs as : List Nat} {os : List SOrd} {n n0 : Int} {od : SOrd0} {o' : SOrd} {S S1 : SS} {st tu k i j : Nat} {ru : Nat → Nat → RG} {w : Bool × Option SAdr × Option SAdr} {h o : List (List Int)} {fi : Nat → List (List Int)} {m : Nat → Option Int} {rp run : Bool} {L : Nat}
theorem stDo_st (hs : stDo L k i od S = .inr S1) : sStS S1 = sStS S := by
  obtain ⟨W, B, st, tu, ov, ru⟩ := S
  unfold stDo at hs
  dsimp only at hs
  split at hs
  · cases hs
  · cases hs; rfl
theorem stCome_st {b : Bool} (hs : stCome L k i od S = .inr (b, S1)) : sStS S1 = sStS S + 1 := by
  obtain ⟨W, B, st, tu, ov, ru⟩ := S
  unfold stCome at hs
  dsimp only at hs
  split at hs
  · cases hs
  · split at hs
    · cases hs
    · cases hs; rfl
theorem stIn1_st (hs : stIn1 L k i od S = .inr S1) : sStS S1 = sStS S + 1 := by
  unfold stIn1 at hs
  cases hc : stCome L k i od S with
  | inl w => rw [hc] at hs; cases hs
  | inr q =>
    obtain ⟨b, S2⟩ := q
    rw [hc] at hs
    cases b with
    | false => cases hs; exact stCome_st hc
    | true => exact (stDo_st hs).trans (stCome_st hc)
theorem stInn_st : ∀ (ods : List SOrd0) (i : Nat) (S S1 : SS), stInn L k ods i S = .inr S1 → sStS S ≤ sStS S1 := by
  intro ods
  induction ods with
  | nil => intro i S S1 hs; cases hs; exact Nat.le_refl _
  | cons od ods ih =>
    intro i S S1 hs
    cases hg : sGoneS S with
    | true => rw [stInn_gone hg] at hs; cases hs; exact Nat.le_refl _
    | false =>
      rw [stInn_cons hg] at hs
      cases hc : stIn1 L k i od S with
      | inl w => rw [hc] at hs; cases hs
      | inr S2 =>
        rw [hc] at hs
        have h1 := ih _ _ _ hs
        have h2 := stIn1_st hc
        omega
theorem stEac_st (hs : stEac L k o' S = .inr S1) : sStS S ≤ sStS S1 := by
  unfold stEac at hs
  split at hs
  · exact stInn_st _ _ _ _ hs
  · cases hs; exact Nat.le_refl _
theorem stPutS_st (hs : stPutS S = .inr S1) : sStS S1 = sStS S := by
  obtain ⟨W, B, st, tu, ov, ru⟩ := S
  unfold stPutS at hs
  dsimp only at hs
  split at hs
  · cases hs
  · cases hs; rfl
theorem stRest_st (hs : stRest S = .inr S1) : sStS S1 = sStS S := by
  obtain ⟨⟨x, g, du, pu, re⟩, B, st, tu, ov, ru⟩ := S
  unfold stRest at hs
  dsimp only at hs
  split at hs
  · cases hs
  · cases hs; rfl
theorem stOver_st : sStS (stOver S) = sStS S := by obtain ⟨W, B, st, tu, ov, ru⟩ := S; rfl
theorem setRp_st {b : Bool} : sStS (setRp S b) = sStS S := by obtain ⟨W, ⟨h, o, fi, m, n, rp⟩, st, tu, ov, ru⟩ := S; rfl
theorem stTake_st : sStS (stTake S) = sStS S := by
  obtain ⟨⟨x, g, du, pu, re⟩, ⟨h, o, fi, m, n, rp⟩, st, tu, ov, ru⟩ := S
  cases re <;> rfl
theorem stSte_st (hs : stSte os k o' S = .inr (j, S1)) : sStS S1 = sStS S := by
  unfold stSte at hs
  by_cases c98 : oAct o'.1 = 98
  · rw [if_pos c98] at hs
    cases hj : sJump os o'.1 with
    | inl w => rw [hj] at hs; cases hs
    | inr q => rw [hj] at hs; cases hs; rfl
  rw [if_neg c98] at hs
  by_cases c84 : oAct o'.1 = 84
  · rw [if_pos c84] at hs
    split at hs
    · cases hj : sJump os o'.1 with
      | inl w => rw [hj] at hs; cases hs
      | inr q => rw [hj] at hs; cases hs; exact setRp_st
    · cases hs; exact setRp_st
  rw [if_neg c84] at hs
  by_cases c113 : oAct o'.1 = 113
  · rw [if_pos c113] at hs
    cases hp : stPutS S with
    | inl w => rw [hp] at hs; cases hs
    | inr S2 =>
      rw [hp] at hs
      dsimp only at hs
      cases hr : stRest (stOver S2) with
      | inl w => rw [hr] at hs; cases hs
      | inr S3 =>
        rw [hr] at hs
        cases hs
        exact (stRest_st hr).trans (stOver_st.trans (stPutS_st hp))
  rw [if_neg c113] at hs
  cases hp : stPutS S with
  | inl w => rw [hp] at hs; cases hs
  | inr S2 =>
    rw [hp] at hs
    dsimp only at hs
    have e : (j, S1) = (k + 1, if S2.1.2.2.2.2 = [] then stOver S2 else stTake S2) := (Sum.inr.inj hs).symm
    have e2 : S1 = if S2.1.2.2.2.2 = [] then stOver S2 else stTake S2 := congrArg Prod.snd e
    rw [e2]
    split
    · exact stOver_st.trans (stPutS_st hp)
    · exact stTake_st.trans (stPutS_st hp)
theorem nxP_out {R : Nat ⊕ SS} (hs : nxP k R = .inr (j, S1)) : R = .inr S1 := by
  cases R with
  | inl w => cases hs
  | inr S2 => cases hs; rfl
theorem stOne_st (hs : stOne L os k o' S = .inr (j, S1)) : sStS S + 1 ≤ sStS S1 := by
  rw [stOne_eq] at hs
  cases hc : stCome L k 0 o'.1 S with
  | inl w => rw [hc] at hs; cases hs
  | inr q =>
    obtain ⟨b, S2⟩ := q
    have h2 := stCome_st hc
    rw [hc] at hs
    cases b with
    | false => cases hs; omega
    | true =>
      dsimp only at hs
      split at hs
      · cases hs; omega
      split at hs
      · have := stSte_st hs; omega
      split at hs
      · have := stEac_st (nxP_out hs); omega
      · have := stDo_st (nxP_out hs); omega
theorem suO_ne (hP : Place s os 0 0) (hk : k < os.length) : suO s k ≠ [] := by
  obtain ⟨o, l2, e1, e2, -⟩ := (hP.at k hk).get
  have := (pOrder_key e2).1
  intro z
  rw [z] at this
  exact absurd this (Nat.not_lt_zero _)
theorem T_workLine (hT : TSS σ s t os n0 S) (ho : sOverS S = false) (hn0 : n0 < 890000) : TM (d + 22) tk_workLine [.inr 0] σ (LiQ σ s t os n0 (stLin t.length os 402 0 S)) := by
  have hPP : Place s os 0 0 := hT.1.2.2.1
  have exit : ∀ (x : Int) (S : SS) (τ : TS), TSX τ s t os n0 S → TF σ τ → TW (d + 21) tc_workLine 24 [some (.inr 0), some (.inl x), some (.inl 0)] [] τ (LiQ σ s t os n0 (if sOverS S = true then .inr S else stPutS S)) := by
    intro x S τ hX hF
    unfold TSX at hX
    cases hov : sOverS S with
    | true =>
      rw [hov, if_pos rfl] at hX
      rw [if_pos rfl]
      have h71 : τ.1 71 = b2i (sOverS S) := hX.1.2.2.2.2.2.2
      rw [hov] at h71
      have h71 : τ.1 71 = 1 := h71
      (repeat (first | (refine TW.getf rfl rfl rfl (fun _ => ?_)) | (refine TW.pl rfl rfl ?_)))
      refine TW.br rfl rfl (by first | omega | exact b2i_R _ | exact ⟨b2i_R _, by omega⟩) (fun c1 => ?_) (fun c1 => ?_)
      · exact absurd c1 (by decide)
      (repeat (first | (refine TW.getf rfl rfl rfl (fun _ => ?_)) | (refine TW.pl rfl rfl ?_)))
      refine TW.br rfl rfl (by first | omega | exact b2i_R _ | exact ⟨b2i_R _, by omega⟩) (fun c2 => ?_) (fun c2 => ?_)
      · omega
      (repeat (first | (refine TW.getf rfl rfl rfl (fun _ => ?_)) | (refine TW.pl rfl rfl ?_)))
      exact TW.iret rfl ⟨hF, rfl, hX⟩
    | false =>
      rw [hov, if_neg (by decide)] at hX
      rw [if_neg (by decide)]
      have h71 : τ.1 71 = b2i (sOverS S) := hX.1.2.2.2.2.2.2
      rw [hov] at h71
      have h71 : τ.1 71 = 0 := h71
      (repeat (first | (refine TW.getf rfl rfl rfl (fun _ => ?_)) | (refine TW.pl rfl rfl ?_)))
      refine TW.br rfl rfl (by first | omega | exact b2i_R _ | exact ⟨b2i_R _, by omega⟩) (fun c1 => ?_) (fun c1 => ?_)
      · exact absurd c1 (by decide)
      (repeat (first | (refine TW.getf rfl rfl rfl (fun _ => ?_)) | (refine TW.pl rfl rfl ?_)))
      refine TW.br rfl rfl (by first | omega | exact b2i_R _ | exact ⟨b2i_R _, by omega⟩) (fun c2 => ?_) (fun c2 => ?_)
      rotate_left
      · omega
      (repeat (first | (refine TW.getf rfl rfl rfl (fun _ => ?_)) | (refine TW.pl rfl rfl ?_)))
      refine TW.cv0 rfl rfl rfl (Nat.le_of_ble_eq_true rfl) (T_putS (d := d + 17) hX hn0) ?_
      rintro r τ1 ⟨⟨hF1, -⟩, hq⟩
      have hF2 := hF.trans hF1
      revert hq
      cases stPutS S with
      | inl w =>
        rintro ⟨rfl, hw1, hw8⟩
        exact TW.iret rfl ⟨hF2, rfl, hw1, hw8⟩
      | inr S1 =>
        rintro ⟨rfl, hT1⟩
        exact TW.iret rfl ⟨hF2, rfl, hT1⟩
  have loop : ∀ (q k : Nat) (x : Int) (S : SS) (τ : TS), 402 ≤ q + sStS S → Place s os k x → TSX τ s t os n0 S → TF σ τ → TW (d + 21) tc_workLine 4 [some (.inr 0), some (.inl x), some (.inl 0)] [] τ (LiQ σ s t os n0 (stLin t.length os q k S)) := by
    intro q
    induction q with
    | zero =>
      intro k x S τ hq hP hX hF
      have hst : sStS S ≤ 400 := by
        unfold TSX at hX
        split at hX
        · exact hX.1.2.2.2.2.1.2
        · exact hX.1.2.2.2.2.1.2
      omega
    | succ q ih =>
      intro k x S τ hq hP hX hF
      have e0 : stLine t.length os (q + 1) k S = if sGoneS S = true ∨ sOverS S = true then .inr S else match os[k]? with
        | none => .inr S
        | some o => match stOne t.length os k o S with
          | .inl w => .inl w
          | .inr (j, S1) => stLine t.length os q j S1 := rfl
      have hC : ∃ st tu ov ru, TCn τ s os st tu ov ru ∧ ov = sOverS S := by
        unfold TSX at hX
        split at hX
        · exact ⟨_, _, _, _, hX.1, rfl⟩
        · exact ⟨_, _, _, _, hX.1, rfl⟩
      obtain ⟨st', tu', ov', ru', hC, rfl⟩ := hC
      have h22 : τ.1 22 = s.length := hC.1.1
      have h60 := hC.1.2.1
      have h71 : τ.1 71 = b2i (sOverS S) := hC.2.2.2.2.2.2
      have hxR : 0 ≤ x ∧ x ≤ s.length := by
        rcases hP with ⟨_, h2, _⟩ | ⟨_, h2⟩
        · exact h2.R
        · omega
      have stop : stLine t.length os (q + 1) k S = .inr S → TW (d + 21) tc_workLine 24 [some (.inr 0), some (.inl x), some (.inl 0)] [] τ (LiQ σ s t os n0 (stLin t.length os (q + 1) k S)) := by
        intro e
        unfold stLin
        rw [e]
        exact exit x S τ hX hF
      cases hov : sOverS S with
      | true =>
        rw [hov] at h71
        have h71 : τ.1 71 = 1 := h71
        have e1 : stLine t.length os (q + 1) k S = .inr S := by rw [e0, if_pos (Or.inr hov)]
        (repeat (first | (refine TW.getf rfl rfl rfl (fun _ => ?_)) | (refine TW.pl rfl rfl ?_)))
        refine TW.br rfl rfl (by first | omega | exact b2i_R _ | exact ⟨b2i_R _, by omega⟩) (fun c1 => ?_) (fun c1 => ?_)
        · exact stop e1
        (repeat (first | (refine TW.getf rfl rfl rfl (fun _ => ?_)) | (refine TW.pl rfl rfl ?_)))
        refine TW.br rfl rfl (by first | omega | exact b2i_R _ | exact ⟨b2i_R _, by omega⟩) (fun c2 => ?_) (fun c2 => ?_)
        · exact absurd rfl c2
        (repeat (first | (refine TW.getf rfl rfl rfl (fun _ => ?_)) | (refine TW.pl rfl rfl ?_)))
        refine TW.br rfl rfl (by first | omega | exact b2i_R _ | exact ⟨b2i_R _, by omega⟩) (fun c3 => ?_) (fun c3 => ?_)
        · exact stop e1
        (repeat (first | (refine TW.getf rfl rfl rfl (fun _ => ?_)) | (refine TW.pl rfl rfl ?_)))
        refine TW.br rfl rfl (by first | omega | exact b2i_R _ | exact ⟨b2i_R _, by omega⟩) (fun c4 => ?_) (fun c4 => ?_)
        · exact stop e1
        · omega
      | false =>
        rw [hov] at h71
        have h71 : τ.1 71 = 0 := h71
        have hX' := hX
        unfold TSX at hX'
        rw [hov, if_neg (by decide)] at hX'
        have h70 : τ.1 70 = b2i (!sGoneS S) := hX'.2.1.2.2.2.1.1
        cases hgn : sGoneS S with
        | true =>
          rw [hgn] at h70
          have h70 : τ.1 70 = 0 := h70
          have e1 : stLine t.length os (q + 1) k S = .inr S := by rw [e0, if_pos (Or.inl hgn)]
          (repeat (first | (refine TW.getf rfl rfl rfl (fun _ => ?_)) | (refine TW.pl rfl rfl ?_)))
          refine TW.br rfl rfl (by first | omega | exact b2i_R _ | exact ⟨b2i_R _, by omega⟩) (fun c1 => ?_) (fun c1 => ?_)
          · exact stop e1
          (repeat (first | (refine TW.getf rfl rfl rfl (fun _ => ?_)) | (refine TW.pl rfl rfl ?_)))
          refine TW.br rfl rfl (by first | omega | exact b2i_R _ | exact ⟨b2i_R _, by omega⟩) (fun c2 => ?_) (fun c2 => ?_)
          · exact absurd rfl c2
          (repeat (first | (refine TW.getf rfl rfl rfl (fun _ => ?_)) | (refine TW.pl rfl rfl ?_)))
          refine TW.br rfl rfl (by first | omega | exact b2i_R _ | exact ⟨b2i_R _, by omega⟩) (fun c3 => ?_) (fun c3 => ?_)
          · exact stop e1
          · omega
        | false =>
          rw [hgn] at h70
          have h70 : τ.1 70 = 1 := h70
          rw [if_neg (by rw [hov, hgn]; decide)] at e0
          by_cases hk : k < os.length
          · have hko : os[k]? = some os[k] := List.getElem?_eq_getElem hk
            rw [hko] at e0
            dsimp only at e0
            have hxl : x < s.length := by
              rcases hP with ⟨_, h2, _⟩ | ⟨h1, _⟩
              · have := h2.len
                have := List.length_pos_iff.mpr (suO_ne hPP hk)
                omega
              · omega
            (repeat (first | (refine TW.getf rfl rfl rfl (fun _ => ?_)) | (refine TW.pl rfl rfl ?_)))
            refine TW.br rfl rfl (by first | omega | exact b2i_R _ | exact ⟨b2i_R _, by omega⟩) (fun c1 => ?_) (fun c1 => ?_)
            · omega
            (repeat (first | (refine TW.getf rfl rfl rfl (fun _ => ?_)) | (refine TW.pl rfl rfl ?_)))
            refine TW.br rfl rfl (by first | omega | exact b2i_R _ | exact ⟨b2i_R _, by omega⟩) (fun c2 => ?_) (fun c2 => ?_)
            · exact absurd rfl c2
            (repeat (first | (refine TW.getf rfl rfl rfl (fun _ => ?_)) | (refine TW.pl rfl rfl ?_)))
            refine TW.br rfl rfl (by first | omega | exact b2i_R _ | exact ⟨b2i_R _, by omega⟩) (fun c3 => ?_) (fun c3 => ?_)
            · omega
            (repeat (first | (refine TW.getf rfl rfl rfl (fun _ => ?_)) | (refine TW.pl rfl rfl ?_)))
            refine TW.br rfl rfl (by first | omega | exact b2i_R _ | exact ⟨b2i_R _, by omega⟩) (fun c4 => ?_) (fun c4 => ?_)
            · omega
            (repeat (first | (refine TW.getf rfl rfl rfl (fun _ => ?_)) | (refine TW.pl rfl rfl ?_)))
            refine TW.cv1 rfl rfl rfl (Nat.le_of_ble_eq_true rfl) (T_workOrder (d := d + 1) hX' hov hgn hP hko hn0) ?_
            rintro r τ1 ⟨hF1, hq1⟩
            have hF2 := hF.trans hF1
            unfold stLin
            rw [e0]
            cases hS1 : stOne t.length os k os[k] S with
            | inl w =>
              rw [hS1] at hq1
              obtain ⟨rfl, hw1, hw8⟩ := hq1
              clear ih stop
              have fin : LiQ σ s t os n0 (.inl w) (some (w : Int)) τ1 := ⟨hF2, rfl, hw1, hw8⟩
              have last : ∀ v : Int, TW (d + 21) tc_workLine 24 [some (.inr 0), some (.inl v), some (.inl w)] [] τ1 (LiQ σ s t os n0 (.inl w)) := by
                intro v
                (repeat (first | (refine TW.getf rfl rfl rfl (fun _ => ?_)) | (refine TW.pl rfl rfl ?_)))
                refine TW.br rfl rfl (by first | omega | exact b2i_R _ | exact ⟨b2i_R _, by omega⟩) (fun c5 => ?_) (fun c5 => ?_)
                · (repeat (first | (refine TW.getf rfl rfl rfl (fun _ => ?_)) | (refine TW.pl rfl rfl ?_)))
                  exact TW.iret rfl fin
                · omega
              have h22' : τ1.1 22 = τ1.1 22 := rfl
              (iterate 5 (first | (refine TW.getf rfl rfl rfl (fun _ => ?_)) | (refine TW.pl rfl rfl ?_)))
              (repeat (first | (refine TW.getf rfl rfl rfl (fun _ => ?_)) | (refine TW.pl rfl rfl ?_)))
              refine TW.br rfl rfl (by first | omega | exact b2i_R _ | exact ⟨b2i_R _, by omega⟩) (fun c5 => ?_) (fun c5 => ?_)
              · exact last _
              (repeat (first | (refine TW.getf rfl rfl rfl (fun _ => ?_)) | (refine TW.pl rfl rfl ?_)))
              refine TW.br rfl rfl (by first | omega | exact b2i_R _ | exact ⟨b2i_R _, by omega⟩) (fun c6 => ?_) (fun c6 => ?_)
              · exact last _
              · omega
            | inr q2 =>
              obtain ⟨j, S1⟩ := q2
              rw [hS1] at hq1
              obtain ⟨rfl, hP1, hX1⟩ := hq1
              have hst := stOne_st hS1
              (iterate 5 (first | (refine TW.getf rfl rfl rfl (fun _ => ?_)) | (refine TW.pl rfl rfl ?_)))
              exact ih j _ S1 τ1 (by omega) hP1 hX1 hF2
          · have hko : os[k]? = none := List.getElem?_eq_none (by omega)
            rw [hko] at e0
            have hxl : x = s.length := by
              rcases hP with ⟨h1, _⟩ | ⟨_, h2⟩
              · exact absurd h1 hk
              · exact h2
            (repeat (first | (refine TW.getf rfl rfl rfl (fun _ => ?_)) | (refine TW.pl rfl rfl ?_)))
            refine TW.br rfl rfl (by first | omega | exact b2i_R _ | exact ⟨b2i_R _, by omega⟩) (fun c1 => ?_) (fun c1 => ?_)
            · exact stop e0
            · omega
  refine TM.of rfl rfl ?_
  (iterate 4 (first | (refine TW.getf rfl rfl rfl (fun _ => ?_)) | (refine TW.pl rfl rfl ?_)))
  exact loop 402 0 0 S σ (Nat.le_add_right _ _) hPP (TSX.of hT ho) TF.rf
end TWli
