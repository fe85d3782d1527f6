set_option maxRecDepth 100000
/-! the twin's stream: line after line -/
abbrev sTuS (S : SS) : Nat := S.2.2.2.1
section TSal
variable {d : Nat} {σ τ υ : TS} {s l l1 l2 lx lb : List Int} {t pu re : List SLine} {du : List (List Int)} {x y : SLine} {g ov : Bool} {W W1 : WG} {B B1 : BG} {fs as : List Nat} {os : List SOrd} {n n0 : Int} {od : SOrd0} {o' : SOrd} {S S1 : SS} {st tu k i j : Nat} {ru : Nat → Nat → RG} {w : Bool × Option SAdr × Option SAdr} {h o : List (List Int)} {fi : Nat → List (List Int)} {m : Nat → Option Int} {rp run : Bool} {L : Nat}
theorem stDo_tu (hs : stDo L k i od S = .inr S1) : sTuS S1 = sTuS S := by
  obtain ⟨W, B, st, tu, ov, ru⟩ := S
  unfold stDo at hs
  dsimp only at hs
  split at hs
  · cases hs
  · cases hs; rfl
theorem stCome_tu {b : Bool} (hs : stCome L k i od S = .inr (b, S1)) : sTuS S1 = sTuS S := by
  obtain ⟨W, B, st, tu, ov, ru⟩ := S
  unfold stCome at hs
  dsimp only at hs
  split at hs
  · cases hs
  · split at hs
    · cases hs
    · cases hs; rfl
theorem stIn1_tu (hs : stIn1 L k i od S = .inr S1) : sTuS S1 = sTuS S := by
  unfold stIn1 at hs
  cases hc : stCome L k i od S with
  | inl w => rw [hc] at hs; cases hs
  | inr q =>
    obtain ⟨b, S2⟩ := q
    rw [hc] at hs
    cases b with
    | false => cases hs; exact stCome_tu hc
    | true => exact (stDo_tu hs).trans (stCome_tu hc)
theorem stInn_tu : ∀ (ods : List SOrd0) (i : Nat) (S S1 : SS), stInn L k ods i S = .inr S1 → sTuS S1 = sTuS S := by
  intro ods
  induction ods with
  | nil => intro i S S1 hs; cases hs; rfl
  | cons od ods ih =>
    intro i S S1 hs
    cases hg : sGoneS S with
    | true => rw [stInn_gone hg] at hs; cases hs; rfl
    | false =>
      rw [stInn_cons hg] at hs
      cases hc : stIn1 L k i od S with
      | inl w => rw [hc] at hs; cases hs
      | inr S2 =>
        rw [hc] at hs
        exact (ih _ _ _ hs).trans (stIn1_tu hc)
theorem stEac_tu (hs : stEac L k o' S = .inr S1) : sTuS S1 = sTuS S := by
  unfold stEac at hs
  split at hs
  · exact stInn_tu _ _ _ _ hs
  · cases hs; rfl
theorem stPutS_tu (hs : stPutS S = .inr S1) : sTuS S1 = sTuS S := by
  obtain ⟨W, B, st, tu, ov, ru⟩ := S
  unfold stPutS at hs
  dsimp only at hs
  split at hs
  · cases hs
  · cases hs; rfl
theorem stRest_tu (hs : stRest S = .inr S1) : sTuS S1 = sTuS S := by
  obtain ⟨⟨x, g, du, pu, re⟩, B, st, tu, ov, ru⟩ := S
  unfold stRest at hs
  dsimp only at hs
  split at hs
  · cases hs
  · cases hs; rfl
theorem stOver_tu : sTuS (stOver S) = sTuS S := by obtain ⟨W, B, st, tu, ov, ru⟩ := S; rfl
theorem setRp_tu {b : Bool} : sTuS (setRp S b) = sTuS S := by obtain ⟨W, ⟨h, o, fi, m, n, rp⟩, st, tu, ov, ru⟩ := S; rfl
theorem stTake_tu : sTuS S ≤ sTuS (stTake S) := by
  obtain ⟨⟨x, g, du, pu, re⟩, ⟨h, o, fi, m, n, rp⟩, st, tu, ov, ru⟩ := S
  cases re with
  | nil => exact Nat.le_refl _
  | cons y re => exact Nat.le_succ _
theorem stSte_tu (hs : stSte os k o' S = .inr (j, S1)) : sTuS S ≤ sTuS S1 := by
  unfold stSte at hs
  by_cases c98 : oAct o'.1 = 98
  · rw [if_pos c98] at hs
    cases hj : sJump os o'.1 with
    | inl w => rw [hj] at hs; cases hs
    | inr q => rw [hj] at hs; cases hs; exact Nat.le_refl _
  rw [if_neg c98] at hs
  by_cases c84 : oAct o'.1 = 84
  · rw [if_pos c84] at hs
    split at hs
    · cases hj : sJump os o'.1 with
      | inl w => rw [hj] at hs; cases hs
      | inr q => rw [hj] at hs; cases hs; exact Nat.le_of_eq setRp_tu.symm
    · cases hs; exact Nat.le_of_eq setRp_tu.symm
  rw [if_neg c84] at hs
  by_cases c113 : oAct o'.1 = 113
  · rw [if_pos c113] at hs
    cases hp : stPutS S with
    | inl w => rw [hp] at hs; cases hs
    | inr S2 =>
      rw [hp] at hs
      dsimp only at hs
      cases hr : stRest (stOver S2) with
      | inl w => rw [hr] at hs; cases hs
      | inr S3 =>
        rw [hr] at hs
        cases hs
        exact Nat.le_of_eq ((stRest_tu hr).trans (stOver_tu.trans (stPutS_tu hp))).symm
  rw [if_neg c113] at hs
  cases hp : stPutS S with
  | inl w => rw [hp] at hs; cases hs
  | inr S2 =>
    rw [hp] at hs
    dsimp only at hs
    have e : (j, S1) = (k + 1, if S2.1.2.2.2.2 = [] then stOver S2 else stTake S2) := (Sum.inr.inj hs).symm
    have e2 : S1 = if S2.1.2.2.2.2 = [] then stOver S2 else stTake S2 := congrArg Prod.snd e
    have e3 := stPutS_tu hp
    rw [e2]
    split
    · exact Nat.le_of_eq (stOver_tu.trans e3).symm
    · have := stTake_tu (S := S2)
      omega
theorem stOne_tu (hs : stOne L os k o' S = .inr (j, S1)) : sTuS S ≤ sTuS S1 := by
  rw [stOne_eq] at hs
  cases hc : stCome L k 0 o'.1 S with
  | inl w => rw [hc] at hs; cases hs
  | inr q =>
    obtain ⟨b, S2⟩ := q
    have h2 := stCome_tu hc
    rw [hc] at hs
    cases b with
    | false => cases hs; omega
    | true =>
      dsimp only at hs
      split at hs
      · cases hs; omega
      split at hs
      · have := stSte_tu hs; omega
      split at hs
      · have := stEac_tu (nxP_out hs); omega
      · have := stDo_tu (nxP_out hs); omega
theorem stLine_tu : ∀ (q k : Nat) (S S1 : SS), stLine L os q k S = .inr S1 → sTuS S ≤ sTuS S1 := by
  intro q
  induction q with
  | zero => intro k S S1 hs; cases hs
  | succ q ih =>
    intro k S S1 hs
    have e0 : stLine L os (q + 1) k S = if sGoneS S = true ∨ sOverS S = true then .inr S else match os[k]? with
        | none => .inr S
        | some o => match stOne L os k o S with
          | .inl w => .inl w
          | .inr (j, S1) => stLine L os q j S1 := rfl
    rw [e0] at hs
    split at hs
    · cases hs; exact Nat.le_refl _
    · cases hk : os[k]? with
      | none => rw [hk] at hs; cases hs; exact Nat.le_refl _
      | some o =>
        rw [hk] at hs
        dsimp only at hs
        cases h1 : stOne L os k o S with
        | inl w => rw [h1] at hs; cases hs
        | inr q2 =>
          obtain ⟨j, S2⟩ := q2
          rw [h1] at hs
          have := stOne_tu h1
          have := ih _ _ _ hs
          omega
theorem stLin_tu {q : Nat} (hs : stLin L os q k S = .inr S1) : sTuS S ≤ sTuS S1 := by
  unfold stLin at hs
  cases h1 : stLine L os q k S with
  | inl w => rw [h1] at hs; cases hs
  | inr S2 =>
    rw [h1] at hs
    have h2 := stLine_tu _ _ _ _ h1
    dsimp only at hs
    split at hs
    · cases hs; exact h2
    · have := stPutS_tu hs; omega
theorem stAll_over : ∀ (q : Nat), sOverS S = true → stAll L os q S = .inr S := by
  intro q ho
  cases q with
  | zero => rfl
  | succ q =>
    show (if _ then _ else _) = _
    rw [if_pos (Or.inr ho)]
theorem stAll_succ {q : Nat} (h1 : S.1.2.2.2.2 ≠ []) (h2 : sOverS S = false) : stAll L os (q + 1) S = match stLin L os 402 0 (stTake S) with
    | .inl w => .inl w
    | .inr S1 => stAll L os q S1 := by
  show (if _ then _ else _) = _
  rw [if_neg (by rw [h2]; intro z; rcases z with z | z; exact h1 z; cases z)]
  unfold stLin
  cases stLine L os 402 0 (stTake S) with
  | inl w => rfl
  | inr S1 =>
    dsimp only
    cases ho : sOverS S1 with
    | true =>
      rw [if_pos rfl, if_pos rfl]
      exact (stAll_over q ho).symm
    | false =>
      rw [if_neg (by decide), if_neg (by decide)]
      cases stPutS S1 <;> rfl
theorem T_allLines {Q : Option Int → TS → Prop} (hn0 : n0 < 890000) : ∀ (q : Nat) (S : SS) (σ : TS), t.length ≤ q + sTuS S → TSP σ s t os n0 S → (∀ (τ : TS) (w : Nat), TF σ τ → stAll t.length os q S = .inl w → 1 ≤ w ∧ w ≤ 8 → TW (d + 22) tc_playLines 64 [some (.inr 0), some (.inl w)] [] τ Q) → (∀ (τ : TS) (S1 : SS), TF σ τ → stAll t.length os q S = .inr S1 → TSP τ s t os n0 S1 → TW (d + 22) tc_playLines 64 [some (.inr 0), some (.inl 0)] [] τ Q) → TW (d + 22) tc_playLines 48 [some (.inr 0), some (.inl 0)] [] σ Q := by
  intro q
  induction q with
  | zero =>
    intro S σ hq hT _ k2
    have hre : sTuS S + S.1.2.2.2.2.length ≤ t.length := hT.2.2.2
    have h65 : σ.1 65 = t.length := hT.2.1.1.2.1
    have h66 : σ.1 66 = ((t.length - S.1.2.2.2.2.length : Nat) : Int) := hT.2.1.1.2.2.1
    (repeat (first | (refine TW.getf rfl rfl rfl (fun _ => ?_)) | (refine TW.pl rfl rfl ?_)))
    refine TW.br rfl rfl (by first | omega | exact b2i_R _ | exact ⟨b2i_R _, by omega⟩) (fun c1 => ?_) (fun c1 => ?_)
    · exact k2 σ S TF.rf rfl hT
    · omega
  | succ q ih =>
    intro S σ hq hT k1 k2
    have hre : sTuS S + S.1.2.2.2.2.length ≤ t.length := hT.2.2.2
    have h65 : σ.1 65 = t.length := hT.2.1.1.2.1
    have h66 : σ.1 66 = ((t.length - S.1.2.2.2.2.length : Nat) : Int) := hT.2.1.1.2.2.1
    have hrl : S.1.2.2.2.2.length ≤ t.length := hT.2.1.1.2.2.2.2.1
    have h71 : σ.1 71 = b2i (sOverS S) := hT.1.2.2.2.2.2.2
    by_cases hnil : S.1.2.2.2.2 = []
    · have e1 : stAll t.length os (q + 1) S = .inr S := by
        show (if _ then _ else _) = _
        rw [if_pos (Or.inl hnil)]
      rw [hnil] at h66
      have h66 : σ.1 66 = t.length := h66
      (repeat (first | (refine TW.getf rfl rfl rfl (fun _ => ?_)) | (refine TW.pl rfl rfl ?_)))
      refine TW.br rfl rfl (by first | omega | exact b2i_R _ | exact ⟨b2i_R _, by omega⟩) (fun c1 => ?_) (fun c1 => ?_)
      · exact k2 σ S TF.rf e1 hT
      · omega
    have hpos : 0 < S.1.2.2.2.2.length := List.length_pos_iff.mpr hnil
    cases hov : sOverS S with
    | true =>
      rw [hov] at h71
      have h71 : σ.1 71 = 1 := h71
      have e1 := stAll_over (L := t.length) (os := os) (q + 1) hov
      (repeat (first | (refine TW.getf rfl rfl rfl (fun _ => ?_)) | (refine TW.pl rfl rfl ?_)))
      refine TW.br rfl rfl (by first | omega | exact b2i_R _ | exact ⟨b2i_R _, by omega⟩) (fun c1 => ?_) (fun c1 => ?_)
      · omega
      (repeat (first | (refine TW.getf rfl rfl rfl (fun _ => ?_)) | (refine TW.pl rfl rfl ?_)))
      refine TW.br rfl rfl (by first | omega | exact b2i_R _ | exact ⟨b2i_R _, by omega⟩) (fun c2 => ?_) (fun c2 => ?_)
      · exact absurd rfl c2
      (repeat (first | (refine TW.getf rfl rfl rfl (fun _ => ?_)) | (refine TW.pl rfl rfl ?_)))
      refine TW.br rfl rfl (by first | omega | exact b2i_R _ | exact ⟨b2i_R _, by omega⟩) (fun c3 => ?_) (fun c3 => ?_)
      · exact k2 σ S TF.rf e1 hT
      · omega
    | false =>
      rw [hov] at h71
      have h71 : σ.1 71 = 0 := h71
      have e1 := stAll_succ (L := t.length) (os := os) (q := q) hnil hov
      (repeat (first | (refine TW.getf rfl rfl rfl (fun _ => ?_)) | (refine TW.pl rfl rfl ?_)))
      refine TW.br rfl rfl (by first | omega | exact b2i_R _ | exact ⟨b2i_R _, by omega⟩) (fun c1 => ?_) (fun c1 => ?_)
      · omega
      (repeat (first | (refine TW.getf rfl rfl rfl (fun _ => ?_)) | (refine TW.pl rfl rfl ?_)))
      refine TW.br rfl rfl (by first | omega | exact b2i_R _ | exact ⟨b2i_R _, by omega⟩) (fun c2 => ?_) (fun c2 => ?_)
      · exact absurd rfl c2
      (repeat (first | (refine TW.getf rfl rfl rfl (fun _ => ?_)) | (refine TW.pl rfl rfl ?_)))
      refine TW.br rfl rfl (by first | omega | exact b2i_R _ | exact ⟨b2i_R _, by omega⟩) (fun c3 => ?_) (fun c3 => ?_)
      · omega
      (repeat (first | (refine TW.getf rfl rfl rfl (fun _ => ?_)) | (refine TW.pl rfl rfl ?_)))
      obtain ⟨⟨x, g, du, pu, re⟩, ⟨h, o, fi, m, n, rp⟩, st, tu, ov, ru⟩ := S
      cases re with
      | nil => exact absurd rfl hnil
      | cons y re =>
        refine TW.cv0 rfl rfl rfl (Nat.le_of_ble_eq_true rfl) (T_takeS (d := d + 20) hT hn0) ?_
        rintro _ τ1 ⟨rfl, ⟨hF1, -⟩, hT1⟩
        have hov1 : sOverS (stTake ((x, g, du, pu, y :: re), (h, o, fi, m, n, rp), st, tu, ov, ru)) = false := hov
        have htu1 : sTuS (stTake ((x, g, du, pu, y :: re), (h, o, fi, m, n, rp), st, tu, ov, ru)) = tu + 1 := rfl
        generalize stTake ((x, g, du, pu, y :: re), (h, o, fi, m, n, rp), st, tu, ov, ru) = S2 at e1 hT1 hov1 htu1
        (repeat (first | (refine TW.getf rfl rfl rfl (fun _ => ?_)) | (refine TW.pl rfl rfl ?_)))
        refine TW.cv0 rfl rfl rfl (Nat.le_of_ble_eq_true rfl) (T_workLine hT1 hov1 hn0) ?_
        rintro r τ2 ⟨hF2, hq2⟩
        have hF3 := hF1.trans hF2
        cases hL : stLin t.length os 402 0 S2 with
        | inl w =>
          rw [hL] at hq2 e1
          obtain ⟨rfl, hw⟩ := hq2
          have last := k1 τ2 w hF3 e1 hw
          (iterate 2 (first | (refine TW.getf rfl rfl rfl (fun _ => ?_)) | (refine TW.pl rfl rfl ?_)))
          (repeat (first | (refine TW.getf rfl rfl rfl (fun _ => ?_)) | (refine TW.pl rfl rfl ?_)))
          refine TW.br rfl rfl (by first | omega | exact b2i_R _ | exact ⟨b2i_R _, by omega⟩) (fun c4 => ?_) (fun c4 => ?_)
          · exact last
          (repeat (first | (refine TW.getf rfl rfl rfl (fun _ => ?_)) | (refine TW.pl rfl rfl ?_)))
          refine TW.br rfl rfl (by first | omega | exact b2i_R _ | exact ⟨b2i_R _, by omega⟩) (fun c5 => ?_) (fun c5 => ?_)
          · exact last
          · omega
        | inr S3 =>
          rw [hL] at hq2 e1
          obtain ⟨rfl, hT3⟩ := hq2
          have htu := stLin_tu hL
          have hq' : t.length ≤ q + 1 + tu := hq
          (iterate 2 (first | (refine TW.getf rfl rfl rfl (fun _ => ?_)) | (refine TW.pl rfl rfl ?_)))
          exact ih S3 τ2 (by omega) hT3 (fun τ w hF e hw => k1 τ w (hF3.trans hF) (e1.trans e) hw) (fun τ S1 hF e hT => k2 τ S1 (hF3.trans hF) (e1.trans e) hT)
end TSal
