set_option maxRecDepth 100000
/-! what the twin keeps: its copy loops (printed by mkcopy.py), saving, deeds -/
/-- n elements of array a from oa on were laid into array b from ob on -/
def CpA (σ τ : TS) (a oa b ob n : Nat) : Prop := τ.1 = σ.1 ∧ ∀ (q j : Nat), τ.2 q j = if q = b ∧ ob ≤ j ∧ j < ob + n then σ.2 a (oa + (j - ob)) else σ.2 q j
theorem CpA.snoc {σ τ : TS} {a oa b ob n j x y : Nat} (hc : CpA σ τ a oa b ob j) (hne : a ≠ b ∨ oa + n ≤ ob ∨ ob + n ≤ oa) (hj : j < n) (hx : x = oa + j) (hy : y = ob + j) : CpA σ (ts2 τ b y (τ.2 a x)) a oa b ob (j + 1) := by
  subst hx hy
  refine ⟨hc.1, fun q i => ?_⟩
  show (if q = b ∧ i = ob + j then τ.2 a (oa + j) else τ.2 q i) = _
  by_cases e : q = b ∧ i = ob + j
  · rw [if_pos e, if_pos (by omega), hc.2, if_neg (by omega), show oa + (i - ob) = oa + j by omega]
  · rw [if_neg e, hc.2]
    by_cases e2 : q = b ∧ ob ≤ i ∧ i < ob + j
    · rw [if_pos e2, if_pos (by omega)]
    · rw [if_neg e2, if_neg (by omega)]
theorem CpA.fr {σ τ : TS} {a oa b ob n : Nat} (hc : CpA σ τ a oa b ob n) : TFr [] [b] σ τ := ⟨fun k _ => by rw [hc.1], fun q hq => by
  funext j
  rw [hc.2, if_neg (fun z => hq (by rw [z.1]; exact List.mem_cons_self))]⟩
theorem CpA.at {σ τ : TS} {a oa b ob n j k : Nat} (hc : CpA σ τ a oa b ob n) (hj : j < n) (hk : k = ob + j) : τ.2 b k = σ.2 a (oa + j) := by
  subst hk
  rw [hc.2, if_pos (by omega), show oa + (ob + j - ob) = oa + j by omega]
section TCpy
variable {d : Nat} {σ : TS}
theorem L_sav0 {Q : Option Int → TS → Prop} (h : ∀ (τ : TS) (k : Int), k = (12028 : Nat) → CpA σ τ 6 (0) 6 (14880) (12028) → TW d tc_save 17 [some (.inr 0), some (.inl k)] [] τ Q) : TW d tc_save 2 [some (.inr 0), some (.inl 0)] [] σ Q := by
  have loop : ∀ (q j : Nat) (k : Int) (τ : TS), j + q = 12028 → k = j → CpA σ τ 6 (0) 6 (14880) j → TW d tc_save 2 [some (.inr 0), some (.inl k)] [] τ Q := by
    intro q
    induction q with
    | zero =>
      intro j k τ hj hk hc
      have hj : j = 12028 := by omega
      (repeat (first | (refine TW.getf rfl rfl rfl (fun _ => ?_)) | (refine TW.pl rfl rfl ?_)))
      refine TW.br rfl rfl (by first | omega | exact b2i_R _ | exact ⟨b2i_R _, by omega⟩) (fun q1 => ?_) (fun q1 => ?_)
      · rw [hj] at hc
        exact h τ k (by omega) hc
      · omega
    | succ q ih =>
      intro j k τ hj hk hc
      (repeat (first | (refine TW.getf rfl rfl rfl (fun _ => ?_)) | (refine TW.pl rfl rfl ?_)))
      refine TW.br rfl rfl (by first | omega | exact b2i_R _ | exact ⟨b2i_R _, by omega⟩) (fun q1 => ?_) (fun q1 => ?_)
      · omega
      (repeat (first | (refine TW.getf rfl rfl rfl (fun _ => ?_)) | (refine TW.pl rfl rfl ?_)))
      refine TW.iald (n := 26908) rfl rfl rfl (by omega) (fun _ => ?_)
      refine TW.iast (n := 26908) rfl rfl rfl (by omega) (by omega) ?_
      (iterate 2 (first | (refine TW.getf rfl rfl rfl (fun _ => ?_)) | (refine TW.pl rfl rfl ?_)))
      exact ih (j + 1) (k + 1) _ (by omega) (by omega) (hc.snoc (n := 12028) (by omega) (by omega) (by omega) (by omega))
  exact loop (12028) 0 0 σ (by omega) rfl ⟨rfl, fun q j => by rw [if_neg (by omega)]⟩
theorem L_sav1 {Q : Option Int → TS → Prop} (h : ∀ (τ : TS) (k : Int), k = (41 : Nat) → CpA σ τ 7 (0) 47 (0) (41) → TW d tc_save 32 [some (.inr 0), some (.inl k)] [] τ Q) : TW d tc_save 19 [some (.inr 0), some (.inl 0)] [] σ Q := by
  have loop : ∀ (q j : Nat) (k : Int) (τ : TS), j + q = 41 → k = j → CpA σ τ 7 (0) 47 (0) j → TW d tc_save 19 [some (.inr 0), some (.inl k)] [] τ Q := by
    intro q
    induction q with
    | zero =>
      intro j k τ hj hk hc
      have hj : j = 41 := by omega
      (repeat (first | (refine TW.getf rfl rfl rfl (fun _ => ?_)) | (refine TW.pl rfl rfl ?_)))
      refine TW.br rfl rfl (by first | omega | exact b2i_R _ | exact ⟨b2i_R _, by omega⟩) (fun q1 => ?_) (fun q1 => ?_)
      · rw [hj] at hc
        exact h τ k (by omega) hc
      · omega
    | succ q ih =>
      intro j k τ hj hk hc
      (repeat (first | (refine TW.getf rfl rfl rfl (fun _ => ?_)) | (refine TW.pl rfl rfl ?_)))
      refine TW.br rfl rfl (by first | omega | exact b2i_R _ | exact ⟨b2i_R _, by omega⟩) (fun q1 => ?_) (fun q1 => ?_)
      · omega
      (repeat (first | (refine TW.getf rfl rfl rfl (fun _ => ?_)) | (refine TW.pl rfl rfl ?_)))
      refine TW.iald (n := 41) rfl rfl rfl (by omega) (fun _ => ?_)
      refine TW.iast (n := 41) rfl rfl rfl (by omega) (by omega) ?_
      (iterate 2 (first | (refine TW.getf rfl rfl rfl (fun _ => ?_)) | (refine TW.pl rfl rfl ?_)))
      exact ih (j + 1) (k + 1) _ (by omega) (by omega) (hc.snoc (n := 41) (by omega) (by omega) (by omega) (by omega))
  exact loop (41) 0 0 σ (by omega) rfl ⟨rfl, fun q j => by rw [if_neg (by omega)]⟩
theorem L_sav2 {Q : Option Int → TS → Prop} (h : ∀ (τ : TS) (k : Int), k = (5 : Nat) → CpA σ τ 10 (0) 48 (0) (5) → TW d tc_save 47 [some (.inr 0), some (.inl k)] [] τ Q) : TW d tc_save 34 [some (.inr 0), some (.inl 0)] [] σ Q := by
  have loop : ∀ (q j : Nat) (k : Int) (τ : TS), j + q = 5 → k = j → CpA σ τ 10 (0) 48 (0) j → TW d tc_save 34 [some (.inr 0), some (.inl k)] [] τ Q := by
    intro q
    induction q with
    | zero =>
      intro j k τ hj hk hc
      have hj : j = 5 := by omega
      (repeat (first | (refine TW.getf rfl rfl rfl (fun _ => ?_)) | (refine TW.pl rfl rfl ?_)))
      refine TW.br rfl rfl (by first | omega | exact b2i_R _ | exact ⟨b2i_R _, by omega⟩) (fun q1 => ?_) (fun q1 => ?_)
      · rw [hj] at hc
        exact h τ k (by omega) hc
      · omega
    | succ q ih =>
      intro j k τ hj hk hc
      (repeat (first | (refine TW.getf rfl rfl rfl (fun _ => ?_)) | (refine TW.pl rfl rfl ?_)))
      refine TW.br rfl rfl (by first | omega | exact b2i_R _ | exact ⟨b2i_R _, by omega⟩) (fun q1 => ?_) (fun q1 => ?_)
      · omega
      (repeat (first | (refine TW.getf rfl rfl rfl (fun _ => ?_)) | (refine TW.pl rfl rfl ?_)))
      refine TW.iald (n := 5) rfl rfl rfl (by omega) (fun _ => ?_)
      refine TW.iast (n := 5) rfl rfl rfl (by omega) (by omega) ?_
      (iterate 2 (first | (refine TW.getf rfl rfl rfl (fun _ => ?_)) | (refine TW.pl rfl rfl ?_)))
      exact ih (j + 1) (k + 1) _ (by omega) (by omega) (hc.snoc (n := 5) (by omega) (by omega) (by omega) (by omega))
  exact loop (5) 0 0 σ (by omega) rfl ⟨rfl, fun q j => by rw [if_neg (by omega)]⟩
theorem L_sav3 {Q : Option Int → TS → Prop} (h : ∀ (τ : TS) (k : Int), k = (4 : Nat) → CpA σ τ 11 (0) 49 (0) (4) → TW d tc_save 62 [some (.inr 0), some (.inl k)] [] τ Q) : TW d tc_save 49 [some (.inr 0), some (.inl 0)] [] σ Q := by
  have loop : ∀ (q j : Nat) (k : Int) (τ : TS), j + q = 4 → k = j → CpA σ τ 11 (0) 49 (0) j → TW d tc_save 49 [some (.inr 0), some (.inl k)] [] τ Q := by
    intro q
    induction q with
    | zero =>
      intro j k τ hj hk hc
      have hj : j = 4 := by omega
      (repeat (first | (refine TW.getf rfl rfl rfl (fun _ => ?_)) | (refine TW.pl rfl rfl ?_)))
      refine TW.br rfl rfl (by first | omega | exact b2i_R _ | exact ⟨b2i_R _, by omega⟩) (fun q1 => ?_) (fun q1 => ?_)
      · rw [hj] at hc
        exact h τ k (by omega) hc
      · omega
    | succ q ih =>
      intro j k τ hj hk hc
      (repeat (first | (refine TW.getf rfl rfl rfl (fun _ => ?_)) | (refine TW.pl rfl rfl ?_)))
      refine TW.br rfl rfl (by first | omega | exact b2i_R _ | exact ⟨b2i_R _, by omega⟩) (fun q1 => ?_) (fun q1 => ?_)
      · omega
      (repeat (first | (refine TW.getf rfl rfl rfl (fun _ => ?_)) | (refine TW.pl rfl rfl ?_)))
      refine TW.iald (n := 4) rfl rfl rfl (by omega) (fun _ => ?_)
      refine TW.iast (n := 4) rfl rfl rfl (by omega) (by omega) ?_
      (iterate 2 (first | (refine TW.getf rfl rfl rfl (fun _ => ?_)) | (refine TW.pl rfl rfl ?_)))
      exact ih (j + 1) (k + 1) _ (by omega) (by omega) (hc.snoc (n := 4) (by omega) (by omega) (by omega) (by omega))
  exact loop (4) 0 0 σ (by omega) rfl ⟨rfl, fun q j => by rw [if_neg (by omega)]⟩
theorem L_com0 {Q : Option Int → TS → Prop} (h : ∀ (τ : TS) (k : Int), k = (12028 : Nat) → CpA σ τ 6 (14880) 6 (0) (12028) → TW d tc_comeBack 17 [some (.inr 0), some (.inl k)] [] τ Q) : TW d tc_comeBack 2 [some (.inr 0), some (.inl 0)] [] σ Q := by
  have loop : ∀ (q j : Nat) (k : Int) (τ : TS), j + q = 12028 → k = j → CpA σ τ 6 (14880) 6 (0) j → TW d tc_comeBack 2 [some (.inr 0), some (.inl k)] [] τ Q := by
    intro q
    induction q with
    | zero =>
      intro j k τ hj hk hc
      have hj : j = 12028 := by omega
      (repeat (first | (refine TW.getf rfl rfl rfl (fun _ => ?_)) | (refine TW.pl rfl rfl ?_)))
      refine TW.br rfl rfl (by first | omega | exact b2i_R _ | exact ⟨b2i_R _, by omega⟩) (fun q1 => ?_) (fun q1 => ?_)
      · rw [hj] at hc
        exact h τ k (by omega) hc
      · omega
    | succ q ih =>
      intro j k τ hj hk hc
      (repeat (first | (refine TW.getf rfl rfl rfl (fun _ => ?_)) | (refine TW.pl rfl rfl ?_)))
      refine TW.br rfl rfl (by first | omega | exact b2i_R _ | exact ⟨b2i_R _, by omega⟩) (fun q1 => ?_) (fun q1 => ?_)
      · omega
      (repeat (first | (refine TW.getf rfl rfl rfl (fun _ => ?_)) | (refine TW.pl rfl rfl ?_)))
      refine TW.iald (n := 26908) rfl rfl rfl (by omega) (fun _ => ?_)
      refine TW.iast (n := 26908) rfl rfl rfl (by omega) (by omega) ?_
      (iterate 2 (first | (refine TW.getf rfl rfl rfl (fun _ => ?_)) | (refine TW.pl rfl rfl ?_)))
      exact ih (j + 1) (k + 1) _ (by omega) (by omega) (hc.snoc (n := 12028) (by omega) (by omega) (by omega) (by omega))
  exact loop (12028) 0 0 σ (by omega) rfl ⟨rfl, fun q j => by rw [if_neg (by omega)]⟩
theorem L_com1 {Q : Option Int → TS → Prop} (h : ∀ (τ : TS) (k : Int), k = (41 : Nat) → CpA σ τ 47 (0) 7 (0) (41) → TW d tc_comeBack 32 [some (.inr 0), some (.inl k)] [] τ Q) : TW d tc_comeBack 19 [some (.inr 0), some (.inl 0)] [] σ Q := by
  have loop : ∀ (q j : Nat) (k : Int) (τ : TS), j + q = 41 → k = j → CpA σ τ 47 (0) 7 (0) j → TW d tc_comeBack 19 [some (.inr 0), some (.inl k)] [] τ Q := by
    intro q
    induction q with
    | zero =>
      intro j k τ hj hk hc
      have hj : j = 41 := by omega
      (repeat (first | (refine TW.getf rfl rfl rfl (fun _ => ?_)) | (refine TW.pl rfl rfl ?_)))
      refine TW.br rfl rfl (by first | omega | exact b2i_R _ | exact ⟨b2i_R _, by omega⟩) (fun q1 => ?_) (fun q1 => ?_)
      · rw [hj] at hc
        exact h τ k (by omega) hc
      · omega
    | succ q ih =>
      intro j k τ hj hk hc
      (repeat (first | (refine TW.getf rfl rfl rfl (fun _ => ?_)) | (refine TW.pl rfl rfl ?_)))
      refine TW.br rfl rfl (by first | omega | exact b2i_R _ | exact ⟨b2i_R _, by omega⟩) (fun q1 => ?_) (fun q1 => ?_)
      · omega
      (repeat (first | (refine TW.getf rfl rfl rfl (fun _ => ?_)) | (refine TW.pl rfl rfl ?_)))
      refine TW.iald (n := 41) rfl rfl rfl (by omega) (fun _ => ?_)
      refine TW.iast (n := 41) rfl rfl rfl (by omega) (by omega) ?_
      (iterate 2 (first | (refine TW.getf rfl rfl rfl (fun _ => ?_)) | (refine TW.pl rfl rfl ?_)))
      exact ih (j + 1) (k + 1) _ (by omega) (by omega) (hc.snoc (n := 41) (by omega) (by omega) (by omega) (by omega))
  exact loop (41) 0 0 σ (by omega) rfl ⟨rfl, fun q j => by rw [if_neg (by omega)]⟩
theorem L_com2 {Q : Option Int → TS → Prop} (h : ∀ (τ : TS) (k : Int), k = (5 : Nat) → CpA σ τ 48 (0) 10 (0) (5) → TW d tc_comeBack 47 [some (.inr 0), some (.inl k)] [] τ Q) : TW d tc_comeBack 34 [some (.inr 0), some (.inl 0)] [] σ Q := by
  have loop : ∀ (q j : Nat) (k : Int) (τ : TS), j + q = 5 → k = j → CpA σ τ 48 (0) 10 (0) j → TW d tc_comeBack 34 [some (.inr 0), some (.inl k)] [] τ Q := by
    intro q
    induction q with
    | zero =>
      intro j k τ hj hk hc
      have hj : j = 5 := by omega
      (repeat (first | (refine TW.getf rfl rfl rfl (fun _ => ?_)) | (refine TW.pl rfl rfl ?_)))
      refine TW.br rfl rfl (by first | omega | exact b2i_R _ | exact ⟨b2i_R _, by omega⟩) (fun q1 => ?_) (fun q1 => ?_)
      · rw [hj] at hc
        exact h τ k (by omega) hc
      · omega
    | succ q ih =>
      intro j k τ hj hk hc
      (repeat (first | (refine TW.getf rfl rfl rfl (fun _ => ?_)) | (refine TW.pl rfl rfl ?_)))
      refine TW.br rfl rfl (by first | omega | exact b2i_R _ | exact ⟨b2i_R _, by omega⟩) (fun q1 => ?_) (fun q1 => ?_)
      · omega
      (repeat (first | (refine TW.getf rfl rfl rfl (fun _ => ?_)) | (refine TW.pl rfl rfl ?_)))
      refine TW.iald (n := 5) rfl rfl rfl (by omega) (fun _ => ?_)
      refine TW.iast (n := 5) rfl rfl rfl (by omega) (by omega) ?_
      (iterate 2 (first | (refine TW.getf rfl rfl rfl (fun _ => ?_)) | (refine TW.pl rfl rfl ?_)))
      exact ih (j + 1) (k + 1) _ (by omega) (by omega) (hc.snoc (n := 5) (by omega) (by omega) (by omega) (by omega))
  exact loop (5) 0 0 σ (by omega) rfl ⟨rfl, fun q j => by rw [if_neg (by omega)]⟩
theorem L_com3 {Q : Option Int → TS → Prop} (h : ∀ (τ : TS) (k : Int), k = (4 : Nat) → CpA σ τ 49 (0) 11 (0) (4) → TW d tc_comeBack 62 [some (.inr 0), some (.inl k)] [] τ Q) : TW d tc_comeBack 49 [some (.inr 0), some (.inl 0)] [] σ Q := by
  have loop : ∀ (q j : Nat) (k : Int) (τ : TS), j + q = 4 → k = j → CpA σ τ 49 (0) 11 (0) j → TW d tc_comeBack 49 [some (.inr 0), some (.inl k)] [] τ Q := by
    intro q
    induction q with
    | zero =>
      intro j k τ hj hk hc
      have hj : j = 4 := by omega
      (repeat (first | (refine TW.getf rfl rfl rfl (fun _ => ?_)) | (refine TW.pl rfl rfl ?_)))
      refine TW.br rfl rfl (by first | omega | exact b2i_R _ | exact ⟨b2i_R _, by omega⟩) (fun q1 => ?_) (fun q1 => ?_)
      · rw [hj] at hc
        exact h τ k (by omega) hc
      · omega
    | succ q ih =>
      intro j k τ hj hk hc
      (repeat (first | (refine TW.getf rfl rfl rfl (fun _ => ?_)) | (refine TW.pl rfl rfl ?_)))
      refine TW.br rfl rfl (by first | omega | exact b2i_R _ | exact ⟨b2i_R _, by omega⟩) (fun q1 => ?_) (fun q1 => ?_)
      · omega
      (repeat (first | (refine TW.getf rfl rfl rfl (fun _ => ?_)) | (refine TW.pl rfl rfl ?_)))
      refine TW.iald (n := 4) rfl rfl rfl (by omega) (fun _ => ?_)
      refine TW.iast (n := 4) rfl rfl rfl (by omega) (by omega) ?_
      (iterate 2 (first | (refine TW.getf rfl rfl rfl (fun _ => ?_)) | (refine TW.pl rfl rfl ?_)))
      exact ih (j + 1) (k + 1) _ (by omega) (by omega) (hc.snoc (n := 4) (by omega) (by omega) (by omega) (by omega))
  exact loop (4) 0 0 σ (by omega) rfl ⟨rfl, fun q j => by rw [if_neg (by omega)]⟩
theorem L_not0 {Q : Option Int → TS → Prop} {D M : Nat} (hD : D < 40) (hM : (σ.1 50) = M) (hM40 : M ≤ 40) (h : ∀ (τ : TS) (k : Int), k = (31 * M : Nat) → CpA σ τ 6 (14880) 55 (1240 * D) (31 * M) → TW d tc_noteDeed 51 [some (.inr 0), some (.inl D), some (.inl k)] [] τ Q) : TW d tc_noteDeed 29 [some (.inr 0), some (.inl D), some (.inl 0)] [] σ Q := by
  have loop : ∀ (q j : Nat) (k : Int) (τ : TS), j + q = 31 * M → k = j → CpA σ τ 6 (14880) 55 (1240 * D) j → TW d tc_noteDeed 29 [some (.inr 0), some (.inl D), some (.inl k)] [] τ Q := by
    intro q
    induction q with
    | zero =>
      intro j k τ hj hk hc
      have hj : j = 31 * M := by omega
      have hM1 : τ.1 50 = M := by rw [hc.1]; exact hM
      (repeat (first | (refine TW.getf rfl rfl rfl (fun _ => ?_)) | (refine TW.pl rfl rfl ?_)))
      refine TW.br rfl rfl (by first | omega | exact b2i_R _ | exact ⟨b2i_R _, by omega⟩) (fun q1 => ?_) (fun q1 => ?_)
      · rw [hj] at hc
        exact h τ k (by omega) hc
      · omega
    | succ q ih =>
      intro j k τ hj hk hc
      have hM1 : τ.1 50 = M := by rw [hc.1]; exact hM
      (repeat (first | (refine TW.getf rfl rfl rfl (fun _ => ?_)) | (refine TW.pl rfl rfl ?_)))
      refine TW.br rfl rfl (by first | omega | exact b2i_R _ | exact ⟨b2i_R _, by omega⟩) (fun q1 => ?_) (fun q1 => ?_)
      · omega
      (repeat (first | (refine TW.getf rfl rfl rfl (fun _ => ?_)) | (refine TW.pl rfl rfl ?_)))
      refine TW.iald (n := 26908) rfl rfl rfl (by omega) (fun _ => ?_)
      refine TW.iast (n := 49600) rfl rfl rfl (by omega) (by omega) ?_
      (iterate 2 (first | (refine TW.getf rfl rfl rfl (fun _ => ?_)) | (refine TW.pl rfl rfl ?_)))
      exact ih (j + 1) (k + 1) _ (by omega) (by omega) (hc.snoc (n := 31 * M) (by omega) (by omega) (by omega) (by omega))
  exact loop (31 * M) 0 0 σ (by omega) rfl ⟨rfl, fun q j => by rw [if_neg (by omega)]⟩
theorem L_not1 {Q : Option Int → TS → Prop} {D M : Nat} (hD : D < 40) (hM : (σ.1 50) = M) (hM40 : M ≤ 40) (h : ∀ (τ : TS) (k : Int), k = (M : Nat) → CpA σ τ 47 (0) 56 (40 * D) (M) → TW d tc_noteDeed 71 [some (.inr 0), some (.inl D), some (.inl k)] [] τ Q) : TW d tc_noteDeed 53 [some (.inr 0), some (.inl D), some (.inl 0)] [] σ Q := by
  have loop : ∀ (q j : Nat) (k : Int) (τ : TS), j + q = M → k = j → CpA σ τ 47 (0) 56 (40 * D) j → TW d tc_noteDeed 53 [some (.inr 0), some (.inl D), some (.inl k)] [] τ Q := by
    intro q
    induction q with
    | zero =>
      intro j k τ hj hk hc
      have hj : j = M := by omega
      have hM1 : τ.1 50 = M := by rw [hc.1]; exact hM
      (repeat (first | (refine TW.getf rfl rfl rfl (fun _ => ?_)) | (refine TW.pl rfl rfl ?_)))
      refine TW.br rfl rfl (by first | omega | exact b2i_R _ | exact ⟨b2i_R _, by omega⟩) (fun q1 => ?_) (fun q1 => ?_)
      · rw [hj] at hc
        exact h τ k (by omega) hc
      · omega
    | succ q ih =>
      intro j k τ hj hk hc
      have hM1 : τ.1 50 = M := by rw [hc.1]; exact hM
      (repeat (first | (refine TW.getf rfl rfl rfl (fun _ => ?_)) | (refine TW.pl rfl rfl ?_)))
      refine TW.br rfl rfl (by first | omega | exact b2i_R _ | exact ⟨b2i_R _, by omega⟩) (fun q1 => ?_) (fun q1 => ?_)
      · omega
      (repeat (first | (refine TW.getf rfl rfl rfl (fun _ => ?_)) | (refine TW.pl rfl rfl ?_)))
      refine TW.iald (n := 41) rfl rfl rfl (by omega) (fun _ => ?_)
      refine TW.iast (n := 1600) rfl rfl rfl (by omega) (by omega) ?_
      (iterate 2 (first | (refine TW.getf rfl rfl rfl (fun _ => ?_)) | (refine TW.pl rfl rfl ?_)))
      exact ih (j + 1) (k + 1) _ (by omega) (by omega) (hc.snoc (n := M) (by omega) (by omega) (by omega) (by omega))
  exact loop (M) 0 0 σ (by omega) rfl ⟨rfl, fun q j => by rw [if_neg (by omega)]⟩
theorem L_not2 {Q : Option Int → TS → Prop} {D : Nat} (hD : D < 40) (h : ∀ (τ : TS) (k : Int), k = (5 : Nat) → CpA σ τ 48 (0) 57 (5 * D) (5) → TW d tc_noteDeed 90 [some (.inr 0), some (.inl D), some (.inl k)] [] τ Q) : TW d tc_noteDeed 73 [some (.inr 0), some (.inl D), some (.inl 0)] [] σ Q := by
  have loop : ∀ (q j : Nat) (k : Int) (τ : TS), j + q = 5 → k = j → CpA σ τ 48 (0) 57 (5 * D) j → TW d tc_noteDeed 73 [some (.inr 0), some (.inl D), some (.inl k)] [] τ Q := by
    intro q
    induction q with
    | zero =>
      intro j k τ hj hk hc
      have hj : j = 5 := by omega
      (repeat (first | (refine TW.getf rfl rfl rfl (fun _ => ?_)) | (refine TW.pl rfl rfl ?_)))
      refine TW.br rfl rfl (by first | omega | exact b2i_R _ | exact ⟨b2i_R _, by omega⟩) (fun q1 => ?_) (fun q1 => ?_)
      · rw [hj] at hc
        exact h τ k (by omega) hc
      · omega
    | succ q ih =>
      intro j k τ hj hk hc
      (repeat (first | (refine TW.getf rfl rfl rfl (fun _ => ?_)) | (refine TW.pl rfl rfl ?_)))
      refine TW.br rfl rfl (by first | omega | exact b2i_R _ | exact ⟨b2i_R _, by omega⟩) (fun q1 => ?_) (fun q1 => ?_)
      · omega
      (repeat (first | (refine TW.getf rfl rfl rfl (fun _ => ?_)) | (refine TW.pl rfl rfl ?_)))
      refine TW.iald (n := 5) rfl rfl rfl (by omega) (fun _ => ?_)
      refine TW.iast (n := 200) rfl rfl rfl (by omega) (by omega) ?_
      (iterate 2 (first | (refine TW.getf rfl rfl rfl (fun _ => ?_)) | (refine TW.pl rfl rfl ?_)))
      exact ih (j + 1) (k + 1) _ (by omega) (by omega) (hc.snoc (n := 5) (by omega) (by omega) (by omega) (by omega))
  exact loop (5) 0 0 σ (by omega) rfl ⟨rfl, fun q j => by rw [if_neg (by omega)]⟩
theorem L_und0 {Q : Option Int → TS → Prop} {D M : Nat} (hD : D < 40) (hM : (σ.1 12) = M) (hM40 : M ≤ 40) (h : ∀ (τ : TS) (k : Int), k = (31 * M : Nat) → CpA σ τ 55 (1240 * D) 6 (0) (31 * M) → TW d tc_undoLatest 43 [some (.inr 0), some (.inl D), some (.inl k)] [] τ Q) : TW d tc_undoLatest 23 [some (.inr 0), some (.inl D), some (.inl 0)] [] σ Q := by
  have loop : ∀ (q j : Nat) (k : Int) (τ : TS), j + q = 31 * M → k = j → CpA σ τ 55 (1240 * D) 6 (0) j → TW d tc_undoLatest 23 [some (.inr 0), some (.inl D), some (.inl k)] [] τ Q := by
    intro q
    induction q with
    | zero =>
      intro j k τ hj hk hc
      have hj : j = 31 * M := by omega
      have hM1 : τ.1 12 = M := by rw [hc.1]; exact hM
      (repeat (first | (refine TW.getf rfl rfl rfl (fun _ => ?_)) | (refine TW.pl rfl rfl ?_)))
      refine TW.br rfl rfl (by first | omega | exact b2i_R _ | exact ⟨b2i_R _, by omega⟩) (fun q1 => ?_) (fun q1 => ?_)
      · rw [hj] at hc
        exact h τ k (by omega) hc
      · omega
    | succ q ih =>
      intro j k τ hj hk hc
      have hM1 : τ.1 12 = M := by rw [hc.1]; exact hM
      (repeat (first | (refine TW.getf rfl rfl rfl (fun _ => ?_)) | (refine TW.pl rfl rfl ?_)))
      refine TW.br rfl rfl (by first | omega | exact b2i_R _ | exact ⟨b2i_R _, by omega⟩) (fun q1 => ?_) (fun q1 => ?_)
      · omega
      (repeat (first | (refine TW.getf rfl rfl rfl (fun _ => ?_)) | (refine TW.pl rfl rfl ?_)))
      refine TW.iald (n := 49600) rfl rfl rfl (by omega) (fun _ => ?_)
      refine TW.iast (n := 26908) rfl rfl rfl (by omega) (by omega) ?_
      (iterate 2 (first | (refine TW.getf rfl rfl rfl (fun _ => ?_)) | (refine TW.pl rfl rfl ?_)))
      exact ih (j + 1) (k + 1) _ (by omega) (by omega) (hc.snoc (n := 31 * M) (by omega) (by omega) (by omega) (by omega))
  exact loop (31 * M) 0 0 σ (by omega) rfl ⟨rfl, fun q j => by rw [if_neg (by omega)]⟩
theorem L_und1 {Q : Option Int → TS → Prop} {D M : Nat} (hD : D < 40) (hM : (σ.1 12) = M) (hM40 : M ≤ 40) (h : ∀ (τ : TS) (k : Int), k = (M : Nat) → CpA σ τ 56 (40 * D) 7 (0) (M) → TW d tc_undoLatest 63 [some (.inr 0), some (.inl D), some (.inl k)] [] τ Q) : TW d tc_undoLatest 45 [some (.inr 0), some (.inl D), some (.inl 0)] [] σ Q := by
  have loop : ∀ (q j : Nat) (k : Int) (τ : TS), j + q = M → k = j → CpA σ τ 56 (40 * D) 7 (0) j → TW d tc_undoLatest 45 [some (.inr 0), some (.inl D), some (.inl k)] [] τ Q := by
    intro q
    induction q with
    | zero =>
      intro j k τ hj hk hc
      have hj : j = M := by omega
      have hM1 : τ.1 12 = M := by rw [hc.1]; exact hM
      (repeat (first | (refine TW.getf rfl rfl rfl (fun _ => ?_)) | (refine TW.pl rfl rfl ?_)))
      refine TW.br rfl rfl (by first | omega | exact b2i_R _ | exact ⟨b2i_R _, by omega⟩) (fun q1 => ?_) (fun q1 => ?_)
      · rw [hj] at hc
        exact h τ k (by omega) hc
      · omega
    | succ q ih =>
      intro j k τ hj hk hc
      have hM1 : τ.1 12 = M := by rw [hc.1]; exact hM
      (repeat (first | (refine TW.getf rfl rfl rfl (fun _ => ?_)) | (refine TW.pl rfl rfl ?_)))
      refine TW.br rfl rfl (by first | omega | exact b2i_R _ | exact ⟨b2i_R _, by omega⟩) (fun q1 => ?_) (fun q1 => ?_)
      · omega
      (repeat (first | (refine TW.getf rfl rfl rfl (fun _ => ?_)) | (refine TW.pl rfl rfl ?_)))
      refine TW.iald (n := 1600) rfl rfl rfl (by omega) (fun _ => ?_)
      refine TW.iast (n := 41) rfl rfl rfl (by omega) (by omega) ?_
      (iterate 2 (first | (refine TW.getf rfl rfl rfl (fun _ => ?_)) | (refine TW.pl rfl rfl ?_)))
      exact ih (j + 1) (k + 1) _ (by omega) (by omega) (hc.snoc (n := M) (by omega) (by omega) (by omega) (by omega))
  exact loop (M) 0 0 σ (by omega) rfl ⟨rfl, fun q j => by rw [if_neg (by omega)]⟩
theorem L_und2 {Q : Option Int → TS → Prop} {D : Nat} (hD : D < 40) (h : ∀ (τ : TS) (k : Int), k = (5 : Nat) → CpA σ τ 57 (5 * D) 10 (0) (5) → TW d tc_undoLatest 82 [some (.inr 0), some (.inl D), some (.inl k)] [] τ Q) : TW d tc_undoLatest 65 [some (.inr 0), some (.inl D), some (.inl 0)] [] σ Q := by
  have loop : ∀ (q j : Nat) (k : Int) (τ : TS), j + q = 5 → k = j → CpA σ τ 57 (5 * D) 10 (0) j → TW d tc_undoLatest 65 [some (.inr 0), some (.inl D), some (.inl k)] [] τ Q := by
    intro q
    induction q with
    | zero =>
      intro j k τ hj hk hc
      have hj : j = 5 := by omega
      (repeat (first | (refine TW.getf rfl rfl rfl (fun _ => ?_)) | (refine TW.pl rfl rfl ?_)))
      refine TW.br rfl rfl (by first | omega | exact b2i_R _ | exact ⟨b2i_R _, by omega⟩) (fun q1 => ?_) (fun q1 => ?_)
      · rw [hj] at hc
        exact h τ k (by omega) hc
      · omega
    | succ q ih =>
      intro j k τ hj hk hc
      (repeat (first | (refine TW.getf rfl rfl rfl (fun _ => ?_)) | (refine TW.pl rfl rfl ?_)))
      refine TW.br rfl rfl (by first | omega | exact b2i_R _ | exact ⟨b2i_R _, by omega⟩) (fun q1 => ?_) (fun q1 => ?_)
      · omega
      (repeat (first | (refine TW.getf rfl rfl rfl (fun _ => ?_)) | (refine TW.pl rfl rfl ?_)))
      refine TW.iald (n := 200) rfl rfl rfl (by omega) (fun _ => ?_)
      refine TW.iast (n := 5) rfl rfl rfl (by omega) (by omega) ?_
      (iterate 2 (first | (refine TW.getf rfl rfl rfl (fun _ => ?_)) | (refine TW.pl rfl rfl ?_)))
      exact ih (j + 1) (k + 1) _ (by omega) (by omega) (hc.snoc (n := 5) (by omega) (by omega) (by omega) (by omega))
  exact loop (5) 0 0 σ (by omega) rfl ⟨rfl, fun q j => by rw [if_neg (by omega)]⟩
end TCpy
