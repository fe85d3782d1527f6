set_option maxRecDepth 100000
/-! the twin reads s, z, and every act -/
section TRep
variable {d : Nat} {σ σ0 : TS} {s l f : List Int} {fs : List Nat} {gr st : Nat} {m : Int}
theorem pPut_1 {c k : Nat} (h : hd l = 92) (h1 : ¬ 0 < c) : pPut c k l = .inl l := by cases k <;> (unfold pPut; rw [if_pos h, if_neg h1])
theorem pPut_2 {c k : Nat} (h : hd l = 92) (h1 : 0 < c) (h2 : ¬ (49 ≤ hd l.tail ∧ hd l.tail ≤ 48 + c)) : pPut c k l = .inl l.tail := by cases k <;> (unfold pPut; rw [if_pos h, if_pos h1, if_neg h2])
theorem pPut_3 {c k : Nat} (h : hd l = 92) (h1 : 0 < c) (h2 : 49 ≤ hd l.tail ∧ hd l.tail ≤ 48 + c) : rs (pPut c (k + 1) l) = rs (pPut c k l.tail.tail) := by
  conv => lhs; unfold pPut
  rw [if_pos h, if_pos h1, if_pos h2]
  dsimp only
  cases pPut c k l.tail.tail with
  | inl f => rfl
  | inr w => rfl
theorem pPut_4 {c k : Nat} (h : ¬ hd l = 92) (h1 : isChr (hd l) = true ∨ hd l = 38) : rs (pPut c (k + 1) l) = rs (pPut c k l.tail) := by
  conv => lhs; unfold pPut
  rw [if_neg h, if_pos h1]
  dsimp only
  cases pPut c k l.tail with
  | inl f => rfl
  | inr w => rfl
theorem pPut_5 {c k : Nat} (h : ¬ hd l = 92) (h1 : ¬ (isChr (hd l) = true ∨ hd l = 38)) : pPut c k l = .inr (l, []) := by cases k <;> (unfold pPut; rw [if_neg h, if_neg h1])
/-- the end of s -/
def pReplE : PR Unit → PR Unit
  | .inl f => .inl f
  | .inr (l2, _) => if hd l2 = 47 then (if hd l2.tail = 103 ∨ (49 ≤ hd l2.tail ∧ hd l2.tail ≤ 57) then .inr (l2.tail.tail, ()) else .inr (l2.tail, ())) else .inl l2
theorem T_replacing (h : PGx fs σ0 s l σ) : TM (d + 8) tk_replacing [.inr 0] σ (PY fs σ0 s (rs (pRepl l))) := by
  obtain ⟨gr, st, h⟩ := h
  refine TM.of rfl rfl ?_
  have finB : ∀ (υ : TS) (f : List Int), PB fs σ0 s 4 f υ → TW (d + 7) tc_replacing 9 [some (.inr 0)] [] υ (PY fs σ0 s (.inl f)) := by
    intro υ f hb
    have := hb.bad0
    (repeat (first | (refine TW.getf rfl rfl rfl (fun _ => ?_)) | (refine TW.pl rfl rfl ?_)))
    refine TW.br rfl rfl (by first | omega | exact b2i_R _ | exact ⟨b2i_R _, by omega⟩) (fun h1 => ?_) (fun h1 => ?_)
    · (repeat (first | (refine TW.getf rfl rfl rfl (fun _ => ?_)) | (refine TW.pl rfl rfl ?_)))
      refine TW.cv1 rfl rfl rfl (Nat.le_of_ble_eq_true rfl) (T_takeB hb (by decide)) ?_
      rintro _ υ1 ⟨rfl, hb1⟩
      have := hb1.bad0
      (repeat (first | (refine TW.getf rfl rfl rfl (fun _ => ?_)) | (refine TW.pl rfl rfl ?_)))
      refine TW.br rfl rfl (by first | omega | exact b2i_R _ | exact ⟨b2i_R _, by omega⟩) (fun h2 => ?_) (fun h2 => ?_)
      · exact TW.vret rfl (PY.bad hb1 (by decide) rfl)
      · omega
    · omega
  have finG : ∀ (υ : TS) (q : List Int) (g t : Nat), PG fs σ0 s 2 g t q υ → TW (d + 7) tc_replacing 60 [some (.inr 0)] [] υ (PY fs σ0 s (pReplE (.inr (q, ())))) := by
    intro υ q g t hq
    unfold pReplE
    dsimp only
    (repeat (first | (refine TW.getf rfl rfl rfl (fun _ => ?_)) | (refine TW.pl rfl rfl ?_)))
    refine TW.cv1 rfl rfl rfl (Nat.le_of_ble_eq_true rfl) (T_take hq (by decide)) ?_
    rintro _ υ1 ⟨rfl, q1, q2⟩
    (repeat (first | (refine TW.getf rfl rfl rfl (fun _ => ?_)) | (refine TW.pl rfl rfl ?_)))
    by_cases h1 : hd q = 47
    · rw [if_pos h1]
      have hq1 := q1 h1
      have hb := hq1.2.2.1
      have hdr := hq1.hdR
      have more : (hd q.tail = 103 ∨ (49 ≤ hd q.tail ∧ hd q.tail ≤ 57)) → TW (d + 7) tc_replacing 78 [some (.inr 0)] [] υ1 (PY fs σ0 s (.inr (q.tail.tail, ()))) := by
        intro hc
        have hn : q.tail ≠ [] := hd_ne rfl (by omega)
        have hll := List.length_pos_iff.mpr hn
        (repeat (first | (refine TW.getf rfl rfl rfl (fun _ => ?_)) | (refine TW.pl rfl rfl ?_)))
        refine TW.putf rfl rfl (by omega) ?_
        exact TW.vret rfl (PY.good (hq1.step hn rfl) (by decide) rfl)
      refine TW.br rfl rfl (by first | omega | exact b2i_R _ | exact ⟨b2i_R _, by omega⟩) (fun h2 => ?_) (fun h2 => ?_)
      · omega
      (repeat (first | (refine TW.getf rfl rfl rfl (fun _ => ?_)) | (refine TW.pl rfl rfl ?_)))
      refine TW.cv0 rfl rfl rfl (Nat.le_of_ble_eq_true rfl) (T_c hq1) ?_; rintro _ _ ⟨rfl, rfl⟩
      (repeat (first | (refine TW.getf rfl rfl rfl (fun _ => ?_)) | (refine TW.pl rfl rfl ?_)))
      refine TW.br rfl rfl (by first | omega | exact b2i_R _ | exact ⟨b2i_R _, by omega⟩) (fun h3 => ?_) (fun h3 => ?_)
      · rw [if_pos (Or.inl h3)]
        exact more (Or.inl h3)
      (repeat (first | (refine TW.getf rfl rfl rfl (fun _ => ?_)) | (refine TW.pl rfl rfl ?_)))
      refine TW.cv0 rfl rfl rfl (Nat.le_of_ble_eq_true rfl) (T_c hq1) ?_; rintro _ _ ⟨rfl, rfl⟩
      (repeat (first | (refine TW.getf rfl rfl rfl (fun _ => ?_)) | (refine TW.pl rfl rfl ?_)))
      refine TW.br rfl rfl (by first | omega | exact b2i_R _ | exact ⟨b2i_R _, by omega⟩) (fun h4 => ?_) (fun h4 => ?_)
      · rw [if_neg (by omega)]
        exact TW.vret rfl (PY.good hq1 (by decide) rfl)
      (repeat (first | (refine TW.getf rfl rfl rfl (fun _ => ?_)) | (refine TW.pl rfl rfl ?_)))
      refine TW.cv0 rfl rfl rfl (Nat.le_of_ble_eq_true rfl) (T_c hq1) ?_; rintro _ _ ⟨rfl, rfl⟩
      (repeat (first | (refine TW.getf rfl rfl rfl (fun _ => ?_)) | (refine TW.pl rfl rfl ?_)))
      refine TW.br rfl rfl (by first | omega | exact b2i_R _ | exact ⟨b2i_R _, by omega⟩) (fun h5 => ?_) (fun h5 => ?_)
      · rw [if_neg (by omega)]
        exact TW.vret rfl (PY.good hq1 (by decide) rfl)
      · rw [if_pos (Or.inr ⟨h4, h5⟩)]
        exact more (Or.inr ⟨h4, h5⟩)
    · rw [if_neg h1]
      have hb := q2 h1
      have := hb.bad0
      refine TW.br rfl rfl (by first | omega | exact b2i_R _ | exact ⟨b2i_R _, by omega⟩) (fun h2 => ?_) (fun h2 => ?_)
      · exact TW.vret rfl (PY.bad hb (by decide) rfl)
      · omega
  have loop : ∀ (n : Nat) (q : List Int) (g t : Nat) (υ : TS), q.length ≤ n → PG fs σ0 s 2 g t q υ → TW (d + 7) tc_replacing 9 [some (.inr 0)] [] υ (PY fs σ0 s (pReplE (rs (pPut g (n + 1) q)))) := by
    intro n
    induction n with
    | zero =>
      intro q g t υ hn hq
      have hb := hq.2.2.1
      have hdr := hq.hdR
      have hq0 : q = [] := List.length_eq_zero_iff.mp (by omega)
      subst hq0
      rw [pPut_5 (by decide) (by decide)]
      (repeat (first | (refine TW.getf rfl rfl rfl (fun _ => ?_)) | (refine TW.pl rfl rfl ?_)))
      refine TW.br rfl rfl (by first | omega | exact b2i_R _ | exact ⟨b2i_R _, by omega⟩) (fun h1 => ?_) (fun h1 => ?_)
      · omega
      (repeat (first | (refine TW.getf rfl rfl rfl (fun _ => ?_)) | (refine TW.pl rfl rfl ?_)))
      refine TW.cv0 rfl rfl rfl (Nat.le_of_ble_eq_true rfl) (T_c hq) ?_; rintro _ _ ⟨rfl, rfl⟩
      refine TW.cs1 rfl rfl rfl (Nat.le_of_ble_eq_true rfl) (T_isChar (by omega)) ?_; rintro _ _ ⟨rfl, rfl⟩
      refine TW.br rfl rfl (by first | omega | exact b2i_R _ | exact ⟨b2i_R _, by omega⟩) (fun h2 => ?_) (fun h2 => ?_)
      · exact absurd rfl h2
      (repeat (first | (refine TW.getf rfl rfl rfl (fun _ => ?_)) | (refine TW.pl rfl rfl ?_)))
      refine TW.cv0 rfl rfl rfl (Nat.le_of_ble_eq_true rfl) (T_c hq) ?_; rintro _ _ ⟨rfl, rfl⟩
      (repeat (first | (refine TW.getf rfl rfl rfl (fun _ => ?_)) | (refine TW.pl rfl rfl ?_)))
      refine TW.br rfl rfl (by first | omega | exact b2i_R _ | exact ⟨b2i_R _, by omega⟩) (fun h3 => ?_) (fun h3 => ?_)
      · exact absurd h3 (by decide)
      (repeat (first | (refine TW.getf rfl rfl rfl (fun _ => ?_)) | (refine TW.pl rfl rfl ?_)))
      refine TW.cv0 rfl rfl rfl (Nat.le_of_ble_eq_true rfl) (T_c hq) ?_; rintro _ _ ⟨rfl, rfl⟩
      (repeat (first | (refine TW.getf rfl rfl rfl (fun _ => ?_)) | (refine TW.pl rfl rfl ?_)))
      refine TW.br rfl rfl (by first | omega | exact b2i_R _ | exact ⟨b2i_R _, by omega⟩) (fun h4 => ?_) (fun h4 => ?_)
      · exact finG _ _ _ _ hq
      · exact absurd h4 (by decide)
    | succ n ih =>
      intro q g t υ hn hq
      have hb := hq.2.2.1
      have hdr := hq.hdR
      have hgr := hq.2.2.2.1
      have one : (isChr (hd q) = true ∨ hd q = 38 ∨ hd q = 92) → TW (d + 7) tc_replacing 24 [some (.inr 0)] [] υ (PY fs σ0 s (pReplE (rs (pPut g (n + 2) q)))) := by
        intro hc
        have hne : q ≠ [] := by
          rcases hc with z | z | z
          · exact hd_chr z
          · exact hd_ne z (by decide)
          · exact hd_ne z (by decide)
        have hll := List.length_pos_iff.mpr hne
        (repeat (first | (refine TW.getf rfl rfl rfl (fun _ => ?_)) | (refine TW.pl rfl rfl ?_)))
        refine TW.cv0 rfl rfl rfl (Nat.le_of_ble_eq_true rfl) (T_c hq) ?_; rintro _ _ ⟨rfl, rfl⟩
        (repeat (first | (refine TW.getf rfl rfl rfl (fun _ => ?_)) | (refine TW.pl rfl rfl ?_)))
        refine TW.br rfl rfl (by first | omega | exact b2i_R _ | exact ⟨b2i_R _, by omega⟩) (fun h1 => ?_) (fun h1 => ?_)
        · rw [pPut_4 h1 (by rcases hc with z | z | z; exact Or.inl z; exact Or.inr z; exact absurd z h1)]
          (repeat (first | (refine TW.getf rfl rfl rfl (fun _ => ?_)) | (refine TW.pl rfl rfl ?_)))
          refine TW.putf rfl rfl (by omega) ?_
          (iterate 1 (first | (refine TW.getf rfl rfl rfl (fun _ => ?_)) | (refine TW.pl rfl rfl ?_)))
          exact ih q.tail g t _ (by simp; omega) (hq.step hne rfl)
        · have fin : ∀ (υ : TS) (f : List Int) (b : Bool), PB fs σ0 s 2 f υ → TW (d + 7) tc_replacing 51 [some (.inr 0)] [.inl (b2i b), .inr 0] υ (PY fs σ0 s (.inl f)) := by
            intro υ f b hb
            refine TW.cv1 rfl rfl rfl (Nat.le_of_ble_eq_true rfl) (T_takeIfB hb) ?_
            rintro _ υ1 ⟨rfl, hb1⟩
            (iterate 1 (first | (refine TW.getf rfl rfl rfl (fun _ => ?_)) | (refine TW.pl rfl rfl ?_)))
            exact finB _ _ (hb1.mono (by decide))
          have key : ∀ b : Bool, b = decide (0 < g) → TW (d + 7) tc_replacing 35 [some (.inr 0)] [.inl (b2i b), .inr 0] υ (PY fs σ0 s (pReplE (rs (pPut g (n + 2) q)))) := by
            intro b hbd
            refine TW.cv1 rfl rfl rfl (Nat.le_of_ble_eq_true rfl) (T_takeIf hq (fun _ => hne)) ?_
            rintro _ τ ⟨rfl, p1, p2⟩
            (repeat (first | (refine TW.getf rfl rfl rfl (fun _ => ?_)) | (refine TW.pl rfl rfl ?_)))
            cases b with
            | false =>
              have hb := p2 rfl
              obtain ⟨l9, ha9⟩ := hb.2.1
              have hd9 := hb.1.2.2.hdR ha9
              have hg9 := hb.2.2.2.1
              rw [pPut_1 h1 (of_decide_eq_false hbd.symm)]
              refine TW.cv0 rfl rfl rfl (Nat.le_of_ble_eq_true rfl) (T_c' hb.1.2.2 ha9) ?_; rintro _ _ ⟨rfl, rfl⟩
              (repeat (first | (refine TW.getf rfl rfl rfl (fun _ => ?_)) | (refine TW.pl rfl rfl ?_)))
              refine TW.br rfl rfl (by first | omega | exact b2i_R _ | exact ⟨b2i_R _, by omega⟩) (fun h3 => ?_) (fun h3 => ?_)
              · (iterate 1 (first | (refine TW.getf rfl rfl rfl (fun _ => ?_)) | (refine TW.pl rfl rfl ?_)))
                exact fin _ _ false hb
              · (repeat (first | (refine TW.getf rfl rfl rfl (fun _ => ?_)) | (refine TW.pl rfl rfl ?_)))
                refine TW.cv0 rfl rfl rfl (Nat.le_of_ble_eq_true rfl) (T_c' hb.1.2.2 ha9) ?_; rintro _ _ ⟨rfl, rfl⟩
                (repeat (first | (refine TW.getf rfl rfl rfl (fun _ => ?_)) | (refine TW.pl rfl rfl ?_)))
                refine TW.br rfl rfl (by first | omega | exact b2i_R _ | exact ⟨b2i_R _, by omega⟩) (fun h4 => ?_) (fun h4 => ?_)
                · (iterate 1 (first | (refine TW.getf rfl rfl rfl (fun _ => ?_)) | (refine TW.pl rfl rfl ?_)))
                  exact fin _ _ false hb
                · (iterate 2 (first | (refine TW.getf rfl rfl rfl (fun _ => ?_)) | (refine TW.pl rfl rfl ?_)))
                  exact fin _ _ true hb
            | true =>
              have hg := of_decide_eq_true hbd.symm
              have h3 := p1 rfl
              have hd3 := h3.hdR
              have hg3 := h3.2.2.2
              have key2 : ∀ b : Bool, b = decide (49 ≤ hd q.tail ∧ hd q.tail ≤ 48 + g) → TW (d + 7) tc_replacing 51 [some (.inr 0)] [.inl (b2i b), .inr 0] τ (PY fs σ0 s (pReplE (rs (pPut g (n + 2) q)))) := by
                intro b hb
                refine TW.cv1 rfl rfl rfl (Nat.le_of_ble_eq_true rfl) (T_takeIf h3 (fun z => by rw [hb] at z; exact hd_ne rfl (by have := of_decide_eq_true z; omega))) ?_
                rintro _ υ ⟨rfl, q1, q2⟩
                (iterate 1 (first | (refine TW.getf rfl rfl rfl (fun _ => ?_)) | (refine TW.pl rfl rfl ?_)))
                cases b with
                | false =>
                  rw [pPut_2 h1 hg (of_decide_eq_false hb.symm)]
                  exact finB _ _ ((q2 rfl).mono (by decide))
                | true =>
                  rw [pPut_3 h1 hg (of_decide_eq_true hb.symm)]
                  exact ih q.tail.tail g t _ (by simp; omega) (q1 rfl)
              refine TW.cv0 rfl rfl rfl (Nat.le_of_ble_eq_true rfl) (T_c h3) ?_; rintro _ _ ⟨rfl, rfl⟩
              (repeat (first | (refine TW.getf rfl rfl rfl (fun _ => ?_)) | (refine TW.pl rfl rfl ?_)))
              refine TW.br rfl rfl (by first | omega | exact b2i_R _ | exact ⟨b2i_R _, by omega⟩) (fun h4 => ?_) (fun h4 => ?_)
              · (iterate 1 (first | (refine TW.getf rfl rfl rfl (fun _ => ?_)) | (refine TW.pl rfl rfl ?_)))
                exact key2 false (decide_eq_false (by omega)).symm
              · (repeat (first | (refine TW.getf rfl rfl rfl (fun _ => ?_)) | (refine TW.pl rfl rfl ?_)))
                refine TW.cv0 rfl rfl rfl (Nat.le_of_ble_eq_true rfl) (T_c h3) ?_; rintro _ _ ⟨rfl, rfl⟩
                (repeat (first | (refine TW.getf rfl rfl rfl (fun _ => ?_)) | (refine TW.pl rfl rfl ?_)))
                refine TW.br rfl rfl (by first | omega | exact b2i_R _ | exact ⟨b2i_R _, by omega⟩) (fun h5 => ?_) (fun h5 => ?_)
                · (iterate 1 (first | (refine TW.getf rfl rfl rfl (fun _ => ?_)) | (refine TW.pl rfl rfl ?_)))
                  exact key2 false (decide_eq_false (by omega)).symm
                · (iterate 2 (first | (refine TW.getf rfl rfl rfl (fun _ => ?_)) | (refine TW.pl rfl rfl ?_)))
                  exact key2 true (decide_eq_true (by omega)).symm
          (repeat (first | (refine TW.getf rfl rfl rfl (fun _ => ?_)) | (refine TW.pl rfl rfl ?_)))
          refine TW.br rfl rfl (by first | omega | exact b2i_R _ | exact ⟨b2i_R _, by omega⟩) (fun h3 => ?_) (fun h3 => ?_)
          · (iterate 1 (first | (refine TW.getf rfl rfl rfl (fun _ => ?_)) | (refine TW.pl rfl rfl ?_)))
            exact key false (decide_eq_false (by omega)).symm
          · (iterate 2 (first | (refine TW.getf rfl rfl rfl (fun _ => ?_)) | (refine TW.pl rfl rfl ?_)))
            exact key true (decide_eq_true (by omega)).symm
      (repeat (first | (refine TW.getf rfl rfl rfl (fun _ => ?_)) | (refine TW.pl rfl rfl ?_)))
      refine TW.br rfl rfl (by first | omega | exact b2i_R _ | exact ⟨b2i_R _, by omega⟩) (fun h1 => ?_) (fun h1 => ?_)
      · omega
      (repeat (first | (refine TW.getf rfl rfl rfl (fun _ => ?_)) | (refine TW.pl rfl rfl ?_)))
      refine TW.cv0 rfl rfl rfl (Nat.le_of_ble_eq_true rfl) (T_c hq) ?_; rintro _ _ ⟨rfl, rfl⟩
      refine TW.cs1 rfl rfl rfl (Nat.le_of_ble_eq_true rfl) (T_isChar (by omega)) ?_; rintro _ _ ⟨rfl, rfl⟩
      refine TW.br rfl rfl (by first | omega | exact b2i_R _ | exact ⟨b2i_R _, by omega⟩) (fun h2 => ?_) (fun h2 => ?_)
      · exact one (Or.inl (b2i_1 h2))
      (repeat (first | (refine TW.getf rfl rfl rfl (fun _ => ?_)) | (refine TW.pl rfl rfl ?_)))
      refine TW.cv0 rfl rfl rfl (Nat.le_of_ble_eq_true rfl) (T_c hq) ?_; rintro _ _ ⟨rfl, rfl⟩
      (repeat (first | (refine TW.getf rfl rfl rfl (fun _ => ?_)) | (refine TW.pl rfl rfl ?_)))
      refine TW.br rfl rfl (by first | omega | exact b2i_R _ | exact ⟨b2i_R _, by omega⟩) (fun h3 => ?_) (fun h3 => ?_)
      · exact one (Or.inr (Or.inl h3))
      (repeat (first | (refine TW.getf rfl rfl rfl (fun _ => ?_)) | (refine TW.pl rfl rfl ?_)))
      refine TW.cv0 rfl rfl rfl (Nat.le_of_ble_eq_true rfl) (T_c hq) ?_; rintro _ _ ⟨rfl, rfl⟩
      (repeat (first | (refine TW.getf rfl rfl rfl (fun _ => ?_)) | (refine TW.pl rfl rfl ?_)))
      refine TW.br rfl rfl (by first | omega | exact b2i_R _ | exact ⟨b2i_R _, by omega⟩) (fun h4 => ?_) (fun h4 => ?_)
      · rw [pPut_5 h4 (fun z => by rcases z with z | z; rw [b2i_0 h2] at z; cases z; exact h3 z)]
        exact finG _ _ _ _ hq
      · exact one (Or.inr (Or.inr h4))
  (repeat (first | (refine TW.getf rfl rfl rfl (fun _ => ?_)) | (refine TW.pl rfl rfl ?_)))
  refine TW.cv1 rfl rfl rfl (Nat.le_of_ble_eq_true rfl) (T_take h (by decide)) ?_
  rintro _ τ ⟨rfl, p1, p2⟩
  (repeat (first | (refine TW.getf rfl rfl rfl (fun _ => ?_)) | (refine TW.pl rfl rfl ?_)))
  unfold pRepl
  by_cases h1 : hd l = 47
  · have hn := hd_ne h1 (by decide)
    rw [if_pos h1]
    refine TW.cv1 rfl rfl rfl (Nat.le_of_ble_eq_true rfl) (T_pattern (by decide) (p1 h1)) ?_
    rintro _ υ ⟨rfl, hp⟩
    (repeat (first | (refine TW.getf rfl rfl rfl (fun _ => ?_)) | (refine TW.pl rfl rfl ?_)))
    revert hp
    cases pPat 47 l.tail with
    | inl f =>
      intro hp
      refine TW.cv1 rfl rfl rfl (Nat.le_of_ble_eq_true rfl) (T_takeB hp (by decide)) ?_
      rintro _ υ1 ⟨rfl, hb⟩
      exact finB _ _ hb
    | inr w =>
      obtain ⟨l1, c, pt⟩ := w
      rintro ⟨sr, hp⟩
      dsimp only
      refine TW.cv1 rfl rfl rfl (Nat.le_of_ble_eq_true rfl) (T_take hp (by decide)) ?_
      rintro _ υ1 ⟨rfl, q1, q2⟩
      by_cases h2 : hd l1 = 47
      · have hn1 := List.length_pos_iff.mpr (hd_ne h2 (by decide))
        rw [if_pos h2]
        have L := loop (l1.length - 1) l1.tail c sr υ1 (by simp) (q1 h2)
        rw [Nat.sub_add_cancel hn1] at L
        revert L
        cases pPut c l1.length l1.tail with
        | inl f => exact id
        | inr w =>
          obtain ⟨l2, pu⟩ := w
          intro L
          have e : rs (if hd l2 = 47 then (if hd l2.tail = 103 then .inr (l2.tail.tail, pt, pu, true, 1) else if 49 ≤ hd l2.tail ∧ hd l2.tail ≤ 57 then .inr (l2.tail.tail, pt, pu, false, hd l2.tail - 48) else .inr (l2.tail, pt, pu, false, 1)) else .inl l2 : PR (SPat × List Int × Bool × Int)) = pReplE (rs (.inr (l2, pu) : PR (List Int))) := by
            unfold pReplE rs
            dsimp only
            by_cases g1 : hd l2 = 47
            · rw [if_pos g1, if_pos g1]
              by_cases g2 : hd l2.tail = 103
              · rw [if_pos g2, if_pos (Or.inl g2)]
              · rw [if_neg g2]
                by_cases g3 : 49 ≤ hd l2.tail ∧ hd l2.tail ≤ 57
                · rw [if_pos g3, if_pos (Or.inr g3)]
                · rw [if_neg g3, if_neg (fun z => z.elim g2 g3)]
            · rw [if_neg g1, if_neg g1]
          rw [← e] at L
          exact L
      · rw [if_neg h2]
        exact finB _ _ ((q2 h2).mono (by decide))
  · rw [if_neg h1]
    refine TW.cv1 rfl rfl rfl (Nat.le_of_ble_eq_true rfl) (T_patternB (by decide) (p2 h1)) ?_
    rintro _ υ ⟨rfl, hb⟩
    (repeat (first | (refine TW.getf rfl rfl rfl (fun _ => ?_)) | (refine TW.pl rfl rfl ?_)))
    refine TW.cv1 rfl rfl rfl (Nat.le_of_ble_eq_true rfl) (T_takeB hb (by decide)) ?_
    rintro _ υ1 ⟨rfl, hb⟩
    exact finB _ _ hb
end TRep
