set_option maxRecDepth 100000
/-! the twin reads patterns -/
section TPat
variable {d : Nat} {σ σ0 : TS} {s l f : List Int} {fs : List Nat} {gr st : Nat} {m : Int}
/-- the loop over signs: p goes on -/
theorem PG.same {τ : TS} {l' : List Int} (h : PG fs σ0 s 2 gr st l σ) (e : l = l') : PG fs σ0 s 2 gr st l' σ := e ▸ h
theorem T_plain (h : PG fs σ0 s 2 gr st l σ) : TM (d + 4) tk_plain [.inr 0] σ (PX fs σ0 s 3 (pPlain st l) (fun l1 v => PG fs σ0 s 2 gr v.1 l1)) := by
  have hdr := h.hdR
  have hst := h.2.2.2.2
  refine TM.of rfl rfl ?_
  (repeat (first | (refine TW.getf rfl rfl rfl (fun _ => ?_)) | (refine TW.pl rfl rfl ?_)))
  refine TW.cv0 rfl rfl rfl (Nat.le_of_ble_eq_true rfl) (T_c h) ?_; rintro _ _ ⟨rfl, rfl⟩
  (repeat (first | (refine TW.getf rfl rfl rfl (fun _ => ?_)) | (refine TW.pl rfl rfl ?_)))
  refine TW.br rfl rfl (by first | omega | exact b2i_R _ | exact ⟨b2i_R _, by omega⟩) (fun h1 => ?_) (fun h1 => ?_)
  · (repeat (first | (refine TW.getf rfl rfl rfl (fun _ => ?_)) | (refine TW.pl rfl rfl ?_)))
    refine TW.cv0 rfl rfl rfl (Nat.le_of_ble_eq_true rfl) (T_c h) ?_; rintro _ _ ⟨rfl, rfl⟩
    (repeat (first | (refine TW.getf rfl rfl rfl (fun _ => ?_)) | (refine TW.pl rfl rfl ?_)))
    refine TW.br rfl rfl (by first | omega | exact b2i_R _ | exact ⟨b2i_R _, by omega⟩) (fun h2 => ?_) (fun h2 => ?_)
    · -- a sign or a point
      (repeat (first | (refine TW.getf rfl rfl rfl (fun _ => ?_)) | (refine TW.pl rfl rfl ?_)))
      refine TW.cv0 rfl rfl rfl (Nat.le_of_ble_eq_true rfl) (T_c h) ?_; rintro _ _ ⟨rfl, rfl⟩
      refine TW.cs1 rfl rfl rfl (Nat.le_of_ble_eq_true rfl) (T_isChar (by omega)) ?_; rintro _ _ ⟨rfl, rfl⟩
      have key : ∀ b : Bool, b = (isChr (hd l) || decide (hd l = 46)) → TW (d + 3) tc_plain 75 [some (.inr 0)] [.inl (b2i b), .inr 0] σ (PX fs σ0 s 3 (pPlain st l) (fun l1 v => PG fs σ0 s 2 gr v.1 l1)) := by
        intro b hbd
        have hne : b = true → l ≠ [] := by
          intro z
          rw [hbd, Bool.or_eq_true, decide_eq_true_eq] at z
          rcases z with z | z
          · exact hd_chr z
          · exact hd_ne z (by decide)
        refine TW.cv1 rfl rfl rfl (Nat.le_of_ble_eq_true rfl) (T_takeIf h hne) ?_
        rintro _ τ ⟨rfl, p1, p2⟩
        refine TW.vret rfl ⟨rfl, ?_⟩
        cases b with
        | false =>
          have hz := hbd.symm
          rw [Bool.or_eq_false_iff, decide_eq_false_iff_not] at hz
          have e : pPlain st l = .inl l := by
            unfold pPlain
            by_cases hn : l = []
            · rw [if_pos hn]
            · rw [if_neg hn, if_neg h1, if_neg hz.2, if_neg h2, if_neg (by rw [hz.1]; decide)]
          rw [e]
          exact (p2 rfl).mono (by decide)
        | true =>
          have hn := hne rfl
          have hz := hbd.symm
          rw [Bool.or_eq_true, decide_eq_true_eq] at hz
          unfold pPlain
          rw [if_neg hn, if_neg h1]
          by_cases h46 : hd l = 46
          · rw [if_pos h46]
            exact p1 rfl
          · rw [if_neg h46, if_neg h2, if_pos (hz.resolve_right h46)]
            exact p1 rfl
      refine TW.br rfl rfl (by first | omega | exact b2i_R _ | exact ⟨b2i_R _, by omega⟩) (fun h3 => ?_) (fun h3 => ?_)
      · (iterate 2 (first | (refine TW.getf rfl rfl rfl (fun _ => ?_)) | (refine TW.pl rfl rfl ?_)))
        exact key true (by rw [b2i_1 h3]; rfl)
      · (repeat (first | (refine TW.getf rfl rfl rfl (fun _ => ?_)) | (refine TW.pl rfl rfl ?_)))
        refine TW.cv0 rfl rfl rfl (Nat.le_of_ble_eq_true rfl) (T_c h) ?_; rintro _ _ ⟨rfl, rfl⟩
        (repeat (first | (refine TW.getf rfl rfl rfl (fun _ => ?_)) | (refine TW.pl rfl rfl ?_)))
        refine TW.br rfl rfl (by first | omega | exact b2i_R _ | exact ⟨b2i_R _, by omega⟩) (fun h4 => ?_) (fun h4 => ?_)
        · (iterate 1 (first | (refine TW.getf rfl rfl rfl (fun _ => ?_)) | (refine TW.pl rfl rfl ?_)))
          exact key false (by rw [b2i_0 h3, decide_eq_false h4]; rfl)
        · (iterate 2 (first | (refine TW.getf rfl rfl rfl (fun _ => ?_)) | (refine TW.pl rfl rfl ?_)))
          exact key true (by rw [decide_eq_true h4, Bool.or_true])
    · -- a set
      have hn : l ≠ [] := hd_ne h2 (by decide)
      have hll := List.length_pos_iff.mpr hn
      (repeat (first | (refine TW.getf rfl rfl rfl (fun _ => ?_)) | (refine TW.pl rfl rfl ?_)))
      refine TW.putf rfl rfl (by omega) ?_
      have ha := h.step hn rfl
      have hdr1 := ha.hdR
      (repeat (first | (refine TW.getf rfl rfl rfl (fun _ => ?_)) | (refine TW.pl rfl rfl ?_)))
      refine TW.cv0 rfl rfl rfl (Nat.le_of_ble_eq_true rfl) (T_c ha) ?_; rintro _ _ ⟨rfl, rfl⟩
      (repeat (first | (refine TW.getf rfl rfl rfl (fun _ => ?_)) | (refine TW.pl rfl rfl ?_)))
      -- from behind the ^
      have rest : ∀ (r : List Int) (τ : TS), PG fs σ0 s 2 gr st r τ → pPlain st l = (if r.takeWhile isChr = [] then .inl r else if hd (r.dropWhile isChr) = 93 then .inr ((r.dropWhile isChr).tail, st, (3, 0, r.takeWhile isChr, decide (hd l.tail = 94))) else .inl (r.dropWhile isChr)) → TW (d + 3) tc_plain 40 [some (.inr 0)] [] τ (PX fs σ0 s 3 (pPlain st l) (fun l1 v => PG fs σ0 s 2 gr v.1 l1)) := by
        intro r τ hr hR
        rw [hR]
        have hdr2 := hr.hdR
        (repeat (first | (refine TW.getf rfl rfl rfl (fun _ => ?_)) | (refine TW.pl rfl rfl ?_)))
        refine TW.cv0 rfl rfl rfl (Nat.le_of_ble_eq_true rfl) (T_c hr) ?_; rintro _ _ ⟨rfl, rfl⟩
        refine TW.cs1 rfl rfl rfl (Nat.le_of_ble_eq_true rfl) (T_isChar (by omega)) ?_; rintro _ _ ⟨rfl, rfl⟩
        refine TW.cv1 rfl rfl rfl (Nat.le_of_ble_eq_true rfl) (T_takeIf hr hd_chr) ?_
        rintro _ τ1 ⟨rfl, p1, p2⟩
        cases hc : isChr (hd r) with
        | true =>
          have hdw := dropWhile_tail hc
          rw [if_neg (by rw [hdw.2]; simp)]
          have loop : ∀ (n : Nat) (q : List Int) (υ : TS), q.length ≤ n → PG fs σ0 s 2 gr st q υ → q.dropWhile isChr = r.dropWhile isChr → TW (d + 3) tc_plain 45 [some (.inr 0)] [] υ (PX fs σ0 s 3 (if hd (r.dropWhile isChr) = 93 then .inr ((r.dropWhile isChr).tail, st, (3, 0, r.takeWhile isChr, decide (hd l.tail = 94))) else .inl (r.dropWhile isChr)) (fun l1 (v : Nat × SPart) => PG fs σ0 s 2 gr v.1 l1)) := by
            intro n
            induction n with
            | zero => 
              intro q υ hq hu hdq
              have hq0 : q = [] := List.length_eq_zero_iff.mp (by omega)
              subst hq0
              have hb := hu.2.2.1
              (repeat (first | (refine TW.getf rfl rfl rfl (fun _ => ?_)) | (refine TW.pl rfl rfl ?_)))
              refine TW.br rfl rfl (by first | omega | exact b2i_R _ | exact ⟨b2i_R _, by omega⟩) (fun h5 => ?_) (fun h5 => ?_)
              · omega
              (repeat (first | (refine TW.getf rfl rfl rfl (fun _ => ?_)) | (refine TW.pl rfl rfl ?_)))
              refine TW.cv0 rfl rfl rfl (Nat.le_of_ble_eq_true rfl) (T_c hu) ?_; rintro _ _ ⟨rfl, rfl⟩
              refine TW.cs1 rfl rfl rfl (Nat.le_of_ble_eq_true rfl) (T_isChar (by decide)) ?_; rintro _ _ ⟨rfl, rfl⟩
              refine TW.br rfl rfl (by first | omega | exact b2i_R _ | exact ⟨b2i_R _, by omega⟩) (fun h6 => ?_) (fun h6 => ?_)
              · (repeat (first | (refine TW.getf rfl rfl rfl (fun _ => ?_)) | (refine TW.pl rfl rfl ?_)))
                refine TW.cv1 rfl rfl rfl (Nat.le_of_ble_eq_true rfl) (T_take hu (by decide)) ?_
                rintro _ υ1 ⟨rfl, -, q2⟩
                (repeat (first | (refine TW.getf rfl rfl rfl (fun _ => ?_)) | (refine TW.pl rfl rfl ?_)))
                rw [← hdq]
                exact TW.vret rfl ⟨rfl, (q2 (by decide)).mono (by decide)⟩
              · exact absurd rfl h6
            | succ n ih =>
              intro q υ hq hu hdq
              have hb := hu.2.2.1
              have hdq2 := hu.hdR
              (repeat (first | (refine TW.getf rfl rfl rfl (fun _ => ?_)) | (refine TW.pl rfl rfl ?_)))
              refine TW.br rfl rfl (by first | omega | exact b2i_R _ | exact ⟨b2i_R _, by omega⟩) (fun h5 => ?_) (fun h5 => ?_)
              · omega
              (repeat (first | (refine TW.getf rfl rfl rfl (fun _ => ?_)) | (refine TW.pl rfl rfl ?_)))
              refine TW.cv0 rfl rfl rfl (Nat.le_of_ble_eq_true rfl) (T_c hu) ?_; rintro _ _ ⟨rfl, rfl⟩
              refine TW.cs1 rfl rfl rfl (Nat.le_of_ble_eq_true rfl) (T_isChar (by omega)) ?_; rintro _ _ ⟨rfl, rfl⟩
              refine TW.br rfl rfl (by first | omega | exact b2i_R _ | exact ⟨b2i_R _, by omega⟩) (fun h6 => ?_) (fun h6 => ?_)
              · have hst5 := dropWhile_stop (b2i_0 h6)
                (repeat (first | (refine TW.getf rfl rfl rfl (fun _ => ?_)) | (refine TW.pl rfl rfl ?_)))
                refine TW.cv1 rfl rfl rfl (Nat.le_of_ble_eq_true rfl) (T_take hu (by decide)) ?_
                rintro _ υ1 ⟨rfl, q1, q2⟩
                (repeat (first | (refine TW.getf rfl rfl rfl (fun _ => ?_)) | (refine TW.pl rfl rfl ?_)))
                refine TW.vret rfl ⟨rfl, ?_⟩
                rw [← hdq, hst5.1]
                by_cases h93 : hd q = 93
                · rw [if_pos h93]
                  exact q1 h93
                · rw [if_neg h93]
                  exact (q2 h93).mono (by decide)
              · have h7 := b2i_1 h6
                have hq1 := List.length_pos_iff.mpr (hd_chr h7)
                (repeat (first | (refine TW.getf rfl rfl rfl (fun _ => ?_)) | (refine TW.pl rfl rfl ?_)))
                refine TW.putf rfl rfl (by omega) ?_
                (iterate 1 (first | (refine TW.getf rfl rfl rfl (fun _ => ?_)) | (refine TW.pl rfl rfl ?_)))
                exact ih q.tail _ (by simp; omega) (hu.step (hd_chr h7) rfl) (by rw [(dropWhile_tail h7).1]; exact hdq)
          exact loop r.tail.length r.tail τ1 (Nat.le_refl _) (p1 hc) hdw.1
        | false =>
          have hb := p2 hc
          have := hb.bad0
          rw [if_pos (dropWhile_stop hc).2]
          (repeat (first | (refine TW.getf rfl rfl rfl (fun _ => ?_)) | (refine TW.pl rfl rfl ?_)))
          refine TW.br rfl rfl (by first | omega | exact b2i_R _ | exact ⟨b2i_R _, by omega⟩) (fun h5 => ?_) (fun h5 => ?_)
          · (repeat (first | (refine TW.getf rfl rfl rfl (fun _ => ?_)) | (refine TW.pl rfl rfl ?_)))
            refine TW.cv1 rfl rfl rfl (Nat.le_of_ble_eq_true rfl) (T_takeB hb (by decide)) ?_
            rintro _ τ2 ⟨rfl, hb2⟩
            (repeat (first | (refine TW.getf rfl rfl rfl (fun _ => ?_)) | (refine TW.pl rfl rfl ?_)))
            exact TW.vret rfl ⟨rfl, hb2.mono (by decide)⟩
          · omega
      have hpl : ∀ (r : List Int), r = (if decide (hd l.tail = 94) = true then l.tail.tail else l.tail) → pPlain st l = (if r.takeWhile isChr = [] then .inl r else if hd (r.dropWhile isChr) = 93 then .inr ((r.dropWhile isChr).tail, st, (3, 0, r.takeWhile isChr, decide (hd l.tail = 94))) else .inl (r.dropWhile isChr)) := by
        intro r hr
        unfold pPlain
        rw [if_neg hn, if_neg h1, if_neg (by rw [h2]; decide), if_pos h2, hr]
      refine TW.br rfl rfl (by first | omega | exact b2i_R _ | exact ⟨b2i_R _, by omega⟩) (fun h3 => ?_) (fun h3 => ?_)
      · exact rest l.tail _ ha (hpl _ (by rw [if_neg (by simpa using h3)]))
      · have hn2 : l.tail ≠ [] := hd_ne h3 (by decide)
        (repeat (first | (refine TW.getf rfl rfl rfl (fun _ => ?_)) | (refine TW.pl rfl rfl ?_)))
        refine TW.putf rfl rfl (by rw [ts1_eq]; omega) ?_
        exact rest l.tail.tail _ (ha.step hn2 rfl) (hpl _ (by rw [if_pos (by simpa using h3)]))
  · -- a star
    have hn : l ≠ [] := hd_ne h1 (by decide)
    have key : ∀ b : Bool, b = decide (st < 2) → TW (d + 3) tc_plain 12 [some (.inr 0)] [.inl (b2i b), .inr 0] σ (PX fs σ0 s 3 (pPlain st l) (fun l1 v => PG fs σ0 s 2 gr v.1 l1)) := by
      intro b hbd
      refine TW.cv1 rfl rfl rfl (Nat.le_of_ble_eq_true rfl) (T_takeIf h (fun _ => hn)) ?_
      rintro _ τ ⟨rfl, p1, p2⟩
      (repeat (first | (refine TW.getf rfl rfl rfl (fun _ => ?_)) | (refine TW.pl rfl rfl ?_)))
      unfold pPlain
      rw [if_neg hn, if_pos h1]
      cases b with
      | false =>
        have hz : ¬ st < 2 := of_decide_eq_false hbd.symm
        have hb := p2 rfl
        have hb4 := hb.2.2.2.2
        rw [if_neg hz]
        refine TW.putf rfl rfl (by omega) ?_
        (repeat (first | (refine TW.getf rfl rfl rfl (fun _ => ?_)) | (refine TW.pl rfl rfl ?_)))
        exact TW.vret rfl ⟨rfl, hb.sta (by omega) (by decide)⟩
      | true =>
        have hz : st < 2 := of_decide_eq_true hbd.symm
        have hg := p1 rfl
        have hg4 := hg.2.2.2.2
        rw [if_pos hz]
        refine TW.putf rfl rfl (by omega) ?_
        (repeat (first | (refine TW.getf rfl rfl rfl (fun _ => ?_)) | (refine TW.pl rfl rfl ?_)))
        exact TW.vret rfl ⟨rfl, hg.sta (by omega) (by omega)⟩
    (repeat (first | (refine TW.getf rfl rfl rfl (fun _ => ?_)) | (refine TW.pl rfl rfl ?_)))
    refine TW.br rfl rfl (by first | omega | exact b2i_R _ | exact ⟨b2i_R _, by omega⟩) (fun h2 => ?_) (fun h2 => ?_)
    · (iterate 1 (first | (refine TW.getf rfl rfl rfl (fun _ => ?_)) | (refine TW.pl rfl rfl ?_)))
      exact key false (decide_eq_false (by omega)).symm
    · (iterate 2 (first | (refine TW.getf rfl rfl rfl (fun _ => ?_)) | (refine TW.pl rfl rfl ?_)))
      exact key true (decide_eq_true (by omega)).symm
theorem T_group (h : PG fs σ0 s 2 gr st l σ) (h40 : hd l = 40) : TM (d + 5) tk_group [.inr 0] σ (PX fs σ0 s 4 (pItem gr st l) (fun l1 v => PG fs σ0 s 2 v.1 v.2.1 l1)) := by
  have hdr := h.hdR
  have hst := h.2.2.2
  have hn : l ≠ [] := hd_ne h40 (by decide)
  refine TM.of rfl rfl ?_
  (repeat (first | (refine TW.getf rfl rfl rfl (fun _ => ?_)) | (refine TW.pl rfl rfl ?_)))
  have fin : ∀ (υ : TS) (f : List Int) (x : Int), PB fs σ0 s 3 f υ → TW (d + 4) tc_group 28 [some (.inr 0), some (.inl x)] [] υ (PX fs σ0 s 4 (.inl f : PR (Nat × Nat × List SPart)) (fun l1 v => PG fs σ0 s 2 v.1 v.2.1 l1)) := by
    intro υ f x hb
    (repeat (first | (refine TW.getf rfl rfl rfl (fun _ => ?_)) | (refine TW.pl rfl rfl ?_)))
    refine TW.cv1 rfl rfl rfl (Nat.le_of_ble_eq_true rfl) (T_takeB hb (by decide)) ?_
    rintro _ υ1 ⟨rfl, hb1⟩
    have := hb1.2.2.2.1
    (repeat (first | (refine TW.getf rfl rfl rfl (fun _ => ?_)) | (refine TW.pl rfl rfl ?_)))
    refine TW.putf rfl rfl (by omega) ?_
    exact TW.vret rfl ⟨rfl, hb1.gro (by omega) (by decide)⟩
  have back : ∀ (υ : TS) (f : List Int) (x : Int), PB fs σ0 s 3 f υ → TW (d + 4) tc_group 11 [some (.inr 0), some (.inl x)] [] υ (PX fs σ0 s 4 (.inl f : PR (Nat × Nat × List SPart)) (fun l1 v => PG fs σ0 s 2 v.1 v.2.1 l1)) := by
    intro υ f x hb
    have := hb.bad0
    (repeat (first | (refine TW.getf rfl rfl rfl (fun _ => ?_)) | (refine TW.pl rfl rfl ?_)))
    refine TW.br rfl rfl (by first | omega | exact b2i_R _ | exact ⟨b2i_R _, by omega⟩) (fun h1 => ?_) (fun h1 => ?_)
    · exact fin _ _ _ hb
    · omega
  have loop : gr < 2 → ∀ (k : Nat) (x : Int) (q : List Int) (sr : Nat) (acc : List SPart) (υ : TS), 0 ≤ x ∧ x + k = 12 → PG fs σ0 s 2 gr sr q υ → TW (d + 4) tc_group 11 [some (.inr 0), some (.inl x)] [] υ (PX fs σ0 s 4 (match pGrp k sr acc q with
      | .inl f => .inl f
      | .inr (l1, st1, ps) => .inr (l1, gr + 1, st1, (4, gr + 1, [], false) :: ps ++ [(5, gr + 1, [], false)])) (fun l1 v => PG fs σ0 s 2 v.1 v.2.1 l1)) := by
    intro hg k
    induction k with
    | zero =>
      intro x q sr acc υ hx hq
      have hb := hq.2.2.1
      have hdq := hq.hdR
      have hgr := hq.2.2.2.1
      (repeat (first | (refine TW.getf rfl rfl rfl (fun _ => ?_)) | (refine TW.pl rfl rfl ?_)))
      refine TW.br rfl rfl (by first | omega | exact b2i_R _ | exact ⟨b2i_R _, by omega⟩) (fun h1 => ?_) (fun h1 => ?_)
      · omega
      (repeat (first | (refine TW.getf rfl rfl rfl (fun _ => ?_)) | (refine TW.pl rfl rfl ?_)))
      refine TW.cv0 rfl rfl rfl (Nat.le_of_ble_eq_true rfl) (T_c hq) ?_; rintro _ _ ⟨rfl, rfl⟩
      (repeat (first | (refine TW.getf rfl rfl rfl (fun _ => ?_)) | (refine TW.pl rfl rfl ?_)))
      unfold pGrp
      refine TW.br rfl rfl (by first | omega | exact b2i_R _ | exact ⟨b2i_R _, by omega⟩) (fun h2 => ?_) (fun h2 => ?_)
      · (repeat (first | (refine TW.getf rfl rfl rfl (fun _ => ?_)) | (refine TW.pl rfl rfl ?_)))
        refine TW.cv1 rfl rfl rfl (Nat.le_of_ble_eq_true rfl) (T_take hq (by decide)) ?_
        rintro _ υ1 ⟨rfl, q1, -⟩
        have q1 := q1 h2
        have hgr := q1.2.2.2.1
        rw [if_pos h2]
        (repeat (first | (refine TW.getf rfl rfl rfl (fun _ => ?_)) | (refine TW.pl rfl rfl ?_)))
        refine TW.putf rfl rfl (by omega) ?_
        exact TW.vret rfl ⟨rfl, q1.gro (by omega) (by omega)⟩
      · rw [if_neg h2]
        (repeat (first | (refine TW.getf rfl rfl rfl (fun _ => ?_)) | (refine TW.pl rfl rfl ?_)))
        refine TW.br rfl rfl (by first | omega | exact b2i_R _ | exact ⟨b2i_R _, by omega⟩) (fun h3 => ?_) (fun h3 => ?_)
        · omega
        (repeat (first | (refine TW.getf rfl rfl rfl (fun _ => ?_)) | (refine TW.pl rfl rfl ?_)))
        refine TW.cv0 rfl rfl rfl (Nat.le_of_ble_eq_true rfl) (T_failG hq) ?_
        rintro _ υ1 ⟨rfl, q1⟩
        (iterate 1 (first | (refine TW.getf rfl rfl rfl (fun _ => ?_)) | (refine TW.pl rfl rfl ?_)))
        exact back _ _ _ (q1.mono (by decide))
    | succ k ih =>
      intro x q sr acc υ hx hq
      have hb := hq.2.2.1
      have hdq := hq.hdR
      have hgr := hq.2.2.2.1
      (repeat (first | (refine TW.getf rfl rfl rfl (fun _ => ?_)) | (refine TW.pl rfl rfl ?_)))
      refine TW.br rfl rfl (by first | omega | exact b2i_R _ | exact ⟨b2i_R _, by omega⟩) (fun h1 => ?_) (fun h1 => ?_)
      · omega
      (repeat (first | (refine TW.getf rfl rfl rfl (fun _ => ?_)) | (refine TW.pl rfl rfl ?_)))
      refine TW.cv0 rfl rfl rfl (Nat.le_of_ble_eq_true rfl) (T_c hq) ?_; rintro _ _ ⟨rfl, rfl⟩
      (repeat (first | (refine TW.getf rfl rfl rfl (fun _ => ?_)) | (refine TW.pl rfl rfl ?_)))
      unfold pGrp
      refine TW.br rfl rfl (by first | omega | exact b2i_R _ | exact ⟨b2i_R _, by omega⟩) (fun h2 => ?_) (fun h2 => ?_)
      · (repeat (first | (refine TW.getf rfl rfl rfl (fun _ => ?_)) | (refine TW.pl rfl rfl ?_)))
        refine TW.cv1 rfl rfl rfl (Nat.le_of_ble_eq_true rfl) (T_take hq (by decide)) ?_
        rintro _ υ1 ⟨rfl, q1, -⟩
        have q1 := q1 h2
        have hgr := q1.2.2.2.1
        rw [if_pos h2]
        (repeat (first | (refine TW.getf rfl rfl rfl (fun _ => ?_)) | (refine TW.pl rfl rfl ?_)))
        refine TW.putf rfl rfl (by omega) ?_
        exact TW.vret rfl ⟨rfl, q1.gro (by omega) (by omega)⟩
      · rw [if_neg h2]
        (repeat (first | (refine TW.getf rfl rfl rfl (fun _ => ?_)) | (refine TW.pl rfl rfl ?_)))
        refine TW.br rfl rfl (by first | omega | exact b2i_R _ | exact ⟨b2i_R _, by omega⟩) (fun h3 => ?_) (fun h3 => ?_)
        · (repeat (first | (refine TW.getf rfl rfl rfl (fun _ => ?_)) | (refine TW.pl rfl rfl ?_)))
          refine TW.cv0 rfl rfl rfl (Nat.le_of_ble_eq_true rfl) (T_plain hq) ?_
          rintro _ υ1 ⟨rfl, q1⟩
          (iterate 2 (first | (refine TW.getf rfl rfl rfl (fun _ => ?_)) | (refine TW.pl rfl rfl ?_)))
          dsimp only
          revert q1
          cases pPlain sr q with
          | inl f => exact fun q1 => back _ _ _ q1
          | inr v =>
            obtain ⟨l1, st1, pt⟩ := v
            exact fun q1 => ih _ l1 st1 _ _ (by omega) q1
        · omega
  have key : ∀ b : Bool, b = decide (gr < 2) → TW (d + 4) tc_group 8 [some (.inr 0), none] [.inl (b2i b), .inr 0] σ (PX fs σ0 s 4 (pItem gr st l) (fun l1 v => PG fs σ0 s 2 v.1 v.2.1 l1)) := by
    intro b hb
    refine TW.cv1 rfl rfl rfl (Nat.le_of_ble_eq_true rfl) (T_takeIf h (fun _ => hn)) ?_
    rintro _ τ ⟨rfl, p1, p2⟩
    (iterate 2 (first | (refine TW.getf rfl rfl rfl (fun _ => ?_)) | (refine TW.pl rfl rfl ?_)))
    unfold pItem
    rw [if_pos h40]
    cases b with
    | false =>
      rw [if_neg (of_decide_eq_false hb.symm)]
      exact back _ _ _ ((p2 rfl).mono (by decide))
    | true =>
      have hg := of_decide_eq_true hb.symm
      rw [if_pos hg]
      exact loop hg 12 0 l.tail st [] τ (by decide) (p1 rfl)
  refine TW.br rfl rfl (by first | omega | exact b2i_R _ | exact ⟨b2i_R _, by omega⟩) (fun h1 => ?_) (fun h1 => ?_)
  · (iterate 1 (first | (refine TW.getf rfl rfl rfl (fun _ => ?_)) | (refine TW.pl rfl rfl ?_)))
    exact key false (decide_eq_false (by omega)).symm
  · (iterate 2 (first | (refine TW.getf rfl rfl rfl (fun _ => ?_)) | (refine TW.pl rfl rfl ?_)))
    exact key true (decide_eq_true (by omega)).symm
/-- \ and a group's number -/
theorem T_item (h : PG fs σ0 s 2 gr st l σ) : TM (d + 6) tk_item [.inr 0] σ (PX fs σ0 s 4 (pItem gr st l) (fun l1 v => PG fs σ0 s 2 v.1 v.2.1 l1)) := by
  have hdr := h.hdR
  have hst := h.2.2.2
  refine TM.of rfl rfl ?_
  (repeat (first | (refine TW.getf rfl rfl rfl (fun _ => ?_)) | (refine TW.pl rfl rfl ?_)))
  refine TW.cv0 rfl rfl rfl (Nat.le_of_ble_eq_true rfl) (T_c h) ?_; rintro _ _ ⟨rfl, rfl⟩
  (repeat (first | (refine TW.getf rfl rfl rfl (fun _ => ?_)) | (refine TW.pl rfl rfl ?_)))
  refine TW.br rfl rfl (by first | omega | exact b2i_R _ | exact ⟨b2i_R _, by omega⟩) (fun h1 => ?_) (fun h1 => ?_)
  · (repeat (first | (refine TW.getf rfl rfl rfl (fun _ => ?_)) | (refine TW.pl rfl rfl ?_)))
    refine TW.cv0 rfl rfl rfl (Nat.le_of_ble_eq_true rfl) (T_c h) ?_; rintro _ _ ⟨rfl, rfl⟩
    (repeat (first | (refine TW.getf rfl rfl rfl (fun _ => ?_)) | (refine TW.pl rfl rfl ?_)))
    refine TW.br rfl rfl (by first | omega | exact b2i_R _ | exact ⟨b2i_R _, by omega⟩) (fun h2 => ?_) (fun h2 => ?_)
    · (repeat (first | (refine TW.getf rfl rfl rfl (fun _ => ?_)) | (refine TW.pl rfl rfl ?_)))
      refine TW.cv0 rfl rfl rfl (Nat.le_of_ble_eq_true rfl) (T_plain h) ?_
      rintro _ τ ⟨rfl, q1⟩
      refine TW.vret rfl ⟨rfl, ?_⟩
      unfold pItem
      rw [if_neg h1, if_neg h2]
      revert q1
      cases pPlain st l with
      | inl f => exact fun q1 => q1.mono (by decide)
      | inr v => exact fun q1 => q1
    · have hn : l ≠ [] := hd_ne h2 (by decide)
      have fin : ∀ (υ : TS) (f : List Int) (b : Bool), PB fs σ0 s 2 f υ → TW (d + 5) tc_item 34 [some (.inr 0)] [.inl (b2i b), .inr 0] υ (PX fs σ0 s 4 (.inl f : PR (Nat × Nat × List SPart)) (fun l1 v => PG fs σ0 s 2 v.1 v.2.1 l1)) := by
        intro υ f b hb
        refine TW.cv1 rfl rfl rfl (Nat.le_of_ble_eq_true rfl) (T_takeIfB hb) ?_
        rintro _ υ1 ⟨rfl, hb1⟩
        (repeat (first | (refine TW.getf rfl rfl rfl (fun _ => ?_)) | (refine TW.pl rfl rfl ?_)))
        exact TW.vret rfl ⟨rfl, hb1.mono (by decide)⟩
      have key : ∀ b : Bool, b = decide (0 < gr) → TW (d + 5) tc_item 18 [some (.inr 0)] [.inl (b2i b), .inr 0] σ (PX fs σ0 s 4 (pItem gr st l) (fun l1 v => PG fs σ0 s 2 v.1 v.2.1 l1)) := by
        intro b hb
        refine TW.cv1 rfl rfl rfl (Nat.le_of_ble_eq_true rfl) (T_takeIf h (fun _ => hn)) ?_
        rintro _ τ ⟨rfl, p1, p2⟩
        unfold pItem
        rw [if_neg h1, if_pos h2]
        (repeat (first | (refine TW.getf rfl rfl rfl (fun _ => ?_)) | (refine TW.pl rfl rfl ?_)))
        cases b with
        | false =>
          have hb := p2 rfl
          obtain ⟨l9, ha9⟩ := hb.2.1
          have hd9 := hb.1.2.2.hdR ha9
          have hg9 := hb.2.2.2.1
          rw [if_neg (of_decide_eq_false (by assumption : false = decide (0 < gr)).symm)]
          refine TW.cv0 rfl rfl rfl (Nat.le_of_ble_eq_true rfl) (T_c' hb.1.2.2 ha9) ?_; rintro _ _ ⟨rfl, rfl⟩
          (repeat (first | (refine TW.getf rfl rfl rfl (fun _ => ?_)) | (refine TW.pl rfl rfl ?_)))
          refine TW.br rfl rfl (by first | omega | exact b2i_R _ | exact ⟨b2i_R _, by omega⟩) (fun h3 => ?_) (fun h3 => ?_)
          · (iterate 1 (first | (refine TW.getf rfl rfl rfl (fun _ => ?_)) | (refine TW.pl rfl rfl ?_)))
            exact fin _ _ false hb
          · (repeat (first | (refine TW.getf rfl rfl rfl (fun _ => ?_)) | (refine TW.pl rfl rfl ?_)))
            refine TW.cv0 rfl rfl rfl (Nat.le_of_ble_eq_true rfl) (T_c' hb.1.2.2 ha9) ?_; rintro _ _ ⟨rfl, rfl⟩
            (repeat (first | (refine TW.getf rfl rfl rfl (fun _ => ?_)) | (refine TW.pl rfl rfl ?_)))
            refine TW.br rfl rfl (by first | omega | exact b2i_R _ | exact ⟨b2i_R _, by omega⟩) (fun h4 => ?_) (fun h4 => ?_)
            · (iterate 1 (first | (refine TW.getf rfl rfl rfl (fun _ => ?_)) | (refine TW.pl rfl rfl ?_)))
              exact fin _ _ false hb
            · (iterate 2 (first | (refine TW.getf rfl rfl rfl (fun _ => ?_)) | (refine TW.pl rfl rfl ?_)))
              exact fin _ _ true hb
        | true =>
          have hg := of_decide_eq_true hb.symm
          have h3 := p1 rfl
          have hd3 := h3.hdR
          have hg3 := h3.2.2.2
          rw [if_pos hg]
          have key2 : ∀ b : Bool, b = decide (49 ≤ hd l.tail ∧ hd l.tail ≤ 48 + gr) → TW (d + 5) tc_item 34 [some (.inr 0)] [.inl (b2i b), .inr 0] τ (PX fs σ0 s 4 (if 49 ≤ hd l.tail ∧ hd l.tail ≤ 48 + gr then .inr (l.tail.tail, gr, st, [(6, (hd l.tail - 48).toNat, [], false)]) else .inl l.tail : PR (Nat × Nat × List SPart)) (fun l1 v => PG fs σ0 s 2 v.1 v.2.1 l1)) := by
            intro b hb
            refine TW.cv1 rfl rfl rfl (Nat.le_of_ble_eq_true rfl) (T_takeIf h3 (fun z => by rw [hb] at z; exact hd_ne rfl (by have := of_decide_eq_true z; omega))) ?_
            rintro _ υ ⟨rfl, q1, q2⟩
            (repeat (first | (refine TW.getf rfl rfl rfl (fun _ => ?_)) | (refine TW.pl rfl rfl ?_)))
            refine TW.vret rfl ⟨rfl, ?_⟩
            cases b with
            | false =>
              rw [if_neg (of_decide_eq_false hb.symm)]
              exact (q2 rfl).mono (by decide)
            | true =>
              rw [if_pos (of_decide_eq_true hb.symm)]
              exact q1 rfl
          refine TW.cv0 rfl rfl rfl (Nat.le_of_ble_eq_true rfl) (T_c h3) ?_; rintro _ _ ⟨rfl, rfl⟩
          (repeat (first | (refine TW.getf rfl rfl rfl (fun _ => ?_)) | (refine TW.pl rfl rfl ?_)))
          refine TW.br rfl rfl (by first | omega | exact b2i_R _ | exact ⟨b2i_R _, by omega⟩) (fun h4 => ?_) (fun h4 => ?_)
          · (iterate 1 (first | (refine TW.getf rfl rfl rfl (fun _ => ?_)) | (refine TW.pl rfl rfl ?_)))
            exact key2 false (decide_eq_false (by omega)).symm
          · (repeat (first | (refine TW.getf rfl rfl rfl (fun _ => ?_)) | (refine TW.pl rfl rfl ?_)))
            refine TW.cv0 rfl rfl rfl (Nat.le_of_ble_eq_true rfl) (T_c h3) ?_; rintro _ _ ⟨rfl, rfl⟩
            (repeat (first | (refine TW.getf rfl rfl rfl (fun _ => ?_)) | (refine TW.pl rfl rfl ?_)))
            refine TW.br rfl rfl (by first | omega | exact b2i_R _ | exact ⟨b2i_R _, by omega⟩) (fun h5 => ?_) (fun h5 => ?_)
            · (iterate 1 (first | (refine TW.getf rfl rfl rfl (fun _ => ?_)) | (refine TW.pl rfl rfl ?_)))
              exact key2 false (decide_eq_false (by omega)).symm
            · (iterate 2 (first | (refine TW.getf rfl rfl rfl (fun _ => ?_)) | (refine TW.pl rfl rfl ?_)))
              exact key2 true (decide_eq_true (by omega)).symm
      (repeat (first | (refine TW.getf rfl rfl rfl (fun _ => ?_)) | (refine TW.pl rfl rfl ?_)))
      refine TW.br rfl rfl (by first | omega | exact b2i_R _ | exact ⟨b2i_R _, by omega⟩) (fun h3 => ?_) (fun h3 => ?_)
      · (iterate 1 (first | (refine TW.getf rfl rfl rfl (fun _ => ?_)) | (refine TW.pl rfl rfl ?_)))
        exact key false (decide_eq_false (by omega)).symm
      · (iterate 2 (first | (refine TW.getf rfl rfl rfl (fun _ => ?_)) | (refine TW.pl rfl rfl ?_)))
        exact key true (decide_eq_true (by omega)).symm
  · (repeat (first | (refine TW.getf rfl rfl rfl (fun _ => ?_)) | (refine TW.pl rfl rfl ?_)))
    refine TW.cv0 rfl rfl rfl (Nat.le_of_ble_eq_true rfl) (T_group h h1) ?_
    rintro _ τ hq
    obtain ⟨rfl, q⟩ := id hq
    (repeat (first | (refine TW.getf rfl rfl rfl (fun _ => ?_)) | (refine TW.pl rfl rfl ?_)))
    exact TW.vret rfl hq
theorem pItem_ne {c : Nat} {l1 : List Int} {c1 s1 : Nat} {ps : List SPart} (h : pItem c st l = .inr (l1, c1, s1, ps)) : ps ≠ [] := by
  unfold pItem at h
  split at h
  · split at h
    · split at h
      · cases h
      · cases h; simp
    · cases h
  · split at h
    · split at h
      · split at h
        · cases h; simp
        · cases h
      · cases h
    · split at h
      · cases h
      · cases h; simp
theorem pItems_stop {e : Int} {k c : Nat} {a : List SPart} (h : hd l = 36 ∨ hd l = e ∨ l = []) : pItems e k c st a l = .inr (l, c, a) := by
  cases k <;> (unfold pItems; rw [if_pos h])
def pPatE (fst : Bool) : PR (Nat × List SPart) → PR (Nat × SPat)
  | .inl f => .inl f
  | .inr (l1, c, ps) => if ps = [] ∧ fst = false ∧ decide (hd l1 = 36) = false then .inl (if decide (hd l1 = 36) = true then l1.tail else l1) else .inr (if decide (hd l1 = 36) = true then l1.tail else l1, c, ps, fst, decide (hd l1 = 36))
theorem pPat_E (e : Int) : pPat e l = pPatE (decide (hd l = 94)) (pItems e 12 0 0 [] (if decide (hd l = 94) = true then l.tail else l)) := by
  unfold pPat
  dsimp only
  cases pItems e 12 0 0 [] (if decide (hd l = 94) = true then l.tail else l) with
  | inl f => rfl
  | inr v => rfl
theorem PG.zero (h : PG fs σ0 s m gr st l σ) : PG fs σ0 s 2 0 0 l (ts1 (ts1 σ 25 0) 26 0) := ⟨(h.1.ts1 (by decide) (by decide)).ts1 (by decide) (by decide), (h.2.1.fr (ts1_ne (by decide))).fr (ts1_ne (by decide)), by rw [ts1_ne (by decide), ts1_ne (by decide)]; exact h.2.2.1, ⟨by rw [ts1_ne (by decide), ts1_eq]; rfl, by decide⟩, by rw [ts1_eq]; rfl, by decide⟩
theorem T_patternB {c : Int} (hc : 0 ≤ c ∧ c < 1000) (h : PB fs σ0 s m f σ) : TM (d + 7) tk_pattern [.inr 0, .inl c] σ (fun r τ => r = none ∧ PB fs σ0 s m f τ) := by
  have hb0 := h.bad0
  have hm := h.2.2.2.1
  refine TM.of rfl rfl ?_
  (repeat (first | (refine TW.getf rfl rfl rfl (fun _ => ?_)) | (refine TW.pl rfl rfl ?_)))
  refine TW.putf rfl rfl (by omega) ?_
  (repeat (first | (refine TW.getf rfl rfl rfl (fun _ => ?_)) | (refine TW.pl rfl rfl ?_)))
  refine TW.putf rfl rfl (by omega) ?_
  have hb := (h.gro (v := 0) (m' := m) (by omega) (Int.le_refl _)).sta (v := 0) (m' := m) (by omega) (Int.le_refl _)
  have hb1 := hb.bad0
  (repeat (first | (refine TW.getf rfl rfl rfl (fun _ => ?_)) | (refine TW.pl rfl rfl ?_)))
  refine TW.br rfl rfl (by first | omega | exact b2i_R _ | exact ⟨b2i_R _, by omega⟩) (fun h1 => ?_) (fun h1 => ?_)
  · (repeat (first | (refine TW.getf rfl rfl rfl (fun _ => ?_)) | (refine TW.pl rfl rfl ?_)))
    refine TW.br rfl rfl (by first | omega | exact b2i_R _ | exact ⟨b2i_R _, by omega⟩) (fun h2 => ?_) (fun h2 => ?_)
    · (repeat (first | (refine TW.getf rfl rfl rfl (fun _ => ?_)) | (refine TW.pl rfl rfl ?_)))
      refine TW.br rfl rfl (by first | omega | exact b2i_R _ | exact ⟨b2i_R _, by omega⟩) (fun h3 => ?_) (fun h3 => ?_)
      · (repeat (first | (refine TW.getf rfl rfl rfl (fun _ => ?_)) | (refine TW.pl rfl rfl ?_)))
        refine TW.br rfl rfl (by first | omega | exact b2i_R _ | exact ⟨b2i_R _, by omega⟩) (fun h4 => ?_) (fun h4 => ?_)
        · omega
        · (repeat (first | (refine TW.getf rfl rfl rfl (fun _ => ?_)) | (refine TW.pl rfl rfl ?_)))
          refine TW.cv0 rfl rfl rfl (Nat.le_of_ble_eq_true rfl) (T_failB hb) ?_
          rintro _ τ ⟨rfl, hb⟩
          exact TW.vret rfl ⟨rfl, hb⟩
      · omega
    · omega
  · omega
theorem T_pattern {c : Int} (hc : 0 ≤ c ∧ c < 1000) (h : PG fs σ0 s m gr st l σ) : TM (d + 7) tk_pattern [.inr 0, .inl c] σ (PX fs σ0 s 4 (pPat c l) (fun l1 v τ => ∃ sr, PG fs σ0 s 2 v.1 sr l1 τ)) := by
  refine TM.of rfl rfl ?_
  (repeat (first | (refine TW.getf rfl rfl rfl (fun _ => ?_)) | (refine TW.pl rfl rfl ?_)))
  refine TW.putf rfl rfl (by omega) ?_
  (repeat (first | (refine TW.getf rfl rfl rfl (fun _ => ?_)) | (refine TW.pl rfl rfl ?_)))
  refine TW.putf rfl rfl (by omega) ?_
  have h := h.zero
  have hdr := h.hdR
  have hb := h.2.2.1
  rw [pPat_E]
  have fin : ∀ (υ : TS) (f : List Int) (x m : Int) (any : Bool), PB fs σ0 s 4 f υ → TW (d + 6) tc_pattern 75 [some (.inr 0), some (.inl c), some (.inl x), some (.inl (b2i any)), some (.inl m)] [] υ (PX fs σ0 s 4 (.inl f : PR (Nat × SPat)) (fun l1 v τ => ∃ sr, PG fs σ0 s 2 v.1 sr l1 τ)) := by
    intro υ f x m any hb
    (repeat (first | (refine TW.getf rfl rfl rfl (fun _ => ?_)) | (refine TW.pl rfl rfl ?_)))
    refine TW.br rfl rfl (by first | omega | exact b2i_R _ | exact ⟨b2i_R _, by omega⟩) (fun h1 => ?_) (fun h1 => ?_)
    · exact TW.vret rfl ⟨rfl, hb⟩
    · (repeat (first | (refine TW.getf rfl rfl rfl (fun _ => ?_)) | (refine TW.pl rfl rfl ?_)))
      refine TW.cv0 rfl rfl rfl (Nat.le_of_ble_eq_true rfl) (T_failB hb) ?_
      rintro _ τ ⟨rfl, hb⟩
      exact TW.vret rfl ⟨rfl, hb⟩
  have back : ∀ (υ : TS) (f : List Int) (x : Int) (any : Bool), PB fs σ0 s 4 f υ → TW (d + 6) tc_pattern 31 [some (.inr 0), some (.inl c), some (.inl x), some (.inl (b2i any)), some (.inl 1)] [] υ (PX fs σ0 s 4 (.inl f : PR (Nat × SPat)) (fun l1 v τ => ∃ sr, PG fs σ0 s 2 v.1 sr l1 τ)) := by
    intro υ f x any hb
    have := hb.bad0
    (repeat (first | (refine TW.getf rfl rfl rfl (fun _ => ?_)) | (refine TW.pl rfl rfl ?_)))
    refine TW.br rfl rfl (by first | omega | exact b2i_R _ | exact ⟨b2i_R _, by omega⟩) (fun h1 => ?_) (fun h1 => ?_)
    · omega
    · (repeat (first | (refine TW.getf rfl rfl rfl (fun _ => ?_)) | (refine TW.pl rfl rfl ?_)))
      refine TW.br rfl rfl (by first | omega | exact b2i_R _ | exact ⟨b2i_R _, by omega⟩) (fun h2 => ?_) (fun h2 => ?_)
      · exact fin _ _ _ _ _ hb
      · omega
  have loop : ∀ (fst : Bool) (k : Nat) (x : Int) (q : List Int) (cl sr : Nat) (acc : List SPart) (any : Bool) (υ : TS), 0 ≤ x ∧ x + k = 12 → PG fs σ0 s 2 cl sr q υ → any = (fst || decide (acc ≠ [])) → TW (d + 6) tc_pattern 31 [some (.inr 0), some (.inl c), some (.inl x), some (.inl (b2i any)), some (.inl 1)] [] υ (PX fs σ0 s 4 (pPatE fst (pItems c k cl sr acc q)) (fun l1 v τ => ∃ sr, PG fs σ0 s 2 v.1 sr l1 τ)) := by
    intro fst k
    induction k with
    | zero =>
      intro x q cl sr acc any υ hx hq hany
      have hb := hq.2.2.1
      have hdq := hq.hdR
      have hgr := hq.2.2.2
      (repeat (first | (refine TW.getf rfl rfl rfl (fun _ => ?_)) | (refine TW.pl rfl rfl ?_)))
      refine TW.br rfl rfl (by first | omega | exact b2i_R _ | exact ⟨b2i_R _, by omega⟩) (fun h1 => ?_) (fun h1 => ?_)
      · omega
      (repeat (first | (refine TW.getf rfl rfl rfl (fun _ => ?_)) | (refine TW.pl rfl rfl ?_)))
      refine TW.br rfl rfl (by first | omega | exact b2i_R _ | exact ⟨b2i_R _, by omega⟩) (fun h2 => ?_) (fun h2 => ?_)
      · omega
      (repeat (first | (refine TW.getf rfl rfl rfl (fun _ => ?_)) | (refine TW.pl rfl rfl ?_)))
      refine TW.cv0 rfl rfl rfl (Nat.le_of_ble_eq_true rfl) (T_c hq) ?_; rintro _ _ ⟨rfl, rfl⟩
      (repeat (first | (refine TW.getf rfl rfl rfl (fun _ => ?_)) | (refine TW.pl rfl rfl ?_)))
      by_cases hstop : hd q = 36 ∨ hd q = c ∨ q = []
      · rw [pItems_stop hstop]
        unfold pPatE
        dsimp only
        refine TW.br rfl rfl (by first | omega | exact b2i_R _ | exact ⟨b2i_R _, by omega⟩) (fun h3 => ?_) (fun h3 => ?_)
        · rw [decide_eq_false h3, if_neg (show ¬ (false = true) by decide)]
          have ex : TW (d + 6) tc_pattern 60 [some (.inr 0), some (.inl c), some (.inl x), some (.inl (b2i any)), some (.inl 1)] [] υ (PX fs σ0 s 4 (if acc = [] ∧ fst = false ∧ false = false then .inl q else .inr (q, cl, acc, fst, false) : PR (Nat × SPat)) (fun l1 v τ => ∃ sr, PG fs σ0 s 2 v.1 sr l1 τ)) := by
            (repeat (first | (refine TW.getf rfl rfl rfl (fun _ => ?_)) | (refine TW.pl rfl rfl ?_)))
            refine TW.br rfl rfl (by first | omega | exact b2i_R _ | exact ⟨b2i_R _, by omega⟩) (fun h4 => ?_) (fun h4 => ?_)
            · (repeat (first | (refine TW.getf rfl rfl rfl (fun _ => ?_)) | (refine TW.pl rfl rfl ?_)))
              refine TW.br rfl rfl (by first | omega | exact b2i_R _ | exact ⟨b2i_R _, by omega⟩) (fun h5 => ?_) (fun h5 => ?_)
              · rw [if_neg (fun z => by rw [hany, z.2.1, decide_eq_false (fun w => w z.1)] at h5; exact h5 rfl)]
                exact TW.vret rfl ⟨rfl, sr, hq⟩
              · have hz := b2i_0 h5
                rw [hany, Bool.or_eq_false_iff, decide_eq_false_iff_not] at hz
                rw [if_pos ⟨Decidable.not_not.mp hz.2, hz.1, rfl⟩]
                (repeat (first | (refine TW.getf rfl rfl rfl (fun _ => ?_)) | (refine TW.pl rfl rfl ?_)))
                refine TW.cv0 rfl rfl rfl (Nat.le_of_ble_eq_true rfl) (T_failG hq) ?_
                rintro _ τ ⟨rfl, hb⟩
                exact TW.vret rfl ⟨rfl, hb.mono (by decide)⟩
            · omega
          (repeat (first | (refine TW.getf rfl rfl rfl (fun _ => ?_)) | (refine TW.pl rfl rfl ?_)))
          refine TW.cv0 rfl rfl rfl (Nat.le_of_ble_eq_true rfl) (T_c hq) ?_; rintro _ _ ⟨rfl, rfl⟩
          (repeat (first | (refine TW.getf rfl rfl rfl (fun _ => ?_)) | (refine TW.pl rfl rfl ?_)))
          refine TW.br rfl rfl (by first | omega | exact b2i_R _ | exact ⟨b2i_R _, by omega⟩) (fun h4 => ?_) (fun h4 => ?_)
          · exact ex
          · (repeat (first | (refine TW.getf rfl rfl rfl (fun _ => ?_)) | (refine TW.pl rfl rfl ?_)))
            refine TW.br rfl rfl (by first | omega | exact b2i_R _ | exact ⟨b2i_R _, by omega⟩) (fun h5 => ?_) (fun h5 => ?_)
            · exfalso
              rcases hstop with z | z | z
              · exact h3 z
              · exact h4 z
              · rw [z] at hdq; simp at hdq; omega
            · exact ex
        · rw [decide_eq_true h3, if_pos rfl, if_neg (fun z => by cases z.2.2)]
          (repeat (first | (refine TW.getf rfl rfl rfl (fun _ => ?_)) | (refine TW.pl rfl rfl ?_)))
          refine TW.putf rfl rfl (by omega) ?_
          (repeat (first | (refine TW.getf rfl rfl rfl (fun _ => ?_)) | (refine TW.pl rfl rfl ?_)))
          refine TW.br rfl rfl (by first | omega | exact b2i_R _ | exact ⟨b2i_R _, by omega⟩) (fun h4 => ?_) (fun h4 => ?_)
          · (repeat (first | (refine TW.getf rfl rfl rfl (fun _ => ?_)) | (refine TW.pl rfl rfl ?_)))
            refine TW.br rfl rfl (by first | omega | exact b2i_R _ | exact ⟨b2i_R _, by omega⟩) (fun h5 => ?_) (fun h5 => ?_)
            · exact TW.vret rfl ⟨rfl, sr, hq.step (hd_ne h3 (by decide)) rfl⟩
            · omega
          · omega
      refine TW.br rfl rfl (by first | omega | exact b2i_R _ | exact ⟨b2i_R _, by omega⟩) (fun h3 => ?_) (fun h3 => ?_)
      · (repeat (first | (refine TW.getf rfl rfl rfl (fun _ => ?_)) | (refine TW.pl rfl rfl ?_)))
        refine TW.cv0 rfl rfl rfl (Nat.le_of_ble_eq_true rfl) (T_c hq) ?_; rintro _ _ ⟨rfl, rfl⟩
        (repeat (first | (refine TW.getf rfl rfl rfl (fun _ => ?_)) | (refine TW.pl rfl rfl ?_)))
        refine TW.br rfl rfl (by first | omega | exact b2i_R _ | exact ⟨b2i_R _, by omega⟩) (fun h4 => ?_) (fun h4 => ?_)
        · exact absurd (Or.inr (Or.inl h4)) hstop
        (repeat (first | (refine TW.getf rfl rfl rfl (fun _ => ?_)) | (refine TW.pl rfl rfl ?_)))
        refine TW.br rfl rfl (by first | omega | exact b2i_R _ | exact ⟨b2i_R _, by omega⟩) (fun h5 => ?_) (fun h5 => ?_)
        rotate_left
        · exfalso
          refine hstop (Or.inr (Or.inr (List.length_eq_zero_iff.mp ?_)))
          omega
        (repeat (first | (refine TW.getf rfl rfl rfl (fun _ => ?_)) | (refine TW.pl rfl rfl ?_)))
        refine TW.br rfl rfl (by first | omega | exact b2i_R _ | exact ⟨b2i_R _, by omega⟩) (fun h6 => ?_) (fun h6 => ?_)
        · omega
        · (repeat (first | (refine TW.getf rfl rfl rfl (fun _ => ?_)) | (refine TW.pl rfl rfl ?_)))
          refine TW.cv0 rfl rfl rfl (Nat.le_of_ble_eq_true rfl) (T_failG hq) ?_
          rintro _ υ1 ⟨rfl, q1⟩
          (iterate 1 (first | (refine TW.getf rfl rfl rfl (fun _ => ?_)) | (refine TW.pl rfl rfl ?_)))
          have e : pItems c 0 cl sr acc q = .inl q := by unfold pItems; rw [if_neg hstop]
          rw [e]
          exact back _ _ _ _ (q1.mono (by decide))
      · exact absurd (Or.inl h3) hstop
    | succ k ih =>
      intro x q cl sr acc any υ hx hq hany
      have hb := hq.2.2.1
      have hdq := hq.hdR
      have hgr := hq.2.2.2
      (repeat (first | (refine TW.getf rfl rfl rfl (fun _ => ?_)) | (refine TW.pl rfl rfl ?_)))
      refine TW.br rfl rfl (by first | omega | exact b2i_R _ | exact ⟨b2i_R _, by omega⟩) (fun h1 => ?_) (fun h1 => ?_)
      · omega
      (repeat (first | (refine TW.getf rfl rfl rfl (fun _ => ?_)) | (refine TW.pl rfl rfl ?_)))
      refine TW.br rfl rfl (by first | omega | exact b2i_R _ | exact ⟨b2i_R _, by omega⟩) (fun h2 => ?_) (fun h2 => ?_)
      · omega
      (repeat (first | (refine TW.getf rfl rfl rfl (fun _ => ?_)) | (refine TW.pl rfl rfl ?_)))
      refine TW.cv0 rfl rfl rfl (Nat.le_of_ble_eq_true rfl) (T_c hq) ?_; rintro _ _ ⟨rfl, rfl⟩
      (repeat (first | (refine TW.getf rfl rfl rfl (fun _ => ?_)) | (refine TW.pl rfl rfl ?_)))
      by_cases hstop : hd q = 36 ∨ hd q = c ∨ q = []
      · rw [pItems_stop hstop]
        unfold pPatE
        dsimp only
        refine TW.br rfl rfl (by first | omega | exact b2i_R _ | exact ⟨b2i_R _, by omega⟩) (fun h3 => ?_) (fun h3 => ?_)
        · rw [decide_eq_false h3, if_neg (show ¬ (false = true) by decide)]
          have ex : TW (d + 6) tc_pattern 60 [some (.inr 0), some (.inl c), some (.inl x), some (.inl (b2i any)), some (.inl 1)] [] υ (PX fs σ0 s 4 (if acc = [] ∧ fst = false ∧ false = false then .inl q else .inr (q, cl, acc, fst, false) : PR (Nat × SPat)) (fun l1 v τ => ∃ sr, PG fs σ0 s 2 v.1 sr l1 τ)) := by
            (repeat (first | (refine TW.getf rfl rfl rfl (fun _ => ?_)) | (refine TW.pl rfl rfl ?_)))
            refine TW.br rfl rfl (by first | omega | exact b2i_R _ | exact ⟨b2i_R _, by omega⟩) (fun h4 => ?_) (fun h4 => ?_)
            · (repeat (first | (refine TW.getf rfl rfl rfl (fun _ => ?_)) | (refine TW.pl rfl rfl ?_)))
              refine TW.br rfl rfl (by first | omega | exact b2i_R _ | exact ⟨b2i_R _, by omega⟩) (fun h5 => ?_) (fun h5 => ?_)
              · rw [if_neg (fun z => by rw [hany, z.2.1, decide_eq_false (fun w => w z.1)] at h5; exact h5 rfl)]
                exact TW.vret rfl ⟨rfl, sr, hq⟩
              · have hz := b2i_0 h5
                rw [hany, Bool.or_eq_false_iff, decide_eq_false_iff_not] at hz
                rw [if_pos ⟨Decidable.not_not.mp hz.2, hz.1, rfl⟩]
                (repeat (first | (refine TW.getf rfl rfl rfl (fun _ => ?_)) | (refine TW.pl rfl rfl ?_)))
                refine TW.cv0 rfl rfl rfl (Nat.le_of_ble_eq_true rfl) (T_failG hq) ?_
                rintro _ τ ⟨rfl, hb⟩
                exact TW.vret rfl ⟨rfl, hb.mono (by decide)⟩
            · omega
          (repeat (first | (refine TW.getf rfl rfl rfl (fun _ => ?_)) | (refine TW.pl rfl rfl ?_)))
          refine TW.cv0 rfl rfl rfl (Nat.le_of_ble_eq_true rfl) (T_c hq) ?_; rintro _ _ ⟨rfl, rfl⟩
          (repeat (first | (refine TW.getf rfl rfl rfl (fun _ => ?_)) | (refine TW.pl rfl rfl ?_)))
          refine TW.br rfl rfl (by first | omega | exact b2i_R _ | exact ⟨b2i_R _, by omega⟩) (fun h4 => ?_) (fun h4 => ?_)
          · exact ex
          · (repeat (first | (refine TW.getf rfl rfl rfl (fun _ => ?_)) | (refine TW.pl rfl rfl ?_)))
            refine TW.br rfl rfl (by first | omega | exact b2i_R _ | exact ⟨b2i_R _, by omega⟩) (fun h5 => ?_) (fun h5 => ?_)
            · exfalso
              rcases hstop with z | z | z
              · exact h3 z
              · exact h4 z
              · rw [z] at hdq; simp at hdq; omega
            · exact ex
        · rw [decide_eq_true h3, if_pos rfl, if_neg (fun z => by cases z.2.2)]
          (repeat (first | (refine TW.getf rfl rfl rfl (fun _ => ?_)) | (refine TW.pl rfl rfl ?_)))
          refine TW.putf rfl rfl (by omega) ?_
          (repeat (first | (refine TW.getf rfl rfl rfl (fun _ => ?_)) | (refine TW.pl rfl rfl ?_)))
          refine TW.br rfl rfl (by first | omega | exact b2i_R _ | exact ⟨b2i_R _, by omega⟩) (fun h4 => ?_) (fun h4 => ?_)
          · (repeat (first | (refine TW.getf rfl rfl rfl (fun _ => ?_)) | (refine TW.pl rfl rfl ?_)))
            refine TW.br rfl rfl (by first | omega | exact b2i_R _ | exact ⟨b2i_R _, by omega⟩) (fun h5 => ?_) (fun h5 => ?_)
            · exact TW.vret rfl ⟨rfl, sr, hq.step (hd_ne h3 (by decide)) rfl⟩
            · omega
          · omega
      refine TW.br rfl rfl (by first | omega | exact b2i_R _ | exact ⟨b2i_R _, by omega⟩) (fun h3 => ?_) (fun h3 => ?_)
      · (repeat (first | (refine TW.getf rfl rfl rfl (fun _ => ?_)) | (refine TW.pl rfl rfl ?_)))
        refine TW.cv0 rfl rfl rfl (Nat.le_of_ble_eq_true rfl) (T_c hq) ?_; rintro _ _ ⟨rfl, rfl⟩
        (repeat (first | (refine TW.getf rfl rfl rfl (fun _ => ?_)) | (refine TW.pl rfl rfl ?_)))
        refine TW.br rfl rfl (by first | omega | exact b2i_R _ | exact ⟨b2i_R _, by omega⟩) (fun h4 => ?_) (fun h4 => ?_)
        · exact absurd (Or.inr (Or.inl h4)) hstop
        (repeat (first | (refine TW.getf rfl rfl rfl (fun _ => ?_)) | (refine TW.pl rfl rfl ?_)))
        refine TW.br rfl rfl (by first | omega | exact b2i_R _ | exact ⟨b2i_R _, by omega⟩) (fun h5 => ?_) (fun h5 => ?_)
        rotate_left
        · exfalso
          refine hstop (Or.inr (Or.inr (List.length_eq_zero_iff.mp ?_)))
          omega
        (repeat (first | (refine TW.getf rfl rfl rfl (fun _ => ?_)) | (refine TW.pl rfl rfl ?_)))
        refine TW.br rfl rfl (by first | omega | exact b2i_R _ | exact ⟨b2i_R _, by omega⟩) (fun h6 => ?_) (fun h6 => ?_)
        · (repeat (first | (refine TW.getf rfl rfl rfl (fun _ => ?_)) | (refine TW.pl rfl rfl ?_)))
          refine TW.cv0 rfl rfl rfl (Nat.le_of_ble_eq_true rfl) (T_item hq) ?_
          rintro _ υ1 ⟨rfl, q1⟩
          (iterate 4 (first | (refine TW.getf rfl rfl rfl (fun _ => ?_)) | (refine TW.pl rfl rfl ?_)))
          have e : pItems c (k + 1) cl sr acc q = match pItem cl sr q with
            | .inl f => .inl f
            | .inr (l1, c1, s1, ps) => pItems c k c1 s1 (acc ++ ps) l1 := by
            conv => lhs; unfold pItems
            rw [if_neg hstop]
            rfl
          rw [e]
          revert q1
          cases hi : pItem cl sr q with
          | inl f => exact fun q1 => back _ _ _ true q1
          | inr v =>
            obtain ⟨l1, c1, s1, ps⟩ := v
            exact fun q1 => ih _ l1 c1 s1 _ true _ (by omega) q1 (by rw [decide_eq_true (show acc ++ ps ≠ [] from fun w => pItem_ne hi (List.append_eq_nil_iff.mp w).2), Bool.or_true])
        · omega
      · exact absurd (Or.inl h3) hstop
  (repeat (first | (refine TW.getf rfl rfl rfl (fun _ => ?_)) | (refine TW.pl rfl rfl ?_)))
  refine TW.br rfl rfl (by first | omega | exact b2i_R _ | exact ⟨b2i_R _, by omega⟩) (fun h1 => ?_) (fun h1 => ?_)
  · omega
  (repeat (first | (refine TW.getf rfl rfl rfl (fun _ => ?_)) | (refine TW.pl rfl rfl ?_)))
  refine TW.br rfl rfl (by first | omega | exact b2i_R _ | exact ⟨b2i_R _, by omega⟩) (fun h2 => ?_) (fun h2 => ?_)
  · omega
  (repeat (first | (refine TW.getf rfl rfl rfl (fun _ => ?_)) | (refine TW.pl rfl rfl ?_)))
  refine TW.cv0 rfl rfl rfl (Nat.le_of_ble_eq_true rfl) (T_c h) ?_; rintro _ _ ⟨rfl, rfl⟩
  (repeat (first | (refine TW.getf rfl rfl rfl (fun _ => ?_)) | (refine TW.pl rfl rfl ?_)))
  refine TW.br rfl rfl (by first | omega | exact b2i_R _ | exact ⟨b2i_R _, by omega⟩) (fun h3 => ?_) (fun h3 => ?_)
  · rw [decide_eq_false h3, if_neg (by decide)]
    exact loop false 12 0 _ 0 0 [] false _ (by decide) h rfl
  · rw [decide_eq_true h3, if_pos rfl]
    (repeat (first | (refine TW.getf rfl rfl rfl (fun _ => ?_)) | (refine TW.pl rfl rfl ?_)))
    refine TW.putf rfl rfl (by omega) ?_
    (iterate 2 (first | (refine TW.getf rfl rfl rfl (fun _ => ?_)) | (refine TW.pl rfl rfl ?_)))
    exact loop true 12 0 _ 0 0 [] true _ (by decide) (h.step (hd_ne h3 (by decide)) rfl) rfl
end TPat
