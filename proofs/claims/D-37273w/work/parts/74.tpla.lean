set_option maxRecDepth 100000
/-! the twin reads z and every plain act -/
def pTurE (n : Nat) (q : List Int) : PR Unit := if ((q.take n).takeWhile isChr).length < n then .inl (q.drop ((q.take n).takeWhile isChr).length) else if hd (q.drop n) = 47 then .inr ((q.drop n).tail, ()) else .inl (q.drop n)
section TPla
variable {d : Nat} {σ σ0 : TS} {s l f : List Int} {fs : List Nat} {gr st : Nat} {m : Int}
theorem pTurE_0 {q : List Int} : pTurE 0 q = if hd q = 47 then .inr (q.tail, ()) else .inl q := by unfold pTurE; simp
theorem pTurE_no {n : Nat} {q : List Int} (h : isChr (hd q) = false) : pTurE (n + 1) q = .inl q := by
  unfold pTurE
  cases q with
  | nil => simp
  | cons c r =>
    have h : isChr c = false := h
    simp [h]
theorem pTurE_yes {n : Nat} {q : List Int} (h : isChr (hd q) = true) : pTurE (n + 1) q = pTurE n q.tail := by
  unfold pTurE
  cases q with
  | nil => cases h
  | cons c r =>
    have h : isChr c = true := h
    simp [h]
theorem PG.setP (h : PG fs σ0 s m gr st l σ) {v : Int} {l' : List Int} (hv : Sfx s l' v) : PG fs σ0 s m gr st l' (ts1 σ 23 v) := ⟨h.1.ts1 (by decide) (by decide), by unfold At; rw [ts1_eq]; exact hv, by rw [ts1_ne (by decide)]; exact h.2.2.1, by rw [ts1_ne (by decide)]; exact h.2.2.2.1, by rw [ts1_ne (by decide)]; exact h.2.2.2.2⟩
theorem PB.pR (h : PB fs σ0 s m f σ) : 0 ≤ (σ.1 23) ∧ (σ.1 23) ≤ 60 := by
  obtain ⟨l, ha⟩ := h.2.1
  have := ha.len
  have := h.1.2.2.2.1
  omega
theorem T_turning (h : PGx fs σ0 s l σ) : TM (d + 4) tk_turning [.inr 0] σ (PY fs σ0 s (rs (pTurn l))) := by
  obtain ⟨gr, st, h⟩ := h
  refine TM.of rfl rfl ?_
  have fin48 : ∀ (υ : TS) (f : List Int) (x y z : Option TV), PB fs σ0 s 4 f υ → TW (d + 3) tc_turning 48 [some (.inr 0), x, y, z] [] υ (PY fs σ0 s (.inl f)) := by
    intro υ f x y z hb
    (repeat (first | (refine TW.getf rfl rfl rfl (fun _ => ?_)) | (refine TW.pl rfl rfl ?_)))
    refine TW.cv1 rfl rfl rfl (Nat.le_of_ble_eq_true rfl) (T_takeB hb (by decide)) ?_
    rintro _ υ1 ⟨rfl, hb1⟩
    exact TW.vret rfl (PY.bad hb1 (by decide) rfl)
  have fin35 : ∀ (υ : TS) (f : List Int) (x : Option TV) (y z : Int), inR y → inR z → PB fs σ0 s 4 f υ → TW (d + 3) tc_turning 35 [some (.inr 0), x, some (.inl y), some (.inl z)] [] υ (PY fs σ0 s (.inl f)) := by
    intro υ f x y z hy hz hb
    have := hb.bad0
    (repeat (first | (refine TW.getf rfl rfl rfl (fun _ => ?_)) | (refine TW.pl rfl rfl ?_)))
    refine TW.br rfl rfl (by first | omega | exact b2i_R _ | exact ⟨b2i_R _, by omega⟩) (fun h1 => ?_) (fun h1 => ?_)
    · exact fin48 _ _ _ _ _ hb
    · (repeat (first | (refine TW.getf rfl rfl rfl (fun _ => ?_)) | (refine TW.pl rfl rfl ?_)))
      refine TW.br rfl rfl (by first | omega | exact b2i_R _ | exact ⟨b2i_R _, by omega⟩) (fun h2 => ?_) (fun h2 => ?_)
      · exact fin48 _ _ _ _ _ hb
      · omega
  have fin25 : ∀ (υ : TS) (f : List Int) (x : Int) (y z : Option TV), 0 ≤ x ∧ x ≤ 60 → PB fs σ0 s 4 f υ → TW (d + 3) tc_turning 25 [some (.inr 0), some (.inl x), y, z] [] υ (PY fs σ0 s (.inl f)) := by
    intro υ f x y z hx hb
    have := hb.pR
    (repeat (first | (refine TW.getf rfl rfl rfl (fun _ => ?_)) | (refine TW.pl rfl rfl ?_)))
    refine TW.cv1 rfl rfl rfl (Nat.le_of_ble_eq_true rfl) (T_takeB hb (by decide)) ?_
    rintro _ υ1 ⟨rfl, hb1⟩
    (iterate 2 (first | (refine TW.getf rfl rfl rfl (fun _ => ?_)) | (refine TW.pl rfl rfl ?_)))
    exact fin35 _ _ _ _ _ (by omega) (by decide) hb1
  have fin11 : ∀ (υ : TS) (f : List Int) (x : Int) (y z : Option TV), 0 ≤ x ∧ x ≤ 60 → PB fs σ0 s 4 f υ → TW (d + 3) tc_turning 11 [some (.inr 0), some (.inl x), y, z] [] υ (PY fs σ0 s (.inl f)) := by
    intro υ f x y z hx hb
    have := hb.bad0
    (repeat (first | (refine TW.getf rfl rfl rfl (fun _ => ?_)) | (refine TW.pl rfl rfl ?_)))
    refine TW.br rfl rfl (by first | omega | exact b2i_R _ | exact ⟨b2i_R _, by omega⟩) (fun h1 => ?_) (fun h1 => ?_)
    · exact fin25 _ _ _ _ _ hx hb
    · omega
  unfold pTurn
  (repeat (first | (refine TW.getf rfl rfl rfl (fun _ => ?_)) | (refine TW.pl rfl rfl ?_)))
  refine TW.cv1 rfl rfl rfl (Nat.le_of_ble_eq_true rfl) (T_take h (by decide)) ?_
  rintro _ τ ⟨rfl, p1, p2⟩
  by_cases h1 : hd l = 47
  · rw [if_pos h1]
    dsimp only
    have hp := p1 h1
    have hpR := hp.hdR
    (repeat (first | (refine TW.getf rfl rfl rfl (fun _ => ?_)) | (refine TW.pl rfl rfl ?_)))
    refine TW.cv0 rfl rfl rfl (Nat.le_of_ble_eq_true rfl) (T_c hp) ?_; rintro _ _ ⟨rfl, rfl⟩
    refine TW.cs1 rfl rfl rfl (Nat.le_of_ble_eq_true rfl) (T_isChar (by omega)) ?_; rintro _ _ ⟨rfl, rfl⟩
    refine TW.cv1 rfl rfl rfl (Nat.le_of_ble_eq_true rfl) (T_takeIf hp hd_chr) ?_
    rintro _ τ1 ⟨rfl, q1, q2⟩
    cases hc : isChr (hd l.tail) with
    | false =>
      rw [if_pos (dropWhile_stop hc).2]
      exact fin11 _ _ _ _ _ (by omega) (q2 hc)
    | true =>
      have hdt := dropWhile_tail hc
      rw [if_neg (by rw [hdt.2]; simp)]
      have hlen : (l.tail.takeWhile isChr).length + (l.tail.dropWhile isChr).length = l.tail.length := by
        rw [← List.length_append, List.takeWhile_append_dropWhile]
      generalize l.tail.takeWhile isChr = a at hlen ⊢
      have loop2 : ∀ (n : Nat) (q : List Int) (x : Int) (υ : TS), 0 ≤ x ∧ x + n = a.length → PG fs σ0 s 4 gr st q υ → TW (d + 3) tc_turning 35 [some (.inr 0), some (.inl (τ.1 23)), some (.inl (a.length : Int)), some (.inl x)] [] υ (PY fs σ0 s (pTurE n q)) := by
        intro n
        induction n with
        | zero =>
          intro q x υ hx hq
          rw [pTurE_0]
          (repeat (first | (refine TW.getf rfl rfl rfl (fun _ => ?_)) | (refine TW.pl rfl rfl ?_)))
          refine TW.br rfl rfl (by first | omega | exact b2i_R _ | exact ⟨b2i_R _, by omega⟩) (fun h3 => ?_) (fun h3 => ?_)
          · (repeat (first | (refine TW.getf rfl rfl rfl (fun _ => ?_)) | (refine TW.pl rfl rfl ?_)))
            refine TW.cv1 rfl rfl rfl (Nat.le_of_ble_eq_true rfl) (T_take hq (by decide)) ?_
            rintro _ υ1 ⟨rfl, r1, r2⟩
            refine TW.vret rfl ?_
            by_cases h4 : hd q = 47
            · rw [if_pos h4]
              exact PY.good (r1 h4) (by decide) rfl
            · rw [if_neg h4]
              exact PY.bad (r2 h4) (by decide) rfl
          · omega
        | succ n ih =>
          intro q x υ hx hq
          have hb := hq.2.2.1
          have hdq := hq.hdR
          (repeat (first | (refine TW.getf rfl rfl rfl (fun _ => ?_)) | (refine TW.pl rfl rfl ?_)))
          refine TW.br rfl rfl (by first | omega | exact b2i_R _ | exact ⟨b2i_R _, by omega⟩) (fun h3 => ?_) (fun h3 => ?_)
          · omega
          (repeat (first | (refine TW.getf rfl rfl rfl (fun _ => ?_)) | (refine TW.pl rfl rfl ?_)))
          refine TW.br rfl rfl (by first | omega | exact b2i_R _ | exact ⟨b2i_R _, by omega⟩) (fun h4 => ?_) (fun h4 => ?_)
          · omega
          (repeat (first | (refine TW.getf rfl rfl rfl (fun _ => ?_)) | (refine TW.pl rfl rfl ?_)))
          refine TW.cv0 rfl rfl rfl (Nat.le_of_ble_eq_true rfl) (T_c hq) ?_; rintro _ _ ⟨rfl, rfl⟩
          refine TW.cs1 rfl rfl rfl (Nat.le_of_ble_eq_true rfl) (T_isChar (by omega)) ?_; rintro _ _ ⟨rfl, rfl⟩
          refine TW.cv1 rfl rfl rfl (Nat.le_of_ble_eq_true rfl) (T_takeIf hq hd_chr) ?_
          rintro _ υ1 ⟨rfl, r1, r2⟩
          (iterate 2 (first | (refine TW.getf rfl rfl rfl (fun _ => ?_)) | (refine TW.pl rfl rfl ?_)))
          cases hc : isChr (hd q) with
          | true =>
            rw [pTurE_yes hc]
            exact ih _ _ _ (by omega) (r1 hc)
          | false =>
            rw [pTurE_no hc]
            exact fin35 _ _ _ _ _ (by omega) (by omega) (r2 hc)
      have go25 : ∀ (r : List Int) (υ : TS) (y z : Option TV), a.length + r.length = l.tail.length → PG fs σ0 s 4 gr st r υ → TW (d + 3) tc_turning 25 [some (.inr 0), some (.inl (τ.1 23)), y, z] [] υ (PY fs σ0 s (rs (if hd r = 47 then (if ((r.tail.take a.length).takeWhile isChr).length < a.length then .inl (r.tail.drop ((r.tail.take a.length).takeWhile isChr).length) else if hd (r.tail.drop a.length) = 47 then .inr ((r.tail.drop a.length).tail, a, (r.tail.take a.length).takeWhile isChr) else .inl (r.tail.drop a.length)) else .inl r : PR (List Int × List Int)))) := by
        intro r υ y z hl2 hr
        have hdq := hr.hdR
        (repeat (first | (refine TW.getf rfl rfl rfl (fun _ => ?_)) | (refine TW.pl rfl rfl ?_)))
        have hsz : υ.1 23 - τ.1 23 = (a.length : Int) := by omega
        rw [hsz]
        refine TW.cv1 rfl rfl rfl (Nat.le_of_ble_eq_true rfl) (T_take hr (by decide)) ?_
        rintro _ υ1 ⟨rfl, r1, r2⟩
        (iterate 2 (first | (refine TW.getf rfl rfl rfl (fun _ => ?_)) | (refine TW.pl rfl rfl ?_)))
        by_cases h4 : hd r = 47
        · rw [if_pos h4]
          have L := loop2 a.length r.tail 0 υ1 (by omega) (r1 h4)
          have e : rs (if ((r.tail.take a.length).takeWhile isChr).length < a.length then .inl (r.tail.drop ((r.tail.take a.length).takeWhile isChr).length) else if hd (r.tail.drop a.length) = 47 then .inr ((r.tail.drop a.length).tail, a, (r.tail.take a.length).takeWhile isChr) else .inl (r.tail.drop a.length) : PR (List Int × List Int)) = pTurE a.length r.tail := by
            unfold pTurE rs
            split
            · rename_i hh; split at hh
              · rename_i h5; cases hh; rw [if_pos h5]
              · rename_i h5
                split at hh
                · cases hh
                · rename_i h6; cases hh; rw [if_neg h5, if_neg h6]
            · rename_i hh; split at hh
              · cases hh
              · rename_i h5
                split at hh
                · rename_i h6; cases hh; rw [if_neg h5, if_pos h6]
                · cases hh
          rw [e]
          exact L
        · rw [if_neg h4]
          exact fin35 _ _ _ _ _ (by omega) (by decide) (r2 h4)
      have loop1 : ∀ (n : Nat) (q : List Int) (υ : TS) (y z : Option TV), q.length ≤ n → PG fs σ0 s 4 gr st q υ → q.dropWhile isChr = l.tail.dropWhile isChr → TW (d + 3) tc_turning 11 [some (.inr 0), some (.inl (τ.1 23)), y, z] [] υ (PY fs σ0 s (rs (if hd (l.tail.dropWhile isChr) = 47 then (if (((l.tail.dropWhile isChr).tail.take a.length).takeWhile isChr).length < a.length then .inl ((l.tail.dropWhile isChr).tail.drop (((l.tail.dropWhile isChr).tail.take a.length).takeWhile isChr).length) else if hd ((l.tail.dropWhile isChr).tail.drop a.length) = 47 then .inr (((l.tail.dropWhile isChr).tail.drop a.length).tail, a, ((l.tail.dropWhile isChr).tail.take a.length).takeWhile isChr) else .inl ((l.tail.dropWhile isChr).tail.drop a.length)) else .inl (l.tail.dropWhile isChr) : PR (List Int × List Int)))) := by
        intro n
        induction n with
        | zero =>
          intro q υ y z hn hq hdw
          have hb := hq.2.2.1
          have hdq := hq.hdR
          have hq0 : q = [] := List.length_eq_zero_iff.mp (by omega)
          subst hq0
          (repeat (first | (refine TW.getf rfl rfl rfl (fun _ => ?_)) | (refine TW.pl rfl rfl ?_)))
          refine TW.br rfl rfl (by first | omega | exact b2i_R _ | exact ⟨b2i_R _, by omega⟩) (fun h3 => ?_) (fun h3 => ?_)
          · omega
          (repeat (first | (refine TW.getf rfl rfl rfl (fun _ => ?_)) | (refine TW.pl rfl rfl ?_)))
          refine TW.cv0 rfl rfl rfl (Nat.le_of_ble_eq_true rfl) (T_c hq) ?_; rintro _ _ ⟨rfl, rfl⟩
          refine TW.cs1 rfl rfl rfl (Nat.le_of_ble_eq_true rfl) (T_isChar (by omega)) ?_; rintro _ _ ⟨rfl, rfl⟩
          refine TW.br rfl rfl (by first | omega | exact b2i_R _ | exact ⟨b2i_R _, by omega⟩) (fun h4 => ?_) (fun h4 => ?_)
          · refine go25 _ υ y z hlen ?_
            rw [← hdw]
            exact hq
          · exact absurd rfl h4
        | succ n ih =>
          intro q υ y z hn hq hdw
          have hb := hq.2.2.1
          have hdq := hq.hdR
          (repeat (first | (refine TW.getf rfl rfl rfl (fun _ => ?_)) | (refine TW.pl rfl rfl ?_)))
          refine TW.br rfl rfl (by first | omega | exact b2i_R _ | exact ⟨b2i_R _, by omega⟩) (fun h3 => ?_) (fun h3 => ?_)
          · omega
          (repeat (first | (refine TW.getf rfl rfl rfl (fun _ => ?_)) | (refine TW.pl rfl rfl ?_)))
          refine TW.cv0 rfl rfl rfl (Nat.le_of_ble_eq_true rfl) (T_c hq) ?_; rintro _ _ ⟨rfl, rfl⟩
          refine TW.cs1 rfl rfl rfl (Nat.le_of_ble_eq_true rfl) (T_isChar (by omega)) ?_; rintro _ _ ⟨rfl, rfl⟩
          refine TW.br rfl rfl (by first | omega | exact b2i_R _ | exact ⟨b2i_R _, by omega⟩) (fun h4 => ?_) (fun h4 => ?_)
          · refine go25 _ υ y z hlen ?_
            rw [← hdw, (dropWhile_stop (b2i_0 h4)).1]
            exact hq
          · have h5 := b2i_1 h4
            have hll := List.length_pos_iff.mpr (hd_chr h5)
            (repeat (first | (refine TW.getf rfl rfl rfl (fun _ => ?_)) | (refine TW.pl rfl rfl ?_)))
            refine TW.putf rfl rfl (by omega) ?_
            (iterate 1 (first | (refine TW.getf rfl rfl rfl (fun _ => ?_)) | (refine TW.pl rfl rfl ?_)))
            exact ih q.tail _ _ _ (by simp; omega) (hq.step (hd_chr h5) rfl) (by rw [(dropWhile_tail h5).1]; exact hdw)
      exact loop1 l.tail.tail.length l.tail.tail τ1 _ _ (Nat.le_refl _) (q1 hc) hdt.1
  · rw [if_neg h1]
    have hb := p2 h1
    have hpR := hb.pR
    obtain ⟨l9, ha9⟩ := hb.2.1
    have hd9 := hb.1.2.2.hdR ha9
    (repeat (first | (refine TW.getf rfl rfl rfl (fun _ => ?_)) | (refine TW.pl rfl rfl ?_)))
    refine TW.cv0 rfl rfl rfl (Nat.le_of_ble_eq_true rfl) (T_c' hb.1.2.2 ha9) ?_; rintro _ _ ⟨rfl, rfl⟩
    refine TW.cs1 rfl rfl rfl (Nat.le_of_ble_eq_true rfl) (T_isChar (by omega)) ?_; rintro _ _ ⟨rfl, rfl⟩
    refine TW.cv1 rfl rfl rfl (Nat.le_of_ble_eq_true rfl) (T_takeIfB hb) ?_
    rintro _ τ1 ⟨rfl, hb1⟩
    exact fin11 _ _ _ _ _ (by omega) hb1
end TPla
