set_option maxRecDepth 100000
/-! the twin's public methods that look -/
section TPV
variable {d k : Nat} {σ τ υ : TS} {s tp ys : List Int} {A : St} {os : List SOrd} {ds : List SDeed} {fs as : List Nat} {w : PW} {x z v y : Int} {P : PA} {rows : List (List Int)} {sc : Nat → Option (List Int)} {b : Bool}
theorem b2i_t : b2i true = 1 := rfl
theorem b2i_f : b2i false = 0 := rfl
/-- a row's sign is asked for: whether it is there -/
theorem T_isPlace {row : Nat} (hb : b = true → RowIs σ row ys ∧ row < 868) (hv : b = true → v = row) (hz : inR z) : TM (d + 2) tk_isPlace [.inr 0, .inl (b2i b), .inl v, .inl z] σ (fun r τ => r = some (b2i (b && decide (0 ≤ z ∧ z < (ys.length : Int)))) ∧ τ = ts1 σ 0 (if (b && decide (0 ≤ z ∧ z < (ys.length : Int))) = true then 0 else 1)) := by
  have fin : ∀ c : Bool, c = (b && decide (0 ≤ z ∧ z < (ys.length : Int))) → TW (d + 1) tc_isPlace 12 [some (.inr 0), some (.inl (b2i b)), some (.inl v), some (.inl z), none] [.inl (b2i c)] σ (fun r τ => r = some (b2i (b && decide (0 ≤ z ∧ z < (ys.length : Int)))) ∧ τ = ts1 σ 0 (if (b && decide (0 ≤ z ∧ z < (ys.length : Int))) = true then 0 else 1)) := fun c hc => by
    rw [← hc]
    cases c with
    | false =>
      (repeat (first | (refine TW.getf rfl rfl rfl (fun _ => ?_)) | (refine TW.pl rfl rfl ?_)))
      refine TW.br rfl rfl (by first | omega | exact b2i_R _ | exact ⟨b2i_R _, by omega⟩) (fun q => ?_) (fun q => by first | (exfalso; omega) | exact absurd q (by decide))
      (repeat (first | (refine TW.getf rfl rfl rfl (fun _ => ?_)) | (refine TW.pl rfl rfl ?_)))
      refine TW.putf rfl rfl (by decide) ?_
      (repeat (first | (refine TW.getf rfl rfl rfl (fun _ => ?_)) | (refine TW.pl rfl rfl ?_)))
      exact TW.zret rfl (Or.inl rfl) ⟨rfl, rfl⟩
    | true =>
      (repeat (first | (refine TW.getf rfl rfl rfl (fun _ => ?_)) | (refine TW.pl rfl rfl ?_)))
      refine TW.br rfl rfl (by first | omega | exact b2i_R _ | exact ⟨b2i_R _, by omega⟩) (fun q => by first | (exfalso; omega) | exact absurd q (by decide)) (fun q => ?_)
      (repeat (first | (refine TW.getf rfl rfl rfl (fun _ => ?_)) | (refine TW.pl rfl rfl ?_)))
      refine TW.putf rfl rfl (by decide) ?_
      (repeat (first | (refine TW.getf rfl rfl rfl (fun _ => ?_)) | (refine TW.pl rfl rfl ?_)))
      exact TW.zret rfl (Or.inr rfl) ⟨rfl, rfl⟩
  refine TM.of rfl rfl ?_
  cases hbb : b with
  | false =>
    rw [hbb] at fin
    (repeat (first | (refine TW.getf rfl rfl rfl (fun _ => ?_)) | (refine TW.pl rfl rfl ?_)))
    refine TW.br rfl rfl (by first | omega | exact b2i_R _ | exact ⟨b2i_R _, by omega⟩) (fun q => ?_) (fun q => by first | (exfalso; omega) | exact absurd q (by decide))
    (iterate 1 (first | (refine TW.getf rfl rfl rfl (fun _ => ?_)) | (refine TW.pl rfl rfl ?_)))
    exact fin false rfl
  | true =>
    rw [hbb] at fin
    obtain ⟨hr, hrow⟩ := hb hbb
    have hv := hv hbb
    (repeat (first | (refine TW.getf rfl rfl rfl (fun _ => ?_)) | (refine TW.pl rfl rfl ?_)))
    refine TW.br rfl rfl (by first | omega | exact b2i_R _ | exact ⟨b2i_R _, by omega⟩) (fun q => by first | (exfalso; omega) | exact absurd q (by decide)) (fun q => ?_)
    (repeat (first | (refine TW.getf rfl rfl rfl (fun _ => ?_)) | (refine TW.pl rfl rfl ?_)))
    by_cases h1 : z < 0
    · refine TW.br rfl rfl (by first | omega | exact b2i_R _ | exact ⟨b2i_R _, by omega⟩) (fun q2 => ?_) (fun q2 => by first | (exfalso; omega) | exact absurd q2 (by decide))
      (iterate 1 (first | (refine TW.getf rfl rfl rfl (fun _ => ?_)) | (refine TW.pl rfl rfl ?_)))
      exact fin false (by rw [decide_eq_false (by omega)]; rfl)
    refine TW.br rfl rfl (by first | omega | exact b2i_R _ | exact ⟨b2i_R _, by omega⟩) (fun q2 => by first | (exfalso; omega) | exact absurd q2 (by decide)) (fun q2 => ?_)
    (repeat (first | (refine TW.getf rfl rfl rfl (fun _ => ?_)) | (refine TW.pl rfl rfl ?_)))
    have hl30 := hr.2.1
    refine TW.cv1 rfl rfl rfl (Nat.le_of_ble_eq_true rfl) (T_lenR (d := d) hr hv hrow) ?_; rintro _ _ ⟨rfl, rfl⟩
    by_cases h2 : z < ys.length
    · refine TW.br rfl rfl (by first | omega | exact b2i_R _ | exact ⟨b2i_R _, by omega⟩) (fun q3 => by first | (exfalso; omega) | exact absurd q3 (by decide)) (fun q3 => ?_)
      (iterate 2 (first | (refine TW.getf rfl rfl rfl (fun _ => ?_)) | (refine TW.pl rfl rfl ?_)))
      exact fin true (by rw [decide_eq_true (by omega)]; rfl)
    · refine TW.br rfl rfl (by first | omega | exact b2i_R _ | exact ⟨b2i_R _, by omega⟩) (fun q3 => ?_) (fun q3 => by first | (exfalso; omega) | exact absurd q3 (by decide))
      (iterate 1 (first | (refine TW.getf rfl rfl rfl (fun _ => ?_)) | (refine TW.pl rfl rfl ?_)))
      exact fin false (by rw [decide_eq_false (by omega)]; rfl)
theorem T_lengthOf {row : Nat} (hb : b = true → RowIs σ row ys ∧ row < 868) (hv : b = true → v = row) : TM (d + 2) tk_lengthOf [.inr 0, .inl (b2i b), .inl v] σ (fun r τ => r = some (if b = true then (ys.length : Int) else 0) ∧ τ = ts1 σ 0 (if b = true then 0 else 1)) := by
  refine TM.of rfl rfl ?_
  cases hbb : b with
  | false =>
    (repeat (first | (refine TW.getf rfl rfl rfl (fun _ => ?_)) | (refine TW.pl rfl rfl ?_)))
    refine TW.br rfl rfl (by first | omega | exact b2i_R _ | exact ⟨b2i_R _, by omega⟩) (fun q => ?_) (fun q => by first | (exfalso; omega) | exact absurd q (by decide))
    (repeat (first | (refine TW.getf rfl rfl rfl (fun _ => ?_)) | (refine TW.pl rfl rfl ?_)))
    refine TW.putf rfl rfl (by decide) ?_
    (repeat (first | (refine TW.getf rfl rfl rfl (fun _ => ?_)) | (refine TW.pl rfl rfl ?_)))
    refine TW.br rfl rfl (by first | omega | exact b2i_R _ | exact ⟨b2i_R _, by omega⟩) (fun q2 => ?_) (fun q2 => by first | (exfalso; omega) | exact absurd q2 (by decide))
    (repeat (first | (refine TW.getf rfl rfl rfl (fun _ => ?_)) | (refine TW.pl rfl rfl ?_)))
    exact TW.iret rfl ⟨rfl, rfl⟩
  | true =>
    obtain ⟨hr, hrow⟩ := hb hbb
    have hv := hv hbb
    (repeat (first | (refine TW.getf rfl rfl rfl (fun _ => ?_)) | (refine TW.pl rfl rfl ?_)))
    refine TW.br rfl rfl (by first | omega | exact b2i_R _ | exact ⟨b2i_R _, by omega⟩) (fun q => by first | (exfalso; omega) | exact absurd q (by decide)) (fun q => ?_)
    (repeat (first | (refine TW.getf rfl rfl rfl (fun _ => ?_)) | (refine TW.pl rfl rfl ?_)))
    refine TW.putf rfl rfl (by decide) ?_
    (repeat (first | (refine TW.getf rfl rfl rfl (fun _ => ?_)) | (refine TW.pl rfl rfl ?_)))
    refine TW.br rfl rfl (by first | omega | exact b2i_R _ | exact ⟨b2i_R _, by omega⟩) (fun q2 => by first | (exfalso; omega) | exact absurd q2 (by decide)) (fun q2 => ?_)
    (repeat (first | (refine TW.getf rfl rfl rfl (fun _ => ?_)) | (refine TW.pl rfl rfl ?_)))
    have hr2 : RowIs (ts1 σ 0 0) row ys := hr
    refine TW.cv1 rfl rfl rfl (Nat.le_of_ble_eq_true rfl) (T_lenR (d := d) hr2 hv hrow) ?_; rintro _ _ ⟨rfl, rfl⟩
    (repeat (first | (refine TW.getf rfl rfl rfl (fun _ => ?_)) | (refine TW.pl rfl rfl ?_)))
    exact TW.iret rfl ⟨rfl, rfl⟩
theorem TwI.row (h : TwI w σ) (hk : k < w.2.2.1.1.length) : RowIs σ k (rowAt w.2.2.1.1 k) ∧ k < 868 := ⟨(h.2.2.1.1.2.2 k hk).1, by have := h.2.2.1.1.2.1; omega⟩
theorem TwI.id (h : TwI w σ) (hk : k < w.2.2.1.1.length) : (σ.2 7 (k)) = idAt w.2.2.1.1 k := (h.2.2.1.1.2.2 k hk).2
theorem isNr_lt {n : Nat} (h : isNr x n = true) : ∃ k : Nat, x = (k : Int) + 1 ∧ k < n ∧ (x - 1).toNat = k := by
  have := isNr_t.mp h
  exact ⟨(x - 1).toNat, by omega, by omega, rfl⟩
theorem T_length (h : TwI w σ) (hx : inR x) : TM (d + 2) tk_length [.inr 0, .inl x] σ (TwQ (pLength x w)) := by
  refine TM.of rfl rfl ?_
  (repeat (first | (refine TW.getf rfl rfl rfl (fun _ => ?_)) | (refine TW.pl rfl rfl ?_)))
  refine TW.cv1 rfl rfl rfl (Nat.le_of_ble_eq_true rfl) (T_isLine9 (d := d) hx h.2.2.1.1.1) ?_; rintro _ _ ⟨rfl, rfl⟩
  cases hl : isNr x w.2.2.1.1.length with
  | false =>
    have e : pLength x w = (.inl 1, w) := by unfold pLength; rw [if_pos hl]
    refine TW.br rfl rfl (by first | omega | exact b2i_R _ | exact ⟨b2i_R _, by omega⟩) (fun q => ?_) (fun q => by first | (exfalso; omega) | exact absurd q (by decide))
    (repeat (first | (refine TW.getf rfl rfl rfl (fun _ => ?_)) | (refine TW.pl rfl rfl ?_)))
    refine TW.putf rfl rfl (by omega) ?_
    (repeat (first | (refine TW.getf rfl rfl rfl (fun _ => ?_)) | (refine TW.pl rfl rfl ?_)))
    rw [ts1_eq]
    refine TW.br rfl rfl (by first | omega | exact b2i_R _ | exact ⟨b2i_R _, by omega⟩) (fun q2 => by first | (exfalso; omega) | exact absurd q2 (by decide)) (fun q2 => ?_)
    (repeat (first | (refine TW.getf rfl rfl rfl (fun _ => ?_)) | (refine TW.pl rfl rfl ?_)))
    exact TW.iret rfl (TwQ.no (k := 1) (by rw [e]; exact h.thr) ts1_eq (by rw [e]))
  | true =>
    have e : pLength x w = (.inr ((rowAt w.2.2.1.1 (x - 1).toNat).length : Int), w) := by unfold pLength; rw [if_neg (by rw [hl]; decide)]
    obtain ⟨k, hk1, hk2, hk3⟩ := isNr_lt hl
    have h40 := h.2.2.1.1.2.1
    refine TW.br rfl rfl (by first | omega | exact b2i_R _ | exact ⟨b2i_R _, by omega⟩) (fun q => by first | (exfalso; omega) | exact absurd q (by decide)) (fun q => ?_)
    (repeat (first | (refine TW.getf rfl rfl rfl (fun _ => ?_)) | (refine TW.pl rfl rfl ?_)))
    refine TW.putf rfl rfl (by omega) ?_
    (repeat (first | (refine TW.getf rfl rfl rfl (fun _ => ?_)) | (refine TW.pl rfl rfl ?_)))
    rw [ts1_eq]
    refine TW.br rfl rfl (by first | omega | exact b2i_R _ | exact ⟨b2i_R _, by omega⟩) (fun q2 => ?_) (fun q2 => by first | (exfalso; omega) | exact absurd q2 (by decide))
    (repeat (first | (refine TW.getf rfl rfl rfl (fun _ => ?_)) | (refine TW.pl rfl rfl ?_)))
    refine TW.cs1 rfl rfl rfl (Nat.le_of_ble_eq_true rfl) (T_textRow (d := d) hk1 (by omega)) ?_; rintro _ _ ⟨rfl, rfl⟩
    have hr : RowIs (ts1 σ 0 0) k (rowAt w.2.2.1.1 k) := (h.row hk2).1
    refine TW.cv1 rfl rfl rfl (Nat.le_of_ble_eq_true rfl) (T_lenR (d := d) hr rfl (h.row hk2).2) ?_; rintro _ _ ⟨rfl, rfl⟩
    rw [← hk3]
    exact TW.iret rfl (TwQ.ok (by rw [e]; exact h.thr) ts1_eq (by rw [e]))
theorem T_id (h : TwI w σ) (hx : inR x) : TM (d + 2) tk_id [.inr 0, .inl x] σ (TwQ (pId x w)) := by
  refine TM.of rfl rfl ?_
  (repeat (first | (refine TW.getf rfl rfl rfl (fun _ => ?_)) | (refine TW.pl rfl rfl ?_)))
  refine TW.cv1 rfl rfl rfl (Nat.le_of_ble_eq_true rfl) (T_isLine9 (d := d) hx h.2.2.1.1.1) ?_; rintro _ _ ⟨rfl, rfl⟩
  cases hl : isNr x w.2.2.1.1.length with
  | false =>
    have e : pId x w = (.inl 1, w) := by unfold pId; rw [if_pos hl]
    refine TW.br rfl rfl (by first | omega | exact b2i_R _ | exact ⟨b2i_R _, by omega⟩) (fun q => ?_) (fun q => by first | (exfalso; omega) | exact absurd q (by decide))
    (repeat (first | (refine TW.getf rfl rfl rfl (fun _ => ?_)) | (refine TW.pl rfl rfl ?_)))
    refine TW.putf rfl rfl (by omega) ?_
    (repeat (first | (refine TW.getf rfl rfl rfl (fun _ => ?_)) | (refine TW.pl rfl rfl ?_)))
    rw [ts1_eq]
    refine TW.br rfl rfl (by first | omega | exact b2i_R _ | exact ⟨b2i_R _, by omega⟩) (fun q2 => by first | (exfalso; omega) | exact absurd q2 (by decide)) (fun q2 => ?_)
    (repeat (first | (refine TW.getf rfl rfl rfl (fun _ => ?_)) | (refine TW.pl rfl rfl ?_)))
    exact TW.iret rfl (TwQ.no (k := 1) (by rw [e]; exact h.thr) ts1_eq (by rw [e]))
  | true =>
    have e : pId x w = (.inr (idAt w.2.2.1.1 (x - 1).toNat), w) := by unfold pId; rw [if_neg (by rw [hl]; decide)]
    obtain ⟨k, hk1, hk2, hk3⟩ := isNr_lt hl
    have h40 := h.2.2.1.1.2.1
    refine TW.br rfl rfl (by first | omega | exact b2i_R _ | exact ⟨b2i_R _, by omega⟩) (fun q => by first | (exfalso; omega) | exact absurd q (by decide)) (fun q => ?_)
    (repeat (first | (refine TW.getf rfl rfl rfl (fun _ => ?_)) | (refine TW.pl rfl rfl ?_)))
    refine TW.putf rfl rfl (by omega) ?_
    (repeat (first | (refine TW.getf rfl rfl rfl (fun _ => ?_)) | (refine TW.pl rfl rfl ?_)))
    rw [ts1_eq]
    refine TW.br rfl rfl (by first | omega | exact b2i_R _ | exact ⟨b2i_R _, by omega⟩) (fun q2 => ?_) (fun q2 => by first | (exfalso; omega) | exact absurd q2 (by decide))
    (repeat (first | (refine TW.getf rfl rfl rfl (fun _ => ?_)) | (refine TW.pl rfl rfl ?_)))
    refine TW.iald (n := 41) rfl rfl rfl (by omega) (fun _ => ?_)
    rw [hk3]
    have hi : (ts1 σ 0 0).2 7 k = idAt w.2.2.1.1 k := h.id hk2
    rw [hi, ← hk3]
    exact TW.iret rfl (TwQ.ok (by rw [e]; exact h.thr) ts1_eq (by rw [e]))
theorem sgnR_c (c : Bool) (hc : c = decide (0 ≤ z ∧ z < (ys.length : Int))) : sgnR ys z = if c = true then .inr (ys.getD z.toNat 0) else .inl 1 := by
  subst hc
  unfold sgnR
  by_cases h : 0 ≤ z ∧ z < (ys.length : Int)
  · rw [if_pos h, if_pos (decide_eq_true h)]
  · rw [if_neg h, if_neg (by rw [decide_eq_false h]; decide)]
theorem T_at (h : TwI w σ) (hx : inR x) (hz : inR z) : TM (d + 3) tk_at [.inr 0, .inl x, .inl z] σ (TwQ (pAt x z w)) := by
  refine TM.of rfl rfl ?_
  (repeat (first | (refine TW.getf rfl rfl rfl (fun _ => ?_)) | (refine TW.pl rfl rfl ?_)))
  refine TW.cv1 rfl rfl rfl (Nat.le_of_ble_eq_true rfl) (T_isLine9 (d := d + 1) hx h.2.2.1.1.1) ?_; rintro _ _ ⟨rfl, rfl⟩
  (repeat (first | (refine TW.getf rfl rfl rfl (fun _ => ?_)) | (refine TW.pl rfl rfl ?_)))
  refine TW.cv1 rfl rfl rfl (Nat.le_of_ble_eq_true rfl) (T_isLine9 (d := d + 1) hx h.2.2.1.1.1) ?_; rintro _ _ ⟨rfl, rfl⟩
  cases hl : isNr x w.2.2.1.1.length with
  | false =>
    have e : pAt x z w = (.inl 1, w) := by unfold pAt; rw [if_pos hl]
    refine TW.br rfl rfl (by first | omega | exact b2i_R _ | exact ⟨b2i_R _, by omega⟩) (fun q => ?_) (fun q => by first | (exfalso; omega) | exact absurd q (by decide))
    (repeat (first | (refine TW.getf rfl rfl rfl (fun _ => ?_)) | (refine TW.pl rfl rfl ?_)))
    refine TW.cv3 rfl rfl rfl (Nat.le_of_ble_eq_true rfl) (T_isPlace (d := d) (b := false) (row := 0) (ys := []) (fun z => by cases z) (fun z => by cases z) hz) ?_
    rintro r τ ⟨rfl, rfl⟩
    rw [Bool.false_and]
    refine TW.br rfl rfl (by first | omega | exact b2i_R _ | exact ⟨b2i_R _, by omega⟩) (fun q2 => ?_) (fun q2 => by first | (exfalso; omega) | exact absurd q2 (by decide))
    (repeat (first | (refine TW.getf rfl rfl rfl (fun _ => ?_)) | (refine TW.pl rfl rfl ?_)))
    exact TW.iret rfl (TwQ.no (k := 1) (by rw [e]; exact h.thr) ts1_eq (by rw [e]))
  | true =>
    obtain ⟨k, hk1, hk2, hk3⟩ := isNr_lt hl
    have e : pAt x z w = sgnAt (rowAt w.2.2.1.1 k) z w := by unfold pAt; rw [if_neg (by rw [hl]; decide), hk3]
    have h40 := h.2.2.1.1.2.1
    refine TW.br rfl rfl (by first | omega | exact b2i_R _ | exact ⟨b2i_R _, by omega⟩) (fun q => by first | (exfalso; omega) | exact absurd q (by decide)) (fun q => ?_)
    (repeat (first | (refine TW.getf rfl rfl rfl (fun _ => ?_)) | (refine TW.pl rfl rfl ?_)))
    refine TW.cs1 rfl rfl rfl (Nat.le_of_ble_eq_true rfl) (T_textRow (d := d + 1) hk1 (by omega)) ?_; rintro _ _ ⟨rfl, rfl⟩
    (repeat (first | (refine TW.getf rfl rfl rfl (fun _ => ?_)) | (refine TW.pl rfl rfl ?_)))
    refine TW.cv3 rfl rfl rfl (Nat.le_of_ble_eq_true rfl) (T_isPlace (d := d) (b := true) (fun _ => h.row hk2) (fun _ => rfl) hz) ?_
    rintro r τ ⟨rfl, rfl⟩
    rw [Bool.true_and]
    by_cases hc : 0 ≤ z ∧ z < ((rowAt w.2.2.1.1 k).length : Int)
    · have e2 : sgnAt (rowAt w.2.2.1.1 k) z w = (.inr ((rowAt w.2.2.1.1 k).getD z.toNat 0), w) := by unfold sgnAt; rw [if_pos hc]
      rw [decide_eq_true hc, if_pos rfl]
      refine TW.br rfl rfl (by first | omega | exact b2i_R _ | exact ⟨b2i_R _, by omega⟩) (fun q2 => by first | (exfalso; omega) | exact absurd q2 (by decide)) (fun q2 => ?_)
      (repeat (first | (refine TW.getf rfl rfl rfl (fun _ => ?_)) | (refine TW.pl rfl rfl ?_)))
      refine TW.cs1 rfl rfl rfl (Nat.le_of_ble_eq_true rfl) (T_textRow (d := d + 1) hk1 (by omega)) ?_; rintro _ _ ⟨rfl, rfl⟩
      (repeat (first | (refine TW.getf rfl rfl rfl (fun _ => ?_)) | (refine TW.pl rfl rfl ?_)))
      have hr : RowIs (ts1 σ 0 0) k (rowAt w.2.2.1.1 k) := (h.row hk2).1
      refine TW.cv2 rfl rfl rfl (Nat.le_of_ble_eq_true rfl) (T_signR (d := d + 1) hr rfl (h.row hk2).2 hc) ?_; rintro _ _ ⟨rfl, rfl⟩
      (repeat (first | (refine TW.getf rfl rfl rfl (fun _ => ?_)) | (refine TW.pl rfl rfl ?_)))
      exact TW.iret rfl (TwQ.ok (by rw [e, e2]; exact h.thr) ts1_eq (by rw [e, e2]))
    · have e2 : sgnAt (rowAt w.2.2.1.1 k) z w = (.inl 1, w) := by unfold sgnAt; rw [if_neg hc]
      rw [decide_eq_false hc, if_neg (by decide)]
      refine TW.br rfl rfl (by first | omega | exact b2i_R _ | exact ⟨b2i_R _, by omega⟩) (fun q2 => ?_) (fun q2 => by first | (exfalso; omega) | exact absurd q2 (by decide))
      (repeat (first | (refine TW.getf rfl rfl rfl (fun _ => ?_)) | (refine TW.pl rfl rfl ?_)))
      exact TW.iret rfl (TwQ.no (k := 1) (by rw [e, e2]; exact h.thr) ts1_eq (by rw [e, e2]))
theorem T_lineOf (h : TwI w σ) (hx : inR x) : TM (d + 2) tk_lineOf [.inr 0, .inl x] σ (TwQ (pLineOf x w)) := by
  have h40 := h.2.2.1.1.2.1
  refine TM.of rfl rfl ?_
  (repeat (first | (refine TW.getf rfl rfl rfl (fun _ => ?_)) | (refine TW.pl rfl rfl ?_)))
  refine TW.putf rfl rfl (by omega) ?_
  (repeat (first | (refine TW.getf rfl rfl rfl (fun _ => ?_)) | (refine TW.pl rfl rfl ?_)))
  refine TW.cv1 rfl rfl rfl (Nat.le_of_ble_eq_true rfl) (T_lineWith (d := d) (h.thr (v := 0)).2.2.1.1 hx) ?_; rintro _ _ ⟨rfl, rfl⟩
  have hle := linNo_R (t := w.2.2.1.1) (x := x)
  (repeat (first | (refine TW.getf rfl rfl rfl (fun _ => ?_)) | (refine TW.pl rfl rfl ?_)))
  by_cases z0 : linNo w.2.2.1.1 x = 0
  · refine TW.br rfl rfl (by first | omega | exact b2i_R _ | exact ⟨b2i_R _, by omega⟩) (fun q => ?_) (fun q => by first | (exfalso; omega) | exact absurd q (by decide))
    (repeat (first | (refine TW.getf rfl rfl rfl (fun _ => ?_)) | (refine TW.pl rfl rfl ?_)))
    exact TW.iret rfl (TwQ.ok h.thr ts1_eq (by unfold pLineOf; rw [if_pos z0]))
  · refine TW.br rfl rfl (by first | omega | exact b2i_R _ | exact ⟨b2i_R _, by omega⟩) (fun q => by first | (exfalso; omega) | exact absurd q (by decide)) (fun q => ?_)
    (repeat (first | (refine TW.getf rfl rfl rfl (fun _ => ?_)) | (refine TW.pl rfl rfl ?_)))
    exact TW.iret rfl (TwQ.ok h.thr ts1_eq (by unfold pLineOf; rw [if_neg z0]))
theorem T_mark (h : TwI w σ) (hx : inR x) (hw : WF w.2.2.1) (hn : w.2.2.1.2.2.2.2.2.2.1 < 2000000) : TM (d + 2) tk_mark [.inr 0, .inl x] σ (TwQ (pMark x w)) := by
  have h40 := h.2.2.1.1.2.1
  have thr : ¬ (0 ≤ x ∧ x < 5) → TW (d + 1) tc_mark 8 [some (.inr 0), some (.inl x)] [.inr 0] σ (TwQ (pMark x w)) := fun hn => by
    have e : pMark x w = (.inl 1, w) := by unfold pMark; rw [if_neg hn]
    (repeat (first | (refine TW.getf rfl rfl rfl (fun _ => ?_)) | (refine TW.pl rfl rfl ?_)))
    refine TW.putf rfl rfl (by omega) ?_
    (repeat (first | (refine TW.getf rfl rfl rfl (fun _ => ?_)) | (refine TW.pl rfl rfl ?_)))
    rw [ts1_eq]
    refine TW.br rfl rfl (by first | omega | exact b2i_R _ | exact ⟨b2i_R _, by omega⟩) (fun q => ?_) (fun q => by first | (exfalso; omega) | exact absurd q (by decide))
    (repeat (first | (refine TW.getf rfl rfl rfl (fun _ => ?_)) | (refine TW.pl rfl rfl ?_)))
    rw [ts1_eq]
    refine TW.br rfl rfl (by first | omega | exact b2i_R _ | exact ⟨b2i_R _, by omega⟩) (fun q2 => by first | (exfalso; omega) | exact absurd q2 (by decide)) (fun q2 => ?_)
    (repeat (first | (refine TW.getf rfl rfl rfl (fun _ => ?_)) | (refine TW.pl rfl rfl ?_)))
    exact TW.iret rfl (TwQ.no (k := 1) (by rw [e]; exact h.thr) ts1_eq (by rw [e]))
  refine TM.of rfl rfl ?_
  (repeat (first | (refine TW.getf rfl rfl rfl (fun _ => ?_)) | (refine TW.pl rfl rfl ?_)))
  by_cases z1 : x < 0
  · refine TW.br rfl rfl (by first | omega | exact b2i_R _ | exact ⟨b2i_R _, by omega⟩) (fun q => ?_) (fun q => by first | (exfalso; omega) | exact absurd q (by decide))
    exact thr (by omega)
  refine TW.br rfl rfl (by first | omega | exact b2i_R _ | exact ⟨b2i_R _, by omega⟩) (fun q => by first | (exfalso; omega) | exact absurd q (by decide)) (fun q => ?_)
  (repeat (first | (refine TW.getf rfl rfl rfl (fun _ => ?_)) | (refine TW.pl rfl rfl ?_)))
  by_cases z2 : x < 5
  rotate_left
  · refine TW.br rfl rfl (by first | omega | exact b2i_R _ | exact ⟨b2i_R _, by omega⟩) (fun q2 => ?_) (fun q2 => by first | (exfalso; omega) | exact absurd q2 (by decide))
    exact thr (by omega)
  have hx5 : 0 ≤ x ∧ x < 5 := by omega
  obtain ⟨m1, m2⟩ := h.2.2.1.2.2.2.1 x.toNat (by omega)
  refine TW.br rfl rfl (by first | omega | exact b2i_R _ | exact ⟨b2i_R _, by omega⟩) (fun q2 => by first | (exfalso; omega) | exact absurd q2 (by decide)) (fun q2 => ?_)
  (repeat (first | (refine TW.getf rfl rfl rfl (fun _ => ?_)) | (refine TW.pl rfl rfl ?_)))
  refine TW.putf rfl rfl (by omega) ?_
  (repeat (first | (refine TW.getf rfl rfl rfl (fun _ => ?_)) | (refine TW.pl rfl rfl ?_)))
  rw [ts1_eq]
  refine TW.br rfl rfl (by first | omega | exact b2i_R _ | exact ⟨b2i_R _, by omega⟩) (fun q3 => by first | (exfalso; omega) | exact absurd q3 (by decide)) (fun q3 => ?_)
  (repeat (first | (refine TW.getf rfl rfl rfl (fun _ => ?_)) | (refine TW.pl rfl rfl ?_)))
  refine TW.iald (n := 5) rfl rfl rfl (by omega) (fun _ => ?_)
  have hm : (ts1 σ 0 0).2 10 x.toNat = (w.2.2.1.2.2.2.2.2.1 x.toNat).getD (-1) := m1
  rw [hm]
  cases hmk : w.2.2.1.2.2.2.2.2.1 x.toNat with
  | none =>
    have e : pMark x w = (.inr (-1), w) := by unfold pMark; rw [if_pos hx5, hmk]
    rw [show (none : Option Int).getD (-1) = -1 from rfl]
    refine TW.br rfl rfl (by first | omega | exact b2i_R _ | exact ⟨b2i_R _, by omega⟩) (fun q4 => by first | (exfalso; omega) | exact absurd q4 (by decide)) (fun q4 => ?_)
    (repeat (first | (refine TW.getf rfl rfl rfl (fun _ => ?_)) | (refine TW.pl rfl rfl ?_)))
    rw [ts1_eq]
    refine TW.br rfl rfl (by first | omega | exact b2i_R _ | exact ⟨b2i_R _, by omega⟩) (fun q5 => ?_) (fun q5 => by first | (exfalso; omega) | exact absurd q5 (by decide))
    (repeat (first | (refine TW.getf rfl rfl rfl (fun _ => ?_)) | (refine TW.pl rfl rfl ?_)))
    exact TW.iret rfl (TwQ.ok (by rw [e]; exact h.thr) ts1_eq (by rw [e]))
  | some y =>
    have e : pMark x w = (.inr (linNo w.2.2.1.1 y : Int), w) := by unfold pMark; rw [if_pos hx5, hmk]
    have hy := m2 y hmk
    have hyin : y ∈ idsOfL w.2.2.1.1 := hw.2.2.2.2.1 _ y hmk
    obtain ⟨qq, hq1, hq2⟩ := List.mem_map.mp hyin
    have hyr := (hw.2.2.2.1 qq hq1).1
    rw [hq2] at hyr
    rw [show (some y : Option Int).getD (-1) = y from rfl]
    refine TW.br rfl rfl (by first | omega | exact b2i_R _ | exact ⟨b2i_R _, by omega⟩) (fun q4 => ?_) (fun q4 => by first | (exfalso; omega) | exact absurd q4 (by decide))
    (repeat (first | (refine TW.getf rfl rfl rfl (fun _ => ?_)) | (refine TW.pl rfl rfl ?_)))
    refine TW.iald (n := 5) rfl rfl rfl (by omega) (fun _ => ?_)
    rw [hm, hmk, show (some y : Option Int).getD (-1) = y from rfl]
    refine TW.cv1 rfl rfl rfl (Nat.le_of_ble_eq_true rfl) (T_lineWith (d := d) (h.thr (v := 0)).2.2.1.1 (by constructor <;> omega)) ?_; rintro _ _ ⟨rfl, rfl⟩
    exact TW.iret rfl (TwQ.ok (by rw [e]; exact h.thr) ts1_eq (by rw [e]))
/-! rows held, put out, in files -/
theorem TwI.held (h : TwI w σ) (hk : k < w.2.2.1.2.2.1.length) : RowIs σ (82 + k) (w.2.2.1.2.2.1.getD k []) ∧ 82 + k < 868 := ⟨h.2.2.1.2.2.1.1.2.2 k hk, by have := h.2.2.1.2.2.1.1.2.1; omega⟩
theorem TwI.out (h : TwI w σ) (hk : k < w.2.2.1.2.2.2.1.length) : RowIs σ (287 + k) (w.2.2.1.2.2.2.1.getD k []) ∧ 287 + k < 868 := ⟨h.2.2.1.2.2.1.2.1.2.2 k hk, by have := h.2.2.1.2.2.1.2.1.2.1; omega⟩
theorem lenR_c {rows : List (List Int)} (h : isNr x rows.length = true) : rLen rows x w = (.inr ((rows.getD (x - 1).toNat []).length : Int), w) := by unfold rLen; rw [if_neg (by rw [h]; decide)]
theorem lenR_n {rows : List (List Int)} (h : isNr x rows.length = false) : rLen rows x w = (.inl 1, w) := by unfold rLen; rw [if_pos h]
theorem atR_c {rows : List (List Int)} (h : isNr x rows.length = true) : rAt rows x z w = sgnAt (rows.getD (x - 1).toNat []) z w := by unfold rAt; rw [if_neg (by rw [h]; decide)]
theorem atR_n {rows : List (List Int)} (h : isNr x rows.length = false) : rAt rows x z w = (.inl 1, w) := by unfold rAt; rw [if_pos h]
theorem sgnAt_y (hc : 0 ≤ z ∧ z < (ys.length : Int)) : sgnAt ys z w = (.inr (ys.getD z.toNat 0), w) := by unfold sgnAt; rw [if_pos hc]
theorem sgnAt_n (hc : ¬ (0 ≤ z ∧ z < (ys.length : Int))) : sgnAt ys z w = (.inl 1, w) := by unfold sgnAt; rw [if_neg hc]
theorem isNr_b {n : Nat} (h1 : ¬ x < 1) : isNr x n = decide (x ≤ (n : Int)) := by
  unfold isNr
  by_cases h : x ≤ (n : Int)
  · rw [decide_eq_true (by omega), decide_eq_true h]
  · rw [decide_eq_false (by omega), decide_eq_false h]
theorem T_heldLength (h : TwI w σ) (hx : inR x) : TM (d + 3) tk_heldLength [.inr 0, .inl x] σ (TwQ (rLen w.2.2.1.2.2.1 x w)) := by
  have hM := h.2.2.1.2.2.1.1.1
  have no : isNr x w.2.2.1.2.2.1.length = false → TW (d + 2) tc_heldLength 9 [some (.inr 0), some (.inl x), none] [] σ (TwQ (rLen w.2.2.1.2.2.1 x w)) := fun hn => by
    rw [lenR_n hn]
    (repeat (first | (refine TW.getf rfl rfl rfl (fun _ => ?_)) | (refine TW.pl rfl rfl ?_)))
    refine TW.br rfl rfl (by first | omega | exact b2i_R _ | exact ⟨b2i_R _, by omega⟩) (fun q => ?_) (fun q => by first | (exfalso; omega) | exact absurd q (by decide))
    (repeat (first | (refine TW.getf rfl rfl rfl (fun _ => ?_)) | (refine TW.pl rfl rfl ?_)))
    refine TW.cv2 rfl rfl rfl (Nat.le_of_ble_eq_true rfl) (T_lengthOf (d := d) (b := false) (row := 0) (ys := []) (fun z => by cases z) (fun z => by cases z)) ?_
    rintro r τ ⟨rfl, rfl⟩
    exact TW.iret rfl (TwQ.no (k := 1) h.thr ts1_eq rfl)
  refine TM.of rfl rfl ?_
  (repeat (first | (refine TW.getf rfl rfl rfl (fun _ => ?_)) | (refine TW.pl rfl rfl ?_)))
  by_cases z1 : x < 1
  · refine TW.br rfl rfl (by first | omega | exact b2i_R _ | exact ⟨b2i_R _, by omega⟩) (fun q => ?_) (fun q => by first | (exfalso; omega) | exact absurd q (by decide))
    exact no (isNr_f.mpr (by omega))
  refine TW.br rfl rfl (by first | omega | exact b2i_R _ | exact ⟨b2i_R _, by omega⟩) (fun q => by first | (exfalso; omega) | exact absurd q (by decide)) (fun q => ?_)
  (repeat (first | (refine TW.getf rfl rfl rfl (fun _ => ?_)) | (refine TW.pl rfl rfl ?_)))
  cases hl : isNr x w.2.2.1.2.2.1.length with
  | false =>
    have := isNr_f.mp hl
    refine TW.br rfl rfl (by first | omega | exact b2i_R _ | exact ⟨b2i_R _, by omega⟩) (fun q2 => ?_) (fun q2 => by first | (exfalso; omega) | exact absurd q2 (by decide))
    exact no hl
  | true =>
    obtain ⟨k, hk1, hk2, hk3⟩ := isNr_lt hl
    refine TW.br rfl rfl (by first | omega | exact b2i_R _ | exact ⟨b2i_R _, by omega⟩) (fun q2 => by first | (exfalso; omega) | exact absurd q2 (by decide)) (fun q2 => ?_)
    (repeat (first | (refine TW.getf rfl rfl rfl (fun _ => ?_)) | (refine TW.pl rfl rfl ?_)))
    refine TW.br rfl rfl (by first | omega | exact b2i_R _ | exact ⟨b2i_R _, by omega⟩) (fun q3 => by first | (exfalso; omega) | exact absurd q3 (by decide)) (fun q3 => ?_)
    (repeat (first | (refine TW.getf rfl rfl rfl (fun _ => ?_)) | (refine TW.pl rfl rfl ?_)))
    refine TW.cv2 rfl rfl rfl (Nat.le_of_ble_eq_true rfl) (T_lengthOf (d := d) (b := true) (fun _ => h.held hk2) (fun _ => by omega)) ?_
    rintro r τ ⟨rfl, rfl⟩
    rw [lenR_c hl, hk3]
    exact TW.iret rfl (TwQ.ok h.thr ts1_eq rfl)
theorem T_heldAt (h : TwI w σ) (hx : inR x) (hz : inR z) : TM (d + 3) tk_heldAt [.inr 0, .inl x, .inl z] σ (TwQ (rAt w.2.2.1.2.2.1 x z w)) := by
  have hM := h.2.2.1.2.2.1.1.1
  have no : isNr x w.2.2.1.2.2.1.length = false → TW (d + 2) tc_heldAt 9 [some (.inr 0), some (.inl x), some (.inl z), none] [] σ (TwQ (rAt w.2.2.1.2.2.1 x z w)) := fun hn => by
    rw [atR_n hn]
    (repeat (first | (refine TW.getf rfl rfl rfl (fun _ => ?_)) | (refine TW.pl rfl rfl ?_)))
    refine TW.br rfl rfl (by first | omega | exact b2i_R _ | exact ⟨b2i_R _, by omega⟩) (fun q => ?_) (fun q => by first | (exfalso; omega) | exact absurd q (by decide))
    (repeat (first | (refine TW.getf rfl rfl rfl (fun _ => ?_)) | (refine TW.pl rfl rfl ?_)))
    refine TW.cv3 rfl rfl rfl (Nat.le_of_ble_eq_true rfl) (T_isPlace (d := d) (b := false) (row := 0) (ys := []) (fun z => by cases z) (fun z => by cases z) hz) ?_
    rintro r τ ⟨rfl, rfl⟩
    rw [Bool.false_and]
    refine TW.br rfl rfl (by first | omega | exact b2i_R _ | exact ⟨b2i_R _, by omega⟩) (fun q2 => ?_) (fun q2 => by first | (exfalso; omega) | exact absurd q2 (by decide))
    (repeat (first | (refine TW.getf rfl rfl rfl (fun _ => ?_)) | (refine TW.pl rfl rfl ?_)))
    exact TW.iret rfl (TwQ.no (k := 1) h.thr ts1_eq rfl)
  refine TM.of rfl rfl ?_
  (repeat (first | (refine TW.getf rfl rfl rfl (fun _ => ?_)) | (refine TW.pl rfl rfl ?_)))
  by_cases z1 : x < 1
  · refine TW.br rfl rfl (by first | omega | exact b2i_R _ | exact ⟨b2i_R _, by omega⟩) (fun q => ?_) (fun q => by first | (exfalso; omega) | exact absurd q (by decide))
    exact no (isNr_f.mpr (by omega))
  refine TW.br rfl rfl (by first | omega | exact b2i_R _ | exact ⟨b2i_R _, by omega⟩) (fun q => by first | (exfalso; omega) | exact absurd q (by decide)) (fun q => ?_)
  (repeat (first | (refine TW.getf rfl rfl rfl (fun _ => ?_)) | (refine TW.pl rfl rfl ?_)))
  cases hl : isNr x w.2.2.1.2.2.1.length with
  | false =>
    have := isNr_f.mp hl
    refine TW.br rfl rfl (by first | omega | exact b2i_R _ | exact ⟨b2i_R _, by omega⟩) (fun q2 => ?_) (fun q2 => by first | (exfalso; omega) | exact absurd q2 (by decide))
    exact no hl
  | true =>
    obtain ⟨k, hk1, hk2, hk3⟩ := isNr_lt hl
    refine TW.br rfl rfl (by first | omega | exact b2i_R _ | exact ⟨b2i_R _, by omega⟩) (fun q2 => by first | (exfalso; omega) | exact absurd q2 (by decide)) (fun q2 => ?_)
    (repeat (first | (refine TW.getf rfl rfl rfl (fun _ => ?_)) | (refine TW.pl rfl rfl ?_)))
    refine TW.br rfl rfl (by first | omega | exact b2i_R _ | exact ⟨b2i_R _, by omega⟩) (fun q3 => by first | (exfalso; omega) | exact absurd q3 (by decide)) (fun q3 => ?_)
    (repeat (first | (refine TW.getf rfl rfl rfl (fun _ => ?_)) | (refine TW.pl rfl rfl ?_)))
    refine TW.cv3 rfl rfl rfl (Nat.le_of_ble_eq_true rfl) (T_isPlace (d := d) (b := true) (fun _ => h.held hk2) (fun _ => by omega) hz) ?_
    rintro r τ ⟨rfl, rfl⟩
    rw [atR_c hl, hk3, Bool.true_and]
    generalize hys : w.2.2.1.2.2.1.getD k [] = ys
    by_cases hc : 0 ≤ z ∧ z < (ys.length : Int)
    · rw [sgnAt_y hc, decide_eq_true hc, if_pos rfl]
      refine TW.br rfl rfl (by first | omega | exact b2i_R _ | exact ⟨b2i_R _, by omega⟩) (fun q4 => by first | (exfalso; omega) | exact absurd q4 (by decide)) (fun q4 => ?_)
      (repeat (first | (refine TW.getf rfl rfl rfl (fun _ => ?_)) | (refine TW.pl rfl rfl ?_)))
      have hr : RowIs (ts1 σ 0 0) (82 + k) ys := by rw [← hys]; exact (h.held hk2).1
      refine TW.cv2 rfl rfl rfl (Nat.le_of_ble_eq_true rfl) (T_signR (d := d + 1) hr (by omega) (h.held hk2).2 hc) ?_; rintro _ _ ⟨rfl, rfl⟩
      (repeat (first | (refine TW.getf rfl rfl rfl (fun _ => ?_)) | (refine TW.pl rfl rfl ?_)))
      exact TW.iret rfl (TwQ.ok h.thr ts1_eq rfl)
    · rw [sgnAt_n hc, decide_eq_false hc, if_neg (by decide)]
      refine TW.br rfl rfl (by first | omega | exact b2i_R _ | exact ⟨b2i_R _, by omega⟩) (fun q4 => ?_) (fun q4 => by first | (exfalso; omega) | exact absurd q4 (by decide))
      (repeat (first | (refine TW.getf rfl rfl rfl (fun _ => ?_)) | (refine TW.pl rfl rfl ?_)))
      exact TW.iret rfl (TwQ.no (k := 1) h.thr ts1_eq rfl)
theorem T_outLength (h : TwI w σ) (hx : inR x) : TM (d + 3) tk_outLength [.inr 0, .inl x] σ (TwQ (rLen w.2.2.1.2.2.2.1 x w)) := by
  have hM := h.2.2.1.2.2.1.2.1.1
  have no : isNr x w.2.2.1.2.2.2.1.length = false → TW (d + 2) tc_outLength 9 [some (.inr 0), some (.inl x), none] [] σ (TwQ (rLen w.2.2.1.2.2.2.1 x w)) := fun hn => by
    rw [lenR_n hn]
    (repeat (first | (refine TW.getf rfl rfl rfl (fun _ => ?_)) | (refine TW.pl rfl rfl ?_)))
    refine TW.br rfl rfl (by first | omega | exact b2i_R _ | exact ⟨b2i_R _, by omega⟩) (fun q => ?_) (fun q => by first | (exfalso; omega) | exact absurd q (by decide))
    (repeat (first | (refine TW.getf rfl rfl rfl (fun _ => ?_)) | (refine TW.pl rfl rfl ?_)))
    refine TW.cv2 rfl rfl rfl (Nat.le_of_ble_eq_true rfl) (T_lengthOf (d := d) (b := false) (row := 0) (ys := []) (fun z => by cases z) (fun z => by cases z)) ?_
    rintro r τ ⟨rfl, rfl⟩
    exact TW.iret rfl (TwQ.no (k := 1) h.thr ts1_eq rfl)
  refine TM.of rfl rfl ?_
  (repeat (first | (refine TW.getf rfl rfl rfl (fun _ => ?_)) | (refine TW.pl rfl rfl ?_)))
  by_cases z1 : x < 1
  · refine TW.br rfl rfl (by first | omega | exact b2i_R _ | exact ⟨b2i_R _, by omega⟩) (fun q => ?_) (fun q => by first | (exfalso; omega) | exact absurd q (by decide))
    exact no (isNr_f.mpr (by omega))
  refine TW.br rfl rfl (by first | omega | exact b2i_R _ | exact ⟨b2i_R _, by omega⟩) (fun q => by first | (exfalso; omega) | exact absurd q (by decide)) (fun q => ?_)
  (repeat (first | (refine TW.getf rfl rfl rfl (fun _ => ?_)) | (refine TW.pl rfl rfl ?_)))
  cases hl : isNr x w.2.2.1.2.2.2.1.length with
  | false =>
    have := isNr_f.mp hl
    refine TW.br rfl rfl (by first | omega | exact b2i_R _ | exact ⟨b2i_R _, by omega⟩) (fun q2 => ?_) (fun q2 => by first | (exfalso; omega) | exact absurd q2 (by decide))
    exact no hl
  | true =>
    obtain ⟨k, hk1, hk2, hk3⟩ := isNr_lt hl
    refine TW.br rfl rfl (by first | omega | exact b2i_R _ | exact ⟨b2i_R _, by omega⟩) (fun q2 => by first | (exfalso; omega) | exact absurd q2 (by decide)) (fun q2 => ?_)
    (repeat (first | (refine TW.getf rfl rfl rfl (fun _ => ?_)) | (refine TW.pl rfl rfl ?_)))
    refine TW.br rfl rfl (by first | omega | exact b2i_R _ | exact ⟨b2i_R _, by omega⟩) (fun q3 => by first | (exfalso; omega) | exact absurd q3 (by decide)) (fun q3 => ?_)
    (repeat (first | (refine TW.getf rfl rfl rfl (fun _ => ?_)) | (refine TW.pl rfl rfl ?_)))
    refine TW.cv2 rfl rfl rfl (Nat.le_of_ble_eq_true rfl) (T_lengthOf (d := d) (b := true) (fun _ => h.out hk2) (fun _ => by omega)) ?_
    rintro r τ ⟨rfl, rfl⟩
    rw [lenR_c hl, hk3]
    exact TW.iret rfl (TwQ.ok h.thr ts1_eq rfl)
theorem T_outAt (h : TwI w σ) (hx : inR x) (hz : inR z) : TM (d + 3) tk_outAt [.inr 0, .inl x, .inl z] σ (TwQ (rAt w.2.2.1.2.2.2.1 x z w)) := by
  have hM := h.2.2.1.2.2.1.2.1.1
  have no : isNr x w.2.2.1.2.2.2.1.length = false → TW (d + 2) tc_outAt 9 [some (.inr 0), some (.inl x), some (.inl z), none] [] σ (TwQ (rAt w.2.2.1.2.2.2.1 x z w)) := fun hn => by
    rw [atR_n hn]
    (repeat (first | (refine TW.getf rfl rfl rfl (fun _ => ?_)) | (refine TW.pl rfl rfl ?_)))
    refine TW.br rfl rfl (by first | omega | exact b2i_R _ | exact ⟨b2i_R _, by omega⟩) (fun q => ?_) (fun q => by first | (exfalso; omega) | exact absurd q (by decide))
    (repeat (first | (refine TW.getf rfl rfl rfl (fun _ => ?_)) | (refine TW.pl rfl rfl ?_)))
    refine TW.cv3 rfl rfl rfl (Nat.le_of_ble_eq_true rfl) (T_isPlace (d := d) (b := false) (row := 0) (ys := []) (fun z => by cases z) (fun z => by cases z) hz) ?_
    rintro r τ ⟨rfl, rfl⟩
    rw [Bool.false_and]
    refine TW.br rfl rfl (by first | omega | exact b2i_R _ | exact ⟨b2i_R _, by omega⟩) (fun q2 => ?_) (fun q2 => by first | (exfalso; omega) | exact absurd q2 (by decide))
    (repeat (first | (refine TW.getf rfl rfl rfl (fun _ => ?_)) | (refine TW.pl rfl rfl ?_)))
    exact TW.iret rfl (TwQ.no (k := 1) h.thr ts1_eq rfl)
  refine TM.of rfl rfl ?_
  (repeat (first | (refine TW.getf rfl rfl rfl (fun _ => ?_)) | (refine TW.pl rfl rfl ?_)))
  by_cases z1 : x < 1
  · refine TW.br rfl rfl (by first | omega | exact b2i_R _ | exact ⟨b2i_R _, by omega⟩) (fun q => ?_) (fun q => by first | (exfalso; omega) | exact absurd q (by decide))
    exact no (isNr_f.mpr (by omega))
  refine TW.br rfl rfl (by first | omega | exact b2i_R _ | exact ⟨b2i_R _, by omega⟩) (fun q => by first | (exfalso; omega) | exact absurd q (by decide)) (fun q => ?_)
  (repeat (first | (refine TW.getf rfl rfl rfl (fun _ => ?_)) | (refine TW.pl rfl rfl ?_)))
  cases hl : isNr x w.2.2.1.2.2.2.1.length with
  | false =>
    have := isNr_f.mp hl
    refine TW.br rfl rfl (by first | omega | exact b2i_R _ | exact ⟨b2i_R _, by omega⟩) (fun q2 => ?_) (fun q2 => by first | (exfalso; omega) | exact absurd q2 (by decide))
    exact no hl
  | true =>
    obtain ⟨k, hk1, hk2, hk3⟩ := isNr_lt hl
    refine TW.br rfl rfl (by first | omega | exact b2i_R _ | exact ⟨b2i_R _, by omega⟩) (fun q2 => by first | (exfalso; omega) | exact absurd q2 (by decide)) (fun q2 => ?_)
    (repeat (first | (refine TW.getf rfl rfl rfl (fun _ => ?_)) | (refine TW.pl rfl rfl ?_)))
    refine TW.br rfl rfl (by first | omega | exact b2i_R _ | exact ⟨b2i_R _, by omega⟩) (fun q3 => by first | (exfalso; omega) | exact absurd q3 (by decide)) (fun q3 => ?_)
    (repeat (first | (refine TW.getf rfl rfl rfl (fun _ => ?_)) | (refine TW.pl rfl rfl ?_)))
    refine TW.cv3 rfl rfl rfl (Nat.le_of_ble_eq_true rfl) (T_isPlace (d := d) (b := true) (fun _ => h.out hk2) (fun _ => by omega) hz) ?_
    rintro r τ ⟨rfl, rfl⟩
    rw [atR_c hl, hk3, Bool.true_and]
    generalize hys : w.2.2.1.2.2.2.1.getD k [] = ys
    by_cases hc : 0 ≤ z ∧ z < (ys.length : Int)
    · rw [sgnAt_y hc, decide_eq_true hc, if_pos rfl]
      refine TW.br rfl rfl (by first | omega | exact b2i_R _ | exact ⟨b2i_R _, by omega⟩) (fun q4 => by first | (exfalso; omega) | exact absurd q4 (by decide)) (fun q4 => ?_)
      (repeat (first | (refine TW.getf rfl rfl rfl (fun _ => ?_)) | (refine TW.pl rfl rfl ?_)))
      have hr : RowIs (ts1 σ 0 0) (287 + k) ys := by rw [← hys]; exact (h.out hk2).1
      refine TW.cv2 rfl rfl rfl (Nat.le_of_ble_eq_true rfl) (T_signR (d := d + 1) hr (by omega) (h.out hk2).2 hc) ?_; rintro _ _ ⟨rfl, rfl⟩
      (repeat (first | (refine TW.getf rfl rfl rfl (fun _ => ?_)) | (refine TW.pl rfl rfl ?_)))
      exact TW.iret rfl (TwQ.ok h.thr ts1_eq rfl)
    · rw [sgnAt_n hc, decide_eq_false hc, if_neg (by decide)]
      refine TW.br rfl rfl (by first | omega | exact b2i_R _ | exact ⟨b2i_R _, by omega⟩) (fun q4 => ?_) (fun q4 => by first | (exfalso; omega) | exact absurd q4 (by decide))
      (repeat (first | (refine TW.getf rfl rfl rfl (fun _ => ?_)) | (refine TW.pl rfl rfl ?_)))
      exact TW.iret rfl (TwQ.no (k := 1) h.thr ts1_eq rfl)
end TPV
