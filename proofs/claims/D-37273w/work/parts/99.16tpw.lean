set_option maxRecDepth 100000
/-! the twin's public methods: files, scripts, keep, undo, find -/
section TPW
variable {d k : Nat} {σ τ υ : TS} {s tp ys : List Int} {A : St} {os : List SOrd} {ds : List SDeed} {fs as : List Nat} {w : PW} {x z v y u : Int} {P : PA} {rows : List (List Int)} {sc : Nat → Option (List Int)} {b : Bool}
theorem TwI.file (h : TwI w σ) (hk : k < 4) : (σ.2 11 (k)) = (w.2.2.1.2.2.2.2.1 k).length ∧ (w.2.2.1.2.2.2.2.1 k).length ≤ 40 ∧ ∀ j, j < (w.2.2.1.2.2.2.2.1 k).length → RowIs σ (123 + 41 * k + j) ((w.2.2.1.2.2.2.2.1 k).getD j []) := h.2.2.1.2.2.1.2.2 k hk
theorem T_fileRows (h : TwI w σ) (hx : inR x) : TM (d + 2) tk_fileRows [.inr 0, .inl x] σ (TwQ (pFRows x w)) := by
  refine TM.of rfl rfl ?_
  (repeat (first | (refine TW.getf rfl rfl rfl (fun _ => ?_)) | (refine TW.pl rfl rfl ?_)))
  refine TW.cs1 rfl rfl rfl (Nat.le_of_ble_eq_true rfl) (T_isFour (d := d) hx) ?_; rintro _ _ ⟨rfl, rfl⟩
  cases hf4 : isFo x with
  | false =>
    have e : pFRows x w = (.inl 1, w) := by unfold pFRows; rw [if_pos hf4]
    refine TW.br rfl rfl (by first | omega | exact b2i_R _ | exact ⟨b2i_R _, by omega⟩) (fun q => ?_) (fun q => by first | (exfalso; omega) | exact absurd q (by decide))
    (repeat (first | (refine TW.getf rfl rfl rfl (fun _ => ?_)) | (refine TW.pl rfl rfl ?_)))
    refine TW.putf rfl rfl (by omega) ?_
    (repeat (first | (refine TW.getf rfl rfl rfl (fun _ => ?_)) | (refine TW.pl rfl rfl ?_)))
    rw [ts1_eq]
    refine TW.br rfl rfl (by first | omega | exact b2i_R _ | exact ⟨b2i_R _, by omega⟩) (fun q2 => by first | (exfalso; omega) | exact absurd q2 (by decide)) (fun q2 => ?_)
    (repeat (first | (refine TW.getf rfl rfl rfl (fun _ => ?_)) | (refine TW.pl rfl rfl ?_)))
    exact TW.iret rfl (TwQ.no (k := 1) (by rw [e]; exact h.thr) ts1_eq (by rw [e]))
  | true =>
    obtain ⟨k, rfl, hk4⟩ := isFo_lt hf4
    have ek : ((k : Nat) : Int).toNat = k := Int.toNat_natCast k
    have e : pFRows k w = (.inr ((w.2.2.1.2.2.2.2.1 k).length : Int), w) := by unfold pFRows; rw [if_neg (by rw [hf4]; decide), ek]
    refine TW.br rfl rfl (by first | omega | exact b2i_R _ | exact ⟨b2i_R _, by omega⟩) (fun q => by first | (exfalso; omega) | exact absurd q (by decide)) (fun q => ?_)
    (repeat (first | (refine TW.getf rfl rfl rfl (fun _ => ?_)) | (refine TW.pl rfl rfl ?_)))
    refine TW.putf rfl rfl (by omega) ?_
    (repeat (first | (refine TW.getf rfl rfl rfl (fun _ => ?_)) | (refine TW.pl rfl rfl ?_)))
    rw [ts1_eq]
    refine TW.br rfl rfl (by first | omega | exact b2i_R _ | exact ⟨b2i_R _, by omega⟩) (fun q2 => ?_) (fun q2 => by first | (exfalso; omega) | exact absurd q2 (by decide))
    (repeat (first | (refine TW.getf rfl rfl rfl (fun _ => ?_)) | (refine TW.pl rfl rfl ?_)))
    refine TW.iald (n := 4) rfl rfl rfl (by omega) (fun _ => ?_)
    rw [ek]
    have hm : (ts1 σ 0 0).2 11 k = (w.2.2.1.2.2.2.2.1 k).length := (h.file hk4).1
    rw [hm]
    exact TW.iret rfl (TwQ.ok (by rw [e]; exact h.thr) ts1_eq (by rw [e]))
theorem T_isFileRow (h : TwI w σ) (hx : inR x) (hz : inR z) : TE (d + 2) tk_isFileRow [.inr 0, .inl x, .inl z] σ (some (b2i (isFo x && isNr z (w.2.2.1.2.2.2.2.1 x.toNat).length))) σ := by
  refine TM.of rfl rfl ?_
  (repeat (first | (refine TW.getf rfl rfl rfl (fun _ => ?_)) | (refine TW.pl rfl rfl ?_)))
  refine TW.cs1 rfl rfl rfl (Nat.le_of_ble_eq_true rfl) (T_isFour (d := d) hx) ?_; rintro _ _ ⟨rfl, rfl⟩
  cases hf4 : isFo x with
  | false =>
    rw [Bool.false_and]
    refine TW.br rfl rfl (by first | omega | exact b2i_R _ | exact ⟨b2i_R _, by omega⟩) (fun q => ?_) (fun q => by first | (exfalso; omega) | exact absurd q (by decide))
    (repeat (first | (refine TW.getf rfl rfl rfl (fun _ => ?_)) | (refine TW.pl rfl rfl ?_)))
    exact TW.zret rfl (Or.inl rfl) ⟨rfl, rfl⟩
  | true =>
    obtain ⟨k, rfl, hk4⟩ := isFo_lt hf4
    have ek : ((k : Nat) : Int).toNat = k := Int.toNat_natCast k
    obtain ⟨hm, h40, -⟩ := h.file hk4
    rw [Bool.true_and, ek]
    refine TW.br rfl rfl (by first | omega | exact b2i_R _ | exact ⟨b2i_R _, by omega⟩) (fun q => by first | (exfalso; omega) | exact absurd q (by decide)) (fun q => ?_)
    (repeat (first | (refine TW.getf rfl rfl rfl (fun _ => ?_)) | (refine TW.pl rfl rfl ?_)))
    by_cases z1 : z < 1
    · rw [isNr_f.mpr (by omega)]
      refine TW.br rfl rfl (by first | omega | exact b2i_R _ | exact ⟨b2i_R _, by omega⟩) (fun q2 => ?_) (fun q2 => by first | (exfalso; omega) | exact absurd q2 (by decide))
      (repeat (first | (refine TW.getf rfl rfl rfl (fun _ => ?_)) | (refine TW.pl rfl rfl ?_)))
      exact TW.zret rfl (Or.inl rfl) ⟨rfl, rfl⟩
    refine TW.br rfl rfl (by first | omega | exact b2i_R _ | exact ⟨b2i_R _, by omega⟩) (fun q2 => by first | (exfalso; omega) | exact absurd q2 (by decide)) (fun q2 => ?_)
    (repeat (first | (refine TW.getf rfl rfl rfl (fun _ => ?_)) | (refine TW.pl rfl rfl ?_)))
    refine TW.iald (n := 4) rfl rfl rfl (by omega) (fun _ => ?_)
    rw [ek, hm]
    by_cases z2 : z ≤ (w.2.2.1.2.2.2.2.1 k).length
    · rw [isNr_t.mpr (by omega)]
      refine TW.br rfl rfl (by first | omega | exact b2i_R _ | exact ⟨b2i_R _, by omega⟩) (fun q3 => by first | (exfalso; omega) | exact absurd q3 (by decide)) (fun q3 => ?_)
      (repeat (first | (refine TW.getf rfl rfl rfl (fun _ => ?_)) | (refine TW.pl rfl rfl ?_)))
      exact TW.zret rfl (Or.inr rfl) ⟨rfl, rfl⟩
    · rw [isNr_f.mpr (by omega)]
      refine TW.br rfl rfl (by first | omega | exact b2i_R _ | exact ⟨b2i_R _, by omega⟩) (fun q3 => ?_) (fun q3 => by first | (exfalso; omega) | exact absurd q3 (by decide))
      (repeat (first | (refine TW.getf rfl rfl rfl (fun _ => ?_)) | (refine TW.pl rfl rfl ?_)))
      exact TW.zret rfl (Or.inl rfl) ⟨rfl, rfl⟩
theorem T_fileLength (h : TwI w σ) (hx : inR x) (hz : inR z) : TM (d + 3) tk_fileLength [.inr 0, .inl x, .inl z] σ (TwQ (pFLen x z w)) := by
  refine TM.of rfl rfl ?_
  (repeat (first | (refine TW.getf rfl rfl rfl (fun _ => ?_)) | (refine TW.pl rfl rfl ?_)))
  refine TW.cv2 rfl rfl rfl (Nat.le_of_ble_eq_true rfl) (T_isFileRow (d := d) h hx hz) ?_; rintro _ _ ⟨rfl, rfl⟩
  cases hb : (isFo x && isNr z (w.2.2.1.2.2.2.2.1 x.toNat).length) with
  | false =>
    have e : pFLen x z w = (.inl 1, w) := by
      unfold pFLen
      by_cases hf4 : isFo x = false
      · rw [if_pos hf4]
      · rw [if_neg hf4]
        have hf4 : isFo x = true := by revert hf4; cases isFo x <;> simp
        rw [hf4, Bool.true_and] at hb
        exact lenR_n hb
    (repeat (first | (refine TW.getf rfl rfl rfl (fun _ => ?_)) | (refine TW.pl rfl rfl ?_)))
    refine TW.br rfl rfl (by first | omega | exact b2i_R _ | exact ⟨b2i_R _, by omega⟩) (fun q => ?_) (fun q => by first | (exfalso; omega) | exact absurd q (by decide))
    (repeat (first | (refine TW.getf rfl rfl rfl (fun _ => ?_)) | (refine TW.pl rfl rfl ?_)))
    refine TW.cv2 rfl rfl rfl (Nat.le_of_ble_eq_true rfl) (T_lengthOf (d := d) (b := false) (row := 0) (ys := []) (fun z => by cases z) (fun z => by cases z)) ?_
    rintro r τ ⟨rfl, rfl⟩
    exact TW.iret rfl (TwQ.no (k := 1) (by rw [e]; exact h.thr) ts1_eq (by rw [e]))
  | true =>
    obtain ⟨hf4, hl⟩ := (Bool.and_eq_true _ _).mp hb |> fun z => z
    obtain ⟨k, rfl, hk4⟩ := isFo_lt hf4
    have ek : ((k : Nat) : Int).toNat = k := Int.toNat_natCast k
    rw [ek] at hl
    obtain ⟨hm, h40, hr⟩ := h.file hk4
    obtain ⟨j, hj1, hj2, hj3⟩ := isNr_lt hl
    have e : pFLen k z w = (.inr (((w.2.2.1.2.2.2.2.1 k).getD j []).length : Int), w) := by unfold pFLen; rw [if_neg (by rw [hf4]; decide), ek, lenR_c hl, hj3]
    (repeat (first | (refine TW.getf rfl rfl rfl (fun _ => ?_)) | (refine TW.pl rfl rfl ?_)))
    refine TW.br rfl rfl (by first | omega | exact b2i_R _ | exact ⟨b2i_R _, by omega⟩) (fun q => by first | (exfalso; omega) | exact absurd q (by decide)) (fun q => ?_)
    (repeat (first | (refine TW.getf rfl rfl rfl (fun _ => ?_)) | (refine TW.pl rfl rfl ?_)))
    refine TW.cs2 rfl rfl rfl (Nat.le_of_ble_eq_true rfl) (T_fileRow (d := d + 1) (k := k) (j := j) rfl (by omega)) ?_; rintro _ _ ⟨rfl, rfl⟩
    (repeat (first | (refine TW.getf rfl rfl rfl (fun _ => ?_)) | (refine TW.pl rfl rfl ?_)))
    refine TW.cv2 rfl rfl rfl (Nat.le_of_ble_eq_true rfl) (T_lengthOf (d := d) (b := true) (fun _ => ⟨hr j hj2, by omega⟩) (fun _ => rfl)) ?_
    rintro r τ ⟨rfl, rfl⟩
    exact TW.iret rfl (TwQ.ok (by rw [e]; exact h.thr) ts1_eq (by rw [e]; rfl))
theorem T_fileAt (h : TwI w σ) (hx : inR x) (hz : inR z) (hu : inR u) : TM (d + 3) tk_fileAt [.inr 0, .inl x, .inl z, .inl u] σ (TwQ (pFAt x z u w)) := by
  refine TM.of rfl rfl ?_
  (repeat (first | (refine TW.getf rfl rfl rfl (fun _ => ?_)) | (refine TW.pl rfl rfl ?_)))
  refine TW.cv2 rfl rfl rfl (Nat.le_of_ble_eq_true rfl) (T_isFileRow (d := d) h hx hz) ?_; rintro _ _ ⟨rfl, rfl⟩
  cases hb : (isFo x && isNr z (w.2.2.1.2.2.2.2.1 x.toNat).length) with
  | false =>
    have e : pFAt x z u w = (.inl 1, w) := by
      unfold pFAt
      by_cases hf4 : isFo x = false
      · rw [if_pos hf4]
      · rw [if_neg hf4]
        have hf4 : isFo x = true := by revert hf4; cases isFo x <;> simp
        rw [hf4, Bool.true_and] at hb
        exact atR_n hb
    (repeat (first | (refine TW.getf rfl rfl rfl (fun _ => ?_)) | (refine TW.pl rfl rfl ?_)))
    refine TW.br rfl rfl (by first | omega | exact b2i_R _ | exact ⟨b2i_R _, by omega⟩) (fun q => ?_) (fun q => by first | (exfalso; omega) | exact absurd q (by decide))
    (repeat (first | (refine TW.getf rfl rfl rfl (fun _ => ?_)) | (refine TW.pl rfl rfl ?_)))
    refine TW.cv3 rfl rfl rfl (Nat.le_of_ble_eq_true rfl) (T_isPlace (d := d) (b := false) (row := 0) (ys := []) (fun z => by cases z) (fun z => by cases z) hu) ?_
    rintro r τ ⟨rfl, rfl⟩
    rw [Bool.false_and]
    refine TW.br rfl rfl (by first | omega | exact b2i_R _ | exact ⟨b2i_R _, by omega⟩) (fun q2 => ?_) (fun q2 => by first | (exfalso; omega) | exact absurd q2 (by decide))
    (repeat (first | (refine TW.getf rfl rfl rfl (fun _ => ?_)) | (refine TW.pl rfl rfl ?_)))
    exact TW.iret rfl (TwQ.no (k := 1) (by rw [e]; exact h.thr) ts1_eq (by rw [e]))
  | true =>
    obtain ⟨hf4, hl⟩ := (Bool.and_eq_true _ _).mp hb |> fun z => z
    obtain ⟨k, rfl, hk4⟩ := isFo_lt hf4
    have ek : ((k : Nat) : Int).toNat = k := Int.toNat_natCast k
    rw [ek] at hl
    obtain ⟨hm, h40, hr⟩ := h.file hk4
    obtain ⟨j, hj1, hj2, hj3⟩ := isNr_lt hl
    have e : pFAt k z u w = sgnAt ((w.2.2.1.2.2.2.2.1 k).getD j []) u w := by unfold pFAt; rw [if_neg (by rw [hf4]; decide), ek, atR_c hl, hj3]
    rw [e]
    have hrj := hr j hj2
    generalize hys : (w.2.2.1.2.2.2.2.1 k).getD j [] = ys at hrj
    (repeat (first | (refine TW.getf rfl rfl rfl (fun _ => ?_)) | (refine TW.pl rfl rfl ?_)))
    refine TW.br rfl rfl (by first | omega | exact b2i_R _ | exact ⟨b2i_R _, by omega⟩) (fun q => by first | (exfalso; omega) | exact absurd q (by decide)) (fun q => ?_)
    (repeat (first | (refine TW.getf rfl rfl rfl (fun _ => ?_)) | (refine TW.pl rfl rfl ?_)))
    refine TW.cs2 rfl rfl rfl (Nat.le_of_ble_eq_true rfl) (T_fileRow (d := d + 1) (k := k) (j := j) rfl (by omega)) ?_; rintro _ _ ⟨rfl, rfl⟩
    (repeat (first | (refine TW.getf rfl rfl rfl (fun _ => ?_)) | (refine TW.pl rfl rfl ?_)))
    refine TW.cv3 rfl rfl rfl (Nat.le_of_ble_eq_true rfl) (T_isPlace (d := d) (b := true) (fun _ => ⟨hrj, by omega⟩) (fun _ => rfl) hu) ?_
    rintro r τ ⟨rfl, rfl⟩
    rw [Bool.true_and]
    by_cases hc : 0 ≤ u ∧ u < (ys.length : Int)
    · rw [sgnAt_y hc, decide_eq_true hc, if_pos rfl]
      refine TW.br rfl rfl (by first | omega | exact b2i_R _ | exact ⟨b2i_R _, by omega⟩) (fun q4 => by first | (exfalso; omega) | exact absurd q4 (by decide)) (fun q4 => ?_)
      (repeat (first | (refine TW.getf rfl rfl rfl (fun _ => ?_)) | (refine TW.pl rfl rfl ?_)))
      refine TW.cs2 rfl rfl rfl (Nat.le_of_ble_eq_true rfl) (T_fileRow (d := d + 1) (k := k) (j := j) rfl (by omega)) ?_; rintro _ _ ⟨rfl, rfl⟩
      (repeat (first | (refine TW.getf rfl rfl rfl (fun _ => ?_)) | (refine TW.pl rfl rfl ?_)))
      have hr9 : RowIs (ts1 σ 0 0) (123 + 41 * k + j) ys := hrj
      refine TW.cv2 rfl rfl rfl (Nat.le_of_ble_eq_true rfl) (T_signR (d := d + 1) hr9 rfl (by omega) hc) ?_; rintro _ _ ⟨rfl, rfl⟩
      (repeat (first | (refine TW.getf rfl rfl rfl (fun _ => ?_)) | (refine TW.pl rfl rfl ?_)))
      exact TW.iret rfl (TwQ.ok h.thr ts1_eq rfl)
    · rw [sgnAt_n hc, decide_eq_false hc, if_neg (by decide)]
      refine TW.br rfl rfl (by first | omega | exact b2i_R _ | exact ⟨b2i_R _, by omega⟩) (fun q4 => ?_) (fun q4 => by first | (exfalso; omega) | exact absurd q4 (by decide))
      (repeat (first | (refine TW.getf rfl rfl rfl (fun _ => ?_)) | (refine TW.pl rfl rfl ?_)))
      exact TW.iret rfl (TwQ.no (k := 1) h.thr ts1_eq rfl)
/-! scripts -/
theorem T_scriptLength (h : TwI w σ) (hx : inR x) : TM (d + 2) tk_scriptLength [.inr 0, .inl x] σ (TwQ (pSLen x w)) := by
  refine TM.of rfl rfl ?_
  (repeat (first | (refine TW.getf rfl rfl rfl (fun _ => ?_)) | (refine TW.pl rfl rfl ?_)))
  refine TW.cs1 rfl rfl rfl (Nat.le_of_ble_eq_true rfl) (T_isFour (d := d) hx) ?_; rintro _ _ ⟨rfl, rfl⟩
  cases hf4 : isFo x with
  | false =>
    have e : pSLen x w = (.inl 1, w) := by unfold pSLen; rw [if_pos hf4]
    refine TW.br rfl rfl (by first | omega | exact b2i_R _ | exact ⟨b2i_R _, by omega⟩) (fun q => ?_) (fun q => by first | (exfalso; omega) | exact absurd q (by decide))
    (repeat (first | (refine TW.getf rfl rfl rfl (fun _ => ?_)) | (refine TW.pl rfl rfl ?_)))
    refine TW.putf rfl rfl (by omega) ?_
    (repeat (first | (refine TW.getf rfl rfl rfl (fun _ => ?_)) | (refine TW.pl rfl rfl ?_)))
    rw [ts1_eq]
    refine TW.br rfl rfl (by first | omega | exact b2i_R _ | exact ⟨b2i_R _, by omega⟩) (fun q2 => by first | (exfalso; omega) | exact absurd q2 (by decide)) (fun q2 => ?_)
    (repeat (first | (refine TW.getf rfl rfl rfl (fun _ => ?_)) | (refine TW.pl rfl rfl ?_)))
    exact TW.iret rfl (TwQ.no (k := 1) (by rw [e]; exact h.thr) ts1_eq (by rw [e]))
  | true =>
    obtain ⟨k, rfl, hk4⟩ := isFo_lt hf4
    have ek : ((k : Nat) : Int).toNat = k := Int.toNat_natCast k
    have hn4 : ¬ isFo (k : Int) = false := by rw [hf4]; decide
    obtain ⟨g1, g2⟩ := h.2.1 k hk4
    refine TW.br rfl rfl (by first | omega | exact b2i_R _ | exact ⟨b2i_R _, by omega⟩) (fun q => by first | (exfalso; omega) | exact absurd q (by decide)) (fun q => ?_)
    (repeat (first | (refine TW.getf rfl rfl rfl (fun _ => ?_)) | (refine TW.pl rfl rfl ?_)))
    refine TW.putf rfl rfl (by omega) ?_
    (repeat (first | (refine TW.getf rfl rfl rfl (fun _ => ?_)) | (refine TW.pl rfl rfl ?_)))
    rw [ts1_eq]
    refine TW.br rfl rfl (by first | omega | exact b2i_R _ | exact ⟨b2i_R _, by omega⟩) (fun q2 => ?_) (fun q2 => by first | (exfalso; omega) | exact absurd q2 (by decide))
    (repeat (first | (refine TW.getf rfl rfl rfl (fun _ => ?_)) | (refine TW.pl rfl rfl ?_)))
    refine TW.bald (n := 4) rfl rfl rfl (by omega) (fun _ => ?_)
    rw [ek]
    cases hsk : w.2.1 k with
    | none =>
      have e : pSLen k w = (.inr (-1), w) := by unfold pSLen; rw [if_neg hn4, ek, hsk]
      have hm : (ts1 σ 0 0).2 5 k = 0 := g1 hsk
      rw [hm]
      refine TW.br rfl rfl (by first | omega | exact b2i_R _ | exact ⟨b2i_R _, by omega⟩) (fun q3 => ?_) (fun q3 => by first | (exfalso; omega) | exact absurd q3 (by decide))
      (repeat (first | (refine TW.getf rfl rfl rfl (fun _ => ?_)) | (refine TW.pl rfl rfl ?_)))
      exact TW.iret rfl (TwQ.ok (by rw [e]; exact h.thr) ts1_eq (by rw [e]))
    | some s =>
      have e : pSLen k w = (.inr (s.length : Int), w) := by unfold pSLen; rw [if_neg hn4, ek, hsk]
      have hm : (ts1 σ 0 0).2 5 k = 1 := (g2 s hsk).1
      have hl : (ts1 σ 0 0).2 4 k = s.length := (g2 s hsk).2.1
      rw [hm]
      refine TW.br rfl rfl (by first | omega | exact b2i_R _ | exact ⟨b2i_R _, by omega⟩) (fun q3 => by first | (exfalso; omega) | exact absurd q3 (by decide)) (fun q3 => ?_)
      (repeat (first | (refine TW.getf rfl rfl rfl (fun _ => ?_)) | (refine TW.pl rfl rfl ?_)))
      refine TW.iald (n := 4) rfl rfl rfl (by omega) (fun _ => ?_)
      rw [ek, hl]
      (repeat (first | (refine TW.getf rfl rfl rfl (fun _ => ?_)) | (refine TW.pl rfl rfl ?_)))
      exact TW.iret rfl (TwQ.ok (by rw [e]; exact h.thr) ts1_eq (by rw [e]))
theorem T_scriptAt (h : TwI w σ) (hx : inR x) (hz : inR z) (hsc : ∀ k s, w.2.1 k = some s → SgO s) : TM (d + 2) tk_scriptAt [.inr 0, .inl x, .inl z] σ (TwQ (pSAt x z w)) := by
  have no : pSAt x z w = (.inl 1, w) → TW (d + 1) tc_scriptAt 18 [some (.inr 0), some (.inl x), some (.inl z), none] [] σ (TwQ (pSAt x z w)) := fun e => by
    (repeat (first | (refine TW.getf rfl rfl rfl (fun _ => ?_)) | (refine TW.pl rfl rfl ?_)))
    refine TW.br rfl rfl (by first | omega | exact b2i_R _ | exact ⟨b2i_R _, by omega⟩) (fun q => ?_) (fun q => by first | (exfalso; omega) | exact absurd q (by decide))
    (repeat (first | (refine TW.getf rfl rfl rfl (fun _ => ?_)) | (refine TW.pl rfl rfl ?_)))
    refine TW.putf rfl rfl (by omega) ?_
    (repeat (first | (refine TW.getf rfl rfl rfl (fun _ => ?_)) | (refine TW.pl rfl rfl ?_)))
    refine TW.br rfl rfl (by first | omega | exact b2i_R _ | exact ⟨b2i_R _, by omega⟩) (fun q2 => ?_) (fun q2 => by first | (exfalso; omega) | exact absurd q2 (by decide))
    (repeat (first | (refine TW.getf rfl rfl rfl (fun _ => ?_)) | (refine TW.pl rfl rfl ?_)))
    exact TW.iret rfl (TwQ.no (k := 1) (by rw [e]; exact h.thr) ts1_eq (by rw [e]))
  refine TM.of rfl rfl ?_
  (repeat (first | (refine TW.getf rfl rfl rfl (fun _ => ?_)) | (refine TW.pl rfl rfl ?_)))
  refine TW.cs1 rfl rfl rfl (Nat.le_of_ble_eq_true rfl) (T_isFour (d := d) hx) ?_; rintro _ _ ⟨rfl, rfl⟩
  cases hf4 : isFo x with
  | false =>
    refine TW.br rfl rfl (by first | omega | exact b2i_R _ | exact ⟨b2i_R _, by omega⟩) (fun q => ?_) (fun q => by first | (exfalso; omega) | exact absurd q (by decide))
    exact no (by unfold pSAt; rw [if_pos hf4])
  | true =>
    obtain ⟨k, rfl, hk4⟩ := isFo_lt hf4
    have ek : ((k : Nat) : Int).toNat = k := Int.toNat_natCast k
    have hn4 : ¬ isFo (k : Int) = false := by rw [hf4]; decide
    obtain ⟨g1, g2⟩ := h.2.1 k hk4
    refine TW.br rfl rfl (by first | omega | exact b2i_R _ | exact ⟨b2i_R _, by omega⟩) (fun q => by first | (exfalso; omega) | exact absurd q (by decide)) (fun q => ?_)
    (repeat (first | (refine TW.getf rfl rfl rfl (fun _ => ?_)) | (refine TW.pl rfl rfl ?_)))
    refine TW.bald (n := 4) rfl rfl rfl (by omega) (fun _ => ?_)
    rw [ek]
    cases hsk : w.2.1 k with
    | none =>
      rw [g1 hsk]
      refine TW.br rfl rfl (by first | omega | exact b2i_R _ | exact ⟨b2i_R _, by omega⟩) (fun q3 => ?_) (fun q3 => by first | (exfalso; omega) | exact absurd q3 (by decide))
      exact no (by unfold pSAt; rw [if_neg hn4, ek, hsk])
    | some s =>
      have e : pSAt k z w = sgnAt s z w := by unfold pSAt; rw [if_neg hn4, ek, hsk]
      obtain ⟨h1, h2, h3⟩ := g2 s hsk
      have h60 := (hsc k s hsk).1
      rw [h1]
      refine TW.br rfl rfl (by first | omega | exact b2i_R _ | exact ⟨b2i_R _, by omega⟩) (fun q3 => by first | (exfalso; omega) | exact absurd q3 (by decide)) (fun q3 => ?_)
      (repeat (first | (refine TW.getf rfl rfl rfl (fun _ => ?_)) | (refine TW.pl rfl rfl ?_)))
      by_cases z1 : z < 0
      · refine TW.br rfl rfl (by first | omega | exact b2i_R _ | exact ⟨b2i_R _, by omega⟩) (fun q4 => ?_) (fun q4 => by first | (exfalso; omega) | exact absurd q4 (by decide))
        exact no (by rw [e, sgnAt_n (by omega)])
      refine TW.br rfl rfl (by first | omega | exact b2i_R _ | exact ⟨b2i_R _, by omega⟩) (fun q4 => by first | (exfalso; omega) | exact absurd q4 (by decide)) (fun q4 => ?_)
      (repeat (first | (refine TW.getf rfl rfl rfl (fun _ => ?_)) | (refine TW.pl rfl rfl ?_)))
      refine TW.iald (n := 4) rfl rfl rfl (by omega) (fun _ => ?_)
      rw [ek, h2]
      by_cases z2 : z < s.length
      rotate_left
      · refine TW.br rfl rfl (by first | omega | exact b2i_R _ | exact ⟨b2i_R _, by omega⟩) (fun q5 => ?_) (fun q5 => by first | (exfalso; omega) | exact absurd q5 (by decide))
        exact no (by rw [e, sgnAt_n (by omega)])
      rw [e, sgnAt_y ⟨by omega, z2⟩]
      refine TW.br rfl rfl (by first | omega | exact b2i_R _ | exact ⟨b2i_R _, by omega⟩) (fun q5 => by first | (exfalso; omega) | exact absurd q5 (by decide)) (fun q5 => ?_)
      (repeat (first | (refine TW.getf rfl rfl rfl (fun _ => ?_)) | (refine TW.pl rfl rfl ?_)))
      refine TW.br rfl rfl (by first | omega | exact b2i_R _ | exact ⟨b2i_R _, by omega⟩) (fun q6 => by first | (exfalso; omega) | exact absurd q6 (by decide)) (fun q6 => ?_)
      (repeat (first | (refine TW.getf rfl rfl rfl (fun _ => ?_)) | (refine TW.pl rfl rfl ?_)))
      refine TW.putf rfl rfl (by omega) ?_
      (repeat (first | (refine TW.getf rfl rfl rfl (fun _ => ?_)) | (refine TW.pl rfl rfl ?_)))
      refine TW.br rfl rfl (by first | omega | exact b2i_R _ | exact ⟨b2i_R _, by omega⟩) (fun q7 => by first | (exfalso; omega) | exact absurd q7 (by decide)) (fun q7 => ?_)
      (repeat (first | (refine TW.getf rfl rfl rfl (fun _ => ?_)) | (refine TW.pl rfl rfl ?_)))
      refine TW.iald (n := 240) rfl rfl rfl (by omega) (fun _ => ?_)
      have ev : (ts1 σ 0 0).2 3 (60 * (k : Int) + z).toNat = s.getD z.toNat 0 := by
        rw [show (60 * (k : Int) + z).toNat = 60 * k + z.toNat by omega]
        exact h3 z.toNat (by omega)
      rw [ev]
      (repeat (first | (refine TW.getf rfl rfl rfl (fun _ => ?_)) | (refine TW.pl rfl rfl ?_)))
      exact TW.iret rfl (TwQ.ok h.thr ts1_eq rfl)
theorem T_keep (h : TwI w σ) (hx : inR x) (hs : SgO w.1) (hsc : ∀ k s, w.2.1 k = some s → SgO s) : TM (d + 15) tk_keep [.inr 0, .inl x] σ (TwQ (pKeep x w)) := by
  have h60 := hs.1
  refine TM.of rfl rfl ?_
  (repeat (first | (refine TW.getf rfl rfl rfl (fun _ => ?_)) | (refine TW.pl rfl rfl ?_)))
  refine TW.cv0 rfl rfl rfl (Nat.le_of_ble_eq_true rfl) (T_loadTape (d := d + 13) h.1 hs) ?_
  rintro r τ ⟨rfl, hsg, hf⟩
  have h1 := h.fr hf (by decide) (by decide)
  have thr : ∀ (k : Nat) (υ : TS), TwI w υ → k = 1 ∨ k = 2 → pKeep x w = (.inl k, w) → TW (d + 14) tc_keep 14 [some (.inr 0), some (.inl x), none] [.inl (k : Int), .inr 0] υ (TwQ (pKeep x w)) := fun k υ hυ hk e => by
    refine TW.putf rfl rfl (by omega) ?_
    (repeat (first | (refine TW.getf rfl rfl rfl (fun _ => ?_)) | (refine TW.pl rfl rfl ?_)))
    rw [ts1_eq]
    refine TW.br rfl rfl (by first | omega | exact b2i_R _ | exact ⟨b2i_R _, by omega⟩) (fun q => by first | (exfalso; omega) | exact absurd q (by decide)) (fun q => ?_)
    (repeat (first | (refine TW.getf rfl rfl rfl (fun _ => ?_)) | (refine TW.pl rfl rfl ?_)))
    exact TW.iret rfl (TwQ.no (k := k) (by rw [e]; exact hυ.thr) ts1_eq (by rw [e]))
  (repeat (first | (refine TW.getf rfl rfl rfl (fun _ => ?_)) | (refine TW.pl rfl rfl ?_)))
  refine TW.cs1 rfl rfl rfl (Nat.le_of_ble_eq_true rfl) (T_isFour (d := d + 13) hx) ?_; rintro _ _ ⟨rfl, rfl⟩
  cases hf4 : isFo x with
  | false =>
    refine TW.br rfl rfl (by first | omega | exact b2i_R _ | exact ⟨b2i_R _, by omega⟩) (fun q => by first | (exfalso; omega) | exact absurd q (by decide)) (fun q => ?_)
    (repeat (first | (refine TW.getf rfl rfl rfl (fun _ => ?_)) | (refine TW.pl rfl rfl ?_)))
    exact thr 1 τ h1 (Or.inl rfl) (by unfold pKeep; rw [if_pos hf4])
  | true =>
    obtain ⟨k, rfl, hk4⟩ := isFo_lt hf4
    have ek : ((k : Nat) : Int).toNat = k := Int.toNat_natCast k
    have hn4 : ¬ isFo (k : Int) = false := by rw [hf4]; decide
    refine TW.br rfl rfl (by first | omega | exact b2i_R _ | exact ⟨b2i_R _, by omega⟩) (fun q => ?_) (fun q => by first | (exfalso; omega) | exact absurd q (by decide))
    (repeat (first | (refine TW.getf rfl rfl rfl (fun _ => ?_)) | (refine TW.pl rfl rfl ?_)))
    refine TW.cv0 rfl rfl rfl (Nat.le_of_ble_eq_true rfl) (T_ordersFault (d := d) hsg h1.2.2.2.2.2.2) ?_
    rintro r υ ⟨rfl, hf2, hs2, hg2⟩
    have h2 := h1.frG hf2 hg2 (by decide) (by decide)
    rw [sFault_flt]
    cases hos : sOrders w.1 with
    | inl k9 =>
      have hk9 := sOrders_le hos
      have hs60 : w.1.length ≤ 60 := hs.1
      rw [flt_inl]
      refine TW.br rfl rfl (by first | omega | exact b2i_R _ | exact ⟨b2i_R _, by omega⟩) (fun q2 => by first | (exfalso; omega) | exact absurd q2 (by decide)) (fun q2 => ?_)
      (repeat (first | (refine TW.getf rfl rfl rfl (fun _ => ?_)) | (refine TW.pl rfl rfl ?_)))
      exact thr 2 υ h2 (Or.inr rfl) (by unfold pKeep; rw [if_neg hn4, hos])
    | inr os =>
      have e : pKeep k w = (.inr (w.1.length : Int), w.1, fup w.2.1 k (some w.1), w.2.2) := by unfold pKeep; rw [if_neg hn4, hos, ek]
      rw [flt_inr]
      refine TW.br rfl rfl (by first | omega | exact b2i_R _ | exact ⟨b2i_R _, by omega⟩) (fun q2 => ?_) (fun q2 => by first | (exfalso; omega) | exact absurd q2 (by decide))
      (repeat (first | (refine TW.getf rfl rfl rfl (fun _ => ?_)) | (refine TW.pl rfl rfl ?_)))
      refine TW.putf rfl rfl (by omega) ?_
      (repeat (first | (refine TW.getf rfl rfl rfl (fun _ => ?_)) | (refine TW.pl rfl rfl ?_)))
      rw [ts1_eq]
      refine TW.br rfl rfl (by first | omega | exact b2i_R _ | exact ⟨b2i_R _, by omega⟩) (fun q3 => ?_) (fun q3 => by first | (exfalso; omega) | exact absurd q3 (by decide))
      have h3 := h2.thr (v := 0)
      have h03 : (ts1 υ 0 0).1 0 = 0 := ts1_eq
      generalize ts1 υ 0 0 = ρ at h3 h03 ⊢
      rw [e]
      obtain ⟨⟨c2, cj⟩, c1, c3⟩ := h3
      (iterate 2 (first | (refine TW.getf rfl rfl rfl (fun _ => ?_)) | (refine TW.pl rfl rfl ?_)))
      have loop : ∀ (n j : Nat) (υ : TS), j + n = w.1.length → TFr [] [3] ρ υ → (∀ i, i < j → υ.2 3 (60 * k + i) = w.1.getD i 0) → (∀ i, i < 60 * k ∨ 60 * k + 60 ≤ i → υ.2 3 i = ρ.2 3 i) → TW (d + 14) tc_keep 22 [some (.inr 0), some (.inl k), some (.inl j)] [] υ (TwQ (.inr (w.1.length : Int), w.1, fup w.2.1 k (some w.1), w.2.2)) := by
        intro n
        induction n with
        | zero =>
          intro j υ hjn hf hk ho
          have e2 : υ.1 2 = w.1.length := (hf.1 2 (by decide)).trans c2
          (repeat (first | (refine TW.getf rfl rfl rfl (fun _ => ?_)) | (refine TW.pl rfl rfl ?_)))
          rw [e2]
          refine TW.br rfl rfl (by first | omega | exact b2i_R _ | exact ⟨b2i_R _, by omega⟩) (fun q4 => ?_) (fun q4 => by first | (exfalso; omega) | exact absurd q4 (by decide))
          (repeat (first | (refine TW.getf rfl rfl rfl (fun _ => ?_)) | (refine TW.pl rfl rfl ?_)))
          rw [e2]
          refine TW.iast (n := 4) rfl rfl rfl (by omega) (by omega) ?_
          rw [ek]
          (repeat (first | (refine TW.getf rfl rfl rfl (fun _ => ?_)) | (refine TW.pl rfl rfl ?_)))
          refine TW.bast (n := 4) rfl rfl rfl (by omega) (Or.inr rfl) ?_
          rw [ek]
          (repeat (first | (refine TW.getf rfl rfl rfl (fun _ => ?_)) | (refine TW.pl rfl rfl ?_)))
          have f2 : TFr [] [3, 4, 5] ρ (ts2 (ts2 υ 4 k w.1.length) 5 k 1) := ((hf.mono (by decide) (by decide)).ts2 (by decide)).ts2 (by decide)
          have e3 : (ts2 (ts2 υ 4 k w.1.length) 5 k 1).1 2 = w.1.length := e2
          rw [e3]
          obtain ⟨d2, d3, d4, d5, d6⟩ := c3
          refine TW.iret rfl (TwQ.ok (P := (.inr (w.1.length : Int), w.1, fup w.2.1 k (some w.1), w.2.2)) ⟨⟨e3, fun j hj => by rw [f2.2 1 (by decide)]; exact cj j hj⟩, fun k2 hk2 => ?_, d2.fr f2 (by decide) (by decide), d3.same f2 (by decide) (by decide), (f2.1 63 (by decide)).trans d4, (f2.1 18 (by decide)).trans d5, d6.fr f2 (by decide) (by decide)⟩ ((f2.1 0 (by decide)).trans h03) rfl)
          by_cases z : k2 = k
          · subst z
            have e5 : (ts2 (ts2 υ 4 k2 w.1.length) 5 k2 1).2 5 k2 = 1 := by rw [ts2_at, if_pos rfl]
            have e4 : (ts2 (ts2 υ 4 k2 w.1.length) 5 k2 1).2 4 k2 = w.1.length := by rw [ts2_ne (by decide), ts2_at, if_pos rfl]
            have e33 : ∀ i, (ts2 (ts2 υ 4 k2 w.1.length) 5 k2 1).2 3 i = υ.2 3 i := fun i => by rw [ts2_ne (by decide), ts2_ne (by decide)]
            have es : fup w.2.1 k2 (some w.1) k2 = some w.1 := if_pos rfl
            show (fup w.2.1 k2 (some w.1) k2 = none → _) ∧ ∀ s, fup w.2.1 k2 (some w.1) k2 = some s → _
            rw [es]
            refine ⟨(fun z => by cases z), fun s z => ?_⟩
            cases z
            exact ⟨e5, e4, fun i hi => by rw [e33]; exact hk i (by omega)⟩
          · have e5 : (ts2 (ts2 υ 4 k w.1.length) 5 k 1).2 5 k2 = ρ.2 5 k2 := by rw [ts2_at, if_neg z, ts2_ne (by decide), hf.2 5 (by decide)]
            have e4 : (ts2 (ts2 υ 4 k w.1.length) 5 k 1).2 4 k2 = ρ.2 4 k2 := by rw [ts2_ne (by decide), ts2_at, if_neg z, hf.2 4 (by decide)]
            have e33 : ∀ i, (ts2 (ts2 υ 4 k w.1.length) 5 k 1).2 3 i = υ.2 3 i := fun i => by rw [ts2_ne (by decide), ts2_ne (by decide)]
            have es : fup w.2.1 k (some w.1) k2 = w.2.1 k2 := if_neg z
            obtain ⟨m1, m2⟩ := c1 k2 hk2
            show (fup w.2.1 k (some w.1) k2 = none → _) ∧ ∀ s, fup w.2.1 k (some w.1) k2 = some s → _
            rw [es]
            refine ⟨fun z9 => by rw [e5]; exact m1 z9, fun s z9 => ?_⟩
            obtain ⟨n1, n2, n3⟩ := m2 s z9
            have hs60 := (hsc k2 s z9).1
            exact ⟨by rw [e5]; exact n1, by rw [e4]; exact n2, fun i hi => by rw [e33, ho _ (by omega)]; exact n3 i hi⟩
        | succ n ih =>
          intro j υ hjn hf hk ho
          have e2 : υ.1 2 = w.1.length := (hf.1 2 (by decide)).trans c2
          have ev : υ.2 1 j = w.1.getD j 0 := by rw [hf.2 1 (by decide)]; exact cj j (by omega)
          have ej : ((j : Nat) : Int).toNat = j := Int.toNat_natCast j
          have eij : (60 * (k : Int) + (j : Int)).toNat = 60 * k + j := by omega
          (repeat (first | (refine TW.getf rfl rfl rfl (fun _ => ?_)) | (refine TW.pl rfl rfl ?_)))
          rw [e2]
          refine TW.br rfl rfl (by first | omega | exact b2i_R _ | exact ⟨b2i_R _, by omega⟩) (fun q4 => by first | (exfalso; omega) | exact absurd q4 (by decide)) (fun q4 => ?_)
          (repeat (first | (refine TW.getf rfl rfl rfl (fun _ => ?_)) | (refine TW.pl rfl rfl ?_)))
          refine TW.iald (n := 60) rfl rfl rfl (by omega) (fun _ => ?_)
          rw [ej, ev]
          have hR := hs.2 (w.1.getD j 0) (by rw [List.getD_eq_getElem?_getD, List.getElem?_eq_getElem (by omega)]; exact List.getElem_mem _)
          refine TW.iast (n := 240) rfl rfl rfl (by omega) (by omega) ?_
          rw [eij]
          (iterate 2 (first | (refine TW.getf rfl rfl rfl (fun _ => ?_)) | (refine TW.pl rfl rfl ?_)))
          have e1 : (j : Int) + 1 = ((j + 1 : Nat) : Int) := by omega
          show TW (d + 14) tc_keep 22 [some (.inr 0), some (.inl k), some (.inl ((j : Int) + 1))] [] _ _
          rw [e1]
          refine ih (j + 1) _ (by omega) (hf.ts2 (by decide)) (fun i hi => ?_) (fun i hi => ?_)
          · rw [ts2_at]
            split
            · rename_i z; rw [show i = j by omega]
            · exact hk i (by omega)
          · rw [ts2_at, if_neg (by omega)]
            exact ho i hi
      exact loop w.1.length 0 ρ (Nat.zero_add _) TFr.rf (fun i hi => absurd hi (Nat.not_lt_zero _)) (fun i _ => rfl)
/-! undoing -/
theorem DeedsIs.get (h : DeedsIs σ ds) (hne : ds ≠ []) : ∃ fd : Nat, (σ.1 61) + (σ.1 62) - 1 = ((fd + (ds.length - 1) : Nat) : Int) ∧ fd < 40 ∧ DeedAt σ ((fd + (ds.length - 1)) % 40) (lastD ds) := by
  obtain ⟨a, b, fd, c, e, g⟩ := h
  have hl := List.length_pos_iff.mpr hne
  exact ⟨fd, by omega, e, g (ds.length - 1) (by omega)⟩
theorem take_last (hne : ds ≠ []) : ds.take (ds.length - 1) ++ [lastD ds] = ds := by
  have hl := List.length_pos_iff.mpr hne
  have h1 : ds.length - 1 < ds.length := by omega
  have h2 := List.take_succ_eq_append_getElem h1
  rw [show ds.length - 1 + 1 = ds.length by omega, List.take_length] at h2
  have h3 : lastD ds = ds[ds.length - 1] := by
    unfold lastD
    rw [List.getD_eq_getElem?_getD, List.getElem?_eq_getElem h1]
    rfl
  rw [h3]
  exact h2.symm
/-- one deed is undone -/
theorem T_undo1 (h : TwI w σ) (hne : w.2.2.2.1 ≠ []) : TM (d + 2) tk_undoLatest [.inr 0] σ (fun r τ => r = none ∧ TwI (setAD w (undoA w.2.2.1 (lastD w.2.2.2.1)) (w.2.2.2.1.take (w.2.2.2.1.length - 1))) τ ∧ (τ.1 0) = (σ.1 0)) := by
  obtain ⟨tp, sc, ⟨t, p, hh, oo, fi, mks, nn, rp⟩, ds, cl, re⟩ := w
  obtain ⟨c0, c1, ⟨a1, a2, a3, a4, a5⟩, c3, c4, c5, c6⟩ := h
  have c3 : DeedsIs σ ds := c3
  have hne : ds ≠ [] := hne
  rw [← take_last hne] at c3
  refine TM.mono (T_undoLatest (d := d) c3) (Nat.le_refl _) (fun r τ ⟨hr, hT, hp, hM, hD, hS, hf⟩ => ⟨hr, ⟨c0.fr hf (by decide) (by decide), c1.fr hf (by decide), ⟨hT, hp, ?_, hM, (hf.1 17 (by decide)).trans a5⟩, hD, (hf.1 63 (by decide)).trans c4, (hf.1 18 (by decide)).trans c5, ?_⟩, hf.1 0 (by decide)⟩)
  · exact a3.same hf hS (by decide) (by decide) (fun k hk => by omega)
  · have c6 : GS σ := c6
    unfold GS at c6 ⊢
    rw [hf.1 25 (by decide), hf.1 26 (by decide)]
    exact c6
theorem T_undo (h : TwI w σ) : TM (d + 3) tk_undo [.inr 0] σ (TwQ (pUndo w)) := by
  have h62 := h.2.2.2.1.1
  have h40 := h.2.2.2.1.2.1
  refine TM.of rfl rfl ?_
  (repeat (first | (refine TW.getf rfl rfl rfl (fun _ => ?_)) | (refine TW.pl rfl rfl ?_)))
  rw [h62]
  by_cases z : w.2.2.2.1 = []
  · have e : pUndo w = (.inl 1, w) := by unfold pUndo; rw [if_pos z]
    have hl : w.2.2.2.1.length = 0 := by rw [z]; rfl
    refine TW.br rfl rfl (by first | omega | exact b2i_R _ | exact ⟨b2i_R _, by omega⟩) (fun q => by first | (exfalso; omega) | exact absurd q (by decide)) (fun q => ?_)
    (repeat (first | (refine TW.getf rfl rfl rfl (fun _ => ?_)) | (refine TW.pl rfl rfl ?_)))
    refine TW.putf rfl rfl (by omega) ?_
    (repeat (first | (refine TW.getf rfl rfl rfl (fun _ => ?_)) | (refine TW.pl rfl rfl ?_)))
    rw [ts1_eq]
    refine TW.br rfl rfl (by first | omega | exact b2i_R _ | exact ⟨b2i_R _, by omega⟩) (fun q2 => by first | (exfalso; omega) | exact absurd q2 (by decide)) (fun q2 => ?_)
    (repeat (first | (refine TW.getf rfl rfl rfl (fun _ => ?_)) | (refine TW.pl rfl rfl ?_)))
    exact TW.iret rfl (TwQ.no (k := 1) (by rw [e]; exact h.thr) ts1_eq (by rw [e]))
  · have hl := List.length_pos_iff.mpr z
    have e : pUndo w = (.inr ((w.2.2.2.1.length - 1 : Nat) : Int), setAD w (undoA w.2.2.1 (lastD w.2.2.2.1)) (w.2.2.2.1.take (w.2.2.2.1.length - 1))) := by unfold pUndo; rw [if_neg z]
    refine TW.br rfl rfl (by first | omega | exact b2i_R _ | exact ⟨b2i_R _, by omega⟩) (fun q => ?_) (fun q => by first | (exfalso; omega) | exact absurd q (by decide))
    (repeat (first | (refine TW.getf rfl rfl rfl (fun _ => ?_)) | (refine TW.pl rfl rfl ?_)))
    refine TW.putf rfl rfl (by omega) ?_
    (repeat (first | (refine TW.getf rfl rfl rfl (fun _ => ?_)) | (refine TW.pl rfl rfl ?_)))
    rw [ts1_eq]
    refine TW.br rfl rfl (by first | omega | exact b2i_R _ | exact ⟨b2i_R _, by omega⟩) (fun q2 => ?_) (fun q2 => by first | (exfalso; omega) | exact absurd q2 (by decide))
    (repeat (first | (refine TW.getf rfl rfl rfl (fun _ => ?_)) | (refine TW.pl rfl rfl ?_)))
    refine TW.cv0 rfl rfl rfl (Nat.le_of_ble_eq_true rfl) (T_undo1 (d := d) h.thr z) ?_
    rintro r τ ⟨rfl, h1, h0⟩
    have h62' : τ.1 62 = ((w.2.2.2.1.take (w.2.2.2.1.length - 1)).length : Int) := h1.2.2.2.1.1
    rw [List.length_take] at h62'
    (repeat (first | (refine TW.getf rfl rfl rfl (fun _ => ?_)) | (refine TW.pl rfl rfl ?_)))
    rw [h62', show min (w.2.2.2.1.length - 1) w.2.2.2.1.length = w.2.2.2.1.length - 1 by omega]
    exact TW.iret rfl (TwQ.ok (by rw [e]; exact h1) (h0.trans ts1_eq) (by rw [e]))
theorem T_undoRun (h : TwI w σ) (hpl : ∀ q ∈ w.2.2.2.1, q.1 < 2000000) : TM (d + 3) tk_undoRun [.inr 0] σ (TwQ (pUndoRun w)) := by
  have h62 := h.2.2.2.1.1
  have h40 := h.2.2.2.1.2.1
  refine TM.of rfl rfl ?_
  (repeat (first | (refine TW.getf rfl rfl rfl (fun _ => ?_)) | (refine TW.pl rfl rfl ?_)))
  rw [h62]
  by_cases z : w.2.2.2.1 = []
  · have e : pUndoRun w = (.inl 1, w) := by unfold pUndoRun; rw [if_pos z]
    have hl : w.2.2.2.1.length = 0 := by rw [z]; rfl
    refine TW.br rfl rfl (by first | omega | exact b2i_R _ | exact ⟨b2i_R _, by omega⟩) (fun q => by first | (exfalso; omega) | exact absurd q (by decide)) (fun q => ?_)
    (repeat (first | (refine TW.getf rfl rfl rfl (fun _ => ?_)) | (refine TW.pl rfl rfl ?_)))
    refine TW.putf rfl rfl (by omega) ?_
    (repeat (first | (refine TW.getf rfl rfl rfl (fun _ => ?_)) | (refine TW.pl rfl rfl ?_)))
    rw [ts1_eq]
    refine TW.br rfl rfl (by first | omega | exact b2i_R _ | exact ⟨b2i_R _, by omega⟩) (fun q2 => by first | (exfalso; omega) | exact absurd q2 (by decide)) (fun q2 => ?_)
    (repeat (first | (refine TW.getf rfl rfl rfl (fun _ => ?_)) | (refine TW.pl rfl rfl ?_)))
    exact TW.iret rfl (TwQ.no (k := 1) (by rw [e]; exact h.thr) ts1_eq (by rw [e]))
  have hl := List.length_pos_iff.mpr z
  have e : pUndoRun w = (.inr ((undoF (lastD w.2.2.2.1).1 w.2.2.2.1.length w.2.2.1 w.2.2.2.1).1 : Int), setAD w (undoF (lastD w.2.2.2.1).1 w.2.2.2.1.length w.2.2.1 w.2.2.2.1).2.1 (undoF (lastD w.2.2.2.1).1 w.2.2.2.1.length w.2.2.1 w.2.2.2.1).2.2) := by unfold pUndoRun; rw [if_neg z]
  rw [e]
  refine TW.br rfl rfl (by first | omega | exact b2i_R _ | exact ⟨b2i_R _, by omega⟩) (fun q => ?_) (fun q => by first | (exfalso; omega) | exact absurd q (by decide))
  (repeat (first | (refine TW.getf rfl rfl rfl (fun _ => ?_)) | (refine TW.pl rfl rfl ?_)))
  refine TW.putf rfl rfl (by omega) ?_
  (repeat (first | (refine TW.getf rfl rfl rfl (fun _ => ?_)) | (refine TW.pl rfl rfl ?_)))
  rw [ts1_eq]
  refine TW.br rfl rfl (by first | omega | exact b2i_R _ | exact ⟨b2i_R _, by omega⟩) (fun q2 => ?_) (fun q2 => by first | (exfalso; omega) | exact absurd q2 (by decide))
  have h1 := h.thr (v := 0)
  have h01 : (ts1 σ 0 0).1 0 = 0 := ts1_eq
  generalize ts1 σ 0 0 = σ1 at h1 h01 ⊢
  obtain ⟨fd, hd1, hd2, hd3⟩ := h1.2.2.2.1.get z
  (repeat (first | (refine TW.getf rfl rfl rfl (fun _ => ?_)) | (refine TW.pl rfl rfl ?_)))
  refine TW.cv0 rfl rfl rfl (Nat.le_of_ble_eq_true rfl) (T_latestDeed (d := d + 1) hd1 (by omega)) ?_; rintro _ _ ⟨rfl, rfl⟩
  have hm40 : (fd + (w.2.2.2.1.length - 1)) % 40 < 40 := Nat.mod_lt _ (by decide)
  refine TW.iald (n := 40) rfl rfl rfl (by omega) (fun hv8 => ?_)
  rw [show ((((fd + (w.2.2.2.1.length - 1)) % 40 : Nat) : Int)).toNat = (fd + (w.2.2.2.1.length - 1)) % 40 from Int.toNat_natCast _, hd3.1] at hv8 ⊢
  generalize hpl9 : (lastD w.2.2.2.1).1 = pl at hv8 ⊢
  (iterate 3 (first | (refine TW.getf rfl rfl rfl (fun _ => ?_)) | (refine TW.pl rfl rfl ?_)))
  have loop : ∀ (N k : Nat) (A2 : St) (ds2 : List SDeed) (τ : TS), ds2.length ≤ N → k + N ≤ 40 → TwI (setAD w A2 ds2) τ → (τ.1 0) = 0 → TW (d + 2) tc_undoRun 21 [some (.inr 0), some (.inl pl), some (.inl k)] [] τ (TwQ (.inr (((undoF pl N A2 ds2).1 + k : Nat) : Int), setAD w (undoF pl N A2 ds2).2.1 (undoF pl N A2 ds2).2.2)) := by
    intro N
    induction N with
    | zero =>
      intro k A2 ds2 τ hN hk hT h0
      have hz2 : ds2.length = 0 := by omega
      have h62 : τ.1 62 = (ds2.length : Int) := hT.2.2.2.1.1
      (repeat (first | (refine TW.getf rfl rfl rfl (fun _ => ?_)) | (refine TW.pl rfl rfl ?_)))
      rw [h62]
      refine TW.br rfl rfl (by first | omega | exact b2i_R _ | exact ⟨b2i_R _, by omega⟩) (fun q3 => ?_) (fun q3 => by first | (exfalso; omega) | exact absurd q3 (by decide))
      (repeat (first | (refine TW.getf rfl rfl rfl (fun _ => ?_)) | (refine TW.pl rfl rfl ?_)))
      exact TW.iret rfl (TwQ.ok hT h0 (by show (.inr _ : Nat ⊕ Int) = .inr _; rw [show (undoF pl 0 A2 ds2).1 = 0 from rfl, Nat.zero_add]))
    | succ N ih =>
      intro k A2 ds2 τ hN hk hT h0
      have h62 : τ.1 62 = (ds2.length : Int) := hT.2.2.2.1.1
      rw [undoF_e]
      by_cases hz2 : ds2 = []
      · have hz3 : ds2.length = 0 := by rw [hz2]; rfl
        rw [if_neg (fun w => w.1 hz2)]
        (repeat (first | (refine TW.getf rfl rfl rfl (fun _ => ?_)) | (refine TW.pl rfl rfl ?_)))
        rw [h62]
        refine TW.br rfl rfl (by first | omega | exact b2i_R _ | exact ⟨b2i_R _, by omega⟩) (fun q3 => ?_) (fun q3 => by first | (exfalso; omega) | exact absurd q3 (by decide))
        (repeat (first | (refine TW.getf rfl rfl rfl (fun _ => ?_)) | (refine TW.pl rfl rfl ?_)))
        exact TW.iret rfl (TwQ.ok hT h0 (by show (.inr _ : Nat ⊕ Int) = .inr _; rw [Nat.zero_add]))
      have hl2 := List.length_pos_iff.mpr hz2
      have hD2 : DeedsIs τ ds2 := hT.2.2.2.1
      obtain ⟨fd2, k1, k2, k3⟩ := hD2.get hz2
      have hm2 : (fd2 + (ds2.length - 1)) % 40 < 40 := Nat.mod_lt _ (by decide)
      (repeat (first | (refine TW.getf rfl rfl rfl (fun _ => ?_)) | (refine TW.pl rfl rfl ?_)))
      rw [h62]
      refine TW.br rfl rfl (by first | omega | exact b2i_R _ | exact ⟨b2i_R _, by omega⟩) (fun q3 => by first | (exfalso; omega) | exact absurd q3 (by decide)) (fun q3 => ?_)
      (repeat (first | (refine TW.getf rfl rfl rfl (fun _ => ?_)) | (refine TW.pl rfl rfl ?_)))
      refine TW.cv0 rfl rfl rfl (Nat.le_of_ble_eq_true rfl) (T_latestDeed (d := d + 1) k1 (by omega)) ?_; rintro _ _ ⟨rfl, rfl⟩
      refine TW.iald (n := 40) rfl rfl rfl (by omega) (fun hv9 => ?_)
      rw [show ((((fd2 + (ds2.length - 1)) % 40 : Nat) : Int)).toNat = (fd2 + (ds2.length - 1)) % 40 from Int.toNat_natCast _, k3.1] at hv9 ⊢
      (repeat (first | (refine TW.getf rfl rfl rfl (fun _ => ?_)) | (refine TW.pl rfl rfl ?_)))
      by_cases hp : (lastD ds2).1 = pl
      rotate_left
      · rw [if_neg (fun w => hp w.2)]
        refine TW.br rfl rfl (by first | omega | exact b2i_R _ | exact ⟨b2i_R _, by omega⟩) (fun q4 => ?_) (fun q4 => by first | (exfalso; omega) | exact absurd q4 (by decide))
        (repeat (first | (refine TW.getf rfl rfl rfl (fun _ => ?_)) | (refine TW.pl rfl rfl ?_)))
        exact TW.iret rfl (TwQ.ok hT h0 (by show (.inr _ : Nat ⊕ Int) = .inr _; rw [Nat.zero_add]))
      rw [if_pos ⟨hz2, hp⟩]
      refine TW.br rfl rfl (by first | omega | exact b2i_R _ | exact ⟨b2i_R _, by omega⟩) (fun q4 => by first | (exfalso; omega) | exact absurd q4 (by decide)) (fun q4 => ?_)
      (repeat (first | (refine TW.getf rfl rfl rfl (fun _ => ?_)) | (refine TW.pl rfl rfl ?_)))
      refine TW.cv0 rfl rfl rfl (Nat.le_of_ble_eq_true rfl) (T_undo1 (d := d) hT hz2) ?_
      rintro r υ ⟨rfl, hT2, h02⟩
      (iterate 2 (first | (refine TW.getf rfl rfl rfl (fun _ => ?_)) | (refine TW.pl rfl rfl ?_)))
      have ek : (k : Int) + 1 = ((k + 1 : Nat) : Int) := by omega
      show TW (d + 2) tc_undoRun 21 [some (.inr 0), some (.inl pl), some (.inl ((k : Int) + 1))] [] υ _
      rw [ek]
      have h9 := ih (k + 1) (undoA A2 (lastD ds2)) (ds2.take (ds2.length - 1)) υ (by rw [List.length_take]; omega) (by omega) hT2 (h02.trans h0)
      rw [show (undoF pl N (undoA A2 (lastD ds2)) (ds2.take (ds2.length - 1))).1 + (k + 1) = (undoF pl N (undoA A2 (lastD ds2)) (ds2.take (ds2.length - 1))).1 + 1 + k by omega] at h9
      exact h9
  have h9 := loop w.2.2.2.1.length 0 w.2.2.1 w.2.2.2.1 σ1 (Nat.le_refl _) (by omega) h1 h01
  rw [Nat.add_zero] at h9
  exact h9
end TPW
