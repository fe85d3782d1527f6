set_option maxRecDepth 100000
/-! the twin reads orders -/
def PGx (fs : List Nat) (σ0 : TS) (s l : List Int) (τ : TS) : Prop := ∃ gr st, PG fs σ0 s 4 gr st l τ
def rs {α : Type} : PR α → PR Unit
  | .inl f => .inl f
  | .inr (l, _) => .inr (l, ())
def PY (fs : List Nat) (σ0 : TS) (s : List Int) (R : PR Unit) (r : Option Int) (τ : TS) : Prop := PX fs σ0 s 4 R (fun l1 _ τ => PGx fs σ0 s l1 τ) r τ
abbrev fP : List Nat := [23, 24, 25, 26]
section TOrd
variable {d : Nat} {σ σ0 : TS} {s l f : List Int} {fs : List Nat} {gr st : Nat} {m : Int}
theorem PY.bad {r : Option Int} {τ : TS} (h : PB fs σ0 s m f τ) (hm : m ≤ 4) (hr : r = none) : PY fs σ0 s (.inl f) r τ := ⟨hr, h.mono hm⟩
theorem PY.good {r : Option Int} {τ : TS} (h : PG fs σ0 s m gr st l τ) (hm : m ≤ 4) (hr : r = none) : PY fs σ0 s (.inr (l, ())) r τ := ⟨hr, gr, st, h.mono hm⟩
theorem PG.oth (h : PG fs σ0 s m gr st l σ) {k : Nat} {v : Int} (hk : k ∈ fs) (h1 : 27 ≤ k) : PG fs σ0 s m gr st l (ts1 σ k v) := ⟨⟨h.1.1, h.1.2.1.ts1 hk, by
  have := h.1.2.2
  unfold SgnIs at this ⊢
  rw [ts1_ne (by omega)]
  exact this⟩, h.2.1.fr (ts1_ne (by omega)), by rw [ts1_ne (by omega)]; exact h.2.2.1, by rw [ts1_ne (by omega)]; exact h.2.2.2.1, by rw [ts1_ne (by omega)]; exact h.2.2.2.2⟩
theorem PB.oth (h : PB fs σ0 s m f σ) {k : Nat} {v : Int} (hk : k ∈ fs) (h1 : 27 ≤ k) : PB fs σ0 s m f (ts1 σ k v) := ⟨⟨h.1.1, h.1.2.1.ts1 hk, by
  have := h.1.2.2
  unfold SgnIs at this ⊢
  rw [ts1_ne (by omega)]
  exact this⟩, h.2.1.elim fun l a => ⟨l, a.fr (ts1_ne (by omega))⟩, by rw [ts1_ne (by omega)]; exact h.2.2.1, by rw [ts1_ne (by omega)]; exact h.2.2.2.1, by rw [ts1_ne (by omega)]; exact h.2.2.2.2⟩
theorem PG.keepP (h : PG fs σ0 s m gr st l σ) {v : Int} (hv : v = (σ.1 23)) : PG fs σ0 s m gr st l (ts1 σ 23 v) := ⟨h.1.ts1 (by decide) (by decide), h.2.1.fr (by rw [ts1_eq, hv]), by rw [ts1_ne (by decide)]; exact h.2.2.1, by rw [ts1_ne (by decide)]; exact h.2.2.2.1, by rw [ts1_ne (by decide)]; exact h.2.2.2.2⟩
theorem PG.base (h : PG fs σ0 s m gr st l σ) : PG fP σ s m gr st l σ := by
  refine ⟨⟨fun k h1 h2 => ?_, TFr.rf, h.1.2.2⟩, h.2⟩
  have : k = 23 ∨ k = 24 ∨ k = 25 ∨ k = 26 := by omega
  rcases this with z | z | z | z <;> (rw [z]; decide)
theorem PZ.lift {τ : TS} (h : PZ fP σ s τ) (h0 : PZ fs σ0 s σ) : PZ fs σ0 s τ := ⟨h0.1, h0.2.1.trans (h.2.1.mono (fun k hk => h0.1 k (by simp at hk; omega) (by simp at hk; omega)) (fun _ h => h)), h.2.2⟩
theorem PGx.lift {τ : TS} (h : PGx fP σ s l τ) (h0 : PZ fs σ0 s σ) : PGx fs σ0 s l τ := h.elim fun gr h => h.elim fun st h => ⟨gr, st, h.1.lift h0, h.2⟩
theorem PB.lift {τ : TS} (h : PB fP σ s m f τ) (h0 : PZ fs σ0 s σ) : PB fs σ0 s m f τ := ⟨h.1.lift h0, h.2⟩
theorem T_beginsSpot {c : Int} (h : inR c) : TE (d + 2) tk_beginsSpot [.inl c] σ (some (b2i (isSpot c))) σ := by
  refine TM.of rfl rfl ?_
  have fin1 : isSpot c = true → TW (d + 1) tc_beginsSpot 18 [some (.inl c)] [] σ (fun r' σ' => some (b2i (isSpot c)) = r' ∧ σ = σ') := by
    intro h1
    (repeat (first | (refine TW.getf rfl rfl rfl (fun _ => ?_)) | (refine TW.pl rfl rfl ?_)))
    exact TW.zret rfl (Or.inr rfl) ⟨by rw [h1]; rfl, rfl⟩
  (repeat (first | (refine TW.getf rfl rfl rfl (fun _ => ?_)) | (refine TW.pl rfl rfl ?_)))
  refine TW.cs1 rfl rfl rfl (Nat.le_of_ble_eq_true rfl) (T_isDigit h) ?_; rintro _ _ ⟨rfl, rfl⟩
  refine TW.br rfl rfl (by first | omega | exact b2i_R _ | exact ⟨b2i_R _, by omega⟩) (fun h1 => ?_) (fun h1 => ?_)
  · exact fin1 (by unfold isSpot; rw [b2i_1 h1]; rfl)
  (repeat (first | (refine TW.getf rfl rfl rfl (fun _ => ?_)) | (refine TW.pl rfl rfl ?_)))
  refine TW.br rfl rfl (by first | omega | exact b2i_R _ | exact ⟨b2i_R _, by omega⟩) (fun h2 => ?_) (fun h2 => ?_)
  · exact fin1 (by rw [h2]; rfl)
  (repeat (first | (refine TW.getf rfl rfl rfl (fun _ => ?_)) | (refine TW.pl rfl rfl ?_)))
  refine TW.br rfl rfl (by first | omega | exact b2i_R _ | exact ⟨b2i_R _, by omega⟩) (fun h3 => ?_) (fun h3 => ?_)
  · exact fin1 (by rw [h3]; rfl)
  (repeat (first | (refine TW.getf rfl rfl rfl (fun _ => ?_)) | (refine TW.pl rfl rfl ?_)))
  refine TW.br rfl rfl (by first | omega | exact b2i_R _ | exact ⟨b2i_R _, by omega⟩) (fun h4 => ?_) (fun h4 => ?_)
  · exact fin1 (by rw [h4]; rfl)
  (repeat (first | (refine TW.getf rfl rfl rfl (fun _ => ?_)) | (refine TW.pl rfl rfl ?_)))
  refine TW.br rfl rfl (by first | omega | exact b2i_R _ | exact ⟨b2i_R _, by omega⟩) (fun h5 => ?_) (fun h5 => ?_)
  · exact fin1 (by rw [h5]; rfl)
  (repeat (first | (refine TW.getf rfl rfl rfl (fun _ => ?_)) | (refine TW.pl rfl rfl ?_)))
  refine TW.br rfl rfl (by first | omega | exact b2i_R _ | exact ⟨b2i_R _, by omega⟩) (fun h6 => ?_) (fun h6 => ?_)
  · (repeat (first | (refine TW.getf rfl rfl rfl (fun _ => ?_)) | (refine TW.pl rfl rfl ?_)))
    refine TW.zret rfl (Or.inl rfl) ⟨?_, rfl⟩
    have : isSpot c = false := by unfold isSpot; rw [b2i_0 h1, decide_eq_false h2, decide_eq_false h3, decide_eq_false h4, decide_eq_false h5, decide_eq_false h6]; rfl
    rw [this]; rfl
  · exact fin1 (by rw [h6]; rfl)
theorem T_isBare {c : Int} (h : inR c) : TE (d + 1) tk_isBare [.inl c] σ (some (b2i (isBar c))) σ := by
  refine TM.of rfl rfl ?_
  have fin1 : ∀ x : Int, isBar c = true → TW d tc_isBare 42 [some (.inl c), some (.inl x)] [] σ (fun r' σ' => some (b2i (isBar c)) = r' ∧ σ = σ') := by
    intro x h1
    (repeat (first | (refine TW.getf rfl rfl rfl (fun _ => ?_)) | (refine TW.pl rfl rfl ?_)))
    exact TW.zret rfl (Or.inr rfl) ⟨by rw [h1]; rfl, rfl⟩
  have fin2 : isBar c = true → TW d tc_isBare 21 [some (.inl c), none] [] σ (fun r' σ' => some (b2i (isBar c)) = r' ∧ σ = σ') := by
    intro h1
    (repeat (first | (refine TW.getf rfl rfl rfl (fun _ => ?_)) | (refine TW.pl rfl rfl ?_)))
    refine TW.br rfl rfl (by first | omega | exact b2i_R _ | exact ⟨b2i_R _, by omega⟩) (fun h2 => ?_) (fun h2 => ?_)
    · exact fin1 _ h1
    · omega
  (repeat (first | (refine TW.getf rfl rfl rfl (fun _ => ?_)) | (refine TW.pl rfl rfl ?_)))
  refine TW.br rfl rfl (by first | omega | exact b2i_R _ | exact ⟨b2i_R _, by omega⟩) (fun h1 => ?_) (fun h1 => ?_)
  · exact fin2 (by rw [h1]; rfl)
  (repeat (first | (refine TW.getf rfl rfl rfl (fun _ => ?_)) | (refine TW.pl rfl rfl ?_)))
  refine TW.br rfl rfl (by first | omega | exact b2i_R _ | exact ⟨b2i_R _, by omega⟩) (fun h2 => ?_) (fun h2 => ?_)
  · exact fin2 (by rw [h2]; rfl)
  (repeat (first | (refine TW.getf rfl rfl rfl (fun _ => ?_)) | (refine TW.pl rfl rfl ?_)))
  refine TW.br rfl rfl (by first | omega | exact b2i_R _ | exact ⟨b2i_R _, by omega⟩) (fun h3 => ?_) (fun h3 => ?_)
  · exact fin2 (by rw [h3]; rfl)
  (repeat (first | (refine TW.getf rfl rfl rfl (fun _ => ?_)) | (refine TW.pl rfl rfl ?_)))
  refine TW.br rfl rfl (by first | omega | exact b2i_R _ | exact ⟨b2i_R _, by omega⟩) (fun h4 => ?_) (fun h4 => ?_)
  · exact fin2 (by rw [h4]; rfl)
  (repeat (first | (refine TW.getf rfl rfl rfl (fun _ => ?_)) | (refine TW.pl rfl rfl ?_)))
  refine TW.br rfl rfl (by first | omega | exact b2i_R _ | exact ⟨b2i_R _, by omega⟩) (fun h5 => ?_) (fun h5 => ?_)
  · exact fin2 (by rw [h5]; rfl)
  (repeat (first | (refine TW.getf rfl rfl rfl (fun _ => ?_)) | (refine TW.pl rfl rfl ?_)))
  refine TW.br rfl rfl (by first | omega | exact b2i_R _ | exact ⟨b2i_R _, by omega⟩) (fun h6 => ?_) (fun h6 => ?_)
  · exact fin2 (by rw [h6]; rfl)
  (repeat (first | (refine TW.getf rfl rfl rfl (fun _ => ?_)) | (refine TW.pl rfl rfl ?_)))
  refine TW.br rfl rfl (by first | omega | exact b2i_R _ | exact ⟨b2i_R _, by omega⟩) (fun h7 => ?_) (fun h7 => ?_)
  · (repeat (first | (refine TW.getf rfl rfl rfl (fun _ => ?_)) | (refine TW.pl rfl rfl ?_)))
    refine TW.br rfl rfl (by first | omega | exact b2i_R _ | exact ⟨b2i_R _, by omega⟩) (fun h0 => ?_) (fun h0 => ?_)
    · omega
    (repeat (first | (refine TW.getf rfl rfl rfl (fun _ => ?_)) | (refine TW.pl rfl rfl ?_)))
    refine TW.br rfl rfl (by first | omega | exact b2i_R _ | exact ⟨b2i_R _, by omega⟩) (fun h8 => ?_) (fun h8 => ?_)
    · exact fin1 _ (by rw [h8]; rfl)
    (repeat (first | (refine TW.getf rfl rfl rfl (fun _ => ?_)) | (refine TW.pl rfl rfl ?_)))
    refine TW.br rfl rfl (by first | omega | exact b2i_R _ | exact ⟨b2i_R _, by omega⟩) (fun h9 => ?_) (fun h9 => ?_)
    · exact fin1 _ (by rw [h9]; rfl)
    (repeat (first | (refine TW.getf rfl rfl rfl (fun _ => ?_)) | (refine TW.pl rfl rfl ?_)))
    refine TW.br rfl rfl (by first | omega | exact b2i_R _ | exact ⟨b2i_R _, by omega⟩) (fun h10 => ?_) (fun h10 => ?_)
    · exact fin1 _ (by rw [h10]; rfl)
    (repeat (first | (refine TW.getf rfl rfl rfl (fun _ => ?_)) | (refine TW.pl rfl rfl ?_)))
    refine TW.br rfl rfl (by first | omega | exact b2i_R _ | exact ⟨b2i_R _, by omega⟩) (fun h11 => ?_) (fun h11 => ?_)
    · exact fin1 _ (by rw [h11]; rfl)
    (repeat (first | (refine TW.getf rfl rfl rfl (fun _ => ?_)) | (refine TW.pl rfl rfl ?_)))
    refine TW.br rfl rfl (by first | omega | exact b2i_R _ | exact ⟨b2i_R _, by omega⟩) (fun h12 => ?_) (fun h12 => ?_)
    · (repeat (first | (refine TW.getf rfl rfl rfl (fun _ => ?_)) | (refine TW.pl rfl rfl ?_)))
      refine TW.zret rfl (Or.inl rfl) ⟨?_, rfl⟩
      have : isBar c = false := by
        unfold isBar
        simp only [List.contains_cons, List.contains_nil, Bool.or_false, Bool.or_eq_false_iff, beq_eq_false_iff_ne, ne_eq]
        exact ⟨h1, h2, h3, h4, h5, h6, h7, h8, h9, h10, h11, h12⟩
      rw [this]; rfl
    · exact fin1 _ (by rw [h12]; rfl)
  · exact fin2 (by rw [h7]; rfl)
theorem T_numberX (h : PGx fs σ0 s l σ) : TM (d + 3) tk_number [.inr 0] σ (PY fs σ0 s (rs (pNum l))) := by
  obtain ⟨gr, st, h⟩ := h
  refine (T_number h).mono (Nat.le_refl _) ?_
  rintro r τ ⟨rfl, hp⟩
  refine ⟨rfl, ?_⟩
  revert hp
  cases pNum l with
  | inl f => exact fun hp => hp
  | inr v => exact fun hp => ⟨gr, st, hp⟩
theorem T_spot (h : PGx fs σ0 s l σ) : TM (d + 8) tk_spot [.inr 0] σ (PY fs σ0 s (rs (pSpot l))) := by
  obtain ⟨gr, st, h⟩ := h
  have hdr := h.hdR
  refine TM.of rfl rfl ?_
  (repeat (first | (refine TW.getf rfl rfl rfl (fun _ => ?_)) | (refine TW.pl rfl rfl ?_)))
  refine TW.cv0 rfl rfl rfl (Nat.le_of_ble_eq_true rfl) (T_c h) ?_; rintro _ _ ⟨rfl, rfl⟩
  (repeat (first | (refine TW.getf rfl rfl rfl (fun _ => ?_)) | (refine TW.pl rfl rfl ?_)))
  refine TW.cs1 rfl rfl rfl (Nat.le_of_ble_eq_true rfl) (T_isDigit (by omega)) ?_; rintro _ _ ⟨rfl, rfl⟩
  unfold pSpot
  have pat : ¬ isDig (hd l) = true → ¬ hd l = 39 → (hd l = 47 ∨ hd l = 63) → TW (d + 7) tc_spot 30 [some (.inr 0), some (.inl (hd l))] [] σ (PY fs σ0 s (rs (match pPat (hd l) l.tail with
    | .inl f => (.inl f : PR (Int × Int × SPat))
    | .inr (l1, _, pt) => if hd l1 = hd l then .inr (l1.tail, hd l, 0, pt) else .inl l1))) := by
    intro h1 h2 h3
    have hn : l ≠ [] := by rcases h3 with z | z <;> exact hd_ne z (by decide)
    have hll := List.length_pos_iff.mpr hn
    (repeat (first | (refine TW.getf rfl rfl rfl (fun _ => ?_)) | (refine TW.pl rfl rfl ?_)))
    refine TW.putf rfl rfl (by omega) ?_
    have ha := h.step hn rfl
    (repeat (first | (refine TW.getf rfl rfl rfl (fun _ => ?_)) | (refine TW.pl rfl rfl ?_)))
    refine TW.cv1 rfl rfl rfl (Nat.le_of_ble_eq_true rfl) (T_pattern (by omega) ha) ?_
    rintro _ τ ⟨rfl, hp⟩
    (repeat (first | (refine TW.getf rfl rfl rfl (fun _ => ?_)) | (refine TW.pl rfl rfl ?_)))
    revert hp
    cases pPat (hd l) l.tail with
    | inl f =>
      intro hp
      refine TW.cv1 rfl rfl rfl (Nat.le_of_ble_eq_true rfl) (T_takeB hp (by omega)) ?_
      rintro _ υ ⟨rfl, hb⟩
      (repeat (first | (refine TW.getf rfl rfl rfl (fun _ => ?_)) | (refine TW.pl rfl rfl ?_)))
      exact TW.vret rfl (PY.bad hb (by decide) rfl)
    | inr v =>
      obtain ⟨l1, c1, pt⟩ := v
      rintro ⟨sr, hp⟩
      refine TW.cv1 rfl rfl rfl (Nat.le_of_ble_eq_true rfl) (T_take hp (by omega)) ?_
      rintro _ υ ⟨rfl, q1, q2⟩
      (repeat (first | (refine TW.getf rfl rfl rfl (fun _ => ?_)) | (refine TW.pl rfl rfl ?_)))
      refine TW.vret rfl ?_
      dsimp only
      by_cases h4 : hd l1 = hd l
      · rw [if_pos h4]
        exact PY.good (q1 h4) (by decide) rfl
      · rw [if_neg h4]
        exact PY.bad (q2 h4) (by decide) rfl
  refine TW.br rfl rfl (by first | omega | exact b2i_R _ | exact ⟨b2i_R _, by omega⟩) (fun h1 => ?_) (fun h1 => ?_)
  · have h1f := b2i_0 h1
    have h1n : ¬ isDig (hd l) = true := by rw [h1f]; decide
    rw [if_neg h1n]
    (repeat (first | (refine TW.getf rfl rfl rfl (fun _ => ?_)) | (refine TW.pl rfl rfl ?_)))
    refine TW.br rfl rfl (by first | omega | exact b2i_R _ | exact ⟨b2i_R _, by omega⟩) (fun h2 => ?_) (fun h2 => ?_)
    · rw [if_neg h2]
      (repeat (first | (refine TW.getf rfl rfl rfl (fun _ => ?_)) | (refine TW.pl rfl rfl ?_)))
      refine TW.br rfl rfl (by first | omega | exact b2i_R _ | exact ⟨b2i_R _, by omega⟩) (fun h3 => ?_) (fun h3 => ?_)
      · rw [if_pos (Or.inl h3)]
        exact pat h1n h2 (Or.inl h3)
      (repeat (first | (refine TW.getf rfl rfl rfl (fun _ => ?_)) | (refine TW.pl rfl rfl ?_)))
      refine TW.br rfl rfl (by first | omega | exact b2i_R _ | exact ⟨b2i_R _, by omega⟩) (fun h4 => ?_) (fun h4 => ?_)
      · rw [if_neg (by omega)]
        have key : ∀ b : Bool, b = decide (hd l = 46 ∨ hd l = 36) → TW (d + 7) tc_spot 53 [some (.inr 0), some (.inl (hd l))] [.inl (b2i b), .inr 0] σ (PY fs σ0 s (rs (if hd l = 46 ∨ hd l = 36 then .inr (l.tail, hd l, 0, noPat) else .inl l : PR (Int × Int × SPat)))) := by
          intro b hb
          refine TW.cv1 rfl rfl rfl (Nat.le_of_ble_eq_true rfl) (T_takeIf h (fun z => hd_ne rfl (by rw [hb] at z; have := of_decide_eq_true z; omega))) ?_
          rintro _ τ ⟨rfl, p1, p2⟩
          refine TW.vret rfl ?_
          cases b with
          | true =>
            rw [if_pos (of_decide_eq_true hb.symm)]
            exact PY.good (p1 rfl) (by decide) rfl
          | false =>
            rw [if_neg (of_decide_eq_false hb.symm)]
            exact PY.bad (p2 rfl) (by decide) rfl
        (repeat (first | (refine TW.getf rfl rfl rfl (fun _ => ?_)) | (refine TW.pl rfl rfl ?_)))
        refine TW.br rfl rfl (by first | omega | exact b2i_R _ | exact ⟨b2i_R _, by omega⟩) (fun h5 => ?_) (fun h5 => ?_)
        · (iterate 2 (first | (refine TW.getf rfl rfl rfl (fun _ => ?_)) | (refine TW.pl rfl rfl ?_)))
          exact key true (decide_eq_true (Or.inl h5)).symm
        (repeat (first | (refine TW.getf rfl rfl rfl (fun _ => ?_)) | (refine TW.pl rfl rfl ?_)))
        refine TW.br rfl rfl (by first | omega | exact b2i_R _ | exact ⟨b2i_R _, by omega⟩) (fun h6 => ?_) (fun h6 => ?_)
        · (iterate 1 (first | (refine TW.getf rfl rfl rfl (fun _ => ?_)) | (refine TW.pl rfl rfl ?_)))
          exact key false (decide_eq_false (by omega)).symm
        · (iterate 2 (first | (refine TW.getf rfl rfl rfl (fun _ => ?_)) | (refine TW.pl rfl rfl ?_)))
          exact key true (decide_eq_true (Or.inr h6)).symm
      · rw [if_pos (Or.inr h4)]
        exact pat h1n h2 (Or.inr h4)
    · have hn : l ≠ [] := hd_ne h2 (by decide)
      have hll := List.length_pos_iff.mpr hn
      rw [if_pos h2]
      (repeat (first | (refine TW.getf rfl rfl rfl (fun _ => ?_)) | (refine TW.pl rfl rfl ?_)))
      refine TW.putf rfl rfl (by omega) ?_
      have ha := h.step hn rfl
      have hda := ha.hdR
      (repeat (first | (refine TW.getf rfl rfl rfl (fun _ => ?_)) | (refine TW.pl rfl rfl ?_)))
      refine TW.cv0 rfl rfl rfl (Nat.le_of_ble_eq_true rfl) (T_c ha) ?_; rintro _ _ ⟨rfl, rfl⟩
      refine TW.cs1 rfl rfl rfl (Nat.le_of_ble_eq_true rfl) (T_isMark (by omega)) ?_; rintro _ _ ⟨rfl, rfl⟩
      refine TW.cv1 rfl rfl rfl (Nat.le_of_ble_eq_true rfl) (T_takeIf ha (fun z w => by rw [w] at z; cases z)) ?_
      rintro _ τ ⟨rfl, p1, p2⟩
      (repeat (first | (refine TW.getf rfl rfl rfl (fun _ => ?_)) | (refine TW.pl rfl rfl ?_)))
      refine TW.vret rfl ?_
      cases hm : isMrk (hd l.tail) with
      | true =>
        rw [if_pos rfl]
        exact PY.good (p1 hm) (by decide) rfl
      | false =>
        rw [if_neg (by decide)]
        exact PY.bad (p2 hm) (by decide) rfl
  · rw [if_pos (b2i_1 h1)]
    (repeat (first | (refine TW.getf rfl rfl rfl (fun _ => ?_)) | (refine TW.pl rfl rfl ?_)))
    refine TW.cv0 rfl rfl rfl (Nat.le_of_ble_eq_true rfl) (T_number h) ?_
    rintro _ τ ⟨rfl, hp⟩
    (repeat (first | (refine TW.getf rfl rfl rfl (fun _ => ?_)) | (refine TW.pl rfl rfl ?_)))
    refine TW.vret rfl ⟨rfl, ?_⟩
    revert hp
    cases pNum l with
    | inl f => exact fun hp => hp
    | inr v => exact fun hp => ⟨gr, st, hp⟩
theorem T_address (h : PGx fs σ0 s l σ) : TM (d + 9) tk_address [.inr 0] σ (PY fs σ0 s (rs (pAdr l))) := by
  refine TM.of rfl rfl ?_
  have fin : ∀ (υ : TS) (f : List Int), PB fs σ0 s 4 f υ → TW (d + 8) tc_address 2 [some (.inr 0)] [] υ (PY fs σ0 s (.inl f)) := by
    intro υ f hb
    have := hb.bad0
    (repeat (first | (refine TW.getf rfl rfl rfl (fun _ => ?_)) | (refine TW.pl rfl rfl ?_)))
    refine TW.br rfl rfl (by first | omega | exact b2i_R _ | exact ⟨b2i_R _, by omega⟩) (fun h1 => ?_) (fun h1 => ?_)
    · exact TW.vret rfl (PY.bad hb (by decide) rfl)
    · omega
  have loop : ∀ (k : Nat) (v : Int) (has : Bool) (q : List Int) (υ : TS), q.length ≤ k → PGx fs σ0 s q υ → TW (d + 8) tc_address 2 [some (.inr 0)] [] υ (PY fs σ0 s (rs (pMore k v has q))) := by
    intro k
    induction k with
    | zero =>
      intro v has q υ hk hq
      obtain ⟨gr, st, hq⟩ := hq
      have hq0 : q = [] := List.length_eq_zero_iff.mp (by omega)
      subst hq0
      have hb := hq.2.2.1
      have hdr := hq.hdR
      (repeat (first | (refine TW.getf rfl rfl rfl (fun _ => ?_)) | (refine TW.pl rfl rfl ?_)))
      refine TW.br rfl rfl (by first | omega | exact b2i_R _ | exact ⟨b2i_R _, by omega⟩) (fun h1 => ?_) (fun h1 => ?_)
      · omega
      (repeat (first | (refine TW.getf rfl rfl rfl (fun _ => ?_)) | (refine TW.pl rfl rfl ?_)))
      refine TW.cv0 rfl rfl rfl (Nat.le_of_ble_eq_true rfl) (T_c hq) ?_; rintro _ _ ⟨rfl, rfl⟩
      (repeat (first | (refine TW.getf rfl rfl rfl (fun _ => ?_)) | (refine TW.pl rfl rfl ?_)))
      refine TW.br rfl rfl (by first | omega | exact b2i_R _ | exact ⟨b2i_R _, by omega⟩) (fun h2 => ?_) (fun h2 => ?_)
      · exact absurd h2 (by decide)
      (repeat (first | (refine TW.getf rfl rfl rfl (fun _ => ?_)) | (refine TW.pl rfl rfl ?_)))
      refine TW.cv0 rfl rfl rfl (Nat.le_of_ble_eq_true rfl) (T_c hq) ?_; rintro _ _ ⟨rfl, rfl⟩
      (repeat (first | (refine TW.getf rfl rfl rfl (fun _ => ?_)) | (refine TW.pl rfl rfl ?_)))
      refine TW.br rfl rfl (by first | omega | exact b2i_R _ | exact ⟨b2i_R _, by omega⟩) (fun h3 => ?_) (fun h3 => ?_)
      · exact TW.vret rfl (PY.good hq (by decide) rfl)
      · exact absurd h3 (by decide)
    | succ k ih =>
      intro v has q υ hk hq
      obtain ⟨gr, st, hq⟩ := hq
      have hb := hq.2.2.1
      have hdr := hq.hdR
      have go : hd q = 43 ∨ hd q = 45 → TW (d + 8) tc_address 13 [some (.inr 0)] [] υ (PY fs σ0 s (rs (pMore (k + 1) v has q))) := by
        intro hc
        have hn : q ≠ [] := by rcases hc with z | z <;> exact hd_ne z (by decide)
        have hll := List.length_pos_iff.mpr hn
        unfold pMore
        rw [if_pos hc]
        dsimp only
        (repeat (first | (refine TW.getf rfl rfl rfl (fun _ => ?_)) | (refine TW.pl rfl rfl ?_)))
        refine TW.putf rfl rfl (by omega) ?_
        (repeat (first | (refine TW.getf rfl rfl rfl (fun _ => ?_)) | (refine TW.pl rfl rfl ?_)))
        refine TW.cv0 rfl rfl rfl (Nat.le_of_ble_eq_true rfl) (T_numberX ⟨gr, st, hq.step hn rfl⟩) ?_
        rintro _ τ ⟨rfl, hp⟩
        (iterate 1 (first | (refine TW.getf rfl rfl rfl (fun _ => ?_)) | (refine TW.pl rfl rfl ?_)))
        revert hp
        cases hx : pNum q.tail with
        | inl f => exact fun hp => fin _ _ hp
        | inr w =>
          obtain ⟨l1, x⟩ := w
          intro hp
          have hlt : l1.length ≤ q.tail.length := by
            unfold pNum at hx
            split at hx
            · split at hx <;> (cases hx; simp; try omega)
            · cases hx
          exact ih _ _ l1 τ (by simp at hlt; omega) hp
      (repeat (first | (refine TW.getf rfl rfl rfl (fun _ => ?_)) | (refine TW.pl rfl rfl ?_)))
      refine TW.br rfl rfl (by first | omega | exact b2i_R _ | exact ⟨b2i_R _, by omega⟩) (fun h1 => ?_) (fun h1 => ?_)
      · omega
      (repeat (first | (refine TW.getf rfl rfl rfl (fun _ => ?_)) | (refine TW.pl rfl rfl ?_)))
      refine TW.cv0 rfl rfl rfl (Nat.le_of_ble_eq_true rfl) (T_c hq) ?_; rintro _ _ ⟨rfl, rfl⟩
      (repeat (first | (refine TW.getf rfl rfl rfl (fun _ => ?_)) | (refine TW.pl rfl rfl ?_)))
      refine TW.br rfl rfl (by first | omega | exact b2i_R _ | exact ⟨b2i_R _, by omega⟩) (fun h2 => ?_) (fun h2 => ?_)
      · exact go (Or.inl h2)
      (repeat (first | (refine TW.getf rfl rfl rfl (fun _ => ?_)) | (refine TW.pl rfl rfl ?_)))
      refine TW.cv0 rfl rfl rfl (Nat.le_of_ble_eq_true rfl) (T_c hq) ?_; rintro _ _ ⟨rfl, rfl⟩
      (repeat (first | (refine TW.getf rfl rfl rfl (fun _ => ?_)) | (refine TW.pl rfl rfl ?_)))
      refine TW.br rfl rfl (by first | omega | exact b2i_R _ | exact ⟨b2i_R _, by omega⟩) (fun h3 => ?_) (fun h3 => ?_)
      · unfold pMore
        rw [if_neg (by omega)]
        exact TW.vret rfl (PY.good hq (by decide) rfl)
      · exact go (Or.inr h3)
  (repeat (first | (refine TW.getf rfl rfl rfl (fun _ => ?_)) | (refine TW.pl rfl rfl ?_)))
  refine TW.cv0 rfl rfl rfl (Nat.le_of_ble_eq_true rfl) (T_spot h) ?_
  rintro _ τ ⟨rfl, hp⟩
  unfold pAdr
  revert hp
  cases pSpot l with
  | inl f => exact fun hp => fin _ _ hp
  | inr w =>
    obtain ⟨l1, kd, nr, pt⟩ := w
    intro hp
    have L := loop l1.length 0 false l1 τ (Nat.le_refl _) hp
    dsimp only
    revert L
    cases pMore l1.length 0 false l1 with
    | inl f => exact id
    | inr w => exact id
end TOrd
