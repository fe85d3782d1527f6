set_option maxRecDepth 100000
/-! the twin's public methods: find, sample -/
section TPX
variable {d k : Nat} {σ τ υ : TS} {s tp ys : List Int} {A : St} {os : List SOrd} {ds : List SDeed} {fs as : List Nat} {w : PW} {x z v y u : Int} {P : PA} {rows : List (List Int)} {sc : Nat → Option (List Int)} {b bk : Bool} {t : List SLine}
theorem sPattern_p {pt : SPat} (h : sPattern s = .inr pt) : ∃ g, pPat 0 s = .inr ([], g, pt) := by
  unfold sPattern at h
  cases e : pPat 0 s with
  | inl f => rw [e] at h; cases h
  | inr q =>
    obtain ⟨l, g, p2⟩ := q
    rw [e] at h
    dsimp only at h
    by_cases z : l = []
    · rw [if_pos z] at h
      cases h
      exact ⟨g, by rw [z]⟩
    · rw [if_neg z] at h; cases h
theorem sPattern_le {s : List Int} {k : Nat} (h : sPattern s = .inl k) : k ≤ s.length := by
  unfold sPattern at h
  split at h
  · cases h; omega
  · split at h
    · cases h
    · cases h; omega
theorem T_find (h : TwI w σ) (hs : SgO w.1) (hw : WF w.2.2.1) : TM (d + 16) tk_find [.inr 0, .inl (b2i bk)] σ (TwQ (pFind bk w)) := by
  refine TM.of rfl rfl ?_
  (repeat (first | (refine TW.getf rfl rfl rfl (fun _ => ?_)) | (refine TW.pl rfl rfl ?_)))
  refine TW.cv0 rfl rfl rfl (Nat.le_of_ble_eq_true rfl) (T_loadTape (d := d + 14) h.1 hs) ?_
  rintro r τ ⟨rfl, hsg, hf⟩
  have h1 := h.fr hf (by decide) (by decide)
  (repeat (first | (refine TW.getf rfl rfl rfl (fun _ => ?_)) | (refine TW.pl rfl rfl ?_)))
  refine TW.cv0 rfl rfl rfl (Nat.le_of_ble_eq_true rfl) (T_patternsFault (d := d + 7) hsg h1.2.2.2.2.2.2) ?_
  rintro r υ ⟨rfl, hf2, hs2, hg2⟩
  have h2 := h1.frG hf2 hg2 (by decide) (by decide)
  rw [sFault_flt]
  cases hos : sPattern w.1 with
  | inl k9 =>
    have e : pFind bk w = (.inl 1, w) := by unfold pFind; rw [hos]
    have hk9 := sPattern_le hos
    have hs60 : w.1.length ≤ 60 := hs.1
    rw [flt_inl]
    refine TW.br rfl rfl (by first | omega | exact b2i_R _ | exact ⟨b2i_R _, by omega⟩) (fun q => by first | (exfalso; omega) | exact absurd q (by decide)) (fun q => ?_)
    (repeat (first | (refine TW.getf rfl rfl rfl (fun _ => ?_)) | (refine TW.pl rfl rfl ?_)))
    refine TW.putf rfl rfl (by omega) ?_
    (repeat (first | (refine TW.getf rfl rfl rfl (fun _ => ?_)) | (refine TW.pl rfl rfl ?_)))
    rw [ts1_eq]
    refine TW.br rfl rfl (by first | omega | exact b2i_R _ | exact ⟨b2i_R _, by omega⟩) (fun q2 => by first | (exfalso; omega) | exact absurd q2 (by decide)) (fun q2 => ?_)
    (repeat (first | (refine TW.getf rfl rfl rfl (fun _ => ?_)) | (refine TW.pl rfl rfl ?_)))
    exact TW.iret rfl (TwQ.no (k := 1) (by rw [e]; exact h2.thr) ts1_eq (by rw [e]))
  | inr pt =>
    have e : pFind bk w = (.inr (if sSeek w.2.2.1.1 w.2.2.1.2.1 pt bk = 0 then -1 else (sSeek w.2.2.1.1 w.2.2.1.2.1 pt bk : Int)), w) := by unfold pFind; rw [hos]
    rw [flt_inr, e]
    obtain ⟨g, hp⟩ := sPattern_p hos
    refine TW.br rfl rfl (by first | omega | exact b2i_R _ | exact ⟨b2i_R _, by omega⟩) (fun q => ?_) (fun q => by first | (exfalso; omega) | exact absurd q (by decide))
    (repeat (first | (refine TW.getf rfl rfl rfl (fun _ => ?_)) | (refine TW.pl rfl rfl ?_)))
    refine TW.putf rfl rfl (by omega) ?_
    (repeat (first | (refine TW.getf rfl rfl rfl (fun _ => ?_)) | (refine TW.pl rfl rfl ?_)))
    rw [ts1_eq]
    refine TW.br rfl rfl (by first | omega | exact b2i_R _ | exact ⟨b2i_R _, by omega⟩) (fun q2 => ?_) (fun q2 => by first | (exfalso; omega) | exact absurd q2 (by decide))
    (repeat (first | (refine TW.getf rfl rfl rfl (fun _ => ?_)) | (refine TW.pl rfl rfl ?_)))
    have hs3 : SgnIs (ts1 υ 0 0) w.1 := hs2
    refine TW.cv2 rfl rfl rfl (Nat.le_of_ble_eq_true rfl) (T_compile (d := d + 13) (c := 0) hs3 Sfx.all (Or.inr (Or.inr rfl)) hp rfl) ?_
    rintro r ρ ⟨rfl, hf3, hcm, -⟩
    have h3 := (h2.thr (v := 0)).fr hf3 (by decide) (by decide)
    have hs4 := hs3.fr hf3 (by decide) (by decide)
    (repeat (first | (refine TW.getf rfl rfl rfl (fun _ => ?_)) | (refine TW.pl rfl rfl ?_)))
    refine TW.cv1 rfl rfl rfl (Nat.le_of_ble_eq_true rfl) (T_seek (d := d + 9) hs4 hcm (pPat_ok hp).1 h3.2.2.1.1 h3.2.2.1.2.1 hw.1) ?_
    rintro r π ⟨rfl, hf4⟩
    have h4 := h3.fr hf4 (by decide) (by decide)
    have hR := sSeek_R (t := w.2.2.1.1) (p := w.2.2.1.2.1) (pt := pt) (back := bk)
    have h40 := hw.2.1
    have ht0 : π.1 0 = 0 := by rw [hf4.1 0 (by decide), hf3.1 0 (by decide), ts1_eq]
    (repeat (first | (refine TW.getf rfl rfl rfl (fun _ => ?_)) | (refine TW.pl rfl rfl ?_)))
    by_cases z0 : sSeek w.2.2.1.1 w.2.2.1.2.1 pt bk = 0
    · refine TW.br rfl rfl (by first | omega | exact b2i_R _ | exact ⟨b2i_R _, by omega⟩) (fun q3 => ?_) (fun q3 => by first | (exfalso; omega) | exact absurd q3 (by decide))
      (repeat (first | (refine TW.getf rfl rfl rfl (fun _ => ?_)) | (refine TW.pl rfl rfl ?_)))
      exact TW.iret rfl (TwQ.ok h4 ht0 (by rw [if_pos z0]))
    · refine TW.br rfl rfl (by first | omega | exact b2i_R _ | exact ⟨b2i_R _, by omega⟩) (fun q3 => by first | (exfalso; omega) | exact absurd q3 (by decide)) (fun q3 => ?_)
      (repeat (first | (refine TW.getf rfl rfl rfl (fun _ => ?_)) | (refine TW.pl rfl rfl ?_)))
      exact TW.iret rfl (TwQ.ok h4 ht0 (by rw [if_neg z0]))
def LkQ (w : PW) (x : Int) (r : Option Int) (τ : TS) : Prop := TwI w τ ∧ if isNr x w.2.2.1.1.length = false then (τ.1 0) = 1 ∧ r = some 0 else match sPattern w.1 with
  | .inl _ => (τ.1 0) = 2 ∧ r = some 0
  | .inr pt => (τ.1 0) = 0 ∧ match mFind pt (rowAt w.2.2.1.1 (x - 1).toNat) 0 with
    | none => r = some 0
    | some (p, a, _) => r = some 1 ∧ (τ.1 40) = (p : Int) ∧ (τ.1 41) = (a : Int)
theorem T_looks (h : TwI w σ) (hx : inR x) (hs : SgO w.1) (hw : WF w.2.2.1) : TM (d + 16) tk_looks [.inr 0, .inl x] σ (LkQ w x) := by
  refine TM.of rfl rfl ?_
  (repeat (first | (refine TW.getf rfl rfl rfl (fun _ => ?_)) | (refine TW.pl rfl rfl ?_)))
  refine TW.cv0 rfl rfl rfl (Nat.le_of_ble_eq_true rfl) (T_loadTape (d := d + 14) h.1 hs) ?_
  rintro r τ ⟨rfl, hsg, hf⟩
  have h1 := h.fr hf (by decide) (by decide)
  have thr : ∀ (k : Nat) (υ : TS), TwI w υ → k = 1 ∨ k = 2 → (∀ τ, TwI w τ → (τ.1 0) = (k : Int) → LkQ w x (some 0) τ) → TW (d + 15) tc_looks 15 [some (.inr 0), some (.inl x)] [.inl (k : Int), .inr 0] υ (LkQ w x) := fun k υ hυ hk e => by
    refine TW.putf rfl rfl (by omega) ?_
    (repeat (first | (refine TW.getf rfl rfl rfl (fun _ => ?_)) | (refine TW.pl rfl rfl ?_)))
    rw [ts1_eq]
    refine TW.br rfl rfl (by first | omega | exact b2i_R _ | exact ⟨b2i_R _, by omega⟩) (fun q => by first | (exfalso; omega) | exact absurd q (by decide)) (fun q => ?_)
    (repeat (first | (refine TW.getf rfl rfl rfl (fun _ => ?_)) | (refine TW.pl rfl rfl ?_)))
    exact TW.zret rfl (Or.inl rfl) (e _ hυ.thr ts1_eq)
  (repeat (first | (refine TW.getf rfl rfl rfl (fun _ => ?_)) | (refine TW.pl rfl rfl ?_)))
  refine TW.cv1 rfl rfl rfl (Nat.le_of_ble_eq_true rfl) (T_isLine9 (d := d + 14) hx h1.2.2.1.1.1) ?_; rintro _ _ ⟨rfl, rfl⟩
  cases hl : isNr x w.2.2.1.1.length with
  | false =>
    refine TW.br rfl rfl (by first | omega | exact b2i_R _ | exact ⟨b2i_R _, by omega⟩) (fun q => by first | (exfalso; omega) | exact absurd q (by decide)) (fun q => ?_)
    (repeat (first | (refine TW.getf rfl rfl rfl (fun _ => ?_)) | (refine TW.pl rfl rfl ?_)))
    exact thr 1 τ h1 (Or.inl rfl) (fun τ h e => ⟨h, by rw [if_pos hl]; exact ⟨e, rfl⟩⟩)
  | true =>
    have hln : ¬ isNr x w.2.2.1.1.length = false := by rw [hl]; decide
    obtain ⟨k, hk1, hk2, hk3⟩ := isNr_lt hl
    have h40 := h.2.2.1.1.2.1
    refine TW.br rfl rfl (by first | omega | exact b2i_R _ | exact ⟨b2i_R _, by omega⟩) (fun q => ?_) (fun q => by first | (exfalso; omega) | exact absurd q (by decide))
    (repeat (first | (refine TW.getf rfl rfl rfl (fun _ => ?_)) | (refine TW.pl rfl rfl ?_)))
    refine TW.cv0 rfl rfl rfl (Nat.le_of_ble_eq_true rfl) (T_patternsFault (d := d + 7) hsg h1.2.2.2.2.2.2) ?_
    rintro r υ ⟨rfl, hf2, hs2, hg2⟩
    have h2 := h1.frG hf2 hg2 (by decide) (by decide)
    rw [sFault_flt]
    cases hos : sPattern w.1 with
    | inl k9 =>
      have hk9 := sPattern_le hos
      have hs60 : w.1.length ≤ 60 := hs.1
      rw [flt_inl]
      refine TW.br rfl rfl (by first | omega | exact b2i_R _ | exact ⟨b2i_R _, by omega⟩) (fun q2 => by first | (exfalso; omega) | exact absurd q2 (by decide)) (fun q2 => ?_)
      (repeat (first | (refine TW.getf rfl rfl rfl (fun _ => ?_)) | (refine TW.pl rfl rfl ?_)))
      exact thr 2 υ h2 (Or.inr rfl) (fun τ h e => ⟨h, by rw [if_neg hln, hos]; exact ⟨e, rfl⟩⟩)
    | inr pt =>
      rw [flt_inr]
      obtain ⟨g, hp⟩ := sPattern_p hos
      refine TW.br rfl rfl (by first | omega | exact b2i_R _ | exact ⟨b2i_R _, by omega⟩) (fun q2 => ?_) (fun q2 => by first | (exfalso; omega) | exact absurd q2 (by decide))
      (repeat (first | (refine TW.getf rfl rfl rfl (fun _ => ?_)) | (refine TW.pl rfl rfl ?_)))
      refine TW.putf rfl rfl (by omega) ?_
      (repeat (first | (refine TW.getf rfl rfl rfl (fun _ => ?_)) | (refine TW.pl rfl rfl ?_)))
      rw [ts1_eq]
      refine TW.br rfl rfl (by first | omega | exact b2i_R _ | exact ⟨b2i_R _, by omega⟩) (fun q3 => ?_) (fun q3 => by first | (exfalso; omega) | exact absurd q3 (by decide))
      (repeat (first | (refine TW.getf rfl rfl rfl (fun _ => ?_)) | (refine TW.pl rfl rfl ?_)))
      have hs3 : SgnIs (ts1 υ 0 0) w.1 := hs2
      refine TW.cv2 rfl rfl rfl (Nat.le_of_ble_eq_true rfl) (T_compile (d := d + 13) (c := 0) hs3 Sfx.all (Or.inr (Or.inr rfl)) hp rfl) ?_
      rintro r ρ ⟨rfl, hf3, hcm, -⟩
      have h3 := (h2.thr (v := 0)).fr hf3 (by decide) (by decide)
      have hs4 := hs3.fr hf3 (by decide) (by decide)
      (repeat (first | (refine TW.getf rfl rfl rfl (fun _ => ?_)) | (refine TW.pl rfl rfl ?_)))
      refine TW.cs1 rfl rfl rfl (Nat.le_of_ble_eq_true rfl) (T_textRow (d := d + 14) hk1 (by omega)) ?_; rintro _ _ ⟨rfl, rfl⟩
      (repeat (first | (refine TW.getf rfl rfl rfl (fun _ => ?_)) | (refine TW.pl rfl rfl ?_)))
      refine TW.cv2 rfl rfl rfl (Nat.le_of_ble_eq_true rfl) (T_finds (d := d + 10) (place := 0) hs4 hcm (pPat_ok hp).1 (h3.row hk2).1 (h3.row hk2).2 (Nat.zero_le _)) ?_
      rintro r π ⟨hf4, hq⟩
      have h4 := h3.fr hf4 (by decide) (by decide)
      have ht0 : π.1 0 = 0 := by rw [hf4.1 0 (by decide), hf3.1 0 (by decide), ts1_eq]
      have fin : r = some 0 ∨ r = some 1 → LkQ w x r π := fun _ => by
        refine ⟨h4, ?_⟩
        rw [if_neg hln, hos]
        refine ⟨ht0, ?_⟩
        rw [hk3]
        cases e : mFind pt (rowAt w.2.2.1.1 k) 0 with
        | none => rw [e] at hq; exact hq
        | some q9 =>
          obtain ⟨p9, a9, w9⟩ := q9
          rw [e] at hq
          obtain ⟨g1, g2, g3, -⟩ := hq
          exact ⟨g1, g2, g3⟩
      cases e : mFind pt (rowAt w.2.2.1.1 k) 0 with
      | none =>
        rw [e] at hq
        have hq : r = some 0 := hq
        subst hq
        exact TW.zret rfl (Or.inl rfl) (fin (Or.inl rfl))
      | some q9 =>
        obtain ⟨p9, a9, w9⟩ := q9
        rw [e] at hq
        have hq : r = some 1 := hq.1
        subst hq
        exact TW.zret rfl (Or.inr rfl) (fin (Or.inr rfl))
theorem T_findSE {en : Bool} (h : TwI w σ) (hx : inR x) (hs : SgO w.1) (hw : WF w.2.2.1) : TM (d + 17) (if en = true then tk_findEnd else tk_findStart) [.inr 0, .inl x] σ (TwQ (pFSE en x w)) := by
  have key : ∀ r τ, LkQ w x r τ → TwI w τ ∧ ((∃ k : Nat, (k = 1 ∨ k = 2) ∧ pFSE en x w = (.inl k, w) ∧ (τ.1 0) = (k : Int) ∧ r = some 0) ∨ ((τ.1 0) = 0 ∧ ((pFSE en x w = (.inr (-1), w) ∧ r = some 0) ∨ (r = some 1 ∧ ∃ p a : Nat, (τ.1 40) = (p : Int) ∧ (τ.1 41) = (a : Int) ∧ pFSE en x w = (.inr (if en = true then (a : Int) else (p : Int)), w))))) := by
    rintro r τ ⟨h1, h2⟩
    refine ⟨h1, ?_⟩
    by_cases hl : isNr x w.2.2.1.1.length = false
    · rw [if_pos hl] at h2
      exact Or.inl ⟨1, Or.inl rfl, by unfold pFSE; rw [if_pos hl], h2⟩
    · rw [if_neg hl] at h2
      cases hos : sPattern w.1 with
      | inl k9 =>
        rw [hos] at h2
        exact Or.inl ⟨2, Or.inr rfl, by unfold pFSE; rw [if_neg hl, hos], h2⟩
      | inr pt =>
        rw [hos] at h2
        obtain ⟨g0, g1⟩ := h2
        refine Or.inr ⟨g0, ?_⟩
        have e9 : pFSE en x w = (.inr (fndV en (mFind pt (rowAt w.2.2.1.1 (x - 1).toNat) 0)), w) := by unfold pFSE; rw [if_neg hl, hos]
        rw [e9]
        cases e : mFind pt (rowAt w.2.2.1.1 (x - 1).toNat) 0 with
        | none => rw [e] at g1; exact Or.inl ⟨rfl, g1⟩
        | some q9 =>
          obtain ⟨p9, a9, w9⟩ := q9
          rw [e] at g1
          obtain ⟨m1, m2, m3⟩ := g1
          exact Or.inr ⟨m1, p9, a9, m2, m3, rfl⟩
  cases en with
  | false =>
    refine TM.of (mid := tk_findStart) rfl rfl ?_
    (repeat (first | (refine TW.getf rfl rfl rfl (fun _ => ?_)) | (refine TW.pl rfl rfl ?_)))
    refine TW.cv1 rfl rfl rfl (Nat.le_of_ble_eq_true rfl) (T_looks (d := d) h hx hs hw) ?_
    rintro r τ hq
    obtain ⟨h1, hq⟩ := key r τ hq
    rcases hq with ⟨k, hk, e, g1, rfl⟩ | ⟨g0, ⟨e, rfl⟩ | ⟨rfl, p, a, e1, e2, e⟩⟩
    · (repeat (first | (refine TW.getf rfl rfl rfl (fun _ => ?_)) | (refine TW.pl rfl rfl ?_)))
      rw [g1]
      refine TW.br rfl rfl (by first | omega | exact b2i_R _ | exact ⟨b2i_R _, by omega⟩) (fun q => by first | (exfalso; omega) | exact absurd q (by decide)) (fun q => ?_)
      (repeat (first | (refine TW.getf rfl rfl rfl (fun _ => ?_)) | (refine TW.pl rfl rfl ?_)))
      exact TW.iret rfl (TwQ.no (k := k) (by rw [e]; exact h1) g1 (by rw [e]))
    · (repeat (first | (refine TW.getf rfl rfl rfl (fun _ => ?_)) | (refine TW.pl rfl rfl ?_)))
      rw [g0]
      refine TW.br rfl rfl (by first | omega | exact b2i_R _ | exact ⟨b2i_R _, by omega⟩) (fun q => ?_) (fun q => by first | (exfalso; omega) | exact absurd q (by decide))
      (repeat (first | (refine TW.getf rfl rfl rfl (fun _ => ?_)) | (refine TW.pl rfl rfl ?_)))
      refine TW.br rfl rfl (by first | omega | exact b2i_R _ | exact ⟨b2i_R _, by omega⟩) (fun q2 => ?_) (fun q2 => by first | (exfalso; omega) | exact absurd q2 (by decide))
      (repeat (first | (refine TW.getf rfl rfl rfl (fun _ => ?_)) | (refine TW.pl rfl rfl ?_)))
      exact TW.iret rfl (TwQ.ok (by rw [e]; exact h1) g0 (by rw [e]))
    · (repeat (first | (refine TW.getf rfl rfl rfl (fun _ => ?_)) | (refine TW.pl rfl rfl ?_)))
      rw [g0]
      refine TW.br rfl rfl (by first | omega | exact b2i_R _ | exact ⟨b2i_R _, by omega⟩) (fun q => ?_) (fun q => by first | (exfalso; omega) | exact absurd q (by decide))
      (repeat (first | (refine TW.getf rfl rfl rfl (fun _ => ?_)) | (refine TW.pl rfl rfl ?_)))
      refine TW.br rfl rfl (by first | omega | exact b2i_R _ | exact ⟨b2i_R _, by omega⟩) (fun q2 => by first | (exfalso; omega) | exact absurd q2 (by decide)) (fun q2 => ?_)
      (repeat (first | (refine TW.getf rfl rfl rfl (fun _ => ?_)) | (refine TW.pl rfl rfl ?_)))
      rw [e1]
      exact TW.iret rfl (TwQ.ok (by rw [e]; exact h1) g0 (by rw [e]; rfl))
  | true =>
    refine TM.of (mid := tk_findEnd) rfl rfl ?_
    (repeat (first | (refine TW.getf rfl rfl rfl (fun _ => ?_)) | (refine TW.pl rfl rfl ?_)))
    refine TW.cv1 rfl rfl rfl (Nat.le_of_ble_eq_true rfl) (T_looks (d := d) h hx hs hw) ?_
    rintro r τ hq
    obtain ⟨h1, hq⟩ := key r τ hq
    rcases hq with ⟨k, hk, e, g1, rfl⟩ | ⟨g0, ⟨e, rfl⟩ | ⟨rfl, p, a, e1, e2, e⟩⟩
    · (repeat (first | (refine TW.getf rfl rfl rfl (fun _ => ?_)) | (refine TW.pl rfl rfl ?_)))
      rw [g1]
      refine TW.br rfl rfl (by first | omega | exact b2i_R _ | exact ⟨b2i_R _, by omega⟩) (fun q => by first | (exfalso; omega) | exact absurd q (by decide)) (fun q => ?_)
      (repeat (first | (refine TW.getf rfl rfl rfl (fun _ => ?_)) | (refine TW.pl rfl rfl ?_)))
      exact TW.iret rfl (TwQ.no (k := k) (by rw [e]; exact h1) g1 (by rw [e]))
    · (repeat (first | (refine TW.getf rfl rfl rfl (fun _ => ?_)) | (refine TW.pl rfl rfl ?_)))
      rw [g0]
      refine TW.br rfl rfl (by first | omega | exact b2i_R _ | exact ⟨b2i_R _, by omega⟩) (fun q => ?_) (fun q => by first | (exfalso; omega) | exact absurd q (by decide))
      (repeat (first | (refine TW.getf rfl rfl rfl (fun _ => ?_)) | (refine TW.pl rfl rfl ?_)))
      refine TW.br rfl rfl (by first | omega | exact b2i_R _ | exact ⟨b2i_R _, by omega⟩) (fun q2 => ?_) (fun q2 => by first | (exfalso; omega) | exact absurd q2 (by decide))
      (repeat (first | (refine TW.getf rfl rfl rfl (fun _ => ?_)) | (refine TW.pl rfl rfl ?_)))
      exact TW.iret rfl (TwQ.ok (by rw [e]; exact h1) g0 (by rw [e]))
    · (repeat (first | (refine TW.getf rfl rfl rfl (fun _ => ?_)) | (refine TW.pl rfl rfl ?_)))
      rw [g0]
      refine TW.br rfl rfl (by first | omega | exact b2i_R _ | exact ⟨b2i_R _, by omega⟩) (fun q => ?_) (fun q => by first | (exfalso; omega) | exact absurd q (by decide))
      (repeat (first | (refine TW.getf rfl rfl rfl (fun _ => ?_)) | (refine TW.pl rfl rfl ?_)))
      refine TW.br rfl rfl (by first | omega | exact b2i_R _ | exact ⟨b2i_R _, by omega⟩) (fun q2 => by first | (exfalso; omega) | exact absurd q2 (by decide)) (fun q2 => ?_)
      (repeat (first | (refine TW.getf rfl rfl rfl (fun _ => ?_)) | (refine TW.pl rfl rfl ?_)))
      rw [e2]
      exact TW.iret rfl (TwQ.ok (by rw [e]; exact h1) g0 (by rw [e]; rfl))
/-! sample -/
theorem T_lot (hx : (σ.1 77) = x) (hxR : 0 ≤ x ∧ x < 65536) (hk : 0 < z ∧ z < 100) : TM (d + 1) tk_lot [.inr 0, .inl z] σ (fun r τ => r = some (lcg x / 16 % z) ∧ τ = ts1 σ 77 (lcg x)) := by
  have hl := lcg_R (x := x)
  refine TM.of rfl rfl ?_
  (repeat (first | (refine TW.getf rfl rfl rfl (fun _ => ?_)) | (refine TW.pl rfl rfl ?_)))
  rw [hx]
  refine TW.irem rfl (by omega) ?_
  rw [show (25173 * x + 13849) % 65536 = lcg x from rfl]
  refine TW.putf rfl rfl (by omega) ?_
  (repeat (first | (refine TW.getf rfl rfl rfl (fun _ => ?_)) | (refine TW.pl rfl rfl ?_)))
  rw [ts1_eq]
  refine TW.idiv rfl (by omega) ?_
  (repeat (first | (refine TW.getf rfl rfl rfl (fun _ => ?_)) | (refine TW.pl rfl rfl ?_)))
  refine TW.irem rfl (by omega) ?_
  exact TW.iret rfl ⟨rfl, rfl⟩
theorem T_smpRow {v1 v2 v3 v4 : Option TV} {len : Nat} {Q : Option Int → TS → Prop} : ∀ (N j : Nat) (acc : List Int) (xj : Int) (τ : TS) (v7 : Option TV), j + N = len → len ≤ 8 → acc.length = j → 0 ≤ xj ∧ xj < 65536 → MadeIs τ acc → (τ.1 77) = xj → TFr [20, 77] [19] υ τ → (∀ (ρ : TS) (v7 : Option TV), MadeIs ρ (acc ++ (smpR N xj).1) → (ρ.1 77) = (smpR N xj).2 → TFr [20, 77] [19] υ ρ → TW (d + 5) tc_sample 79 [some (.inr 0), v1, v2, v3, v4, some (.inl (len : Int)), some (.inl (len : Int)), v7] [] ρ Q) → TW (d + 5) tc_sample 60 [some (.inr 0), v1, v2, v3, v4, some (.inl (len : Int)), some (.inl (j : Int)), v7] [] τ Q := by
  intro N
  induction N with
  | zero =>
    intro j acc xj τ v7 hj h8 ha hx hM hse hf kk
    have e : j = len := by omega
    subst e
    (repeat (first | (refine TW.getf rfl rfl rfl (fun _ => ?_)) | (refine TW.pl rfl rfl ?_)))
    refine TW.br rfl rfl (by first | omega | exact b2i_R _ | exact ⟨b2i_R _, by omega⟩) (fun q => ?_) (fun q => by first | (exfalso; omega) | exact absurd q (by decide))
    exact kk τ v7 (by rw [show (smpR 0 xj).1 = [] from rfl, List.append_nil]; exact hM) hse hf
  | succ N ih =>
    intro j acc xj τ v7 hj h8 ha hx hM hse hf kk
    have hl := lcg_R (x := xj)
    have step : ∀ (c : Int) (v7 : Option TV) (ρ : TS), c = (if lcg xj / 16 % 6 = 5 then 32 else 97 + lcg xj / 16 % 6) → MadeIs ρ acc → (ρ.1 77) = lcg xj → TFr [20, 77] [19] υ ρ → TW (d + 5) tc_sample 76 [some (.inr 0), v1, v2, v3, v4, some (.inl (len : Int)), some (.inl (j : Int)), v7] [.inl c, .inr 0] ρ Q := by
      intro c v7 ρ hc hM2 hs2 hf2
      have hcR : inR c := by rw [hc]; split <;> constructor <;> omega
      refine TW.cv1 rfl rfl rfl (Nat.le_of_ble_eq_true rfl) (T_makes (d := d + 4) hM2 (by omega) hcR) ?_
      rintro r π ⟨rfl, hM3, hf3⟩
      (iterate 2 (first | (refine TW.getf rfl rfl rfl (fun _ => ?_)) | (refine TW.pl rfl rfl ?_)))
      have e1 : (j : Int) + 1 = ((j + 1 : Nat) : Int) := by omega
      show TW (d + 5) tc_sample 60 [some (.inr 0), v1, v2, v3, v4, some (.inl (len : Int)), some (.inl ((j : Int) + 1)), v7] [] π Q
      rw [e1]
      refine ih (j + 1) (acc ++ [c]) (lcg xj) π v7 (by omega) h8 (by rw [List.length_append, ha]; rfl) hl hM3 ((hf3.1 77 (by decide)).trans hs2) (hf2.trans (hf3.mono (by decide) (by decide))) (fun ρ v7 g1 g2 g3 => kk ρ v7 ?_ g2 g3)
      rw [smpR_e, ← hc]
      rw [List.append_assoc] at g1
      exact g1
    (repeat (first | (refine TW.getf rfl rfl rfl (fun _ => ?_)) | (refine TW.pl rfl rfl ?_)))
    refine TW.br rfl rfl (by first | omega | exact b2i_R _ | exact ⟨b2i_R _, by omega⟩) (fun q => by first | (exfalso; omega) | exact absurd q (by decide)) (fun q => ?_)
    (repeat (first | (refine TW.getf rfl rfl rfl (fun _ => ?_)) | (refine TW.pl rfl rfl ?_)))
    refine TW.cv1 rfl rfl rfl (Nat.le_of_ble_eq_true rfl) (T_lot (d := d + 4) hse hx (by omega)) ?_
    rintro r ρ ⟨rfl, rfl⟩
    have f1 : TFr [20, 77] [19] υ (ts1 τ 77 (lcg xj)) := hf.ts1 (by decide)
    have m1 : MadeIs (ts1 τ 77 (lcg xj)) acc := hM.fr (ts1_ne (by decide)) rfl
    (repeat (first | (refine TW.getf rfl rfl rfl (fun _ => ?_)) | (refine TW.pl rfl rfl ?_)))
    by_cases z5 : lcg xj / 16 % 6 = 5
    · rw [z5]
      refine TW.br rfl rfl (by first | omega | exact b2i_R _ | exact ⟨b2i_R _, by omega⟩) (fun q2 => by first | (exfalso; omega) | exact absurd q2 (by decide)) (fun q2 => ?_)
      (repeat (first | (refine TW.getf rfl rfl rfl (fun _ => ?_)) | (refine TW.pl rfl rfl ?_)))
      exact step 32 _ _ (by rw [if_pos z5]) m1 ts1_eq f1
    · refine TW.br rfl rfl (by first | omega | exact b2i_R _ | exact ⟨b2i_R _, by omega⟩) (fun q2 => ?_) (fun q2 => by first | (exfalso; omega) | exact absurd q2 (by decide))
      (repeat (first | (refine TW.getf rfl rfl rfl (fun _ => ?_)) | (refine TW.pl rfl rfl ?_)))
      exact step _ _ _ (by rw [if_neg z5]) m1 ts1_eq f1
theorem linIns_end {q : SLine} : linIns t t.length q = t ++ [q] := by unfold linIns; rw [List.take_length, List.drop_length]
theorem T_smpLin {v1 v3 : Option TV} {kk : Nat} {nn : Int} {Q : Option Int → TS → Prop} (hkk : kk ≤ 20) (h40 : t.length + kk ≤ 40) (hn0 : 0 ≤ nn ∧ nn < 900000) : ∀ (N j : Nat) (rows : List (List Int)) (xj : Int) (τ : TS) (v5 v6 v7 : Option TV), j + N = kk → rows.length = j → 0 ≤ xj ∧ xj < 65536 → TextIs τ (t ++ mkL nn rows) → (τ.1 17) = nn + j → (τ.1 77) = xj → TFr [12, 17, 20, 77] [6, 7, 19] υ τ → RSame (fun k => k < 41 ∨ k = 429) υ τ → (∀ (ρ : TS) (v5 v6 v7 : Option TV), TextIs ρ (t ++ mkL nn (rows ++ smpL N xj)) → (ρ.1 17) = nn + kk → TFr [12, 17, 20, 77] [6, 7, 19] υ ρ → RSame (fun k => k < 41 ∨ k = 429) υ ρ → TW (d + 5) tc_sample 90 [some (.inr 0), v1, some (.inl (kk : Int)), v3, some (.inl (kk : Int)), v5, v6, v7] [] ρ Q) → TW (d + 5) tc_sample 48 [some (.inr 0), v1, some (.inl (kk : Int)), v3, some (.inl (j : Int)), v5, v6, v7] [] τ Q := by
  intro N
  induction N with
  | zero =>
    intro j rows xj τ v5 v6 v7 hj hr hx hT hid hse hf hS kt
    have e : j = kk := by omega
    subst e
    (repeat (first | (refine TW.getf rfl rfl rfl (fun _ => ?_)) | (refine TW.pl rfl rfl ?_)))
    refine TW.br rfl rfl (by first | omega | exact b2i_R _ | exact ⟨b2i_R _, by omega⟩) (fun q => ?_) (fun q => by first | (exfalso; omega) | exact absurd q (by decide))
    exact kt τ v5 v6 v7 (by rw [show smpL 0 xj = [] from rfl, List.append_nil]; exact hT) hid hf hS
  | succ N ih =>
    intro j rows xj τ v5 v6 v7 hj hr hx hT hid hse hf hS kt
    have hl := lcg_R (x := xj)
    have hml : (t ++ mkL nn rows).length = t.length + j := by rw [List.length_append, mkL_len, hr]
    obtain ⟨len, hlen⟩ : ∃ len : Nat, lcg xj / 16 % 9 = (len : Int) := ⟨(lcg xj / 16 % 9).toNat, by omega⟩
    have h8 : len ≤ 8 := by omega
    (repeat (first | (refine TW.getf rfl rfl rfl (fun _ => ?_)) | (refine TW.pl rfl rfl ?_)))
    refine TW.br rfl rfl (by first | omega | exact b2i_R _ | exact ⟨b2i_R _, by omega⟩) (fun q => by first | (exfalso; omega) | exact absurd q (by decide)) (fun q => ?_)
    (repeat (first | (refine TW.getf rfl rfl rfl (fun _ => ?_)) | (refine TW.pl rfl rfl ?_)))
    refine TW.cv1 rfl rfl rfl (Nat.le_of_ble_eq_true rfl) (T_lot (d := d + 4) hse hx (by omega)) ?_
    rintro r ρ ⟨rfl, rfl⟩
    rw [hlen]
    (repeat (first | (refine TW.getf rfl rfl rfl (fun _ => ?_)) | (refine TW.pl rfl rfl ?_)))
    refine TW.putf rfl rfl (by omega) ?_
    (iterate 2 (first | (refine TW.getf rfl rfl rfl (fun _ => ?_)) | (refine TW.pl rfl rfl ?_)))
    have f1 : TFr [12, 17, 20, 77] [6, 7, 19] υ (ts1 (ts1 τ 77 (lcg xj)) 20 0) := (hf.ts1 (by decide)).ts1 (by decide)
    refine T_smpRow (υ := ts1 (ts1 τ 77 (lcg xj)) 20 0) len 0 [] (lcg xj) _ v7 (Nat.zero_add _) h8 rfl hl MadeIs.nil (by rw [ts1_ne (by decide), ts1_eq]) TFr.rf (fun π v7 g1 g2 g3 => ?_)
    rw [List.nil_append] at g1
    have hrl : (smpR len (lcg xj)).1.length = len := smpR_len len _
    have hxR := smpR_R len (lcg xj) hl
    have hT1 : TextIs π (t ++ mkL nn rows) := hT.fr (by rw [g3.1 12 (by decide)]; rfl) (by rw [g3.2 6 (by decide)]; rfl) (by rw [g3.2 7 (by decide)]; rfl)
    have hid1 : π.1 17 = nn + j := by rw [g3.1 17 (by decide)]; exact hid
    (repeat (first | (refine TW.getf rfl rfl rfl (fun _ => ?_)) | (refine TW.pl rfl rfl ?_)))
    refine TW.cv1 rfl rfl rfl (Nat.le_of_ble_eq_true rfl) (T_lays (d := d + 4) (row := 429) (by omega) g1 (by omega)) ?_
    rintro r π2 ⟨rfl, l1, -, l2, l3⟩
    have hr2 := l1 (by omega)
    have hT2 : TextIs π2 (t ++ mkL nn rows) := hT1.same l3 l2 (by decide) (by decide) (fun k hk => by omega)
    have hid2 : π2.1 17 = nn + j := by rw [l3.1 17 (by decide)]; exact hid1
    have h12 : π2.1 12 = ((t.length + j : Nat) : Int) := by rw [hT2.1, hml]
    (repeat (first | (refine TW.getf rfl rfl rfl (fun _ => ?_)) | (refine TW.pl rfl rfl ?_)))
    rw [h12]
    refine TW.cv2 rfl rfl rfl (Nat.le_of_ble_eq_true rfl) (T_bring (d := d + 2) (row := 429) (b := t.length + j) hT2 (by omega) (by omega) hr2 (by omega) hid2 (by omega)) ?_
    rintro r π3 ⟨rfl, b1, b2, b3, b4⟩
    rw [← hml, linIns_end, List.append_assoc, ← hr, ← mkL_app] at b1
    (iterate 2 (first | (refine TW.getf rfl rfl rfl (fun _ => ?_)) | (refine TW.pl rfl rfl ?_)))
    have e1 : (j : Int) + 1 = ((j + 1 : Nat) : Int) := by omega
    show TW (d + 5) tc_sample 48 [some (.inr 0), v1, some (.inl (kk : Int)), v3, some (.inl ((j : Int) + 1)), _, _, _] [] π3 Q
    rw [e1]
    have F3 : TFr [12, 17, 20, 77] [6, 7, 19] υ π3 := f1.trans ((g3.mono (by decide) (by decide)).trans ((l3.mono (by decide) (by decide)).trans (b4.mono (by decide) (by decide))))
    have S3 : RSame (fun k => k < 41 ∨ k = 429) υ π3 := fun i hi => by
      rw [b3 i (fun z => hi (Or.inl z)), l2 i (fun z => hi (Or.inr z)), g3.2 6 (by decide)]
      exact hS i hi
    refine ih (j + 1) (rows ++ [(smpR len (lcg xj)).1]) (smpR len (lcg xj)).2 π3 _ _ _ (by omega) (by rw [List.length_append, hr]; rfl) hxR b1 (by rw [b2]; omega) ?_ F3 S3 (fun ρ v5 v6 v7 q1 q2 q3 q4 => kt ρ v5 v6 v7 ?_ q2 q3 q4)
    · rw [b4.1 77 (by decide), l3.1 77 (by decide)]
      exact g2
    · rw [smpL_e, show (lcg xj / 16 % 9).toNat = len by omega]
      rw [List.append_assoc] at q1
      exact q1
theorem T_sample (h : TwI w σ) (hx : inR x) (hz : inR z) (hw : WF w.2.2.1) (hn : w.2.2.1.2.2.2.2.2.2.1 < 890000) (hcl : w.2.2.2.2.1 < 1000) : TM (d + 6) tk_sample [.inr 0, .inl x, .inl z] σ (TwQ (pSample x z w)) := by
  have thr : ∀ (k : Nat) (v3 : Option TV), k = 1 ∨ k = 2 → pSample x z w = (.inl k, w) → TW (d + 5) tc_sample 29 [some (.inr 0), some (.inl x), some (.inl z), v3, none, none, none, none] [.inl (k : Int), .inr 0] σ (TwQ (pSample x z w)) := fun k v3 hk e => by
    refine TW.putf rfl rfl (by omega) ?_
    (repeat (first | (refine TW.getf rfl rfl rfl (fun _ => ?_)) | (refine TW.pl rfl rfl ?_)))
    rw [ts1_eq]
    refine TW.br rfl rfl (by first | omega | exact b2i_R _ | exact ⟨b2i_R _, by omega⟩) (fun q => by first | (exfalso; omega) | exact absurd q (by decide)) (fun q => ?_)
    (repeat (first | (refine TW.getf rfl rfl rfl (fun _ => ?_)) | (refine TW.pl rfl rfl ?_)))
    exact TW.iret rfl (TwQ.no (k := k) (by rw [e]; exact h.thr) ts1_eq (by rw [e]))
  have no : ¬ ((0 ≤ x ∧ x ≤ 65535) ∧ 1 ≤ z ∧ z ≤ 20) → TW (d + 5) tc_sample 13 [some (.inr 0), some (.inl x), some (.inl z), none, none, none, none, none] [] σ (TwQ (pSample x z w)) := fun hn => by
    have e : pSample x z w = (.inl 1, w) := by unfold pSample; rw [if_pos hn]
    (repeat (first | (refine TW.getf rfl rfl rfl (fun _ => ?_)) | (refine TW.pl rfl rfl ?_)))
    refine TW.br rfl rfl (by first | omega | exact b2i_R _ | exact ⟨b2i_R _, by omega⟩) (fun q => by first | (exfalso; omega) | exact absurd q (by decide)) (fun q => ?_)
    (repeat (first | (refine TW.getf rfl rfl rfl (fun _ => ?_)) | (refine TW.pl rfl rfl ?_)))
    exact thr 1 _ (Or.inl rfl) e
  refine TM.of rfl rfl ?_
  (repeat (first | (refine TW.getf rfl rfl rfl (fun _ => ?_)) | (refine TW.pl rfl rfl ?_)))
  by_cases z1 : x < 0
  · refine TW.br rfl rfl (by first | omega | exact b2i_R _ | exact ⟨b2i_R _, by omega⟩) (fun q => ?_) (fun q => by first | (exfalso; omega) | exact absurd q (by decide))
    exact no (by omega)
  refine TW.br rfl rfl (by first | omega | exact b2i_R _ | exact ⟨b2i_R _, by omega⟩) (fun q => by first | (exfalso; omega) | exact absurd q (by decide)) (fun q => ?_)
  (repeat (first | (refine TW.getf rfl rfl rfl (fun _ => ?_)) | (refine TW.pl rfl rfl ?_)))
  by_cases z2 : 65535 < x
  · refine TW.br rfl rfl (by first | omega | exact b2i_R _ | exact ⟨b2i_R _, by omega⟩) (fun q2 => ?_) (fun q2 => by first | (exfalso; omega) | exact absurd q2 (by decide))
    exact no (by omega)
  refine TW.br rfl rfl (by first | omega | exact b2i_R _ | exact ⟨b2i_R _, by omega⟩) (fun q2 => by first | (exfalso; omega) | exact absurd q2 (by decide)) (fun q2 => ?_)
  (repeat (first | (refine TW.getf rfl rfl rfl (fun _ => ?_)) | (refine TW.pl rfl rfl ?_)))
  by_cases z3 : z < 1
  · refine TW.br rfl rfl (by first | omega | exact b2i_R _ | exact ⟨b2i_R _, by omega⟩) (fun q3 => ?_) (fun q3 => by first | (exfalso; omega) | exact absurd q3 (by decide))
    exact no (by omega)
  refine TW.br rfl rfl (by first | omega | exact b2i_R _ | exact ⟨b2i_R _, by omega⟩) (fun q3 => by first | (exfalso; omega) | exact absurd q3 (by decide)) (fun q3 => ?_)
  (repeat (first | (refine TW.getf rfl rfl rfl (fun _ => ?_)) | (refine TW.pl rfl rfl ?_)))
  by_cases z4 : 20 < z
  · refine TW.br rfl rfl (by first | omega | exact b2i_R _ | exact ⟨b2i_R _, by omega⟩) (fun q4 => ?_) (fun q4 => by first | (exfalso; omega) | exact absurd q4 (by decide))
    exact no (by omega)
  refine TW.br rfl rfl (by first | omega | exact b2i_R _ | exact ⟨b2i_R _, by omega⟩) (fun q4 => by first | (exfalso; omega) | exact absurd q4 (by decide)) (fun q4 => ?_)
  (repeat (first | (refine TW.getf rfl rfl rfl (fun _ => ?_)) | (refine TW.pl rfl rfl ?_)))
  have hok : (0 ≤ x ∧ x ≤ 65535) ∧ 1 ≤ z ∧ z ≤ 20 := by omega
  have hm := h.2.2.1.1.1
  have h40 := hw.2.1
  refine TW.br rfl rfl (by first | omega | exact b2i_R _ | exact ⟨b2i_R _, by omega⟩) (fun q5 => ?_) (fun q5 => by first | (exfalso; omega) | exact absurd q5 (by decide))
  (repeat (first | (refine TW.getf rfl rfl rfl (fun _ => ?_)) | (refine TW.pl rfl rfl ?_)))
  rw [hm]
  by_cases z5 : 40 < (w.2.2.1.1.length : Int) + z
  · have e : pSample x z w = (.inl 2, w) := by unfold pSample; rw [if_neg (fun q => q hok), if_pos z5]
    refine TW.br rfl rfl (by first | omega | exact b2i_R _ | exact ⟨b2i_R _, by omega⟩) (fun q6 => by first | (exfalso; omega) | exact absurd q6 (by decide)) (fun q6 => ?_)
    (repeat (first | (refine TW.getf rfl rfl rfl (fun _ => ?_)) | (refine TW.pl rfl rfl ?_)))
    exact thr 2 _ (Or.inr rfl) e
  obtain ⟨tp, sc, ⟨t, p, hh, oo, fi, mks, nn, rp⟩, ds, cl, re⟩ := w
  have e : pSample x z (tp, sc, (t, p, hh, oo, fi, mks, nn, rp), ds, cl, re) = (.inr ((t.length : Int) + z), tp, sc, smpA (t, p, hh, oo, fi, mks, nn, rp) (smpL z.toNat x), keepD ds (cl + 1, t, p, mks), cl + 1, re) := by unfold pSample; rw [if_neg (fun q => q hok), if_neg z5]
  rw [e]
  have z5 : ¬ 40 < (t.length : Int) + z := z5
  have h40 : t.length ≤ 40 := h40
  have hn : nn < 890000 := hn
  have hcl : cl < 1000 := hcl
  have hn0 : 0 ≤ nn := hw.2.2.2.2.2.1
  refine TW.br rfl rfl (by first | omega | exact b2i_R _ | exact ⟨b2i_R _, by omega⟩) (fun q6 => ?_) (fun q6 => by first | (exfalso; omega) | exact absurd q6 (by decide))
  (repeat (first | (refine TW.getf rfl rfl rfl (fun _ => ?_)) | (refine TW.pl rfl rfl ?_)))
  refine TW.putf rfl rfl (by omega) ?_
  (repeat (first | (refine TW.getf rfl rfl rfl (fun _ => ?_)) | (refine TW.pl rfl rfl ?_)))
  rw [ts1_eq]
  refine TW.br rfl rfl (by first | omega | exact b2i_R _ | exact ⟨b2i_R _, by omega⟩) (fun q7 => ?_) (fun q7 => by first | (exfalso; omega) | exact absurd q7 (by decide))
  have h1 := h.thr (v := 0)
  have h01 : (ts1 σ 0 0).1 0 = 0 := ts1_eq
  generalize ts1 σ 0 0 = σ1 at h1 h01 ⊢
  obtain ⟨c0, c1, c2, c3, c4, c5, c6⟩ := h1
  have c4 : σ1.1 63 = (cl : Int) := c4
  (repeat (first | (refine TW.getf rfl rfl rfl (fun _ => ?_)) | (refine TW.pl rfl rfl ?_)))
  rw [c4]
  refine TW.putf rfl rfl (by omega) ?_
  (repeat (first | (refine TW.getf rfl rfl rfl (fun _ => ?_)) | (refine TW.pl rfl rfl ?_)))
  have fa : TFr [63] [] σ1 (ts1 σ1 63 ((cl : Int) + 1)) := TFr.rf.ts1 (by decide)
  have c2a := c2.fr fa (by decide) (by decide)
  refine TW.cv0 rfl rfl rfl (Nat.le_of_ble_eq_true rfl) (T_save (d := d + 4)) ?_
  rintro _ τ9 ⟨rfl, sv9, sm9, F9⟩
  have hsv9 : SavA (t, p, hh, oo, fi, mks, nn, rp) τ9 := ⟨_, c2a, sv9⟩
  have c2b : TA0 (t, p, hh, oo, fi, mks, nn, rp) τ9 := TA0.cells c2a (fun j hj => sm9 j (by omega)) (fun j hj => by rw [F9.2 7 (by decide)]) (fun j hj => by rw [F9.2 10 (by decide)]) (fun j hj => by rw [F9.2 11 (by decide)]) (fun k hk => F9.1 k (by simp at hk ⊢; omega))
  have c63 : τ9.1 63 = ((cl + 1 : Nat) : Int) := by rw [F9.1 63 (by decide), ts1_eq]; omega
  (repeat (first | (refine TW.getf rfl rfl rfl (fun _ => ?_)) | (refine TW.pl rfl rfl ?_)))
  refine TW.putf rfl rfl (by omega) ?_
  (iterate 2 (first | (refine TW.getf rfl rfl rfl (fun _ => ?_)) | (refine TW.pl rfl rfl ?_)))
  have fb : TFr [77] [] τ9 (ts1 τ9 77 x) := TFr.rf.ts1 (by decide)
  obtain ⟨kk, rfl⟩ : ∃ kk : Nat, z = (kk : Int) := ⟨z.toNat, by omega⟩
  have c2c := c2b.fr fb (by decide) (by decide)
  have hsvb := hsv9.fr fb (RSame.nox fb (by decide)) (by decide) (by decide)
  generalize ht9 : ts1 τ9 77 x = υ at fb c2c hsvb
  refine T_smpLin (υ := υ) (t := t) (nn := nn) (by omega) (by omega) (by omega) kk 0 [] x υ none none none (Nat.zero_add _) rfl (by omega) (by rw [show mkL nn [] = [] from rfl, List.append_nil]; exact c2c.1) (by rw [c2c.2.2.2.2]; show nn = nn + ((0 : Nat) : Int); omega) (by rw [← ht9, ts1_eq]) TFr.rf (fun _ _ => rfl) (fun ρ v5 v6 v7 g1 g2 g3 g4 => ?_)
  rw [List.nil_append] at g1
  have hml : (t ++ mkL nn (smpL kk x)).length = t.length + kk := by rw [List.length_append, mkL_len, smpL_len]
  have h12 : ρ.1 12 = ((t.length + kk : Nat) : Int) := by rw [g1.1, hml]
  (repeat (first | (refine TW.getf rfl rfl rfl (fun _ => ?_)) | (refine TW.pl rfl rfl ?_)))
  rw [h12]
  refine TW.putf rfl rfl (by omega) ?_
  (repeat (first | (refine TW.getf rfl rfl rfl (fun _ => ?_)) | (refine TW.pl rfl rfl ?_)))
  have fc : TFr [16] [] ρ (ts1 ρ 16 ((t.length + kk : Nat) : Int)) := TFr.rf.ts1 (by decide)
  have fbc : TFr [12, 16, 17, 20, 77] [6, 7, 19] υ (ts1 ρ 16 ((t.length + kk : Nat) : Int)) := (g3.mono (by decide) (by decide)).trans (fc.mono (by decide) (by decide))
  have g4c : RSame (fun k => k < 41 ∨ k = 429) υ (ts1 ρ 16 ((t.length + kk : Nat) : Int)) := g4
  have hsvc := hsvb.fr fbc (fun j hj => g4c j (by omega)) (by decide) (by decide)
  have fall : TFr [12, 16, 17, 20, 50, 51, 52, 53, 54, 63, 77] [6, 7, 19, 47, 48, 49] σ1 (ts1 ρ 16 ((t.length + kk : Nat) : Int)) := (fa.mono (by decide) (by decide)).trans ((F9.mono (by decide) (by decide)).trans ((fb.mono (by decide) (by decide)).trans (fbc.mono (by decide) (by decide))))
  have hdc := c3.same fall (by decide) (by decide)
  have h63c : (ts1 ρ 16 ((t.length + kk : Nat) : Int)).1 63 = ((cl + 1 : Nat) : Int) := by rw [fbc.1 63 (by decide), fb.1 63 (by decide), c63]
  have hT : TextIs (ts1 ρ 16 ((t.length + kk : Nat) : Int)) (t ++ mkL nn (smpL kk x)) := g1.fr (ts1_ne (by decide)) rfl rfl
  have h17 : (ts1 ρ 16 ((t.length + kk : Nat) : Int)).1 17 = nn + (kk : Int) := by rw [ts1_ne (by decide)]; exact g2
  have h16 : (ts1 ρ 16 ((t.length + kk : Nat) : Int)).1 16 = ((t.length + kk : Nat) : Int) := ts1_eq
  generalize ts1 ρ 16 ((t.length + kk : Nat) : Int) = ρ2 at fbc g4c hsvc fall hdc h63c hT h17 h16 ⊢
  have c2d : TA0 (smpA (t, p, hh, oo, fi, mks, nn, rp) (smpL ((kk : Int)).toNat x)) ρ2 := by
    rw [show ((kk : Int)).toNat = kk from Int.toNat_natCast kk]
    obtain ⟨a1, a2, a3, a4, a5⟩ := c2c
    refine ⟨hT, ?_, a3.same fbc g4c (by decide) (by decide) (fun k hk => by omega), a4.fr (by rw [fbc.2 10 (by decide)]), ?_⟩
    · show ρ2.1 16 = ((t.length + (smpL kk x).length : Nat) : Int)
      rw [smpL_len]; exact h16
    · show ρ2.1 17 = nn + ((smpL kk x).length : Nat)
      rw [smpL_len]; exact h17
  refine TW.cv0 rfl rfl rfl (Nat.le_of_ble_eq_true rfl) (T_noteDeed (d := d + 4) hsvc hdc h63c) ?_
  rintro _ ρ3 ⟨rfl, hd3, f3⟩
  have f03 := (fall.mono (fs' := [12, 16, 17, 20, 50, 51, 52, 53, 54, 61, 62, 63, 77]) (as' := [6, 7, 19, 47, 48, 49, 55, 56, 57, 58, 59, 60]) (by decide) (by decide)).trans (f3.mono (by decide) (by decide))
  have h12d : ρ3.1 12 = ((t.length + kk : Nat) : Int) := by rw [f3.1 12 (by decide), hT.1, hml]
  (repeat (first | (refine TW.getf rfl rfl rfl (fun _ => ?_)) | (refine TW.pl rfl rfl ?_)))
  rw [h12d]
  refine TW.iret rfl (TwQ.ok (P := (.inr ((t.length : Int) + (kk : Int)), tp, sc, smpA (t, p, hh, oo, fi, mks, nn, rp) (smpL ((kk : Int)).toNat x), keepD ds (cl + 1, t, p, mks), cl + 1, re)) ⟨c0.fr f03 (by decide) (by decide), c1.fr f03 (by decide), c2d.fr f3 (by decide) (by decide), hd3, by rw [f3.1 63 (by decide)]; exact h63c, (f03.1 18 (by decide)).trans c5, ?_⟩ ((f03.1 0 (by decide)).trans h01) (by rw [Int.natCast_add]))
  unfold GS at c6 ⊢
  rw [f03.1 25 (by decide), f03.1 26 (by decide)]
  exact c6
end TPX
