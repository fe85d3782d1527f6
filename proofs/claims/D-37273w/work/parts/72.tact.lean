set_option maxRecDepth 100000
/-! the twin reads acts -/
/-- what is left from a place on -/
def Sfx (s l : List Int) (x : Int) : Prop := ∃ k : Nat, x = k ∧ k ≤ s.length ∧ s.drop k = l
def wKind (w : Bool × Option SAdr × Option SAdr) : Int := if w.1 = true then 1 else if w.2.1.isSome = true then (if w.2.2.isSome = true then 3 else 2) else 0
def WhK (s l : List Int) (w : Bool × Option SAdr × Option SAdr) (l1 : List Int) (τ : TS) : Prop := (τ.1 27) = wKind w ∧ Sfx s l1 (τ.1 30) ∧ (∀ a, w.2.1 = some a → Sfx s l (τ.1 28) ∧ ∃ l', pAdr l = .inr (l', a)) ∧ ∀ b, w.2.2 = some b → ∃ lb l', Sfx s lb (τ.1 29) ∧ pAdr lb = .inr (l', b)
section TAct
variable {d : Nat} {σ σ0 : TS} {s l f : List Int} {fs : List Nat} {gr st : Nat} {m : Int}
theorem T_where (hfs : ∀ k, 27 ≤ k → k ≤ 30 → k ∈ fs) (h : PGx fs σ0 s l σ) : TM (d + 10) tk_where [.inr 0] σ (PX fs σ0 s 4 (pWhere l) (fun l1 w τ => PGx fs σ0 s l1 τ ∧ WhK s l w l1 τ)) := by
  obtain ⟨gr, st, h⟩ := h
  refine TM.of rfl rfl ?_
  (repeat (first | (refine TW.getf rfl rfl rfl (fun _ => ?_)) | (refine TW.pl rfl rfl ?_)))
  refine TW.putf rfl rfl (by omega) ?_
  have h0 := h.oth (v := 0) (hfs 27 (by decide) (by decide)) (by decide)
  have hdr := h0.hdR
  -- the end
  have endB : ∀ (υ : TS) (f : List Int), PB fs σ0 s 4 f υ → TW (d + 9) tc_where 52 [some (.inr 0)] [] υ (PX fs σ0 s 4 (.inl f : PR (Bool × Option SAdr × Option SAdr)) (fun l1 w τ => PGx fs σ0 s l1 τ ∧ WhK s l w l1 τ)) := by
    intro υ f hb
    (repeat (first | (refine TW.getf rfl rfl rfl (fun _ => ?_)) | (refine TW.pl rfl rfl ?_)))
    refine TW.putf rfl rfl (by assumption) ?_
    exact TW.vret rfl ⟨rfl, hb.oth (hfs 30 (by decide) (by decide)) (by decide)⟩
  have endG : ∀ (υ : TS) (q : List Int) (w : Bool × Option SAdr × Option SAdr), PGx fs σ0 s q υ → (υ.1 27) = wKind w → (∀ a, w.2.1 = some a → Sfx s l (υ.1 28) ∧ ∃ l', pAdr l = .inr (l', a)) → (∀ b, w.2.2 = some b → ∃ lb l', Sfx s lb (υ.1 29) ∧ pAdr lb = .inr (l', b)) → TW (d + 9) tc_where 52 [some (.inr 0)] [] υ (PX fs σ0 s 4 (.inr (q, w)) (fun l1 w τ => PGx fs σ0 s l1 τ ∧ WhK s l w l1 τ)) := by
    intro υ q w hq h1 h2 h3
    obtain ⟨gr, st, hq⟩ := hq
    (repeat (first | (refine TW.getf rfl rfl rfl (fun _ => ?_)) | (refine TW.pl rfl rfl ?_)))
    refine TW.putf rfl rfl (by assumption) ?_
    refine TW.vret rfl ⟨rfl, ⟨gr, st, hq.oth (hfs 30 (by decide) (by decide)) (by decide)⟩, by rw [ts1_ne (by decide)]; exact h1, ?_, ?_, ?_⟩
    · rw [ts1_eq]; exact hq.2.1
    · rw [ts1_ne (by decide)]; exact h2
    · rw [ts1_ne (by decide)]; exact h3
  unfold pWhere
  (repeat (first | (refine TW.getf rfl rfl rfl (fun _ => ?_)) | (refine TW.pl rfl rfl ?_)))
  refine TW.cv0 rfl rfl rfl (Nat.le_of_ble_eq_true rfl) (T_c h0) ?_; rintro _ _ ⟨rfl, rfl⟩
  (repeat (first | (refine TW.getf rfl rfl rfl (fun _ => ?_)) | (refine TW.pl rfl rfl ?_)))
  refine TW.br rfl rfl (by first | omega | exact b2i_R _ | exact ⟨b2i_R _, by omega⟩) (fun h1 => ?_) (fun h1 => ?_)
  · rw [if_neg h1]
    (repeat (first | (refine TW.getf rfl rfl rfl (fun _ => ?_)) | (refine TW.pl rfl rfl ?_)))
    refine TW.cv0 rfl rfl rfl (Nat.le_of_ble_eq_true rfl) (T_c h0) ?_; rintro _ _ ⟨rfl, rfl⟩
    refine TW.cs1 rfl rfl rfl (Nat.le_of_ble_eq_true rfl) (T_beginsSpot (by omega)) ?_; rintro _ _ ⟨rfl, rfl⟩
    refine TW.br rfl rfl (by first | omega | exact b2i_R _ | exact ⟨b2i_R _, by omega⟩) (fun h2 => ?_) (fun h2 => ?_)
    · rw [if_neg (by rw [b2i_0 h2]; decide)]
      exact endG _ l (false, none, none) ⟨gr, st, h0⟩ ts1_eq (fun a z => by cases z) (fun a z => by cases z)
    · rw [if_pos (b2i_1 h2)]
      (repeat (first | (refine TW.getf rfl rfl rfl (fun _ => ?_)) | (refine TW.pl rfl rfl ?_)))
      refine TW.putf rfl rfl (by assumption) ?_
      have h3 := h0.oth (v := (ts1 σ 27 0).1 23) (hfs 28 (by decide) (by decide)) (by decide)
      (repeat (first | (refine TW.getf rfl rfl rfl (fun _ => ?_)) | (refine TW.pl rfl rfl ?_)))
      refine TW.cv0 rfl rfl rfl (Nat.le_of_ble_eq_true rfl) (T_address ⟨gr, st, h3.base⟩) ?_
      rintro _ τ ⟨rfl, hp⟩
      (repeat (first | (refine TW.getf rfl rfl rfl (fun _ => ?_)) | (refine TW.pl rfl rfl ?_)))
      refine TW.putf rfl rfl (by omega) ?_
      revert hp
      cases hA : pAdr l with
      | inl f =>
        intro hp
        have hb : PB fs σ0 s 4 f τ := PB.lift hp h3.1
        have hb1 := hb.oth (v := 2) (hfs 27 (by decide) (by decide)) (by decide)
        have := hb1.bad0
        (repeat (first | (refine TW.getf rfl rfl rfl (fun _ => ?_)) | (refine TW.pl rfl rfl ?_)))
        refine TW.br rfl rfl (by first | omega | exact b2i_R _ | exact ⟨b2i_R _, by omega⟩) (fun h4 => ?_) (fun h4 => ?_)
        · exact endB _ _ hb1
        · omega
      | inr w =>
        obtain ⟨l1, a⟩ := w
        intro hp
        obtain ⟨g4, s4, hp4⟩ := id hp
        obtain ⟨g5, s5, hp5⟩ := PGx.lift hp h3.1
        have h6 := hp5.oth (v := 2) (hfs 27 (by decide) (by decide)) (by decide)
        have hb6 := h6.2.2.1
        have hd6 := h6.hdR
        have hf28 : (ts1 τ 27 2).1 28 = (ts1 σ 27 0).1 23 := by
          rw [ts1_ne (by decide), hp4.1.2.1.1 28 (by decide), ts1_eq]
        have hsf : Sfx s l ((ts1 τ 27 2).1 28) := by rw [hf28]; exact h0.2.1
        (repeat (first | (refine TW.getf rfl rfl rfl (fun _ => ?_)) | (refine TW.pl rfl rfl ?_)))
        refine TW.br rfl rfl (by first | omega | exact b2i_R _ | exact ⟨b2i_R _, by omega⟩) (fun h4 => ?_) (fun h4 => ?_)
        · omega
        (repeat (first | (refine TW.getf rfl rfl rfl (fun _ => ?_)) | (refine TW.pl rfl rfl ?_)))
        refine TW.cv0 rfl rfl rfl (Nat.le_of_ble_eq_true rfl) (T_c h6) ?_; rintro _ _ ⟨rfl, rfl⟩
        (repeat (first | (refine TW.getf rfl rfl rfl (fun _ => ?_)) | (refine TW.pl rfl rfl ?_)))
        dsimp only
        refine TW.br rfl rfl (by first | omega | exact b2i_R _ | exact ⟨b2i_R _, by omega⟩) (fun h5 => ?_) (fun h5 => ?_)
        · rw [if_neg h5]
          exact endG _ l1 (false, some a, none) ⟨_, _, h6⟩ ts1_eq (fun a' z => by cases z; exact ⟨hsf, l1, hA⟩) (fun b z => by cases z)
        · rw [if_pos h5]
          have hn : l1 ≠ [] := hd_ne h5 (by decide)
          have hll := List.length_pos_iff.mpr hn
          (repeat (first | (refine TW.getf rfl rfl rfl (fun _ => ?_)) | (refine TW.pl rfl rfl ?_)))
          refine TW.putf rfl rfl (by omega) ?_
          have h7 := h6.step hn rfl
          (repeat (first | (refine TW.getf rfl rfl rfl (fun _ => ?_)) | (refine TW.pl rfl rfl ?_)))
          refine TW.putf rfl rfl (by assumption) ?_
          have h8 := h7.oth (v := (ts1 (ts1 τ 27 2) 23 ((ts1 τ 27 2).1 23 + 1)).1 23) (hfs 29 (by decide) (by decide)) (by decide)
          (repeat (first | (refine TW.getf rfl rfl rfl (fun _ => ?_)) | (refine TW.pl rfl rfl ?_)))
          refine TW.cv0 rfl rfl rfl (Nat.le_of_ble_eq_true rfl) (T_address ⟨_, _, h8.base⟩) ?_
          rintro _ υ ⟨rfl, hp⟩
          (repeat (first | (refine TW.getf rfl rfl rfl (fun _ => ?_)) | (refine TW.pl rfl rfl ?_)))
          refine TW.putf rfl rfl (by omega) ?_
          revert hp
          cases hB : pAdr l1.tail with
          | inl f =>
            intro hp
            have hb : PB fs σ0 s 4 f υ := PB.lift hp h8.1
            exact endB _ _ (hb.oth (v := 3) (hfs 27 (by decide) (by decide)) (by decide))
          | inr w =>
            obtain ⟨l2, b⟩ := w
            intro hp
            obtain ⟨g4, s4, hp4⟩ := id hp
            obtain ⟨g5, s5, hp5⟩ := PGx.lift hp h8.1
            refine endG _ l2 (false, some a, some b) ⟨_, _, hp5.oth (v := 3) (hfs 27 (by decide) (by decide)) (by decide)⟩ ts1_eq (fun a' z => ?_) (fun b' z => ?_)
            · cases z
              refine ⟨?_, l1, hA⟩
              rw [ts1_ne (by decide), hp4.1.2.1.1 28 (by decide), ts1_ne (by decide), ts1_ne (by decide)]
              exact hsf
            · cases z
              refine ⟨l1.tail, l2, ?_, hB⟩
              rw [ts1_ne (by decide), hp4.1.2.1.1 29 (by decide), ts1_eq]
              exact h7.2.1
  · rw [if_pos h1]
    have hn : l ≠ [] := hd_ne h1 (by decide)
    have hll := List.length_pos_iff.mpr hn
    (repeat (first | (refine TW.getf rfl rfl rfl (fun _ => ?_)) | (refine TW.pl rfl rfl ?_)))
    refine TW.putf rfl rfl (by omega) ?_
    (repeat (first | (refine TW.getf rfl rfl rfl (fun _ => ?_)) | (refine TW.pl rfl rfl ?_)))
    refine TW.putf rfl rfl (by omega) ?_
    (iterate 1 (first | (refine TW.getf rfl rfl rfl (fun _ => ?_)) | (refine TW.pl rfl rfl ?_)))
    exact endG _ l.tail (true, none, none) ⟨_, _, (h0.step hn rfl).oth (hfs 27 (by decide) (by decide)) (by decide)⟩ ts1_eq (fun a z => by cases z) (fun a z => by cases z)
theorem T_rows (h : PGx fs σ0 s l σ) : TM (d + 3) tk_rows [.inr 0] σ (PY fs σ0 s (rs (pRows l.length l))) := by
  refine TM.of rfl rfl ?_
  (iterate 2 (first | (refine TW.getf rfl rfl rfl (fun _ => ?_)) | (refine TW.pl rfl rfl ?_)))
  have outB : ∀ (υ : TS) (f : List Int) (x y : Option TV), PB fs σ0 s 4 f υ → ∀ b : Bool, TW (d + 2) tc_rows 2 [some (.inr 0), some (.inl (b2i b)), y] [] υ (PY fs σ0 s (.inl f)) := by
    intro υ f x y hb b
    have := hb.bad0
    (repeat (first | (refine TW.getf rfl rfl rfl (fun _ => ?_)) | (refine TW.pl rfl rfl ?_)))
    refine TW.br rfl rfl (by first | omega | exact b2i_R _ | exact ⟨b2i_R _, by omega⟩) (fun h1 => ?_) (fun h1 => ?_)
    · exact TW.vret rfl (PY.bad hb (by decide) rfl)
    · (repeat (first | (refine TW.getf rfl rfl rfl (fun _ => ?_)) | (refine TW.pl rfl rfl ?_)))
      refine TW.br rfl rfl (by first | omega | exact b2i_R _ | exact ⟨b2i_R _, by omega⟩) (fun h2 => ?_) (fun h2 => ?_)
      · exact TW.vret rfl (PY.bad hb (by decide) rfl)
      · omega
  have body : ∀ (k : Nat) (l : List Int) (υ : TS) (y : Option TV), (∀ l' υ' y', l'.length < l.length → PGx fs σ0 s l' υ' → ∃ k', k = k' + 1 ∧ TW (d + 2) tc_rows 2 [some (.inr 0), some (.inl 1), y'] [] υ' (PY fs σ0 s (rs (pRows k' l')))) → PGx fs σ0 s l υ → TW (d + 2) tc_rows 2 [some (.inr 0), some (.inl 1), y] [] υ (PY fs σ0 s (rs (pRows k l))) := by
    intro k l υ y ih hq
    obtain ⟨gr, st, hq⟩ := hq
    have hb := hq.2.2.1
    have hpos := hq.hdR
    (repeat (first | (refine TW.getf rfl rfl rfl (fun _ => ?_)) | (refine TW.pl rfl rfl ?_)))
    refine TW.br rfl rfl (by first | omega | exact b2i_R _ | exact ⟨b2i_R _, by omega⟩) (fun h1 => ?_) (fun h1 => ?_)
    · omega
    (repeat (first | (refine TW.getf rfl rfl rfl (fun _ => ?_)) | (refine TW.pl rfl rfl ?_)))
    refine TW.br rfl rfl (by first | omega | exact b2i_R _ | exact ⟨b2i_R _, by omega⟩) (fun h2 => ?_) (fun h2 => ?_)
    · omega
    (iterate 3 (first | (refine TW.getf rfl rfl rfl (fun _ => ?_)) | (refine TW.pl rfl rfl ?_)))
    have inner : ∀ (n : Nat) (q : List Int) (j : Nat) (τ : TS), q.length ≤ n → PG fs σ0 s 4 gr st q τ → j ≤ 30 → l.length = q.length + j → q = l.drop j → l.dropWhile isChr = q.dropWhile isChr → (l.takeWhile isChr).length = j + (q.takeWhile isChr).length → TW (d + 2) tc_rows 10 [some (.inr 0), some (.inl 1), some (.inl (υ.1 23))] [] τ (PY fs σ0 s (rs (pRows k l))) := by
      intro n
      induction n with
      | zero =>
        intro q j τ hn hq1 hj hlen hd1 hdw htw
        have hq0 : q = [] := List.length_eq_zero_iff.mp (by omega)
        subst hq0
        have hb1 := hq1.2.2.1
        have hpo := hq1.hdR
        (repeat (first | (refine TW.getf rfl rfl rfl (fun _ => ?_)) | (refine TW.pl rfl rfl ?_)))
        refine TW.cv0 rfl rfl rfl (Nat.le_of_ble_eq_true rfl) (T_c hq1) ?_; rintro _ _ ⟨rfl, rfl⟩
        refine TW.cs1 rfl rfl rfl (Nat.le_of_ble_eq_true rfl) (T_isChar (by omega)) ?_; rintro _ _ ⟨rfl, rfl⟩
        refine TW.br rfl rfl (by first | omega | exact b2i_R _ | exact ⟨b2i_R _, by omega⟩) (fun h3 => ?_) (fun h3 => ?_)
        · (repeat (first | (refine TW.getf rfl rfl rfl (fun _ => ?_)) | (refine TW.pl rfl rfl ?_)))
          refine TW.br rfl rfl (by first | omega | exact b2i_R _ | exact ⟨b2i_R _, by omega⟩) (fun h4 => ?_) (fun h4 => ?_)
          · omega
          (repeat (first | (refine TW.getf rfl rfl rfl (fun _ => ?_)) | (refine TW.pl rfl rfl ?_)))
          refine TW.cv0 rfl rfl rfl (Nat.le_of_ble_eq_true rfl) (T_c hq1) ?_; rintro _ _ ⟨rfl, rfl⟩
          (repeat (first | (refine TW.getf rfl rfl rfl (fun _ => ?_)) | (refine TW.pl rfl rfl ?_)))
          refine TW.br rfl rfl (by first | omega | exact b2i_R _ | exact ⟨b2i_R _, by omega⟩) (fun h5 => ?_) (fun h5 => ?_)
          · (repeat (first | (refine TW.getf rfl rfl rfl (fun _ => ?_)) | (refine TW.pl rfl rfl ?_)))
            refine TW.br rfl rfl (by first | omega | exact b2i_R _ | exact ⟨b2i_R _, by omega⟩) (fun h6 => ?_) (fun h6 => ?_)
            · (repeat (first | (refine TW.getf rfl rfl rfl (fun _ => ?_)) | (refine TW.pl rfl rfl ?_)))
              refine TW.putf rfl rfl (by omega) ?_
              (iterate 1 (first | (refine TW.getf rfl rfl rfl (fun _ => ?_)) | (refine TW.pl rfl rfl ?_)))
              (repeat (first | (refine TW.getf rfl rfl rfl (fun _ => ?_)) | (refine TW.pl rfl rfl ?_)))
              refine TW.br rfl rfl (by first | omega | exact b2i_R _ | exact ⟨b2i_R _, by omega⟩) (fun h7 => ?_) (fun h7 => ?_)
              · have e : pRows k l = .inr ([], [l.takeWhile isChr]) := by
                  cases k <;> (unfold pRows; rw [if_neg (by rw [htw]; simp; omega), hdw, if_neg (by decide)]; rfl)
                rw [e]
                exact TW.vret rfl (PY.good (hq1.keepP (by omega)) (by decide) rfl)
              · omega
            · omega
          · exact absurd h5 (by decide)
        · exact absurd rfl h3
      | succ n ihn =>
        intro q j τ hn hq1 hj hlen hd1 hdw htw
        have hb1 := hq1.2.2.1
        have hpo := hq1.hdR
        (repeat (first | (refine TW.getf rfl rfl rfl (fun _ => ?_)) | (refine TW.pl rfl rfl ?_)))
        refine TW.cv0 rfl rfl rfl (Nat.le_of_ble_eq_true rfl) (T_c hq1) ?_; rintro _ _ ⟨rfl, rfl⟩
        refine TW.cs1 rfl rfl rfl (Nat.le_of_ble_eq_true rfl) (T_isChar (by omega)) ?_; rintro _ _ ⟨rfl, rfl⟩
        refine TW.br rfl rfl (by first | omega | exact b2i_R _ | exact ⟨b2i_R _, by omega⟩) (fun h3 => ?_) (fun h3 => ?_)
        · have hst := dropWhile_stop (b2i_0 h3)
          rw [hst.1] at hdw
          rw [hst.2] at htw
          have hle : ¬ 30 < (l.takeWhile isChr).length := by rw [htw]; simp; omega
          (repeat (first | (refine TW.getf rfl rfl rfl (fun _ => ?_)) | (refine TW.pl rfl rfl ?_)))
          refine TW.br rfl rfl (by first | omega | exact b2i_R _ | exact ⟨b2i_R _, by omega⟩) (fun h4 => ?_) (fun h4 => ?_)
          · omega
          (repeat (first | (refine TW.getf rfl rfl rfl (fun _ => ?_)) | (refine TW.pl rfl rfl ?_)))
          refine TW.cv0 rfl rfl rfl (Nat.le_of_ble_eq_true rfl) (T_c hq1) ?_; rintro _ _ ⟨rfl, rfl⟩
          (repeat (first | (refine TW.getf rfl rfl rfl (fun _ => ?_)) | (refine TW.pl rfl rfl ?_)))
          refine TW.br rfl rfl (by first | omega | exact b2i_R _ | exact ⟨b2i_R _, by omega⟩) (fun h5 => ?_) (fun h5 => ?_)
          · (repeat (first | (refine TW.getf rfl rfl rfl (fun _ => ?_)) | (refine TW.pl rfl rfl ?_)))
            refine TW.br rfl rfl (by first | omega | exact b2i_R _ | exact ⟨b2i_R _, by omega⟩) (fun h6 => ?_) (fun h6 => ?_)
            · (repeat (first | (refine TW.getf rfl rfl rfl (fun _ => ?_)) | (refine TW.pl rfl rfl ?_)))
              refine TW.putf rfl rfl (by omega) ?_
              (iterate 1 (first | (refine TW.getf rfl rfl rfl (fun _ => ?_)) | (refine TW.pl rfl rfl ?_)))
              (repeat (first | (refine TW.getf rfl rfl rfl (fun _ => ?_)) | (refine TW.pl rfl rfl ?_)))
              refine TW.br rfl rfl (by first | omega | exact b2i_R _ | exact ⟨b2i_R _, by omega⟩) (fun h7 => ?_) (fun h7 => ?_)
              · have e : pRows k l = .inr (q, [l.takeWhile isChr]) := by
                  cases k <;> (unfold pRows; rw [if_neg hle, hdw, if_neg h5])
                rw [e]
                exact TW.vret rfl (PY.good (hq1.keepP (by omega)) (by decide) rfl)
              · omega
            · omega
          · have hne : q ≠ [] := hd_ne h5 (by decide)
            have hll := List.length_pos_iff.mpr hne
            (repeat (first | (refine TW.getf rfl rfl rfl (fun _ => ?_)) | (refine TW.pl rfl rfl ?_)))
            refine TW.br rfl rfl (by first | omega | exact b2i_R _ | exact ⟨b2i_R _, by omega⟩) (fun h6 => ?_) (fun h6 => ?_)
            · omega
            (repeat (first | (refine TW.getf rfl rfl rfl (fun _ => ?_)) | (refine TW.pl rfl rfl ?_)))
            refine TW.putf rfl rfl (by omega) ?_
            (iterate 1 (first | (refine TW.getf rfl rfl rfl (fun _ => ?_)) | (refine TW.pl rfl rfl ?_)))
            obtain ⟨k', rfl, hT⟩ := ih q.tail (ts1 τ 23 (τ.1 23 + 1)) (some (.inl (υ.1 23))) (by simp; omega) ⟨gr, st, hq1.step hne rfl⟩
            have e : rs (pRows (k' + 1) l) = rs (pRows k' q.tail) := by
              conv => lhs; unfold pRows
              rw [if_neg hle, hdw, if_pos h5]
              dsimp only
              cases pRows k' q.tail with
              | inl f => rfl
              | inr w => rfl
            rw [e]
            exact hT
        · have hc := b2i_1 h3
          have hne := hd_chr hc
          have hll := List.length_pos_iff.mpr hne
          have hdt := dropWhile_tail hc
          (repeat (first | (refine TW.getf rfl rfl rfl (fun _ => ?_)) | (refine TW.pl rfl rfl ?_)))
          refine TW.br rfl rfl (by first | omega | exact b2i_R _ | exact ⟨b2i_R _, by omega⟩) (fun h4 => ?_) (fun h4 => ?_)
          · omega
          (repeat (first | (refine TW.getf rfl rfl rfl (fun _ => ?_)) | (refine TW.pl rfl rfl ?_)))
          have key : ∀ b : Bool, b = decide (j < 30) → TW (d + 2) tc_rows 27 [some (.inr 0), some (.inl 1), some (.inl (υ.1 23))] [.inl (b2i b), .inr 0] τ (PY fs σ0 s (rs (pRows k l))) := by
            intro b hbd
            refine TW.cv1 rfl rfl rfl (Nat.le_of_ble_eq_true rfl) (T_takeIf hq1 (fun _ => hne)) ?_
            rintro _ τ1 ⟨rfl, p1, p2⟩
            cases b with
            | true =>
              have hj2 := of_decide_eq_true hbd.symm
              (iterate 1 (first | (refine TW.getf rfl rfl rfl (fun _ => ?_)) | (refine TW.pl rfl rfl ?_)))
              refine ihn q.tail (j + 1) τ1 (by simp; omega) (p1 rfl) (by omega) (by simp; omega) (by rw [hd1, List.tail_drop]) (by rw [hdw, hdt.1]) ?_
              rw [htw, hdt.2]
              simp
              omega
            | false =>
              have hj2 := of_decide_eq_false hbd.symm
              have hj30 : j = 30 := by omega
              have hb2 := p2 rfl
              have hbb := hb2.bad0
              obtain ⟨l9, ha9⟩ := hb2.2.1
              have hd9 := hb2.1.2.2.hdR ha9
              have hl9 := ha9.len
              have h60 := hb2.1.2.2.2.1
              have e : pRows k l = .inl q := by
                have : 30 < (l.takeWhile isChr).length := by rw [htw, hdt.2]; simp; omega
                cases k <;> (unfold pRows; rw [if_pos this, hd1, hj30])
              rw [e]
              (iterate 1 (first | (refine TW.getf rfl rfl rfl (fun _ => ?_)) | (refine TW.pl rfl rfl ?_)))
              have rest : TW (d + 2) tc_rows 29 [some (.inr 0), some (.inl 1), some (.inl (υ.1 23))] [] τ1 (PY fs σ0 s (rs (.inl q : PR (List (List Int))))) := by
                (repeat (first | (refine TW.getf rfl rfl rfl (fun _ => ?_)) | (refine TW.pl rfl rfl ?_)))
                refine TW.br rfl rfl (by first | omega | exact b2i_R _ | exact ⟨b2i_R _, by omega⟩) (fun h6 => ?_) (fun h6 => ?_)
                · (repeat (first | (refine TW.getf rfl rfl rfl (fun _ => ?_)) | (refine TW.pl rfl rfl ?_)))
                  refine TW.br rfl rfl (by first | omega | exact b2i_R _ | exact ⟨b2i_R _, by omega⟩) (fun h7 => ?_) (fun h7 => ?_)
                  · (repeat (first | (refine TW.getf rfl rfl rfl (fun _ => ?_)) | (refine TW.pl rfl rfl ?_)))
                    refine TW.putf rfl rfl (by omega) ?_
                    (iterate 1 (first | (refine TW.getf rfl rfl rfl (fun _ => ?_)) | (refine TW.pl rfl rfl ?_)))
                    refine outB _ _ none _ ⟨hb2.1.ts1 (by decide) (by decide), ⟨l9, ha9.fr (by rw [ts1_eq]; omega)⟩, ?_, ?_, ?_⟩ false
                    · rw [ts1_ne (by decide)]; exact hb2.2.2.1
                    · rw [ts1_ne (by decide)]; exact hb2.2.2.2.1
                    · rw [ts1_ne (by decide)]; exact hb2.2.2.2.2
                  · omega
                · omega
              (repeat (first | (refine TW.getf rfl rfl rfl (fun _ => ?_)) | (refine TW.pl rfl rfl ?_)))
              refine TW.cv0 rfl rfl rfl (Nat.le_of_ble_eq_true rfl) (T_c' hb2.1.2.2 ha9) ?_; rintro _ _ ⟨rfl, rfl⟩
              refine TW.cs1 rfl rfl rfl (Nat.le_of_ble_eq_true rfl) (T_isChar (by omega)) ?_; rintro _ _ ⟨rfl, rfl⟩
              refine TW.br rfl rfl (by first | omega | exact b2i_R _ | exact ⟨b2i_R _, by omega⟩) (fun h5 => ?_) (fun h5 => ?_)
              · exact rest
              · (repeat (first | (refine TW.getf rfl rfl rfl (fun _ => ?_)) | (refine TW.pl rfl rfl ?_)))
                refine TW.br rfl rfl (by first | omega | exact b2i_R _ | exact ⟨b2i_R _, by omega⟩) (fun h6 => ?_) (fun h6 => ?_)
                · exact rest
                · omega
          refine TW.br rfl rfl (by first | omega | exact b2i_R _ | exact ⟨b2i_R _, by omega⟩) (fun h5 => ?_) (fun h5 => ?_)
          · (iterate 1 (first | (refine TW.getf rfl rfl rfl (fun _ => ?_)) | (refine TW.pl rfl rfl ?_)))
            exact key false (decide_eq_false (by omega)).symm
          · (iterate 2 (first | (refine TW.getf rfl rfl rfl (fun _ => ?_)) | (refine TW.pl rfl rfl ?_)))
            exact key true (decide_eq_true (by omega)).symm
    exact inner l.length l 0 υ (Nat.le_refl _) hq (by decide) rfl rfl rfl (by simp)
  have outer : ∀ (k : Nat) (l : List Int) (υ : TS) (y : Option TV), l.length ≤ k → PGx fs σ0 s l υ → TW (d + 2) tc_rows 2 [some (.inr 0), some (.inl 1), y] [] υ (PY fs σ0 s (rs (pRows k l))) := by
    intro k
    induction k with
    | zero => exact fun l υ y hl hq => body 0 l υ y (fun l' _ _ h => by omega) hq
    | succ k ih => exact fun l υ y hl hq => body (k + 1) l υ y (fun l' υ' y' h hq' => ⟨k, rfl, ih l' υ' y' (by omega) hq'⟩) hq
  exact outer l.length l σ none (Nat.le_refl _) h
theorem PB.moveP (h : PB fs σ0 s m f σ) {v : Int} {l : List Int} (hv : Sfx s l v) : PB fs σ0 s m f (ts1 σ 23 v) := ⟨h.1.ts1 (by decide) (by decide), ⟨l, by unfold At; rw [ts1_eq]; exact hv⟩, by rw [ts1_ne (by decide)]; exact h.2.2.1, by rw [ts1_ne (by decide)]; exact h.2.2.2.1, by rw [ts1_ne (by decide)]; exact h.2.2.2.2⟩
end TAct
