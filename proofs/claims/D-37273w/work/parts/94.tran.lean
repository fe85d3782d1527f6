set_option maxRecDepth 100000
/-! the twin's ranges; what a plain order was read from -/
/-- what stands behind an act -/
def ActP (l l1 : List Int) (o : SOrd0) : Prop :=
  ((hd l = 97 ∨ hd l = 105 ∨ hd l = 99) → ∃ k, pRows k l.tail = .inr (l1, oRows o)) ∧
  ((hd l = 118 ∨ hd l = 62 ∨ hd l = 60 ∨ hd l = 111 ∨ hd l = 79) → pNum l.tail = .inr (l1, oNum o)) ∧
  ((hd l = 109 ∨ hd l = 116) → ∃ a, oTgt o = some a ∧ pAdr l.tail = .inr (l1, a)) ∧
  (hd l = 107 → isMrk (hd l.tail) = true ∧ oNum o = hd l.tail - 97) ∧
  ((hd l = 114 ∨ hd l = 119) → (48 ≤ hd l.tail ∧ hd l.tail ≤ 51) ∧ oNum o = hd l.tail - 48) ∧
  (hd l = 58 → isLab (hd l.tail) = true ∧ oNum o = hd l.tail - 65) ∧
  ((hd l = 98 ∨ hd l = 84) → (isLab (hd l.tail) = true ∧ oNum o = hd l.tail - 65) ∨ (isLab (hd l.tail) = false ∧ oNum o = -1)) ∧
  (hd l = 115 → pRepl l.tail = .inr (l1, oPat o, oPut o, oEac o, oNum o)) ∧
  (hd l = 122 → pTurn l.tail = .inr (l1, oLet o, oPut o)) ∧
  ([97, 105, 99, 118, 62, 60, 111, 79, 109, 116, 107, 114, 119, 58, 98, 84, 115, 122].contains (hd l) = true ∨ isBar (hd l) = true)
theorem pAct_out {inner : Bool} {w : Bool × Option SAdr × Option SAdr} {l l1 : List Int} {o : SOrd0} (h : pAct inner w l = .inr (l1, o)) : l ≠ [] ∧ (oAll o = w.1 ∧ oFst o = w.2.1 ∧ oSnd o = w.2.2 ∧ oAct o = hd l) ∧ (inner = true → isOut (hd l) = false) ∧ (hd l = 58 → w.1 = false ∧ w.2.1 = none) ∧ ActP l l1 o := by
  unfold pAct at h
  dsimp only at h
  by_cases h0 : l = [] ∨ (isOut (hd l) = true ∧ inner = true) ∨ (hd l = 58 ∧ (w.1 = true ∨ w.2.1 ≠ none))
  · rw [if_pos h0] at h; cases h
  rw [if_neg h0] at h
  have hl0 : l ≠ [] := fun z => h0 (Or.inl z)
  have hin : inner = true → isOut (hd l) = false := fun z => Bool.eq_false_iff.mpr (fun y => h0 (Or.inr (Or.inl ⟨y, z⟩)))
  have h58 : hd l = 58 → w.1 = false ∧ w.2.1 = none := fun z => ⟨Bool.eq_false_iff.mpr (fun y => h0 (Or.inr (Or.inr ⟨z, Or.inl y⟩))), Classical.byContradiction (fun y => h0 (Or.inr (Or.inr ⟨z, Or.inr y⟩)))⟩
  have hc18 : ∀ c : Int, (c = 97 ∨ c = 105 ∨ c = 99 ∨ c = 118 ∨ c = 62 ∨ c = 60 ∨ c = 111 ∨ c = 79 ∨ c = 109 ∨ c = 116 ∨ c = 107 ∨ c = 114 ∨ c = 119 ∨ c = 58 ∨ c = 98 ∨ c = 84 ∨ c = 115 ∨ c = 122) → [97, 105, 99, 118, 62, 60, 111, 79, 109, 116, 107, 114, 119, 58, 98, 84, 115, 122].contains c = true := by
    intro c hc
    rcases hc with h | h | h | h | h | h | h | h | h | h | h | h | h | h | h | h | h | h <;> subst h <;> rfl
  by_cases hc : hd l = 97 ∨ hd l = 105 ∨ hd l = 99
  · rw [if_pos hc] at h
    cases hp : pRows l.tail.length l.tail with
    | inl f => rw [hp] at h; cases h
    | inr q =>
      obtain ⟨l2, rs⟩ := q
      rw [hp] at h
      cases h
      exact ⟨hl0, ⟨rfl, rfl, rfl, rfl⟩, hin, h58, fun _ => ⟨_, hp⟩, fun z => by omega, fun z => by omega, fun z => by omega, fun z => by omega, fun z => by omega, fun z => by omega, fun z => by omega, fun z => by omega, Or.inl (hc18 _ (by omega))⟩
  rw [if_neg hc] at h; have n1 := hc; clear hc
  by_cases hc : hd l = 118 ∨ hd l = 62 ∨ hd l = 60 ∨ hd l = 111 ∨ hd l = 79
  · rw [if_pos hc] at h
    cases hp : pNum l.tail with
    | inl f => rw [hp] at h; cases h
    | inr q =>
      obtain ⟨l2, v⟩ := q
      rw [hp] at h
      cases h
      exact ⟨hl0, ⟨rfl, rfl, rfl, rfl⟩, hin, h58, fun z => by omega, fun z => hp, fun z => by omega, fun z => by omega, fun z => by omega, fun z => by omega, fun z => by omega, fun z => by omega, fun z => by omega, Or.inl (hc18 _ (by omega))⟩
  rw [if_neg hc] at h; have n2 := hc; clear hc
  by_cases hc : hd l = 109 ∨ hd l = 116
  · rw [if_pos hc] at h
    cases hp : pAdr l.tail with
    | inl f => rw [hp] at h; cases h
    | inr q =>
      obtain ⟨l2, v⟩ := q
      rw [hp] at h
      cases h
      exact ⟨hl0, ⟨rfl, rfl, rfl, rfl⟩, hin, h58, fun z => by omega, fun z => by omega, fun z => ⟨v, rfl, hp⟩, fun z => by omega, fun z => by omega, fun z => by omega, fun z => by omega, fun z => by omega, fun z => by omega, Or.inl (hc18 _ (by omega))⟩
  rw [if_neg hc] at h; have n3 := hc; clear hc
  by_cases hc : hd l = 107
  · rw [if_pos hc] at h
    by_cases hm : isMrk (hd l.tail) = true
    · rw [if_pos hm] at h
      cases h
      exact ⟨hl0, ⟨rfl, rfl, rfl, rfl⟩, hin, h58, fun z => by omega, fun z => by omega, fun z => by omega, fun z => ⟨hm, rfl⟩, fun z => by omega, fun z => by omega, fun z => by omega, fun z => by omega, fun z => by omega, Or.inl (hc18 _ (by omega))⟩
    · rw [if_neg hm] at h; cases h
  rw [if_neg hc] at h; have n4 := hc; clear hc
  by_cases hc : hd l = 114 ∨ hd l = 119
  · rw [if_pos hc] at h
    by_cases hm : 48 ≤ hd l.tail ∧ hd l.tail ≤ 51
    · rw [if_pos hm] at h
      cases h
      exact ⟨hl0, ⟨rfl, rfl, rfl, rfl⟩, hin, h58, fun z => by omega, fun z => by omega, fun z => by omega, fun z => by omega, fun z => ⟨hm, rfl⟩, fun z => by omega, fun z => by omega, fun z => by omega, fun z => by omega, Or.inl (hc18 _ (by omega))⟩
    · rw [if_neg hm] at h; cases h
  rw [if_neg hc] at h; have n5 := hc; clear hc
  by_cases hc : hd l = 58
  · rw [if_pos hc] at h
    by_cases hm : isLab (hd l.tail) = true
    · rw [if_pos hm] at h
      cases h
      exact ⟨hl0, ⟨rfl, rfl, rfl, rfl⟩, hin, h58, fun z => by omega, fun z => by omega, fun z => by omega, fun z => by omega, fun z => by omega, fun z => ⟨hm, rfl⟩, fun z => by omega, fun z => by omega, fun z => by omega, Or.inl (hc18 _ (by omega))⟩
    · rw [if_neg hm] at h; cases h
  rw [if_neg hc] at h; have n6 := hc; clear hc
  by_cases hc : hd l = 98 ∨ hd l = 84
  · rw [if_pos hc] at h
    by_cases hm : isLab (hd l.tail) = true
    · rw [if_pos hm] at h
      cases h
      exact ⟨hl0, ⟨rfl, rfl, rfl, rfl⟩, hin, h58, fun z => by omega, fun z => by omega, fun z => by omega, fun z => by omega, fun z => by omega, fun z => by omega, fun z => Or.inl ⟨hm, rfl⟩, fun z => by omega, fun z => by omega, Or.inl (hc18 _ (by omega))⟩
    · rw [if_neg hm] at h
      cases h
      exact ⟨hl0, ⟨rfl, rfl, rfl, rfl⟩, hin, h58, fun z => by omega, fun z => by omega, fun z => by omega, fun z => by omega, fun z => by omega, fun z => by omega, fun z => Or.inr ⟨Bool.eq_false_iff.mpr hm, rfl⟩, fun z => by omega, fun z => by omega, Or.inl (hc18 _ (by omega))⟩
  rw [if_neg hc] at h; have n7 := hc; clear hc
  by_cases hc : hd l = 115
  · rw [if_pos hc] at h
    cases hp : pRepl l.tail with
    | inl f => rw [hp] at h; cases h
    | inr q =>
      obtain ⟨l2, pt, pu, ea, nr⟩ := q
      rw [hp] at h
      cases h
      exact ⟨hl0, ⟨rfl, rfl, rfl, rfl⟩, hin, h58, fun z => by omega, fun z => by omega, fun z => by omega, fun z => by omega, fun z => by omega, fun z => by omega, fun z => by omega, fun z => hp, fun z => by omega, Or.inl (hc18 _ (by omega))⟩
  rw [if_neg hc] at h; have n8 := hc; clear hc
  by_cases hc : hd l = 122
  · rw [if_pos hc] at h
    cases hp : pTurn l.tail with
    | inl f => rw [hp] at h; cases h
    | inr q =>
      obtain ⟨l2, le, pu⟩ := q
      rw [hp] at h
      cases h
      exact ⟨hl0, ⟨rfl, rfl, rfl, rfl⟩, hin, h58, fun z => by omega, fun z => by omega, fun z => by omega, fun z => by omega, fun z => by omega, fun z => by omega, fun z => by omega, fun z => by omega, fun z => hp, Or.inl (hc18 _ (by omega))⟩
  rw [if_neg hc] at h; have n9 := hc; clear hc
  by_cases hc : isBar (hd l) = true
  · rw [if_pos hc] at h
    cases h
    exact ⟨hl0, ⟨rfl, rfl, rfl, rfl⟩, hin, h58, fun z => by omega, fun z => by omega, fun z => by omega, fun z => by omega, fun z => by omega, fun z => by omega, fun z => by omega, fun z => by omega, fun z => by omega, Or.inr hc⟩
  · rw [if_neg hc] at h; cases h
theorem pWhere_ok {l l1 : List Int} {w : Bool × Option SAdr × Option SAdr} (h : pWhere l = .inr (l1, w)) : (w.2.1 = none → w.2.2 = none) ∧ (w.1 = true → w.2.1 = none) := by
  unfold pWhere at h
  split at h
  · cases h; exact ⟨fun _ => rfl, fun _ => rfl⟩
  · split at h
    · cases hp : pAdr l with
      | inl f => rw [hp] at h; cases h
      | inr q =>
        obtain ⟨l2, a⟩ := q
        rw [hp] at h
        dsimp only at h
        split at h
        · cases hp2 : pAdr l2.tail with
          | inl f => rw [hp2] at h; cases h
          | inr q =>
            obtain ⟨l3, b⟩ := q
            rw [hp2] at h
            cases h
            exact ⟨fun z => (by cases z), fun z => (by cases z)⟩
        · cases h
          exact ⟨fun _ => rfl, fun z => (by cases z)⟩
    · cases h; exact ⟨fun _ => rfl, fun z => (by cases z)⟩
section TRan
variable {d : Nat} {σ τ : TS} {s l l1 l2 : List Int} {A : St} {fs as : List Nat} {pre mid post t : List SLine} {p : Nat} {h o : List (List Int)} {fi : Nat → List (List Int)} {m : Nat → Option Int} {n : Int} {rp : Bool} {rs : List (List Int)} {xs ys : List Int}
theorem sRange_pos {od : SOrd0} {w : Nat} (hh : sRange A od = .inl w) : 1 ≤ w ∧ w ≤ 3 := by
  unfold sRange at hh
  split at hh
  · split at hh
    · cases hh; omega
    · cases hh
  · cases h1 : sAdO A A.2.1 (oFst od) with
    | inl w1 =>
      rw [h1] at hh
      cases hh
      cases hf : oFst od with
      | none => rw [hf] at h1; cases h1
      | some a => rw [hf] at h1; exact sAdr_pos h1
    | inr f =>
      rw [h1] at hh
      dsimp only at hh
      cases h2 : sAdO A f (oSnd od) with
      | inl w1 =>
        rw [h2] at hh
        cases hh
        cases hf : oSnd od with
        | none => rw [hf] at h2; cases h2
        | some a => rw [hf] at h2; exact sAdr_pos h2
      | inr e =>
        rw [h2] at hh
        dsimp only at hh
        split at hh
        · cases hh; omega
        · split at hh
          · cases hh; omega
          · cases hh
theorem sRange_R {od : SOrd0} {f e : Nat} (hp : A.2.1 ≤ A.1.length) (hh : sRange A od = .inr (f, e)) : (1 ≤ f ∧ f ≤ e + 1 ∧ e ≤ A.1.length ∧ (sWide (oAct od) = false → f ≤ e)) ∨ (f = 0 ∧ e = 0 ∧ sAhead (oAct od) = true) := by
  unfold sRange at hh
  split at hh
  · split at hh
    · cases hh
    · rename_i h1
      cases hh
      refine Or.inl ⟨by omega, by omega, by omega, fun z => ?_⟩
      have : ¬ A.1.length = 0 := fun y => h1 ⟨y, z⟩
      omega
  · cases h1 : sAdO A A.2.1 (oFst od) with
    | inl w1 => rw [h1] at hh; cases hh
    | inr f1 =>
      rw [h1] at hh
      dsimp only at hh
      have hf1 : f1 ≤ A.1.length := by
        cases hf : oFst od with
        | none => rw [hf] at h1; cases h1; exact hp
        | some a => rw [hf] at h1; exact sAdr_R h1
      cases h2 : sAdO A f1 (oSnd od) with
      | inl w1 => rw [h2] at hh; cases hh
      | inr e1 =>
        rw [h2] at hh
        dsimp only at hh
        have he1 : e1 ≤ A.1.length := by
          cases hf : oSnd od with
          | none => rw [hf] at h2; cases h2; exact hf1
          | some a => rw [hf] at h2; exact sAdr_R h2
        split at hh
        · cases hh
        · split at hh
          · cases hh
          · rename_i h3 h4
            cases hh
            by_cases hf0 : f = 0
            · have h5 : oSnd od = none ∧ sAhead (oAct od) = true := Classical.byContradiction (fun z => h4 ⟨hf0, z⟩)
              rw [h5.1] at h2
              cases h2
              exact Or.inr ⟨hf0, hf0, h5.2⟩
            · exact Or.inl ⟨by omega, by omega, he1, fun _ => by omega⟩
abbrev fG : List Nat := [33, 34, 35, 36, 37, 40, 41, 42, 43]
def RanQ (σ : TS) (R : Nat ⊕ (Nat × Nat)) (r : Option Int) (τ : TS) : Prop := TFr fG aLn σ τ ∧ match R with
  | .inl w => r = some (w : Int)
  | .inr (f, e) => r = some 0 ∧ (τ.1 42) = f ∧ (τ.1 43) = e
theorem T_range {w : Bool × Option SAdr × Option SAdr} {od : SOrd0} (hs : SgnIs σ s) (hA : TA A σ) (hw : WF A) (hwk : WhK s l w l1 σ) (hl1 : l1 ≠ []) (ho : oAll od = w.1 ∧ oFst od = w.2.1 ∧ oSnd od = w.2.2 ∧ oAct od = hd l1) (hw2 : (w.2.1 = none → w.2.2 = none) ∧ (w.1 = true → w.2.1 = none)) (hn : A.2.2.2.2.2.2.1 < 1000000) : TM (d + 9) tk_range [.inr 0] σ (RanQ σ (sRange A od)) := by
  obtain ⟨hk, hact, hfst, hsnd⟩ := hwk
  obtain ⟨ho1, ho2, ho3, ho4⟩ := ho
  have ha := hs.at hact hl1
  have hm : σ.1 12 = A.1.length := hA.1.1
  have h40 : A.1.length ≤ 40 := hA.1.2.1
  have hp : σ.1 16 = A.2.1 := hA.2.1
  have hpl : A.2.1 ≤ A.1.length := hw.1.1
  refine TM.of rfl rfl ?_
  -- behind the range
  have fin : ∀ (f e : Nat) (b2 : Int) (τ : TS), (τ.1 42) = f → (τ.1 43) = e → TFr fG aLn σ τ → f ≤ 40 → TW (d + 8) tc_range 97 [some (.inr 0), some (.inl (hd l1)), some (.inl b2), none] [] τ (RanQ σ (if f = 0 ∧ ¬ (oSnd od = none ∧ sAhead (oAct od) = true) then .inl 1 else .inr (f, e))) := by
    intro f e b2 τ hf he hfr hf40
    have hk' : τ.1 27 = wKind w := (hfr.1 27 (by decide)).trans hk
    have go : ∀ (b : Bool), b = sAhead (hd l1) → TW (d + 8) tc_range 110 [some (.inr 0), some (.inl (hd l1)), some (.inl b2), some (.inl (b2i b))] [] τ (RanQ σ (if f = 0 ∧ ¬ (oSnd od = none ∧ sAhead (oAct od) = true) then .inl 1 else .inr (f, e))) := by
      intro b hb
      have yes : ¬ (f = 0 ∧ ¬ (oSnd od = none ∧ sAhead (oAct od) = true)) → TW (d + 8) tc_range 121 [some (.inr 0), some (.inl (hd l1)), some (.inl b2), some (.inl (b2i b))] [] τ (RanQ σ (if f = 0 ∧ ¬ (oSnd od = none ∧ sAhead (oAct od) = true) then .inl 1 else .inr (f, e))) := by
        intro z
        rw [if_neg z]
        (repeat (first | (refine TW.getf rfl rfl rfl (fun _ => ?_)) | (refine TW.pl rfl rfl ?_)))
        exact TW.iret rfl ⟨hfr, rfl, hf, he⟩
      have no : (f = 0 ∧ ¬ (oSnd od = none ∧ sAhead (oAct od) = true)) → TW (d + 8) tc_range 119 [some (.inr 0), some (.inl (hd l1)), some (.inl b2), some (.inl (b2i b))] [] τ (RanQ σ (if f = 0 ∧ ¬ (oSnd od = none ∧ sAhead (oAct od) = true) then .inl 1 else .inr (f, e))) := by
        intro z
        rw [if_pos z]
        (repeat (first | (refine TW.getf rfl rfl rfl (fun _ => ?_)) | (refine TW.pl rfl rfl ?_)))
        exact TW.iret rfl ⟨hfr, rfl⟩
      (repeat (first | (refine TW.getf rfl rfl rfl (fun _ => ?_)) | (refine TW.pl rfl rfl ?_)))
      refine TW.br rfl rfl (by first | omega | exact b2i_R _ | exact ⟨b2i_R _, by omega⟩) (fun q1 => ?_) (fun q1 => ?_)
      · exact yes (fun z => by omega)
      · (repeat (first | (refine TW.getf rfl rfl rfl (fun _ => ?_)) | (refine TW.pl rfl rfl ?_)))
        refine TW.br rfl rfl (by first | omega | exact b2i_R _ | exact ⟨b2i_R _, by omega⟩) (fun q2 => ?_) (fun q2 => ?_)
        · have hb0 := b2i_0 q2
          exact no ⟨by omega, fun z => by rw [ho4, ← hb, hb0] at z; cases z.2⟩
        · have hb1 := b2i_1 q2
          have hkR : 0 ≤ wKind w ∧ wKind w ≤ 3 := by unfold wKind; split <;> (try split) <;> (try split) <;> omega
          (repeat (first | (refine TW.getf rfl rfl rfl (fun _ => ?_)) | (refine TW.pl rfl rfl ?_)))
          refine TW.br rfl rfl (by first | omega | exact b2i_R _ | exact ⟨b2i_R _, by omega⟩) (fun q3 => ?_) (fun q3 => ?_)
          · refine yes (fun z => z.2 ⟨?_, by rw [ho4, ← hb, hb1]⟩)
            rw [ho3]
            cases h2 : w.2.2 with
            | none => rfl
            | some b' =>
              exfalso
              have h1 : w.2.1 ≠ none := fun z => by have := hw2.1 z; rw [h2] at this; cases this
              have h0 : w.1 = false := Bool.eq_false_iff.mpr (fun z => h1 (hw2.2 z))
              apply q3
              rw [hk']
              unfold wKind
              rw [h0, if_neg (by decide), if_pos (Option.isSome_iff_ne_none.mpr h1), h2]
              rfl
          · refine no ⟨by omega, fun z => ?_⟩
            rw [hk'] at q3
            rw [ho3] at z
            revert q3
            unfold wKind
            rw [z.1]
            split
            · intro y; omega
            · split
              · intro y; exact absurd y (by decide)
              · intro y; omega
    (repeat (first | (refine TW.getf rfl rfl rfl (fun _ => ?_)) | (refine TW.pl rfl rfl ?_)))
    refine TW.br rfl rfl (by first | omega | exact b2i_R _ | exact ⟨b2i_R _, by omega⟩) (fun q1 => ?_) (fun q1 => ?_)
    · (iterate 3 (first | (refine TW.getf rfl rfl rfl (fun _ => ?_)) | (refine TW.pl rfl rfl ?_)))
      exact go true (by rw [q1]; rfl)
    (repeat (first | (refine TW.getf rfl rfl rfl (fun _ => ?_)) | (refine TW.pl rfl rfl ?_)))
    refine TW.br rfl rfl (by first | omega | exact b2i_R _ | exact ⟨b2i_R _, by omega⟩) (fun q2 => ?_) (fun q2 => ?_)
    · (iterate 3 (first | (refine TW.getf rfl rfl rfl (fun _ => ?_)) | (refine TW.pl rfl rfl ?_)))
      exact go true (by rw [q2]; rfl)
    (repeat (first | (refine TW.getf rfl rfl rfl (fun _ => ?_)) | (refine TW.pl rfl rfl ?_)))
    refine TW.br rfl rfl (by first | omega | exact b2i_R _ | exact ⟨b2i_R _, by omega⟩) (fun q3 => ?_) (fun q3 => ?_)
    · (iterate 2 (first | (refine TW.getf rfl rfl rfl (fun _ => ?_)) | (refine TW.pl rfl rfl ?_)))
      exact go false (by unfold sAhead; rw [decide_eq_false]; omega)
    · (iterate 3 (first | (refine TW.getf rfl rfl rfl (fun _ => ?_)) | (refine TW.pl rfl rfl ?_)))
      exact go true (by rw [q3]; rfl)
  have main : ∀ (b : Bool), b = sWide (hd l1) → TW (d + 8) tc_range 19 [some (.inr 0), some (.inl (hd l1)), some (.inl (b2i b)), none] [] σ (RanQ σ (sRange A od)) := by
    intro b hb
    -- all of it
    have all : (oAll od = true ∨ (oFst od = none ∧ sWide (oAct od) = true)) → TW (d + 8) tc_range 28 [some (.inr 0), some (.inl (hd l1)), some (.inl (b2i b)), none] [] σ (RanQ σ (sRange A od)) := by
      intro hc
      unfold sRange
      rw [if_pos hc, ho4, ← hb]
      (repeat (first | (refine TW.getf rfl rfl rfl (fun _ => ?_)) | (refine TW.pl rfl rfl ?_)))
      refine TW.putf rfl rfl (by omega) ?_
      (repeat (first | (refine TW.getf rfl rfl rfl (fun _ => ?_)) | (refine TW.pl rfl rfl ?_)))
      refine TW.putf rfl rfl (by omega) ?_
      have hm2 : (ts1 (ts1 σ 42 1) 43 ((ts1 σ 42 1).1 12)).1 12 = A.1.length := by rw [ts1_ne (by decide), ts1_ne (by decide)]; exact hm
      have hfr : TFr fG aLn σ (ts1 (ts1 σ 42 1) 43 ((ts1 σ 42 1).1 12)) := (TFr.rf.ts1 (by decide)).ts1 (by decide)
      have h42 : (ts1 (ts1 σ 42 1) 43 ((ts1 σ 42 1).1 12)).1 42 = ((1 : Nat) : Int) := by rw [ts1_ne (by decide), ts1_eq]; rfl
      have h43 : (ts1 (ts1 σ 42 1) 43 ((ts1 σ 42 1).1 12)).1 43 = (A.1.length : Nat) := by rw [ts1_eq, ts1_ne (by decide)]; exact hm
      (repeat (first | (refine TW.getf rfl rfl rfl (fun _ => ?_)) | (refine TW.pl rfl rfl ?_)))
      refine TW.br rfl rfl (by first | omega | exact b2i_R _ | exact ⟨b2i_R _, by omega⟩) (fun q1 => ?_) (fun q1 => ?_)
      · rw [if_neg (fun z => q1 (by rw [hm2, z.1]; rfl))]
        (repeat (first | (refine TW.getf rfl rfl rfl (fun _ => ?_)) | (refine TW.pl rfl rfl ?_)))
        exact TW.iret rfl ⟨hfr, rfl, h42, h43⟩
      · (repeat (first | (refine TW.getf rfl rfl rfl (fun _ => ?_)) | (refine TW.pl rfl rfl ?_)))
        refine TW.br rfl rfl (by first | omega | exact b2i_R _ | exact ⟨b2i_R _, by omega⟩) (fun q2 => ?_) (fun q2 => ?_)
        · rw [if_neg (fun z => q2 (by rw [z.2]; rfl))]
          (repeat (first | (refine TW.getf rfl rfl rfl (fun _ => ?_)) | (refine TW.pl rfl rfl ?_)))
          exact TW.iret rfl ⟨hfr, rfl, h42, h43⟩
        · rw [if_pos ⟨by omega, b2i_0 q2⟩]
          (repeat (first | (refine TW.getf rfl rfl rfl (fun _ => ?_)) | (refine TW.pl rfl rfl ?_)))
          exact TW.iret rfl ⟨hfr, rfl⟩
    have rest : ¬ (oAll od = true ∨ (oFst od = none ∧ sWide (oAct od) = true)) → w.1 = false → TW (d + 8) tc_range 44 [some (.inr 0), some (.inl (hd l1)), some (.inl (b2i b)), none] [] σ (RanQ σ (sRange A od)) := by
      intro hc h0
      unfold sRange
      rw [if_neg hc, ho2, ho3]
      have f0 : TFr fG aLn σ (ts1 (ts1 σ 42 (σ.1 16)) 43 ((ts1 σ 42 (σ.1 16)).1 16)) := (TFr.rf.ts1 (by decide)).ts1 (by decide)
      have h42 : (ts1 (ts1 σ 42 (σ.1 16)) 43 ((ts1 σ 42 (σ.1 16)).1 16)).1 42 = A.2.1 := by rw [ts1_ne (by decide), ts1_eq]; exact hp
      have h43 : (ts1 (ts1 σ 42 (σ.1 16)) 43 ((ts1 σ 42 (σ.1 16)).1 16)).1 43 = A.2.1 := by rw [ts1_eq, ts1_ne (by decide)]; exact hp
      have hA0 : TA A (ts1 (ts1 σ 42 (σ.1 16)) 43 ((ts1 σ 42 (σ.1 16)).1 16)) := hA.fr f0 (by decide) (by decide)
      (repeat (first | (refine TW.getf rfl rfl rfl (fun _ => ?_)) | (refine TW.pl rfl rfl ?_)))
      refine TW.putf rfl rfl (by omega) ?_
      (repeat (first | (refine TW.getf rfl rfl rfl (fun _ => ?_)) | (refine TW.pl rfl rfl ?_)))
      refine TW.putf rfl rfl (by omega) ?_
      generalize ts1 (ts1 σ 42 (σ.1 16)) 43 ((ts1 σ 42 (σ.1 16)).1 16) = σ1 at f0 h42 h43 hA0 ⊢
      have hs1 := hs.fr f0 (by decide) (by decide)
      have hk1 : σ1.1 27 = wKind w := (f0.1 27 (by decide)).trans hk
      cases h1 : w.2.1 with
      | none =>
        have h2 := hw2.1 h1
        have hk0 : wKind w = 0 := by unfold wKind; rw [h0, h1]; rfl
        rw [h2]
        have := fin A.2.1 A.2.1 (b2i b) σ1 h42 h43 f0 (by omega)
        rw [ho3, h2] at this
        rw [show sAdO A A.2.1 none = .inr A.2.1 from rfl]
        dsimp only
        rw [show sAdO A A.2.1 none = .inr A.2.1 from rfl]
        dsimp only
        rw [if_neg (Nat.lt_irrefl _)]
        (repeat (first | (refine TW.getf rfl rfl rfl (fun _ => ?_)) | (refine TW.pl rfl rfl ?_)))
        refine TW.br rfl rfl (by first | omega | exact b2i_R _ | exact ⟨b2i_R _, by omega⟩) (fun q1 => ?_) (fun q1 => ?_)
        · (repeat (first | (refine TW.getf rfl rfl rfl (fun _ => ?_)) | (refine TW.pl rfl rfl ?_)))
          refine TW.br rfl rfl (by first | omega | exact b2i_R _ | exact ⟨b2i_R _, by omega⟩) (fun q2 => ?_) (fun q2 => ?_)
          · exact this
          · omega
        · omega
      | some a =>
        obtain ⟨hx, l', hpa⟩ := hfst a h1
        have hkS : wKind w = if w.2.2.isSome = true then 3 else 2 := by unfold wKind; rw [h0, h1]; rfl
        have hx1 : Sfx s l (σ1.1 28) := by rw [f0.1 28 (by decide)]; exact hx
        (repeat (first | (refine TW.getf rfl rfl rfl (fun _ => ?_)) | (refine TW.pl rfl rfl ?_)))
        refine TW.br rfl rfl (by first | omega | exact b2i_R _ | exact ⟨b2i_R _, by omega⟩) (fun q1 => ?_) (fun q1 => ?_)
        · rw [hk1, hkS] at q1
          split at q1 <;> omega
        (repeat (first | (refine TW.getf rfl rfl rfl (fun _ => ?_)) | (refine TW.pl rfl rfl ?_)))
        refine TW.cv1 rfl rfl rfl (Nat.le_of_ble_eq_true rfl) (T_line hs1 hA0 hw hx1 hpa hn) ?_
        intro r τ1 hq
        have hf1 := f0.trans (hq.1.mono (fs' := fG) (as' := aLn) (by decide) (by decide))
        rw [show sAdO A A.2.1 (some a) = sAdr A a from rfl]
        cases e1 : sAdr A a with
        | inl v =>
          have hr := hq.inl e1
          have hv := sAdr_pos e1
          subst hr
          (repeat (first | (refine TW.getf rfl rfl rfl (fun _ => ?_)) | (refine TW.pl rfl rfl ?_)))
          refine TW.putf rfl rfl (by omega) ?_
          (repeat (first | (refine TW.getf rfl rfl rfl (fun _ => ?_)) | (refine TW.pl rfl rfl ?_)))
          rw [ts1_eq]
          refine TW.br rfl rfl (by first | omega | exact b2i_R _ | exact ⟨b2i_R _, by omega⟩) (fun q2 => ?_) (fun q2 => ?_)
          · omega
          · (repeat (first | (refine TW.getf rfl rfl rfl (fun _ => ?_)) | (refine TW.pl rfl rfl ?_)))
            rw [ts1_eq]
            refine TW.iret rfl ⟨hf1.ts1 (by decide), ?_⟩
            exact congrArg some (by omega)
        | inr f =>
          have hr := hq.inr e1
          have hv := sAdr_R e1
          subst hr
          (repeat (first | (refine TW.getf rfl rfl rfl (fun _ => ?_)) | (refine TW.pl rfl rfl ?_)))
          refine TW.putf rfl rfl (by omega) ?_
          (repeat (first | (refine TW.getf rfl rfl rfl (fun _ => ?_)) | (refine TW.pl rfl rfl ?_)))
          rw [ts1_eq]
          refine TW.br rfl rfl (by first | omega | exact b2i_R _ | exact ⟨b2i_R _, by omega⟩) (fun q2 => ?_) (fun q2 => ?_)
          · have f2 : TFr fG aLn σ (ts1 (ts1 τ1 42 f) 43 f) := (hf1.ts1 (by decide)).ts1 (by decide)
            (iterate 3 (first | (refine TW.getf rfl rfl rfl (fun _ => ?_)) | (refine TW.pl rfl rfl ?_)))
            rw [ts1_eq]
            refine TW.putf rfl rfl (by omega) ?_
            have h42' : (ts1 (ts1 τ1 42 f) 43 f).1 42 = f := by rw [ts1_ne (by decide), ts1_eq]
            have h43' : (ts1 (ts1 τ1 42 f) 43 f).1 43 = f := ts1_eq
            have hA2 : TA A (ts1 (ts1 τ1 42 f) 43 f) := hA.fr f2 (by decide) (by decide)
            generalize ts1 (ts1 τ1 42 (f : Int)) 43 (f : Int) = σ2 at f2 h42' h43' hA2 ⊢
            have hk2 : σ2.1 27 = wKind w := (f2.1 27 (by decide)).trans hk
            have hs2 := hs.fr f2 (by decide) (by decide)
            cases h2 : w.2.2 with
            | none =>
              have := fin f f (b2i b) σ2 h42' h43' f2 (by omega)
              rw [ho3, h2] at this
              rw [h2] at hkS
              dsimp only
              rw [show sAdO A f none = .inr f from rfl]
              dsimp only
              rw [if_neg (Nat.lt_irrefl _)]
              (repeat (first | (refine TW.getf rfl rfl rfl (fun _ => ?_)) | (refine TW.pl rfl rfl ?_)))
              refine TW.br rfl rfl (by first | omega | exact b2i_R _ | exact ⟨b2i_R _, by omega⟩) (fun q3 => ?_) (fun q3 => ?_)
              · exact this
              · rw [hk2, hkS] at q3
                exact absurd q3 (by decide)
            | some b' =>
              obtain ⟨lb, l'', hxb, hpb⟩ := hsnd b' h2
              rw [h2] at hkS
              have hxb1 : Sfx s lb (σ2.1 29) := by rw [f2.1 29 (by decide)]; exact hxb
              dsimp only
              rw [show sAdO A f (some b') = sAdr A b' from rfl]
              (repeat (first | (refine TW.getf rfl rfl rfl (fun _ => ?_)) | (refine TW.pl rfl rfl ?_)))
              refine TW.br rfl rfl (by first | omega | exact b2i_R _ | exact ⟨b2i_R _, by omega⟩) (fun q3 => ?_) (fun q3 => ?_)
              · rw [hk2, hkS] at q3
                exact absurd rfl q3
              (repeat (first | (refine TW.getf rfl rfl rfl (fun _ => ?_)) | (refine TW.pl rfl rfl ?_)))
              refine TW.cv1 rfl rfl rfl (Nat.le_of_ble_eq_true rfl) (T_line hs2 hA2 hw hxb1 hpb hn) ?_
              intro r τ2 hq2
              have hf3 := f2.trans (hq2.1.mono (fs' := fG) (as' := aLn) (by decide) (by decide))
              cases e2 : sAdr A b' with
              | inl v =>
                have hr := hq2.inl e2
                have hv := sAdr_pos e2
                subst hr
                (repeat (first | (refine TW.getf rfl rfl rfl (fun _ => ?_)) | (refine TW.pl rfl rfl ?_)))
                refine TW.putf rfl rfl (by omega) ?_
                (repeat (first | (refine TW.getf rfl rfl rfl (fun _ => ?_)) | (refine TW.pl rfl rfl ?_)))
                rw [ts1_eq]
                refine TW.br rfl rfl (by first | omega | exact b2i_R _ | exact ⟨b2i_R _, by omega⟩) (fun q4 => ?_) (fun q4 => ?_)
                · omega
                · (repeat (first | (refine TW.getf rfl rfl rfl (fun _ => ?_)) | (refine TW.pl rfl rfl ?_)))
                  rw [ts1_eq]
                  refine TW.iret rfl ⟨hf3.ts1 (by decide), ?_⟩
                  exact congrArg some (by omega)
              | inr e =>
                have hr := hq2.inr e2
                have hve := sAdr_R e2
                subst hr
                have h42'' : (ts1 τ2 43 e).1 42 = f := by rw [ts1_ne (by decide), hq2.1.1 42 (by decide)]; exact h42'
                have h43'' : (ts1 τ2 43 e).1 43 = e := ts1_eq
                have hf4 : TFr fG aLn σ (ts1 τ2 43 e) := hf3.ts1 (by decide)
                (repeat (first | (refine TW.getf rfl rfl rfl (fun _ => ?_)) | (refine TW.pl rfl rfl ?_)))
                refine TW.putf rfl rfl (by omega) ?_
                generalize ts1 τ2 43 (e : Int) = σ3 at h42'' h43'' hf4 ⊢
                (repeat (first | (refine TW.getf rfl rfl rfl (fun _ => ?_)) | (refine TW.pl rfl rfl ?_)))
                refine TW.br rfl rfl (by first | omega | exact b2i_R _ | exact ⟨b2i_R _, by omega⟩) (fun q4 => ?_) (fun q4 => ?_)
                · (repeat (first | (refine TW.getf rfl rfl rfl (fun _ => ?_)) | (refine TW.pl rfl rfl ?_)))
                  refine TW.br rfl rfl (by first | omega | exact b2i_R _ | exact ⟨b2i_R _, by omega⟩) (fun q5 => ?_) (fun q5 => ?_)
                  · dsimp only
                    rw [if_neg (by omega)]
                    have := fin f e (b2i b) σ3 h42'' h43'' hf4 (by omega)
                    rw [ho3, h2] at this
                    exact this
                  · dsimp only
                    rw [if_pos (by omega)]
                    (repeat (first | (refine TW.getf rfl rfl rfl (fun _ => ?_)) | (refine TW.pl rfl rfl ?_)))
                    exact TW.iret rfl ⟨hf4, rfl⟩
                · omega
          · omega
    have hkR : wKind w = 1 ∨ wKind w ≠ 1 := by omega
    (repeat (first | (refine TW.getf rfl rfl rfl (fun _ => ?_)) | (refine TW.pl rfl rfl ?_)))
    refine TW.br rfl rfl (by first | omega | exact b2i_R _ | exact ⟨b2i_R _, by omega⟩) (fun q1 => ?_) (fun q1 => ?_)
    · refine all (Or.inl ?_)
      rw [ho1]
      rw [hk] at q1
      unfold wKind at q1
      split at q1
      · assumption
      · split at q1
        · split at q1 <;> omega
        · omega
    have hw1 : w.1 = false := Bool.eq_false_iff.mpr (fun z => q1 (by rw [hk]; unfold wKind; rw [if_pos z]))
    (repeat (first | (refine TW.getf rfl rfl rfl (fun _ => ?_)) | (refine TW.pl rfl rfl ?_)))
    refine TW.br rfl rfl (by first | omega | exact b2i_R _ | exact ⟨b2i_R _, by omega⟩) (fun q2 => ?_) (fun q2 => ?_)
    · refine rest (fun z => ?_) hw1
      rcases z with z | z
      · rw [ho1, hw1] at z; cases z
      · rw [hk] at q2
        unfold wKind at q2
        rw [hw1, ← ho2, z.1] at q2
        exact q2 rfl
    (repeat (first | (refine TW.getf rfl rfl rfl (fun _ => ?_)) | (refine TW.pl rfl rfl ?_)))
    refine TW.br rfl rfl (by first | omega | exact b2i_R _ | exact ⟨b2i_R _, by omega⟩) (fun q3 => ?_) (fun q3 => ?_)
    · have hb0 := b2i_0 q3
      refine rest (fun z => ?_) hw1
      rcases z with z | z
      · rw [ho1, hw1] at z; cases z
      · rw [ho4, ← hb, hb0] at z; cases z.2
    · refine all (Or.inr ⟨?_, by rw [ho4, ← hb]; exact b2i_1 q3⟩)
      rw [ho2]
      cases h1 : w.2.1 with
      | none => rfl
      | some a =>
        exfalso
        rw [hk] at q2
        unfold wKind at q2
        rw [hw1, h1, if_neg (by decide), if_pos (show (some a).isSome = true from rfl)] at q2
        split at q2
        · exact absurd q2 (by decide)
        · exact absurd q2 (by decide)
  (repeat (first | (refine TW.getf rfl rfl rfl (fun _ => ?_)) | (refine TW.pl rfl rfl ?_)))
  refine TW.iald (n := 60) rfl rfl rfl (by omega) (fun _ => ?_)
  rw [ha.1]
  (repeat (first | (refine TW.getf rfl rfl rfl (fun _ => ?_)) | (refine TW.pl rfl rfl ?_)))
  refine TW.br rfl rfl (by first | omega | exact b2i_R _ | exact ⟨b2i_R _, by omega⟩) (fun q1 => ?_) (fun q1 => ?_)
  · (iterate 3 (first | (refine TW.getf rfl rfl rfl (fun _ => ?_)) | (refine TW.pl rfl rfl ?_)))
    exact main true (by rw [q1]; rfl)
  (repeat (first | (refine TW.getf rfl rfl rfl (fun _ => ?_)) | (refine TW.pl rfl rfl ?_)))
  refine TW.br rfl rfl (by first | omega | exact b2i_R _ | exact ⟨b2i_R _, by omega⟩) (fun q2 => ?_) (fun q2 => ?_)
  · (iterate 3 (first | (refine TW.getf rfl rfl rfl (fun _ => ?_)) | (refine TW.pl rfl rfl ?_)))
    exact main true (by rw [q2]; rfl)
  (repeat (first | (refine TW.getf rfl rfl rfl (fun _ => ?_)) | (refine TW.pl rfl rfl ?_)))
  refine TW.br rfl rfl (by first | omega | exact b2i_R _ | exact ⟨b2i_R _, by omega⟩) (fun q3 => ?_) (fun q3 => ?_)
  · (iterate 2 (first | (refine TW.getf rfl rfl rfl (fun _ => ?_)) | (refine TW.pl rfl rfl ?_)))
    exact main false (by unfold sWide; rw [decide_eq_false]; omega)
  · (iterate 3 (first | (refine TW.getf rfl rfl rfl (fun _ => ?_)) | (refine TW.pl rfl rfl ?_)))
    exact main true (by rw [q3]; rfl)
end TRan
