set_option maxRecDepth 100000
/-! the twin finds -/
def MatQ (σ : TS) (pt : SPat) (len : Nat) (R : Option (Nat × MG × MG)) (r : Option Int) (τ : TS) : Prop := TFr [41] [38, 39] σ τ ∧ match R with
  | none => r = some 0
  | some (a, b, e) => r = some 1 ∧ (τ.1 41) = a ∧ Agr (clo 0 pt.1) false (τ.2 38) b (τ.2 39) e ∧ GOk (clo 0 pt.1) false (τ.2 38) (τ.2 39) a ∧ a ≤ len
def FinQ (σ : TS) (pt : SPat) (len : Nat) (R : Option (Nat × Nat × MG × MG)) (r : Option Int) (τ : TS) : Prop := TFr [40, 41] [38, 39] σ τ ∧ match R with
  | none => r = some 0
  | some (p, a, b, e) => r = some 1 ∧ (τ.1 40) = p ∧ (τ.1 41) = a ∧ Agr (clo 0 pt.1) false (τ.2 38) b (τ.2 39) e ∧ GOk (clo 0 pt.1) false (τ.2 38) (τ.2 39) a ∧ a ≤ len ∧ p ≤ a
section TFin
variable {d : Nat} {σ σ0 : TS} {s l f : List Int} {pt : SPat} {row : Nat} {ys : List Int}
theorem mTry_le {place one other : Nat} {b e b1 e1 : MG} {a : Nat} (hw : wfp 0 false pt.1) (hpl : place ≤ ys.length) (h : mTry ys pt.1 pt.2.2 place b e one other = some (a, b1, e1)) : place ≤ a := by
  unfold mTry at h
  cases hr : mRun ys one other pt.1 0 place b e with
  | none => rw [hr] at h; cases h
  | some q =>
    rw [hr] at h
    dsimp only at h
    split at h
    · cases h
      exact (mRun_ok _ 0 false 0 place b e hw ⟨fun n h1 h2 => by omega, fun z => by cases z⟩ hpl _ _ _ hr).2.1
    · cases h
theorem fd_zero {α : Type} {f : Nat → Option α} : fd f 0 = f 0 := rfl
theorem fd_succ {α : Type} {f : Nat → Option α} {n : Nat} : fd f (n + 1) = match f (n + 1) with | some x => some x | none => fd f n := by
  conv => lhs; unfold fd
  cases f (n + 1) <;> rfl
theorem fd_some {α : Type} {f : Nat → Option α} {n : Nat} {x : α} (h : fd f n = some x) : ∃ k, f k = some x := by
  induction n with
  | zero => exact ⟨0, h⟩
  | succ n ih =>
    unfold fd at h
    cases hf : f (n + 1) with
    | none => rw [hf] at h; exact ih h
    | some y => rw [hf] at h; cases h; exact ⟨n + 1, hf⟩
theorem mAt_le {place a : Nat} {b e : MG} (hw : wfp 0 false pt.1) (hpl : place ≤ ys.length) (h : mAt pt ys place = some (a, b, e)) : place ≤ a := by
  unfold mAt at h
  split at h
  · cases h
  · obtain ⟨k, hk⟩ := fd_some h
    obtain ⟨j, hj⟩ := fd_some hk
    exact mTry_le hw hpl hj
theorem T_matches {place : Nat} (hs : SgnIs σ s) (hc : CmpIs σ s pt) (hw : wfp 0 false pt.1) (hr : RowIs σ row ys) (hrow : row < 868) (hpl : place ≤ ys.length) : TM (d + 4) tk_matches [.inr 0, .inl row, .inl place] σ (MatQ σ pt ys.length (mAt pt ys place)) := by
  have h30 := hr.2.1
  have h60 := hc.2.1
  have hbeg : (σ.1 35) = b2i pt.2.1 := hc.2.2.2.2.1
  have hstar : (σ.1 34) = stars pt.1 := hc.2.2.2.1
  have hst60 : stars pt.1 ≤ pt.1.length := List.length_filter_le _ _
  have el : σ.2 6 (31 * (row : Int)).toNat = ys.length := by rw [← hr.1]; exact tix (by omega)
  refine TM.of rfl rfl ?_
  unfold mAt
  have inner : ∀ (n : Nat) (one : Nat) (rest : Option (Nat × MG × MG)), one ≤ ys.length - place → (∀ τ, TFr [41] [38, 39] σ τ → TW (d + 3) tc_matches 45 [some (.inr 0), some (.inl row), some (.inl place), some (.inl ((ys.length : Int) - place)), some (.inl one), some (.inl (-1))] [] τ (MatQ σ pt ys.length rest)) → n ≤ 30 → ∀ τ, TFr [41] [38, 39] σ τ → TW (d + 3) tc_matches 32 [some (.inr 0), some (.inl row), some (.inl place), some (.inl ((ys.length : Int) - place)), some (.inl one), some (.inl n)] [] τ (MatQ σ pt ys.length (match fd (fun other => mTry ys pt.1 pt.2.2 place g0 g0 one other) n with | some x => some x | none => rest)) := by
    intro n one rest hone hrest
    have step : ∀ (m : Nat) (rest' : Option (Nat × MG × MG)), m ≤ 30 → (∀ τ, TFr [41] [38, 39] σ τ → TW (d + 3) tc_matches 32 [some (.inr 0), some (.inl row), some (.inl place), some (.inl ((ys.length : Int) - place)), some (.inl one), some (.inl ((m : Int) + -1))] [] τ (MatQ σ pt ys.length rest')) → ∀ τ, TFr [41] [38, 39] σ τ → TW (d + 3) tc_matches 32 [some (.inr 0), some (.inl row), some (.inl place), some (.inl ((ys.length : Int) - place)), some (.inl one), some (.inl m)] [] τ (MatQ σ pt ys.length (match mTry ys pt.1 pt.2.2 place g0 g0 one m with | some x => some x | none => rest')) := by
      intro m rest' hm hrest' τ hf
      (repeat (first | (refine TW.getf rfl rfl rfl (fun _ => ?_)) | (refine TW.pl rfl rfl ?_)))
      refine TW.br rfl rfl (by first | omega | exact b2i_R _ | exact ⟨b2i_R _, by omega⟩) (fun q1 => ?_) (fun q1 => ?_)
      · omega
      (repeat (first | (refine TW.getf rfl rfl rfl (fun _ => ?_)) | (refine TW.pl rfl rfl ?_)))
      refine TW.cv4 rfl rfl rfl (Nat.le_of_ble_eq_true rfl) (T_fits (hs.fr hf (by decide) (by decide)) (hc.fr hf (by decide) (by decide)) hw (hr.fr (hf.2 6 (by decide))) hrow hpl (by omega) hm) ?_
      intro r τ1 hq
      obtain ⟨hf1, hq⟩ := hq
      have hf2 := hf.trans hf1
      have ag := @mRun_agr ys one m pt.1 0 false 0 place (τ.2 38) g0 (τ.2 39) g0 hw ⟨fun n h1 h2 => by omega, fun z => by cases z⟩
      unfold mTry
      revert hq
      cases hA : mRun ys one m pt.1 0 place (τ.2 38) (τ.2 39) with
      | none =>
        rw [hA] at ag
        cases hB : mRun ys one m pt.1 0 place g0 g0 with
        | some q => rw [hB] at ag; exact False.elim ag
        | none =>
          intro hq
          have hq : r = some 0 := hq
          subst hq
          refine TW.br rfl rfl (by first | omega | exact b2i_R _ | exact ⟨b2i_R _, by omega⟩) (fun q2 => ?_) (fun q2 => ?_)
          · (iterate 2 (first | (refine TW.getf rfl rfl rfl (fun _ => ?_)) | (refine TW.pl rfl rfl ?_)))
            exact hrest' τ1 hf2
          · exact absurd rfl q2
      | some q =>
        obtain ⟨a, b, e⟩ := q
        rw [hA] at ag
        cases hB : mRun ys one m pt.1 0 place g0 g0 with
        | none => rw [hB] at ag; exact False.elim ag
        | some q' =>
          obtain ⟨a', b', e'⟩ := q'
          rw [hB] at ag
          obtain ⟨rfl, ag⟩ := ag
          have ok := mRun_ok _ 0 false 0 place _ _ hw ⟨fun n h1 h2 => by omega, fun z => by cases z⟩ hpl _ _ _ hA
          rintro ⟨rfl, e1, e2, e3⟩
          have hbR := b2i_R (!pt.2.2 || decide (a = ys.length))
          refine TW.br rfl rfl (by first | omega | exact b2i_R _ | exact ⟨b2i_R _, by omega⟩) (fun q2 => ?_) (fun q2 => ?_)
          · have hz := b2i_0 q2
            rw [Bool.or_eq_false_iff, decide_eq_false_iff_not] at hz
            dsimp only
            rw [if_neg (fun z => by rcases z with z | z; rw [z] at hz; exact absurd hz.1 (by decide); exact hz.2 z)]
            (iterate 2 (first | (refine TW.getf rfl rfl rfl (fun _ => ?_)) | (refine TW.pl rfl rfl ?_)))
            exact hrest' τ1 hf2
          · have hz := b2i_1 q2
            rw [Bool.or_eq_true, decide_eq_true_eq] at hz
            dsimp only
            rw [if_pos (by rcases hz with z | z; exact Or.inl (by simpa using z); exact Or.inr z)]
            (repeat (first | (refine TW.getf rfl rfl rfl (fun _ => ?_)) | (refine TW.pl rfl rfl ?_)))
            exact TW.zret rfl (Or.inr rfl) ⟨hf2, rfl, e1, by rw [e2, e3]; exact ag, by rw [e2, e3]; exact ok.1, ok.2.2⟩
    induction n with
    | zero =>
      intro h0 τ hf
      refine step 0 rest (by omega) (fun τ hf => ?_) τ hf
      (repeat (first | (refine TW.getf rfl rfl rfl (fun _ => ?_)) | (refine TW.pl rfl rfl ?_)))
      refine TW.br rfl rfl (by first | omega | exact b2i_R _ | exact ⟨b2i_R _, by omega⟩) (fun q1 => ?_) (fun q1 => ?_)
      · exact hrest τ hf
      · exact absurd q1 (by decide)
    | succ n ih =>
      intro h0 τ hf
      have S := step (n + 1) _ h0 (fun τ hf => by
        have e : (((n + 1 : Nat) : Int) + -1) = (n : Nat) := by omega
        rw [e]
        exact ih (by omega) τ hf) τ hf
      have e2 : (match mTry ys pt.1 pt.2.2 place g0 g0 one (n + 1) with | some x => some x | none => (match fd (fun other => mTry ys pt.1 pt.2.2 place g0 g0 one other) n with | some x => some x | none => rest)) = (match fd (fun other => mTry ys pt.1 pt.2.2 place g0 g0 one other) (n + 1) with | some x => some x | none => rest) := by
        conv => rhs; unfold fd
        cases mTry ys pt.1 pt.2.2 place g0 g0 one (n + 1) <;> rfl
      rw [e2] at S
      exact S
  have outer : ∀ (n : Nat), n ≤ ys.length - place → ∀ (y : Option TV) (τ : TS), TFr [41] [38, 39] σ τ → TW (d + 3) tc_matches 20 [some (.inr 0), some (.inl row), some (.inl place), some (.inl ((ys.length : Int) - place)), some (.inl n), y] [] τ (MatQ σ pt ys.length (fd (fun one => fd (fun other => mTry ys pt.1 pt.2.2 place g0 g0 one other) (if 1 < stars pt.1 then ys.length - place - one else 0)) n)) := by
    have body : ∀ (n : Nat) (rest : Option (Nat × MG × MG)), n ≤ ys.length - place → (∀ (y : Option TV) τ, TFr [41] [38, 39] σ τ → TW (d + 3) tc_matches 20 [some (.inr 0), some (.inl row), some (.inl place), some (.inl ((ys.length : Int) - place)), some (.inl ((n : Int) + -1)), y] [] τ (MatQ σ pt ys.length rest)) → ∀ (y : Option TV) (τ : TS), TFr [41] [38, 39] σ τ → TW (d + 3) tc_matches 20 [some (.inr 0), some (.inl row), some (.inl place), some (.inl ((ys.length : Int) - place)), some (.inl n), y] [] τ (MatQ σ pt ys.length (match fd (fun other => mTry ys pt.1 pt.2.2 place g0 g0 n other) (if 1 < stars pt.1 then ys.length - place - n else 0) with | some x => some x | none => rest)) := by
      intro n rest hn hrest y τ hf
      have hsτ : (τ.1 34) = stars pt.1 := by rw [hf.1 34 (by decide)]; exact hstar
      have h45 : ∀ τ, TFr [41] [38, 39] σ τ → TW (d + 3) tc_matches 45 [some (.inr 0), some (.inl row), some (.inl place), some (.inl ((ys.length : Int) - place)), some (.inl n), some (.inl (-1))] [] τ (MatQ σ pt ys.length rest) := by
        intro τ hf
        (iterate 2 (first | (refine TW.getf rfl rfl rfl (fun _ => ?_)) | (refine TW.pl rfl rfl ?_)))
        exact hrest _ τ hf
      (repeat (first | (refine TW.getf rfl rfl rfl (fun _ => ?_)) | (refine TW.pl rfl rfl ?_)))
      refine TW.br rfl rfl (by first | omega | exact b2i_R _ | exact ⟨b2i_R _, by omega⟩) (fun q1 => ?_) (fun q1 => ?_)
      · omega
      (repeat (first | (refine TW.getf rfl rfl rfl (fun _ => ?_)) | (refine TW.pl rfl rfl ?_)))
      refine TW.br rfl rfl (by first | omega | exact b2i_R _ | exact ⟨b2i_R _, by omega⟩) (fun q2 => ?_) (fun q2 => ?_)
      · rw [if_neg (by omega)]
        (iterate 2 (first | (refine TW.getf rfl rfl rfl (fun _ => ?_)) | (refine TW.pl rfl rfl ?_)))
        exact inner 0 n rest hn h45 (by omega) τ hf
      · rw [if_pos (by omega)]
        (iterate 5 (first | (refine TW.getf rfl rfl rfl (fun _ => ?_)) | (refine TW.pl rfl rfl ?_)))
        have e : (ys.length : Int) - place - n = ((ys.length - place - n : Nat) : Int) := by omega
        rw [e]
        exact inner _ n rest hn h45 (by omega) τ hf
    intro n
    induction n with
    | zero =>
      intro hn y τ hf
      have B := body 0 none hn (fun y τ hf => by
        (repeat (first | (refine TW.getf rfl rfl rfl (fun _ => ?_)) | (refine TW.pl rfl rfl ?_)))
        refine TW.br rfl rfl (by first | omega | exact b2i_R _ | exact ⟨b2i_R _, by omega⟩) (fun q1 => ?_) (fun q1 => ?_)
        · (repeat (first | (refine TW.getf rfl rfl rfl (fun _ => ?_)) | (refine TW.pl rfl rfl ?_)))
          exact TW.zret rfl (Or.inl rfl) ⟨hf, rfl⟩
        · exact absurd q1 (by decide)) y τ hf
      rw [fd_zero]
      revert B
      cases fd (fun other => mTry ys pt.1 pt.2.2 place g0 g0 0 other) (if 1 < stars pt.1 then ys.length - place - 0 else 0) <;> exact id
    | succ n ih =>
      intro hn y τ hf
      have B := body (n + 1) _ hn (fun y τ hf => by
        have e : (((n + 1 : Nat) : Int) + -1) = (n : Nat) := by omega
        rw [e]
        exact ih (by omega) y τ hf) y τ hf
      rw [fd_succ]
      revert B
      cases fd (fun other => mTry ys pt.1 pt.2.2 place g0 g0 (n + 1) other) (if 1 < stars pt.1 then ys.length - place - (n + 1) else 0) <;> exact id
  have go7 : ¬ (pt.2.1 = true ∧ 0 < place) → TW (d + 3) tc_matches 7 [some (.inr 0), some (.inl row), some (.inl place), none, none, none] [] σ (MatQ σ pt ys.length (if pt.2.1 = true ∧ 0 < place then none else fd (fun one => fd (fun other => mTry ys pt.1 pt.2.2 place g0 g0 one other) (if 1 < stars pt.1 then ys.length - place - one else 0)) (if 0 < stars pt.1 then ys.length - place else 0))) := by
    intro hz
    rw [if_neg hz]
    (repeat (first | (refine TW.getf rfl rfl rfl (fun _ => ?_)) | (refine TW.pl rfl rfl ?_)))
    refine TW.cv1 rfl rfl rfl (Nat.le_of_ble_eq_true rfl) (T_len (row := (row : Int)) (by omega)) ?_; rintro _ _ ⟨rfl, rfl⟩
    rw [el]
    (repeat (first | (refine TW.getf rfl rfl rfl (fun _ => ?_)) | (refine TW.pl rfl rfl ?_)))
    refine TW.br rfl rfl (by first | omega | exact b2i_R _ | exact ⟨b2i_R _, by omega⟩) (fun q1 => ?_) (fun q1 => ?_)
    · rw [if_neg (by omega)]
      (iterate 2 (first | (refine TW.getf rfl rfl rfl (fun _ => ?_)) | (refine TW.pl rfl rfl ?_)))
      exact outer 0 (by omega) _ σ TFr.rf
    · rw [if_pos (by omega)]
      have e : (ys.length : Int) - place = ((ys.length - place : Nat) : Int) := by omega
      have O := outer (ys.length - place) (Nat.le_refl _) none σ TFr.rf
      rw [← e] at O
      (iterate 3 (first | (refine TW.getf rfl rfl rfl (fun _ => ?_)) | (refine TW.pl rfl rfl ?_)))
      exact O
  (repeat (first | (refine TW.getf rfl rfl rfl (fun _ => ?_)) | (refine TW.pl rfl rfl ?_)))
  refine TW.br rfl rfl (by first | omega | exact b2i_R _ | exact ⟨b2i_R _, by omega⟩) (fun q1 => ?_) (fun q1 => ?_)
  · exact go7 (fun z => by rw [hbeg, z.1] at q1; cases q1)
  (repeat (first | (refine TW.getf rfl rfl rfl (fun _ => ?_)) | (refine TW.pl rfl rfl ?_)))
  refine TW.br rfl rfl (by first | omega | exact b2i_R _ | exact ⟨b2i_R _, by omega⟩) (fun q2 => ?_) (fun q2 => ?_)
  · exact go7 (fun z => by omega)
  · rw [if_pos ⟨by rw [hbeg] at q1; exact b2i_1 q1, by omega⟩]
    (repeat (first | (refine TW.getf rfl rfl rfl (fun _ => ?_)) | (refine TW.pl rfl rfl ?_)))
    exact TW.zret rfl (Or.inl rfl) ⟨TFr.rf, rfl⟩
theorem T_finds {place : Nat} (hs : SgnIs σ s) (hc : CmpIs σ s pt) (hw : wfp 0 false pt.1) (hr : RowIs σ row ys) (hrow : row < 868) (hpl : place ≤ ys.length + 1) : TM (d + 5) tk_finds [.inr 0, .inl row, .inl place] σ (FinQ σ pt ys.length (mFind pt ys place)) := by
  have h30 := hr.2.1
  refine TM.of rfl rfl ?_
  unfold mFind
  have loop : ∀ (n p : Nat) (τ : TS), p + n = ys.length + 1 → TFr [40, 41] [38, 39] σ τ → TW (d + 4) tc_finds 2 [some (.inr 0), some (.inl row), some (.inl place), some (.inl p)] [] τ (FinQ σ pt ys.length (mFrom pt ys n p)) := by
    intro n
    induction n with
    | zero =>
      intro p τ hp hf
      have hrτ := hr.fr (hf.2 6 (by decide))
      have el : τ.2 6 (31 * (row : Int)).toNat = ys.length := by rw [← hrτ.1]; exact tix (by omega)
      (repeat (first | (refine TW.getf rfl rfl rfl (fun _ => ?_)) | (refine TW.pl rfl rfl ?_)))
      refine TW.cv1 rfl rfl rfl (Nat.le_of_ble_eq_true rfl) (T_len (row := (row : Int)) (by omega)) ?_; rintro _ _ ⟨rfl, rfl⟩
      rw [el]
      refine TW.br rfl rfl (by first | omega | exact b2i_R _ | exact ⟨b2i_R _, by omega⟩) (fun q1 => ?_) (fun q1 => ?_)
      · (repeat (first | (refine TW.getf rfl rfl rfl (fun _ => ?_)) | (refine TW.pl rfl rfl ?_)))
        exact TW.zret rfl (Or.inl rfl) ⟨hf, rfl⟩
      · omega
    | succ n ih =>
      intro p τ hp hf
      have hrτ := hr.fr (hf.2 6 (by decide))
      have el : τ.2 6 (31 * (row : Int)).toNat = ys.length := by rw [← hrτ.1]; exact tix (by omega)
      unfold mFrom
      (repeat (first | (refine TW.getf rfl rfl rfl (fun _ => ?_)) | (refine TW.pl rfl rfl ?_)))
      refine TW.cv1 rfl rfl rfl (Nat.le_of_ble_eq_true rfl) (T_len (row := (row : Int)) (by omega)) ?_; rintro _ _ ⟨rfl, rfl⟩
      rw [el]
      refine TW.br rfl rfl (by first | omega | exact b2i_R _ | exact ⟨b2i_R _, by omega⟩) (fun q1 => ?_) (fun q1 => ?_)
      · omega
      (repeat (first | (refine TW.getf rfl rfl rfl (fun _ => ?_)) | (refine TW.pl rfl rfl ?_)))
      refine TW.cv2 rfl rfl rfl (Nat.le_of_ble_eq_true rfl) (T_matches (hs.fr hf (by decide) (by decide)) (hc.fr hf (by decide) (by decide)) hw hrτ hrow (by omega)) ?_
      rintro r τ1 ⟨hf1, hq⟩
      have hf2 := hf.trans (hf1.mono (by simp) (fun _ h => h))
      revert hq
      cases hA : mAt pt ys p with
      | none =>
        intro hq
        have hq : r = some 0 := hq
        subst hq
        refine TW.br rfl rfl (by first | omega | exact b2i_R _ | exact ⟨b2i_R _, by omega⟩) (fun q2 => ?_) (fun q2 => ?_)
        · (iterate 2 (first | (refine TW.getf rfl rfl rfl (fun _ => ?_)) | (refine TW.pl rfl rfl ?_)))
          exact ih (p + 1) τ1 (by omega) hf2
        · exact absurd rfl q2
      | some q =>
        obtain ⟨a, b, e⟩ := q
        rintro ⟨rfl, e1, e2, e3, e4⟩
        refine TW.br rfl rfl (by first | omega | exact b2i_R _ | exact ⟨b2i_R _, by omega⟩) (fun q2 => ?_) (fun q2 => ?_)
        · exact absurd q2 (by decide)
        · (repeat (first | (refine TW.getf rfl rfl rfl (fun _ => ?_)) | (refine TW.pl rfl rfl ?_)))
          refine TW.putf rfl rfl (by omega) ?_
          (repeat (first | (refine TW.getf rfl rfl rfl (fun _ => ?_)) | (refine TW.pl rfl rfl ?_)))
          exact TW.zret rfl (Or.inr rfl) ⟨hf2.ts1 (by decide), rfl, ts1_eq, by rw [ts1_ne (by decide)]; exact e1, e2, e3, e4, mAt_le hw (by omega) hA⟩
  (iterate 2 (first | (refine TW.getf rfl rfl rfl (fun _ => ?_)) | (refine TW.pl rfl rfl ?_)))
  exact loop _ place σ (by omega) TFr.rf
theorem T_findsNext {e : Nat} (hs : SgnIs σ s) (hc : CmpIs σ s pt) (hw : wfp 0 false pt.1) (hr : RowIs σ row ys) (hrow : row < 868) (he : (σ.1 41) = e) (hel : e ≤ ys.length) : TM (d + 6) tk_findsNext [.inr 0, .inl row] σ (FinQ σ pt ys.length (mNext pt ys e)) := by
  have h30 := hr.2.1
  refine TM.of rfl rfl ?_
  unfold mNext
  have rest : ∀ τ, TFr [40, 41] [38, 39] σ τ → TW (d + 5) tc_findsNext 17 [some (.inr 0), some (.inl row), some (.inl e)] [] τ (FinQ σ pt ys.length (mFind pt ys (e + 1))) := by
    intro τ hf
    (repeat (first | (refine TW.getf rfl rfl rfl (fun _ => ?_)) | (refine TW.pl rfl rfl ?_)))
    refine TW.cv2 rfl rfl rfl (Nat.le_of_ble_eq_true rfl) (T_finds (place := e + 1) (hs.fr hf (by decide) (by decide)) (hc.fr hf (by decide) (by decide)) hw (hr.fr (hf.2 6 (by decide))) hrow (by omega)) ?_
    rintro r τ1 ⟨hf1, hq⟩
    have hf2 := hf.trans hf1
    revert hq
    cases mFind pt ys (e + 1) with
    | none =>
      intro hq
      have hq : r = some 0 := hq
      subst hq
      exact TW.zret rfl (Or.inl rfl) ⟨hf2, rfl⟩
    | some q =>
      rintro ⟨rfl, hq⟩
      exact TW.zret rfl (Or.inr rfl) ⟨hf2, rfl, hq⟩
  (repeat (first | (refine TW.getf rfl rfl rfl (fun _ => ?_)) | (refine TW.pl rfl rfl ?_)))
  rw [he]
  (repeat (first | (refine TW.getf rfl rfl rfl (fun _ => ?_)) | (refine TW.pl rfl rfl ?_)))
  refine TW.cv2 rfl rfl rfl (Nat.le_of_ble_eq_true rfl) (T_matches hs hc hw hr hrow hel) ?_
  rintro r τ1 ⟨hf1, hq⟩
  have hf2 : TFr [40, 41] [38, 39] σ τ1 := hf1.mono (by simp) (fun _ h => h)
  revert hq
  cases hA : mAt pt ys e with
  | none =>
    intro hq
    have hq : r = some 0 := hq
    subst hq
    refine TW.br rfl rfl (by first | omega | exact b2i_R _ | exact ⟨b2i_R _, by omega⟩) (fun q2 => ?_) (fun q2 => ?_)
    · exact rest τ1 hf2
    · exact absurd rfl q2
  | some q =>
    obtain ⟨a, b, e'⟩ := q
    rintro ⟨rfl, e1, e2, e3, e4⟩
    dsimp only
    refine TW.br rfl rfl (by first | omega | exact b2i_R _ | exact ⟨b2i_R _, by omega⟩) (fun q2 => ?_) (fun q2 => ?_)
    · exact absurd q2 (by decide)
    (repeat (first | (refine TW.getf rfl rfl rfl (fun _ => ?_)) | (refine TW.pl rfl rfl ?_)))
    refine TW.br rfl rfl (by first | omega | exact b2i_R _ | exact ⟨b2i_R _, by omega⟩) (fun q3 => ?_) (fun q3 => ?_)
    · rw [if_neg (by omega)]
      exact rest τ1 hf2
    · rw [if_pos (by omega)]
      (repeat (first | (refine TW.getf rfl rfl rfl (fun _ => ?_)) | (refine TW.pl rfl rfl ?_)))
      refine TW.putf rfl rfl (by omega) ?_
      (repeat (first | (refine TW.getf rfl rfl rfl (fun _ => ?_)) | (refine TW.pl rfl rfl ?_)))
      exact TW.zret rfl (Or.inr rfl) ⟨hf2.ts1 (by decide), rfl, ts1_eq, by rw [ts1_ne (by decide)]; exact e1, e2, e3, e4, by omega⟩
end TFin
