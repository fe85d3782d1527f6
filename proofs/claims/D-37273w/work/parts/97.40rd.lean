-- B
set_option maxRecDepth 100000
/-! THE READER: digits, signs, the next sign -/
section RD
variable {d i a n : Nat} {b : Int} {M : GMeth} {ls : GL} {st : List GV} {H : Nat → Obj} {fi : Nat → Nat → Int} {fr : Nat → Nat → Option Nat} {t : Nat} {S : BS} {Q : GO → BS → Prop} {s l : List Int}
theorem RdAt.R (h : RdAt S n s l) : -1 ≤ lk l ∧ lk l < 128 := by
  obtain ⟨_, _, _, hc, k, _, _, hk2⟩ := h
  exact lk_R hc hk2
theorem B_over (h : RdAt (H, fi, fr, t) n s l) : BE (d + 3) gk_X3_isOver [aR n] (H, fi, fr, t) (vI (if l = [] then 1 else 0)) := by
  obtain ⟨hn, ⟨x, hx, hs⟩, hl, hc, k, hk, hk1, hk2⟩ := h
  have hn : H n = oOwn 10 := hn
  have hx : fr 74 n = some x := hx
  have hs : H x = oStr s := hs
  have hk : fi 75 n = k := hk
  have hd := drop_len hk1 hk2
  refine BM.of rfl rfl rfl ?_
  (repeat (first | (refine BW.pl rfl rfl ?_) | (refine BW.geti rfl rfl (by first | assumption | exact upH_eq | exact (upH_ne (by assumption)).trans (by assumption) | exact (upH_ne (Ne.symm (by assumption))).trans (by assumption)) rfl rfl (by first | assumption | rfl | (simp only [upI, upR, Nat.reduceEqDiff, false_and, true_and, and_true, reduceIte]; first | rfl | assumption)) (fun _ => ?_)) | (refine BW.getr rfl rfl (by first | assumption | exact upH_eq | exact (upH_ne (by assumption)).trans (by assumption) | exact (upH_ne (Ne.symm (by assumption))).trans (by assumption)) rfl rfl (by first | assumption | rfl | (simp only [upI, upR, Nat.reduceEqDiff, false_and, true_and, and_true, reduceIte]; first | rfl | assumption)) ?_)))
  refine BW.c1 rfl rfl (by first | exact Or.inl rfl | exact Or.inr (tagH (by first | assumption | exact upH_eq | exact (upH_ne (by assumption)).trans (by assumption) | exact (upH_ne (Ne.symm (by assumption))).trans (by assumption)) (by rfl) (by rfl))) (by first | exact Or.inl (by decide) | exact Or.inr ⟨_, rfl, by assumption⟩) rfl (B_slen (d := d) hs) ?_; rintro _ _ ⟨rfl, rfl⟩
  have hl0 : l = [] ↔ l.length = 0 := List.length_eq_zero_iff.symm
  refine BW.br rfl rfl (by first | omega | decide | (constructor <;> first | omega | decide)) (fun z => ?_) (fun z => ?_)
  · (repeat (refine BW.pl rfl rfl ?_))
    exact BW.irx rfl (Or.inr (Or.inl ⟨rfl, Or.inl rfl⟩)) ⟨_, rfl, by rw [if_neg (fun w => by have := hl0.mp w; omega)], rfl⟩
  · (repeat (refine BW.pl rfl rfl ?_))
    exact BW.irx rfl (Or.inr (Or.inl ⟨rfl, Or.inr rfl⟩)) ⟨_, rfl, by rw [if_pos (hl0.mpr (by omega))], rfl⟩
theorem lk_dig : (48 ≤ lk l ∧ lk l ≤ 57) ↔ isDig (hd l) = true := by
  cases l with
  | nil => exact ⟨fun z => by have := z.1; exact absurd this (by decide), fun z => by cases z⟩
  | cons c l => exact ⟨fun z => decide_eq_true z, fun z => of_decide_eq_true z⟩
theorem B_digit (h : RdAt S n s l) : BE (d + 6) gk_X3_isDigit [aR n] S (vI (if isDig (hd l) = true then 1 else 0)) := by
  obtain ⟨H, fi, fr, t⟩ := S
  have hn : H n = oOwn 10 := h.1
  have hR := h.R
  refine BM.of rfl rfl rfl ?_
  (repeat (refine BW.pl rfl rfl ?_))
  refine BW.c1 rfl rfl (by first | exact Or.inl rfl | exact Or.inr (tagH (by first | assumption | exact upH_eq | exact (upH_ne (by assumption)).trans (by assumption) | exact (upH_ne (Ne.symm (by assumption))).trans (by assumption)) (by rfl) (by rfl))) (by first | exact Or.inl (by decide) | exact Or.inr ⟨_, rfl, by assumption⟩) rfl (B_look (d := d) h) ?_; rintro _ _ ⟨rfl, rfl⟩
  refine BW.i2l rfl (by omega) ?_
  (repeat (refine BW.pl rfl rfl ?_))
  refine BW.c3 rfl rfl (by first | exact Or.inl rfl | exact Or.inr (tagH (by first | assumption | exact upH_eq | exact (upH_ne (by assumption)).trans (by assumption) | exact (upH_ne (Ne.symm (by assumption))).trans (by assumption)) (by rfl) (by rfl))) (by first | exact Or.inl (by decide) | exact Or.inr ⟨_, rfl, by assumption⟩) rfl (B_in (d := d + 4) (by omega) (by decide) (by decide)) ?_; rintro _ _ ⟨rfl, rfl⟩
  refine BW.irx rfl (Or.inr (Or.inl ⟨rfl, by split <;> simp⟩)) ⟨_, rfl, ?_, rfl⟩
  by_cases z : 48 ≤ lk l ∧ lk l ≤ 57
  · rw [if_pos z, if_pos (lk_dig.mp z)]
  · rw [if_neg z, if_neg (fun w => z (lk_dig.mpr w))]
theorem lk_chr : (lk l = 32 ∨ isDig (hd l) = true ∨ (97 ≤ lk l ∧ lk l ≤ 122)) ↔ isChr (hd l) = true := by
  cases l with
  | nil => exact ⟨fun z => by rcases z with z | z | z; cases z; cases z; exact absurd z.1 (by decide), fun z => by cases z⟩
  | cons c l =>
    show (c = 32 ∨ isDig c = true ∨ (97 ≤ c ∧ c ≤ 122)) ↔ (decide (97 ≤ c ∧ c ≤ 122) || isDig c || decide (c = 32)) = true
    rw [Bool.or_eq_true, Bool.or_eq_true, decide_eq_true_iff, decide_eq_true_iff]
    constructor
    · rintro (h | h | h)
      · exact Or.inr h
      · exact Or.inl (Or.inr h)
      · exact Or.inl (Or.inl h)
    · rintro ((h | h) | h)
      · exact Or.inr (Or.inr h)
      · exact Or.inr (Or.inl h)
      · exact Or.inl h
theorem B_sign (h : RdAt S n s l) : BE (d + 7) gk_X3_isSign [aR n] S (vI (if isChr (hd l) = true then 1 else 0)) := by
  obtain ⟨H, fi, fr, t⟩ := S
  have hn : H n = oOwn 10 := h.1
  have hR := h.R
  have hC := lk_chr (l := l)
  refine BM.of rfl rfl rfl ?_
  (repeat (refine BW.pl rfl rfl ?_))
  refine BW.c1 rfl rfl (by first | exact Or.inl rfl | exact Or.inr (tagH (by first | assumption | exact upH_eq | exact (upH_ne (by assumption)).trans (by assumption) | exact (upH_ne (Ne.symm (by assumption))).trans (by assumption)) (by rfl) (by rfl))) (by first | exact Or.inl (by decide) | exact Or.inr ⟨_, rfl, by assumption⟩) rfl (B_look (d := d + 1) h) ?_; rintro _ _ ⟨rfl, rfl⟩
  (repeat (refine BW.pl rfl rfl ?_))
  refine BW.br rfl rfl (by first | omega | decide | (constructor <;> first | omega | decide)) (fun z1 => ?_) (fun z1 => ?_)
  · (repeat (refine BW.pl rfl rfl ?_))
    exact BW.irx rfl (Or.inr (Or.inl ⟨rfl, Or.inr rfl⟩)) ⟨_, rfl, by rw [if_pos (hC.mp (Or.inl z1))], rfl⟩
  · (repeat (refine BW.pl rfl rfl ?_))
    refine BW.c1 rfl rfl (by first | exact Or.inl rfl | exact Or.inr (tagH (by first | assumption | exact upH_eq | exact (upH_ne (by assumption)).trans (by assumption) | exact (upH_ne (Ne.symm (by assumption))).trans (by assumption)) (by rfl) (by rfl))) (by first | exact Or.inl (by decide) | exact Or.inr ⟨_, rfl, by assumption⟩) rfl (B_digit (d := d) h) ?_; rintro _ _ ⟨rfl, rfl⟩
    by_cases z2 : isDig (hd l) = true
    · rw [if_pos z2]
      refine BW.br rfl rfl (by first | omega | decide | (constructor <;> first | omega | decide)) (fun w => ?_) (fun w => by first | (exfalso; omega) | exact absurd w (by decide))
      (repeat (refine BW.pl rfl rfl ?_))
      exact BW.irx rfl (Or.inr (Or.inl ⟨rfl, Or.inr rfl⟩)) ⟨_, rfl, by rw [if_pos (hC.mp (Or.inr (Or.inl z2)))], rfl⟩
    · rw [if_neg z2]
      refine BW.br rfl rfl (by first | omega | decide | (constructor <;> first | omega | decide)) (fun w => by first | (exfalso; omega) | exact absurd w (by decide)) (fun w => ?_)
      (repeat (refine BW.pl rfl rfl ?_))
      refine BW.c1 rfl rfl (by first | exact Or.inl rfl | exact Or.inr (tagH (by first | assumption | exact upH_eq | exact (upH_ne (by assumption)).trans (by assumption) | exact (upH_ne (Ne.symm (by assumption))).trans (by assumption)) (by rfl) (by rfl))) (by first | exact Or.inl (by decide) | exact Or.inr ⟨_, rfl, by assumption⟩) rfl (B_look (d := d + 1) h) ?_; rintro _ _ ⟨rfl, rfl⟩
      refine BW.i2l rfl (by omega) ?_
      (repeat (refine BW.pl rfl rfl ?_))
      refine BW.c3 rfl rfl (by first | exact Or.inl rfl | exact Or.inr (tagH (by first | assumption | exact upH_eq | exact (upH_ne (by assumption)).trans (by assumption) | exact (upH_ne (Ne.symm (by assumption))).trans (by assumption)) (by rfl) (by rfl))) (by first | exact Or.inl (by decide) | exact Or.inr ⟨_, rfl, by assumption⟩) rfl (B_in (d := d + 5) (by omega) (by decide) (by decide)) ?_; rintro _ _ ⟨rfl, rfl⟩
      by_cases z3 : 97 ≤ lk l ∧ lk l ≤ 122
      · rw [if_pos z3]
        refine BW.br rfl rfl (by first | omega | decide | (constructor <;> first | omega | decide)) (fun w2 => by first | (exfalso; omega) | exact absurd w2 (by decide)) (fun w2 => ?_)
        (repeat (refine BW.pl rfl rfl ?_))
        exact BW.irx rfl (Or.inr (Or.inl ⟨rfl, Or.inr rfl⟩)) ⟨_, rfl, by rw [if_pos (hC.mp (Or.inr (Or.inr z3)))], rfl⟩
      · rw [if_neg z3]
        refine BW.br rfl rfl (by first | omega | decide | (constructor <;> first | omega | decide)) (fun w2 => ?_) (fun w2 => by first | (exfalso; omega) | exact absurd w2 (by decide))
        (repeat (refine BW.pl rfl rfl ?_))
        exact BW.irx rfl (Or.inr (Or.inl ⟨rfl, Or.inl rfl⟩)) ⟨_, rfl, by rw [if_neg (fun z => (hC.mpr z).elim z1 (fun z => z.elim z2 z3))], rfl⟩
end RD
