-- B
set_option maxRecDepth 100000
/-! THE READER: a group told of -/
section RD
variable {d i a n : Nat} {b : Int} {M : GMeth} {ls : GL} {st : List GV} {H : Nat → Obj} {fi : Nat → Nat → Int} {fr : Nat → Nat → Option Nat} {t : Nat} {S : BS} {Q : GO → BS → Prop} {s l : List Int}
theorem B_told {c0 : Int} {c : Nat} (h : RdAt S n s (c0 :: l)) (hc : S.2.1 77 n = c ∧ c ≤ 2) : BM (d + 6) gk_X3_told [aR n] S (RdX n 0 s S (if 0 < c then (if 49 ≤ hd l ∧ hd l ≤ 48 + c then .inr (l.tail, hd l - 48) else .inl l) else .inl (c0 :: l)) (fun v w S' => w = vI v ∧ ∃ k, S' = rdGo S n k)) := by
  have h0 := h.at
  obtain ⟨H, fi, fr, t⟩ := S
  have hn : H n = oOwn 10 := h.1
  have h0 : fi 75 n = (s.length : Int) - (c0 :: l).length ∧ (c0 :: l).length ≤ s.length ∧ s.length < 10000 := h0
  obtain ⟨hc1, hc2⟩ := hc
  have hc1 : fi 77 n = c := hc1
  have h1 := h.go
  have hR := h1.R
  have hc3 : upI fi 75 n (fi 75 n + 1) 77 n = c := (if_neg (fun z => by cases z.1)).trans hc1
  refine BM.of rfl rfl rfl ?_
  (repeat (first | (refine BW.pl rfl rfl ?_) | (refine BW.geti rfl rfl (by first | assumption | exact upH_eq | exact (upH_ne (by assumption)).trans (by assumption) | exact (upH_ne (Ne.symm (by assumption))).trans (by assumption)) rfl rfl (by first | assumption | rfl | (simp only [upI, upR, Nat.reduceEqDiff, false_and, true_and, and_true, reduceIte]; first | rfl | assumption)) (fun _ => ?_)) | (refine BW.getr rfl rfl (by first | assumption | exact upH_eq | exact (upH_ne (by assumption)).trans (by assumption) | exact (upH_ne (Ne.symm (by assumption))).trans (by assumption)) rfl rfl (by first | assumption | rfl | (simp only [upI, upR, Nat.reduceEqDiff, false_and, true_and, and_true, reduceIte]; first | rfl | assumption)) ?_)))
  refine BW.br rfl rfl (by first | omega | decide | (constructor <;> first | omega | decide)) (fun z => ?_) (fun z => ?_)
  · (repeat (refine BW.pl rfl rfl ?_))
    refine BW.must (d := d + 1) rfl rfl (by decide) (by decide) rfl h (Or.inl rfl) rfl (fun w => absurd w (by decide)) (fun q S' _ hq => ?_)
    rw [if_neg (by omega)]
    exact ⟨_, Fr.rf, hq⟩
  · (repeat (refine BW.pl rfl rfl ?_))
    refine BW.must (d := d + 1) rfl rfl (by decide) (by decide) rfl h (Or.inr rfl) rfl (fun _ => ?_) (fun q S' w _ => absurd w (by decide))
    rw [if_pos (by omega : 0 < c)]
    (repeat (first | (refine BW.pl rfl rfl ?_) | (refine BW.geti rfl rfl (by first | assumption | exact upH_eq | exact (upH_ne (by assumption)).trans (by assumption) | exact (upH_ne (Ne.symm (by assumption))).trans (by assumption)) rfl rfl (by first | assumption | rfl | (simp only [upI, upR, Nat.reduceEqDiff, false_and, true_and, and_true, reduceIte]; first | rfl | assumption)) (fun _ => ?_)) | (refine BW.getr rfl rfl (by first | assumption | exact upH_eq | exact (upH_ne (by assumption)).trans (by assumption) | exact (upH_ne (Ne.symm (by assumption))).trans (by assumption)) rfl rfl (by first | assumption | rfl | (simp only [upI, upR, Nat.reduceEqDiff, false_and, true_and, and_true, reduceIte]; first | rfl | assumption)) ?_)))
    first | (refine BW.putr rfl rfl (by first | assumption | exact upH_eq | exact (upH_ne (by assumption)).trans (by assumption) | exact (upH_ne (Ne.symm (by assumption))).trans (by assumption)) rfl (by decide) ?_) | (refine BW.putx rfl (by first | assumption | exact upH_eq | exact (upH_ne (by assumption)).trans (by assumption) | exact (upH_ne (Ne.symm (by assumption))).trans (by assumption)) rfl (by decide) (by first | exact Or.inl ⟨rfl, by first | omega | decide | (constructor <;> first | omega | decide)⟩ | exact Or.inr (Or.inl ⟨rfl, by first | omega | decide | (constructor <;> first | omega | decide)⟩) | exact Or.inr (Or.inr (Or.inl ⟨rfl, by first | omega | decide | (constructor <;> first | omega | decide)⟩)) | exact Or.inr (Or.inr (Or.inr ⟨rfl, by first | omega | decide | (constructor <;> first | omega | decide)⟩))) ?_)
    (repeat (refine BW.pl rfl rfl ?_))
    refine BW.c1 rfl rfl (by first | exact Or.inl rfl | exact Or.inr (tagH (by first | assumption | exact upH_eq | exact (upH_ne (by assumption)).trans (by assumption) | exact (upH_ne (Ne.symm (by assumption))).trans (by assumption)) (by rfl) (by rfl))) (by first | exact Or.inl (by decide) | exact Or.inr ⟨_, rfl, by assumption⟩) rfl (B_look (d := d) h1) ?_; rintro _ _ ⟨rfl, rfl⟩
    refine BW.i2l rfl (by omega) ?_
    (repeat (first | (refine BW.pl rfl rfl ?_) | (refine BW.geti rfl rfl (by first | assumption | exact upH_eq | exact (upH_ne (by assumption)).trans (by assumption) | exact (upH_ne (Ne.symm (by assumption))).trans (by assumption)) rfl rfl (by first | assumption | rfl | (simp only [upI, upR, Nat.reduceEqDiff, false_and, true_and, and_true, reduceIte]; first | rfl | assumption)) (fun _ => ?_)) | (refine BW.getr rfl rfl (by first | assumption | exact upH_eq | exact (upH_ne (by assumption)).trans (by assumption) | exact (upH_ne (Ne.symm (by assumption))).trans (by assumption)) rfl rfl (by first | assumption | rfl | (simp only [upI, upR, Nat.reduceEqDiff, false_and, true_and, and_true, reduceIte]; first | rfl | assumption)) ?_)))
    refine BW.i2l rfl (by omega) ?_
    refine BW.c3 rfl rfl (by first | exact Or.inl rfl | exact Or.inr (tagH (by first | assumption | exact upH_eq | exact (upH_ne (by assumption)).trans (by assumption) | exact (upH_ne (Ne.symm (by assumption))).trans (by assumption)) (by rfl) (by rfl))) (by first | exact Or.inl (by decide) | exact Or.inr ⟨_, rfl, by assumption⟩) rfl (B_in (d := d + 4) (by omega) (by omega) (by omega)) ?_; rintro _ _ ⟨rfl, rfl⟩
    by_cases z2 : 49 ≤ lk l ∧ lk l ≤ 48 + c
    · cases l with
      | nil => exact absurd z2.1 (by decide)
      | cons c1 l1 =>
        rw [if_pos z2]
        refine BW.must (d := d + 1) rfl rfl (by decide) (by decide) rfl h1 (Or.inr rfl) rfl (fun _ => ?_) (fun q S' w _ => absurd w (by decide))
        (repeat (refine BW.pl rfl rfl ?_))
        refine BW.c1 rfl rfl (by first | exact Or.inl rfl | exact Or.inr (tagH (by first | assumption | exact upH_eq | exact (upH_ne (by assumption)).trans (by assumption) | exact (upH_ne (Ne.symm (by assumption))).trans (by assumption)) (by rfl) (by rfl))) (by first | exact Or.inl (by decide) | exact Or.inr ⟨_, rfl, by assumption⟩) rfl (B_next (d := d) h1) ?_
        rintro r S' ⟨rfl, rfl⟩
        (repeat (refine BW.pl rfl rfl ?_))
        have z1 : 49 ≤ c1 ∧ c1 ≤ 48 + c := z2
        refine BW.irx rfl (Or.inl ⟨rfl, by omega⟩) ?_
        have e : (if 49 ≤ hd (c1 :: l1) ∧ hd (c1 :: l1) ≤ 48 + c then (.inr ((c1 :: l1).tail, hd (c1 :: l1) - 48) : PR Int) else .inl (c1 :: l1)) = .inr (l1, c1 - 48) := if_pos z1
        rw [e]
        exact ⟨_, rfl, ((h.gofr 1).tr (h1.gofr 1) (fun _ _ z => z)).le (Nat.le_refl _) (fun _ _ z => z), h1.go, rfl, _, rdGo_go (S := (H, fi, fr, t)) (x := 1)⟩
    · rw [if_neg z2]
      refine BW.must (d := d + 1) rfl rfl (by decide) (by decide) rfl h1 (Or.inl rfl) rfl (fun w => absurd w (by decide)) (fun q S' _ hq => ?_)
      rw [if_neg (fun q => z2 (by cases l with
        | nil => exact absurd q.1 (by decide)
        | cons c1 l1 => exact q))]
      exact ⟨_, h.gofr 1, hq⟩
end RD
