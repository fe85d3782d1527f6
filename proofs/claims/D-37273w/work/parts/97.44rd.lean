-- B
set_option maxRecDepth 100000
/-! THE READER: letters -/
section RD
variable {d i a n : Nat} {b : Int} {M : GMeth} {ls : GL} {st : List GV} {H : Nat → Obj} {fi : Nat → Nat → Int} {fr : Nat → Nat → Option Nat} {t : Nat} {S : BS} {Q : GO → BS → Prop} {s l : List Int}
theorem B_letter {x y : Int} (h : RdAt S n s l) (hx : 0 ≤ x ∧ x < 128) (hy : 0 ≤ y ∧ y < 128) : BM (d + 6) gk_X3_letter [aR n, aI x, aI y] S (RdX n 0 s S (if x ≤ hd l ∧ hd l ≤ y ∧ l ≠ [] then .inr (l.tail, hd l - x) else .inl l) (fun v w S' => w = vI v ∧ ∃ k, S' = rdGo S n k)) := by
  have hR := h.R
  obtain ⟨H, fi, fr, t⟩ := S
  have hn : H n = oOwn 10 := h.1
  refine BM.of rfl rfl rfl ?_
  (repeat (refine BW.pl rfl rfl ?_))
  refine BW.c1 rfl rfl (by first | exact Or.inl rfl | exact Or.inr (tagH (by first | assumption | exact upH_eq | exact (upH_ne (by assumption)).trans (by assumption) | exact (upH_ne (Ne.symm (by assumption))).trans (by assumption)) (by rfl) (by rfl))) (by first | exact Or.inl (by decide) | exact Or.inr ⟨_, rfl, by assumption⟩) rfl (B_look (d := d) h) ?_; rintro _ _ ⟨rfl, rfl⟩
  refine BW.i2l rfl (by omega) ?_
  (repeat (refine BW.pl rfl rfl ?_))
  refine BW.i2l rfl (by omega) ?_
  (repeat (refine BW.pl rfl rfl ?_))
  refine BW.i2l rfl (by omega) ?_
  refine BW.c3 rfl rfl (by first | exact Or.inl rfl | exact Or.inr (tagH (by first | assumption | exact upH_eq | exact (upH_ne (by assumption)).trans (by assumption) | exact (upH_ne (Ne.symm (by assumption))).trans (by assumption)) (by rfl) (by rfl))) (by first | exact Or.inl (by decide) | exact Or.inr ⟨_, rfl, by assumption⟩) rfl (B_in (d := d + 4) (by omega) (by omega) (by omega)) ?_; rintro _ _ ⟨rfl, rfl⟩
  by_cases z : x ≤ lk l ∧ lk l ≤ y
  · cases l with
    | nil => exact absurd z.1 (by show ¬ x ≤ -1; omega)
    | cons c l1 =>
      rw [if_pos z]
      refine BW.must (d := d + 1) rfl rfl (by decide) (by decide) rfl h (Or.inr rfl) rfl (fun _ => ?_) (fun q S' w _ => absurd w (by decide))
      (repeat (refine BW.pl rfl rfl ?_))
      refine BW.c1 rfl rfl (by first | exact Or.inl rfl | exact Or.inr (tagH (by first | assumption | exact upH_eq | exact (upH_ne (by assumption)).trans (by assumption) | exact (upH_ne (Ne.symm (by assumption))).trans (by assumption)) (by rfl) (by rfl))) (by first | exact Or.inl (by decide) | exact Or.inr ⟨_, rfl, by assumption⟩) rfl (B_next (d := d) h) ?_
      rintro r S' ⟨rfl, rfl⟩
      (repeat (refine BW.pl rfl rfl ?_))
      have z1 : x ≤ c ∧ c ≤ y := z
      refine BW.irx rfl (Or.inl ⟨rfl, by omega⟩) ?_
      have e : (if x ≤ hd (c :: l1) ∧ hd (c :: l1) ≤ y ∧ c :: l1 ≠ [] then (.inr ((c :: l1).tail, hd (c :: l1) - x) : PR Int) else .inl (c :: l1)) = .inr (l1, c - x) := if_pos ⟨z1.1, z1.2, List.cons_ne_nil _ _⟩
      rw [e]
      exact ⟨_, rfl, h.gofr 1, h.go, rfl, _, rfl⟩
  · rw [if_neg z]
    refine BW.must (d := d + 1) rfl rfl (by decide) (by decide) rfl h (Or.inl rfl) rfl (fun w => absurd w (by decide)) (fun q S' _ hq => ?_)
    rw [if_neg (fun q => z (by cases l with
      | nil => exact absurd rfl q.2.2
      | cons c l1 => exact ⟨q.1, q.2.1⟩))]
    exact ⟨_, Fr.rf, hq⟩
end RD
