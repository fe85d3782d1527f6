-- B
set_option maxRecDepth 100000
/-! THE READER: numbers -/
section RD
variable {d i a n : Nat} {b : Int} {M : GMeth} {ls : GL} {st : List GV} {H : Nat → Obj} {fi : Nat → Nat → Int} {fr : Nat → Nat → Option Nat} {t : Nat} {S : BS} {Q : GO → BS → Prop} {s l : List Int}
/-- what a reading answers: a fault's place, or what is left and a value -/
def RdX {α : Type} (n : Nat) (c : Nat) (s : List Int) (S : BS) (R : PR α) (K : α → Option GV → BS → Prop) (r : GO) (S' : BS) : Prop := match R with
  | .inl f => ∃ S1, Fr S S1 (fun m => m = n) c ∧ Thr9 5 42 ((s.length : Int) - f.length) S1 r S'
  | .inr (l1, v) => ∃ w, r = .inl w ∧ Fr S S' (fun m => m = n) c ∧ RdAt S' n s l1 ∧ K v w S'
theorem rdGo_go {x y : Int} : rdGo (rdGo S n x) n y = rdGo S n (x + y) := by
  have e : upI (upI S.2.1 75 n (S.2.1 75 n + x)) 75 n (upI S.2.1 75 n (S.2.1 75 n + x) 75 n + y) = upI S.2.1 75 n (S.2.1 75 n + (x + y)) := by
    funext f m
    unfold upI
    rw [if_pos (⟨rfl, rfl⟩ : 75 = 75 ∧ n = n)]
    by_cases z : f = 75 ∧ m = n
    · rw [if_pos z, if_pos z]; omega
    · rw [if_neg z, if_neg z, if_neg z]
  unfold rdGo
  dsimp only
  rw [e]
theorem hd_dig (h : isDig (hd l) = true) : ∃ c l1, l = c :: l1 ∧ 48 ≤ c ∧ c ≤ 57 := by
  cases l with
  | nil => cases h
  | cons c l1 => exact ⟨c, l1, rfl, of_decide_eq_true h⟩
theorem B_number (h : RdAt S n s l) : BM (d + 7) gk_X3_number [aR n] S (RdX n 0 s S (pNum l) (fun v w S' => w = vI v ∧ ∃ k, S' = rdGo S n k)) := by
  have h0 := h.at
  obtain ⟨H, fi, fr, t⟩ := S
  have hn : H n = oOwn 10 := h.1
  refine BM.of rfl rfl rfl ?_
  (repeat (refine BW.pl rfl rfl ?_))
  refine BW.c1 rfl rfl (by first | exact Or.inl rfl | exact Or.inr (tagH (by first | assumption | exact upH_eq | exact (upH_ne (by assumption)).trans (by assumption) | exact (upH_ne (Ne.symm (by assumption))).trans (by assumption)) (by rfl) (by rfl))) (by first | exact Or.inl (by decide) | exact Or.inr ⟨_, rfl, by assumption⟩) rfl (B_digit (d := d) h) ?_; rintro _ _ ⟨rfl, rfl⟩
  (repeat (refine BW.pl rfl rfl ?_))
  by_cases z : isDig (hd l) = true
  · obtain ⟨c, l1, rfl, hc⟩ := hd_dig z
    rw [if_pos z]
    refine BW.must (d := d + 2) rfl rfl (by decide) (by decide) rfl h (Or.inr rfl) rfl (fun _ => ?_) (fun q S' w _ => absurd w (by decide))
    (repeat (refine BW.pl rfl rfl ?_))
    refine BW.c1 rfl rfl (by first | exact Or.inl rfl | exact Or.inr (tagH (by first | assumption | exact upH_eq | exact (upH_ne (by assumption)).trans (by assumption) | exact (upH_ne (Ne.symm (by assumption))).trans (by assumption)) (by rfl) (by rfl))) (by first | exact Or.inl (by decide) | exact Or.inr ⟨_, rfl, by assumption⟩) rfl (B_next (d := d + 1) h) ?_
    rintro r S' ⟨rfl, rfl⟩
    have h1 := h.go
    (repeat (refine BW.pl rfl rfl ?_))
    refine BW.c1 rfl rfl (by first | exact Or.inl rfl | exact Or.inr (tagH (by first | assumption | exact upH_eq | exact (upH_ne (by assumption)).trans (by assumption) | exact (upH_ne (Ne.symm (by assumption))).trans (by assumption)) (by rfl) (by rfl))) (by first | exact Or.inl (by decide) | exact Or.inr ⟨_, rfl, by assumption⟩) rfl (B_digit (d := d) h1) ?_; rintro _ _ ⟨rfl, rfl⟩
    by_cases z2 : isDig (hd l1) = true
    · obtain ⟨c2, l2, rfl, hc2⟩ := hd_dig z2
      rw [if_pos z2]
      refine BW.br rfl rfl (by first | omega | decide | (constructor <;> first | omega | decide)) (fun w => by first | (exfalso; omega) | exact absurd w (by decide)) (fun w => ?_)
      (repeat (refine BW.pl rfl rfl ?_))
      refine BW.c1 rfl rfl (by first | exact Or.inl rfl | exact Or.inr (tagH (by first | assumption | exact upH_eq | exact (upH_ne (by assumption)).trans (by assumption) | exact (upH_ne (Ne.symm (by assumption))).trans (by assumption)) (by rfl) (by rfl))) (by first | exact Or.inl (by decide) | exact Or.inr ⟨_, rfl, by assumption⟩) rfl (B_next (d := d + 1) h1) ?_
      rintro r S' ⟨rfl, rfl⟩
      (repeat (refine BW.pl rfl rfl ?_))
      refine BW.irx rfl (Or.inl ⟨rfl, by omega⟩) ?_
      have e : pNum (c :: c2 :: l2) = .inr (l2, 10 * (c - 48) + c2 - 48) := (if_pos ⟨z, List.cons_ne_nil _ _⟩).trans (if_pos ⟨z2, List.cons_ne_nil _ _⟩)
      rw [e]
      exact ⟨_, rfl, ((h.gofr 1).tr (h1.gofr 1) (fun _ _ z => z)).le (Nat.le_refl _) (fun _ _ z => z), h1.go, congrArg vI (by show 10 * (c - 48) + c2 - 48 = _; rfl), _, rdGo_go⟩
    · rw [if_neg z2]
      refine BW.br rfl rfl (by first | omega | decide | (constructor <;> first | omega | decide)) (fun w => ?_) (fun w => by first | (exfalso; omega) | exact absurd w (by decide))
      (repeat (refine BW.pl rfl rfl ?_))
      refine BW.irx rfl (Or.inl ⟨rfl, by omega⟩) ?_
      have e : pNum (c :: l1) = .inr (l1, c - 48) := (if_pos ⟨z, List.cons_ne_nil _ _⟩).trans (if_neg (fun q => z2 q.1))
      rw [e]
      exact ⟨_, rfl, h.gofr 1, h1, rfl, _, rfl⟩
  · rw [if_neg z]
    refine BW.must (d := d + 2) rfl rfl (by decide) (by decide) rfl h (Or.inl rfl) rfl (fun w => absurd w (by decide)) (fun q S' _ hq => ?_)
    have e : pNum l = .inl l := if_neg (fun q => z q.1)
    rw [e]
    exact ⟨_, Fr.rf, hq⟩
end RD
