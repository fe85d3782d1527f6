-- C
set_option maxRecDepth 100000
/-! THE READER: addresses -/
def PatO (S : BS) (F : Nat → Prop) (kd : Int) (r : Option Nat) (pt : SPat) : Prop := kd = 47 ∨ kd = 63 → ∃ p, r = some p ∧ PatIs S F p pt
section AD
variable {d i a n q x b m c cap cap' c0 c1 st0 st1 cf : Nat} {b1 kd : Int} {M : GMeth} {ls : GL} {st : List GV} {xs xs' : List (Option Nat)} {ps qs : List SPart} {p : SPart} {s l l1 f acc : List Int} {S S0 S1 S' : BS} {F F' W : Nat → Prop} {Q : GO → BS → Prop} {y : Option Nat} {o : Obj} {r : Option Nat} {pt : SPat}
theorem PatO.fr (h : PatO S F kd r pt) (hF : Fr S S' W c) (hs : NoS S W ∧ Av F W) : PatO S' F kd r pt := fun z => (h z).imp (fun p hp => ⟨hp.1, hp.2.fr hF hs⟩)
theorem PatO.pu (h : PatO S F kd r pt) (hP : Pu S S' a n) (hs : ¬ F n) : PatO S' F kd r pt := fun z => (h z).imp (fun p hp => ⟨hp.1, hp.2.pu hP hs⟩)
theorem PatO.mono (h : PatO S F kd r pt) (hm : ∀ m, F m → F' m) : PatO S F' kd r pt := fun z => (h z).imp (fun p hp => ⟨hp.1, hp.2.mono hm⟩)
theorem isSpot_iff {c : Int} : isSpot c = true ↔ isDig c = true ∨ c = 46 ∨ c = 36 ∨ c = 39 ∨ c = 47 ∨ c = 63 := by
  unfold isSpot
  simp only [Bool.or_eq_true, decide_eq_true_eq]
  constructor
  · rintro (((((h | h) | h) | h) | h) | h)
    · exact Or.inl h
    · exact Or.inr (Or.inl h)
    · exact Or.inr (Or.inr (Or.inl h))
    · exact Or.inr (Or.inr (Or.inr (Or.inl h)))
    · exact Or.inr (Or.inr (Or.inr (Or.inr (Or.inl h))))
    · exact Or.inr (Or.inr (Or.inr (Or.inr (Or.inr h))))
  · rintro (h | h | h | h | h | h)
    · exact Or.inl (Or.inl (Or.inl (Or.inl (Or.inl h))))
    · exact Or.inl (Or.inl (Or.inl (Or.inl (Or.inr h))))
    · exact Or.inl (Or.inl (Or.inl (Or.inr h)))
    · exact Or.inl (Or.inl (Or.inr h))
    · exact Or.inl (Or.inr h)
    · exact Or.inr h
theorem pNum_R {v : Int} (h : pNum l = .inr (l1, v)) : 0 ≤ v ∧ v ≤ 99 := by
  unfold pNum at h
  split at h
  · rename_i h1
    have d1 : 48 ≤ hd l ∧ hd l ≤ 57 := of_decide_eq_true h1.1
    split at h
    · rename_i h2
      have d2 : 48 ≤ hd l.tail ∧ hd l.tail ≤ 57 := of_decide_eq_true h2.1
      cases h
      omega
    · cases h; omega
  · cases h
theorem spTest1 (h : RdAt S n s l) {z : Int} (hz : z = if isSpot (hd l) = true then 1 else 0) (k : BW (d + 6) gm_X3_isAddress 24 [some (aR n), some (aI (lk l))] (aI z :: ([] : List GV)) S Q) : BW (d + 6) gm_X3_isAddress 3 [some (aR n), some (aI (lk l))] (([] : List GV)) S Q := by
  have hn := h.ob
  have hR := h.R
  (repeat (refine BW.pl rfl rfl ?_))
  refine CW.e1 rfl rfl (by first | exact Or.inl rfl | exact Or.inr (tagO (by assumption) (by rfl) (by rfl))) (by first | exact Or.inl (by decide) | exact Or.inr ⟨_, rfl, by assumption⟩) rfl (B_digit (d := d + 0) h) ?_
  by_cases z0 : isDig (hd l) = true
  · rw [if_pos z0]
    rw [if_pos (isSpot_iff.mpr (Or.inl z0))] at hz
    subst hz
    refine BW.br rfl rfl (by first | omega | decide | (constructor <;> first | omega | decide)) (fun w => ?_) (fun w => by first | (exfalso; omega) | exact absurd w (by decide))
    (repeat (refine BW.pl rfl rfl ?_))
    exact k
  · rw [if_neg z0]
    refine BW.br rfl rfl (by first | omega | decide | (constructor <;> first | omega | decide)) (fun w => by first | (exfalso; omega) | exact absurd w (by decide)) (fun w => ?_)
    (repeat (refine BW.pl rfl rfl ?_))
    refine BW.br rfl rfl (by first | omega | decide | (constructor <;> first | omega | decide)) (fun z1 => ?_) (fun z1 => ?_)
    · rw [if_pos (isSpot_iff.mpr (Or.inr (Or.inl ((lk_hd (by decide)).mp z1))))] at hz
      subst hz
      (repeat (refine BW.pl rfl rfl ?_))
      exact k
    · skip
      (repeat (refine BW.pl rfl rfl ?_))
      refine BW.br rfl rfl (by first | omega | decide | (constructor <;> first | omega | decide)) (fun z2 => ?_) (fun z2 => ?_)
      · rw [if_pos (isSpot_iff.mpr (Or.inr (Or.inr (Or.inl ((lk_hd (by decide)).mp z2)))))] at hz
        subst hz
        (repeat (refine BW.pl rfl rfl ?_))
        exact k
      · skip
        (repeat (refine BW.pl rfl rfl ?_))
        refine BW.br rfl rfl (by first | omega | decide | (constructor <;> first | omega | decide)) (fun z3 => ?_) (fun z3 => ?_)
        · rw [if_pos (isSpot_iff.mpr (Or.inr (Or.inr (Or.inr (Or.inl ((lk_hd (by decide)).mp z3))))))] at hz
          subst hz
          (repeat (refine BW.pl rfl rfl ?_))
          exact k
        · skip
          (repeat (refine BW.pl rfl rfl ?_))
          refine BW.br rfl rfl (by first | omega | decide | (constructor <;> first | omega | decide)) (fun z4 => ?_) (fun z4 => ?_)
          · rw [if_pos (isSpot_iff.mpr (Or.inr (Or.inr (Or.inr (Or.inr (Or.inl ((lk_hd (by decide)).mp z4)))))))] at hz
            subst hz
            (repeat (refine BW.pl rfl rfl ?_))
            exact k
          · skip
            (repeat (refine BW.pl rfl rfl ?_))
            refine BW.br rfl rfl (by first | omega | decide | (constructor <;> first | omega | decide)) (fun z5 => ?_) (fun z5 => ?_)
            · rw [if_neg (fun w => by
                rcases isSpot_iff.mp w with w | w | w | w | w | w
                · exact z0 w
                · exact z1 ((lk_hd (by decide)).mpr w)
                · exact z2 ((lk_hd (by decide)).mpr w)
                · exact z3 ((lk_hd (by decide)).mpr w)
                · exact z4 ((lk_hd (by decide)).mpr w)
                · exact z5 ((lk_hd (by decide)).mpr w))] at hz
              subst hz
              (repeat (refine BW.pl rfl rfl ?_))
              exact k
            · rw [if_pos (isSpot_iff.mpr (Or.inr (Or.inr (Or.inr (Or.inr (Or.inr ((lk_hd (by decide)).mp (by omega))))))))] at hz
              subst hz
              (repeat (refine BW.pl rfl rfl ?_))
              exact k

theorem spTest2 (h : RdAt S n s l) {z : Int} (hz : z = if isSpot (hd l) = true then 1 else 0) (k : BW (d + 12) gm_X3_address 25 [some (aR n), some (aI (lk l)), none, none, none] (aI z :: [aR n]) S Q) : BW (d + 12) gm_X3_address 4 [some (aR n), some (aI (lk l)), none, none, none] ([aR n]) S Q := by
  have hn := h.ob
  have hR := h.R
  (repeat (refine BW.pl rfl rfl ?_))
  refine CW.e1 rfl rfl (by first | exact Or.inl rfl | exact Or.inr (tagO (by assumption) (by rfl) (by rfl))) (by first | exact Or.inl (by decide) | exact Or.inr ⟨_, rfl, by assumption⟩) rfl (B_digit (d := d + 6) h) ?_
  by_cases z0 : isDig (hd l) = true
  · rw [if_pos z0]
    rw [if_pos (isSpot_iff.mpr (Or.inl z0))] at hz
    subst hz
    refine BW.br rfl rfl (by first | omega | decide | (constructor <;> first | omega | decide)) (fun w => ?_) (fun w => by first | (exfalso; omega) | exact absurd w (by decide))
    (repeat (refine BW.pl rfl rfl ?_))
    exact k
  · rw [if_neg z0]
    refine BW.br rfl rfl (by first | omega | decide | (constructor <;> first | omega | decide)) (fun w => by first | (exfalso; omega) | exact absurd w (by decide)) (fun w => ?_)
    (repeat (refine BW.pl rfl rfl ?_))
    refine BW.br rfl rfl (by first | omega | decide | (constructor <;> first | omega | decide)) (fun z1 => ?_) (fun z1 => ?_)
    · rw [if_pos (isSpot_iff.mpr (Or.inr (Or.inl ((lk_hd (by decide)).mp z1))))] at hz
      subst hz
      (repeat (refine BW.pl rfl rfl ?_))
      exact k
    · skip
      (repeat (refine BW.pl rfl rfl ?_))
      refine BW.br rfl rfl (by first | omega | decide | (constructor <;> first | omega | decide)) (fun z2 => ?_) (fun z2 => ?_)
      · rw [if_pos (isSpot_iff.mpr (Or.inr (Or.inr (Or.inl ((lk_hd (by decide)).mp z2)))))] at hz
        subst hz
        (repeat (refine BW.pl rfl rfl ?_))
        exact k
      · skip
        (repeat (refine BW.pl rfl rfl ?_))
        refine BW.br rfl rfl (by first | omega | decide | (constructor <;> first | omega | decide)) (fun z3 => ?_) (fun z3 => ?_)
        · rw [if_pos (isSpot_iff.mpr (Or.inr (Or.inr (Or.inr (Or.inl ((lk_hd (by decide)).mp z3))))))] at hz
          subst hz
          (repeat (refine BW.pl rfl rfl ?_))
          exact k
        · skip
          (repeat (refine BW.pl rfl rfl ?_))
          refine BW.br rfl rfl (by first | omega | decide | (constructor <;> first | omega | decide)) (fun z4 => ?_) (fun z4 => ?_)
          · rw [if_pos (isSpot_iff.mpr (Or.inr (Or.inr (Or.inr (Or.inr (Or.inl ((lk_hd (by decide)).mp z4)))))))] at hz
            subst hz
            (repeat (refine BW.pl rfl rfl ?_))
            exact k
          · skip
            (repeat (refine BW.pl rfl rfl ?_))
            refine BW.br rfl rfl (by first | omega | decide | (constructor <;> first | omega | decide)) (fun z5 => ?_) (fun z5 => ?_)
            · rw [if_neg (fun w => by
                rcases isSpot_iff.mp w with w | w | w | w | w | w
                · exact z0 w
                · exact z1 ((lk_hd (by decide)).mpr w)
                · exact z2 ((lk_hd (by decide)).mpr w)
                · exact z3 ((lk_hd (by decide)).mpr w)
                · exact z4 ((lk_hd (by decide)).mpr w)
                · exact z5 ((lk_hd (by decide)).mpr w))] at hz
              subst hz
              (repeat (refine BW.pl rfl rfl ?_))
              exact k
            · rw [if_pos (isSpot_iff.mpr (Or.inr (Or.inr (Or.inr (Or.inr (Or.inr ((lk_hd (by decide)).mp (by omega))))))))] at hz
              subst hz
              (repeat (refine BW.pl rfl rfl ?_))
              exact k

theorem C_isAddress (h : RdAt S n s l) : BE (d + 7) gk_X3_isAddress [aR n] S (vI (if isSpot (hd l) = true then 1 else 0)) := by
  have hn := h.ob
  have hR := h.R
  refine BM.of rfl rfl rfl ?_
  (repeat (refine BW.pl rfl rfl ?_))
  refine CW.e1 rfl rfl (by first | exact Or.inl rfl | exact Or.inr (tagO (by assumption) (by rfl) (by rfl))) (by first | exact Or.inl (by decide) | exact Or.inr ⟨_, rfl, by assumption⟩) rfl (B_look (d := d + 1) h) ?_
  (iterate 1 (refine BW.pl rfl rfl ?_))
  refine spTest1 (d := d) h rfl ?_
  refine BW.irx rfl (Or.inr (Or.inl ⟨rfl, by split <;> simp⟩)) ⟨_, rfl, rfl, rfl⟩
end AD
