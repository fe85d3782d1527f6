-- C
set_option maxRecDepth 100000
/-! an order's hasWhere -/
section HW
variable {d m : Nat} {S : BS} {F : Nat → Prop} {zz : Prop} {od : SOrd0}
theorem L_hasWhere (hO : Or0 S F zz m od) : BE (d + 1) gk_X4_hasWhere [aR m] S (vI (if oAll od = true ∨ oFst od ≠ none then 1 else 0)) := by
  obtain ⟨f0, hm, h45, ⟨r46, h46, h46a⟩, -⟩ := hO
  have h45 : Fi S 45 m (b2i (oAll od)) := h45
  have h46a : AdO S F r46 (oFst od) := h46a
  refine BM.of rfl rfl rfl ?_
  cases hal : oAll od with
  | true =>
    rw [hal] at h45
    replace h45 : Fi S 45 m 1 := h45
    (repeat (first | (refine BW.pl rfl rfl ?_) | (refine CW.geti rfl rfl (by assumption) rfl rfl (by assumption) (fun _ => ?_)) | (refine CW.getr rfl rfl (by assumption) rfl rfl (by assumption) ?_)))
    refine BW.br rfl rfl (by first | omega | decide | (constructor <;> first | omega | decide)) (fun w => ?_) (fun w => by first | (exfalso; omega) | exact absurd w (by decide))
    (repeat (refine BW.pl rfl rfl ?_))
    exact BW.irx rfl (Or.inr (Or.inl ⟨rfl, Or.inr rfl⟩)) ⟨_, rfl, by rw [if_pos (Or.inl rfl)], rfl⟩
  | false =>
    rw [hal] at h45
    replace h45 : Fi S 45 m 0 := h45
    (repeat (first | (refine BW.pl rfl rfl ?_) | (refine CW.geti rfl rfl (by assumption) rfl rfl (by assumption) (fun _ => ?_)) | (refine CW.getr rfl rfl (by assumption) rfl rfl (by assumption) ?_)))
    refine BW.br rfl rfl (by first | omega | decide | (constructor <;> first | omega | decide)) (fun w => by first | (exfalso; omega) | exact absurd w (by decide)) (fun w => ?_)
    (repeat (first | (refine BW.pl rfl rfl ?_) | (refine CW.geti rfl rfl (by assumption) rfl rfl (by assumption) (fun _ => ?_)) | (refine CW.getr rfl rfl (by assumption) rfl rfl (by assumption) ?_)))
    cases hfs : oFst od with
    | none =>
      rw [hfs] at h46a
      have h46a : r46 = none := h46a
      subst h46a
      refine CW.nul rfl rfl (fun n h => by cases h) ?_
      (repeat (refine BW.pl rfl rfl ?_))
      exact BW.irx rfl (Or.inr (Or.inl ⟨rfl, Or.inl rfl⟩)) ⟨_, rfl, by rw [if_neg (by simp)], rfl⟩
    | some a1 =>
      rw [hfs] at h46a
      obtain ⟨am, rfl, ha⟩ := h46a
      have ham := ha.2.1
      refine CW.nul rfl rfl (fun n h => by cases h; rw [show S.1 am = _ from ham]; rfl) ?_
      (repeat (refine BW.pl rfl rfl ?_))
      exact BW.irx rfl (Or.inr (Or.inl ⟨rfl, Or.inr rfl⟩)) ⟨_, rfl, by rw [if_pos (by simp)], rfl⟩
end HW
