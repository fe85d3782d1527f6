-- C
set_option maxRecDepth 100000
/-! LINEORDERS: comeTo -/
section CT
variable {d n m q c B : Nat} {S S' : BS} {K : Nat → Nat} {la : Int → Nat} {A : St}
theorem L_comeTo (hL : LO S K la A B) (h13 : Fi S 13 (K 1) c) (hc : c ≤ 60) : BM (d + 5) gk_X1_comeTo [aR (K 1)] S (fun r S' => if c = 60 then Thr9 11 78 7 S r S' else r = .inl none ∧ LO S' K la A B ∧ Pu S S' 13 (K 1) ∧ Fi S' 13 (K 1) ((c + 1 : Nat) : Int)) := by
  have hx := hL.1.obx
  refine BM.of rfl rfl rfl ?_
  (repeat (first | (refine BW.pl rfl rfl ?_) | (refine CW.geti rfl rfl (by assumption) rfl rfl (by assumption) (fun _ => ?_)) | (refine CW.getr rfl rfl (by assumption) rfl rfl (by assumption) ?_)))
  by_cases z : c = 60
  · refine BW.br rfl rfl (by first | omega | decide | (constructor <;> first | omega | decide)) (fun w => ?_) (fun w => by first | (exfalso; omega) | exact absurd w (by decide))
    (repeat (refine BW.pl rfl rfl ?_))
    refine CW.need rfl rfl (by decide) rfl (Or.inl rfl) (by decide) rfl (fun w => absurd w (by decide)) (fun _ r9 S9 hT9 => ?_)
    rw [if_pos z]
    exact hT9
  · refine BW.br rfl rfl (by first | omega | decide | (constructor <;> first | omega | decide)) (fun w => by first | (exfalso; omega) | exact absurd w (by decide)) (fun w => ?_)
    (repeat (refine BW.pl rfl rfl ?_))
    refine CW.need rfl rfl (by decide) rfl (Or.inr rfl) (by decide) rfl (fun _ => ?_) (fun w => absurd w (by decide))
    (repeat (first | (refine BW.pl rfl rfl ?_) | (refine CW.geti rfl rfl (by assumption) rfl rfl (by assumption) (fun _ => ?_)) | (refine CW.getr rfl rfl (by assumption) rfl rfl (by assumption) ?_)))
    first | (refine CW.putr rfl rfl (by assumption) rfl (by decide) (fun S2 hP2 h132 => ?_)) | (refine CW.puti rfl (by assumption) rfl (by decide) (by first | exact Or.inl ⟨rfl, by first | omega | decide | (constructor <;> first | omega | decide)⟩ | exact Or.inr (Or.inl ⟨rfl, by first | omega | decide | (constructor <;> first | omega | decide)⟩) | exact Or.inr (Or.inr (Or.inl ⟨rfl, by first | omega | decide | (constructor <;> first | omega | decide)⟩)) | exact Or.inr (Or.inr (Or.inr ⟨rfl, by first | omega | decide | (constructor <;> first | omega | decide)⟩))) (fun S2 hP2 h132 => ?_))
    refine BW.ret rfl rfl ?_
    rw [if_neg z]
    exact ⟨rfl, hL.puO hP2 (by decide), hP2, h132⟩
end CT
