set_option maxRecDepth 100000
/-! an order that is no jump keeps a state in order -/
section OW
variable {A : St} {o : SOrd}
theorem out_no (h : isOut (oAct o.1) = false) : ¬ oAct o.1 = 58 ∧ ¬ sSteers (oAct o.1) = true := by
  refine ⟨fun z => by rw [z] at h; exact absurd h (by decide), fun z => ?_⟩
  have z : oAct o.1 = 98 ∨ oAct o.1 = 84 ∨ oAct o.1 = 113 ∨ oAct o.1 = 78 := of_decide_eq_true z
  rcases z with z | z | z | z <;> rw [z] at h <;> exact absurd h (by decide)
theorem sOrd_wf {c c1 : Nat} {A1 : St} (ho : OrdOk o) (hout : isOut (oAct o.1) = false) (hw : WF A) (hc : c ≤ 60) (hs : sOrd A o c = .inr (c1, A1)) : WF A1 ∧ c1 ≤ 60 := by
  have e : sOne [] 0 o c A = .inr (1, c1, A1) := by
    unfold sOne
    rw [if_neg (out_no hout).1, if_neg (out_no hout).2, hs]
  obtain ⟨g1, g2, g3, _⟩ := sOne_wf ho hw hc e
  exact ⟨g1, g3⟩
end OW
