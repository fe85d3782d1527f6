-- B
set_option maxRecDepth 100000
/-! LinkedList's constructor at the level of objects -/
theorem B_llNew {d n : Nat} {H : Nat → Obj} {fi : Nat → Nat → Int} {fr : Nat → Nat → Option Nat} {t : Nat} (hn : H n = oRaw 18) : BMr (d + 4) gk_J3_init [aR n] (H, fi, fr, t) (fun r S' => r = none ∧ S' = (upH H n (oLl [] 0), fi, fr, t)) := by
  rintro g ⟨ρ, ν, hR⟩
  refine GM.wf (fun hW => ?_)
  obtain ⟨q1, ⟨h1, h2, h3⟩, q3, q4⟩ := hR.obj hn rfl rfl
  refine GM.mono (G_llNew h1 (h3 109 (by decide)).2 (h3 110 (by decide)).2) (Nat.le_refl _) ?_
  rintro r g' _ ⟨w, rfl, rfl, hK, hL, p3⟩
  refine ⟨_, ⟨fun m => if m < gsz g then ρ m else n, fun m => if m = n then [] else ν m, RepI.mk (H' := upH H n (oLl [] 0)) (t' := t) hR hW hK (fun m => m = n) (fun m hm z => ⟨by omega, by rw [z]; exact q1⟩) (fun m hm => if_pos hm) (fun m _ hm => if_neg hm) (fun m hm _ => upH_ne hm) (fun m hm => ⟨by omega, fun hlt _ => ⟨by rw [hm]; exact q1, ?_⟩⟩) (fun m hm1 hm2 hne => ?_) (fun m hm => ?_) (fun l ys mc hl e => ?_) (Nat.le_refl _)⟩, _, rfl, rfl, rfl⟩
  · subst hm
    rw [upH_eq]
    refine ⟨by dsimp only; rw [if_pos rfl]; exact hL, fun m hm => ?_, p3, Nat.zero_le _⟩
    dsimp only at hm
    rw [if_pos rfl] at hm
    cases hm
  · exact absurd ((upH_ne (show m ≠ n by omega)).trans (hR.2.1 m hm1)) hne
  · have := hK.1
    exact (upH_ne (by omega)).trans (hR.2.1 m (by omega))
  · exfalso
    rw [hl] at e
    have e : H n = oLl ys mc := e
    rw [hn] at e
    exact oNe (o := oRaw 18) (o' := oLl ys mc) rfl e
