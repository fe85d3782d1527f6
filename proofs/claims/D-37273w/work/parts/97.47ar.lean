-- B
set_option maxRecDepth 100000
/-! rules of the walk at the level of objects: stores into arrays -/
section BX
variable {d i a n : Nat} {b : Int} {M : GMeth} {ls : GL} {st : List GV} {H : Nat → Obj} {fi : Nat → Nat → Int} {fr : Nat → Nat → Option Nat} {t : Nat} {S : BS} {Q : GO → BS → Prop} {g : GH} {ρ : Nat → Nat} {ν : Nat → List Nat}
theorem getD_set {α : Type} (xs : List α) (x z : α) {j k : Nat} (hk : k < xs.length) : (xs.set k x).getD j z = if j = k then x else xs.getD j z := by
  rw [List.getD_eq_getElem?_getD, List.getElem?_set, List.getD_eq_getElem?_getD]
  by_cases e : k = j
  · subst e; rw [if_pos rfl, if_pos rfl, if_pos hk]; rfl
  · rw [if_neg e, if_neg (fun z => e z.symm)]
theorem RepI.iast {xs : List Int} {x : Int} {k : Nat} (hR : RepI g ρ ν (H, fi, fr, t)) (hW : GWf g) (hn : H n = oIa xs) (hk : k < xs.length) : RepI (gsai g n k x) ρ ν (upH H n (oIa (xs.set k x)), fi, fr, t) := by
  obtain ⟨q1, ⟨h1, h2, h3⟩, q3, q4⟩ := hR.obj hn rfl rfl
  refine RepI.mk hR hW (Kp.ai (S := fun m => m = n) rfl) (fun m => m = n) (fun m hm z => ⟨by omega, by rw [z]; exact q1⟩) (fun m _ => rfl) (fun m _ _ => rfl) (fun m hm _ => upH_ne hm) (fun m hm => ⟨by omega, fun _ _ => ⟨by rw [hm]; exact q1, ?_⟩⟩) (fun m hm1 hm2 hne => absurd hm2 (Nat.not_lt.mpr hm1)) (fun m hm => ?_) (fun l ys mc hl e => ?_) (Nat.le_refl _)
  · rw [hm, upH_eq]
    refine ⟨h1, by rw [List.length_set]; exact h2, fun j hj => ?_⟩
    rw [getD_set _ _ _ hk]
    show (if n = n ∧ j = k then x else gai g n j) = _
    by_cases e : j = k
    · rw [if_pos ⟨rfl, e⟩, if_pos e]
    · rw [if_neg (fun z => e z.2), if_neg e]
      exact h3 j (by rw [List.length_set] at hj; exact hj)
  · have hm : gsz g ≤ m := hm
    exact (upH_ne (by omega)).trans (hR.2.1 m hm)
  · exfalso
    rw [hl] at e
    have e : H n = oLl ys mc := e
    rw [hn] at e
    exact oNe (o := oIa xs) (o' := oLl ys mc) rfl e
theorem BW.iast {x v : Int} {xs : List Int} (hC : M.2.2.1[i]? = some (10, a, b)) (hn : H n = oIa xs) (hx : 0 ≤ x ∧ x < (xs.length : Int)) (hv : inR v) (k : BW d M (i + 1) ls st (upH H n (oIa (xs.set x.toNat v)), fi, fr, t) Q) : BW d M i ls (.inl v :: .inl x :: .inr (.inr (some n)) :: st) (H, fi, fr, t) Q := by
  rintro g ⟨ρ, ν, hR⟩
  obtain ⟨q1, ⟨h1, h2, h3⟩, q3, q4⟩ := hR.obj hn rfl rfl
  exact GW.wf (fun hW => GW.iast hC h1 h2 hx hv (k _ ⟨ρ, ν, hR.iast hW hn (by omega)⟩))
theorem RepI.aast {c : Nat} {xs : List (Option Nat)} {x : Option Nat} {k : Nat} (hR : RepI g ρ ν (H, fi, fr, t)) (hW : GWf g) (hn : H n = oRa c xs) (hk : k < xs.length) : RepI (gsar g n k x) ρ ν (upH H n (oRa c (xs.set k x)), fi, fr, t) := by
  obtain ⟨q1, ⟨h1, h0, h2, h3⟩, q3, q4⟩ := hR.obj hn rfl rfl
  refine RepI.mk hR hW (Kp.ar (S := fun m => m = n) rfl) (fun m => m = n) (fun m hm z => ⟨by omega, by rw [z]; exact q1⟩) (fun m _ => rfl) (fun m _ _ => rfl) (fun m hm _ => upH_ne hm) (fun m hm => ⟨by omega, fun _ _ => ⟨by rw [hm]; exact q1, ?_⟩⟩) (fun m hm1 hm2 hne => absurd hm2 (Nat.not_lt.mpr hm1)) (fun m hm => ?_) (fun l ys mc hl e => ?_) (Nat.le_refl _)
  · rw [hm, upH_eq]
    refine ⟨h1, h0, by rw [List.length_set]; exact h2, fun j hj => ?_⟩
    rw [getD_set _ _ _ hk]
    show (if n = n ∧ j = k then x else gar g n j) = _
    by_cases e : j = k
    · rw [if_pos ⟨rfl, e⟩, if_pos e]
    · rw [if_neg (fun z => e z.2), if_neg e]
      exact h3 j (by rw [List.length_set] at hj; exact hj)
  · have hm : gsz g ≤ m := hm
    exact (upH_ne (by omega)).trans (hR.2.1 m hm)
  · exfalso
    rw [hl] at e
    have e : H n = oLl ys mc := e
    rw [hn] at e
    exact oNe (o := oRa c xs) (o' := oLl ys mc) rfl e
theorem BW.aast {c : Nat} {x : Int} {v : Option Nat} {xs : List (Option Nat)} (hC : M.2.2.1[i]? = some (16, a, b)) (hn : H n = oRa c xs) (hx : 0 ≤ x ∧ x < (xs.length : Int)) (hv : (v = none ∧ c ≤ 106) ∨ ∃ m, v = some m ∧ ((H m).1 == 0) = false ∧ (gasg c (ocls (H m)) = true ∨ (c = 107 ∧ ocls (H m) = 105 ∧ 1000 ≤ m))) (k : BW d M (i + 1) ls st (upH H n (oRa c (xs.set x.toNat v)), fi, fr, t) Q) : BW d M i ls (.inr (.inr v) :: .inl x :: .inr (.inr (some n)) :: st) (H, fi, fr, t) Q := by
  rintro g ⟨ρ, ν, hR⟩
  obtain ⟨q1, ⟨h1, h0, h2, h3⟩, q3, q4⟩ := hR.obj hn rfl rfl
  refine GW.wf (fun hW => GW.aast hC h1 h0 h2 hx ?_ (k _ ⟨ρ, ν, hR.aast hW hn (by omega)⟩))
  rcases hv with z | ⟨m, rfl, z1, z2⟩
  · exact Or.inl z
  · right
    have e : gcls g ((some m).getD 0) = ocls (H m) := (hR.cls hW (n := m) rfl z1).1
    rw [e]
    exact z2
end BX
