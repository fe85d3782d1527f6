-- C
set_option maxRecDepth 100000
/-! LINEORDERS: doOrder of a plain order; comeTo -/
section OD
variable {d n m q i a y cap c1 c2 cap' p p' B c k f e l u w yp pp it lr j first : Nat} {S S' S0 S1 S2 : BS} {K : Nat → Nat} {la : Int → Nat} {G : BG} {A : St} {F V : Nat → Prop} {s s2 z z2 row : List Int} {v nn b1 x1 x2 x3 : Int} {dn rs t : List SLine} {x : SLine} {r : Option Nat} {Q : GO → BS → Prop} {od : SOrd0} {pt : SPat} {b g : MG} {o : Obj} {zz : Prop} {M : GMeth} {ls : GL} {st : List GV} {bk mo : Bool} {ad tg : SAdr} {xs : List (Option Nat)} {rows : List (List Int)} {ids : List Int}
theorem L_doPlain (h : DoC S K la A (B + 34) F zz m od) (hL : LO S K la A B) (hP : OdP od) : BM (d + 187) gk_X1_doOrder [aR (K 1), aR m] S (ActX S K la A B (3134 + pC A od) 21034 (fun _ => True) (sPlain A od)) := by
  obtain ⟨-, hK, hO, hw, hod, hn, hB⟩ := h
  have h40 : A.1.length ≤ 40 := hw.2.1
  have hx := hL.1.obx
  have hac : 0 ≤ oAct od ∧ oAct od < 1000 := by
    have := hP.1
    simp only [List.mem_cons, List.not_mem_nil, or_false] at this
    omega
  refine BM.of rfl rfl rfl ?_
  (repeat (refine BW.pl rfl rfl ?_))
  refine CW.x2 rfl rfl (by first | exact Or.inl rfl | exact Or.inr (tagO (by assumption) (by rfl) (by rfl))) (by first | exact Or.inl (by decide) | exact Or.inr ⟨_, rfl, by assumption⟩) rfl rfl (L_findRange (V := fun _ => True) hL hK hO hod.2.2.2.1 hod.2.2.2.2.1 hac hw.txk (by omega)) ?_ ?_
  · intro r S2 h2
    have eP : sPlain A od = match sRange A od with
      | .inl w => .inl w
      | .inr (f, l) => sAct A od f l := rfl
    have hpc : pC A od = match sRange A od with
      | .inl _ => 0
      | .inr (f, l) => if oAct od = 112 ∨ oAct od = 110 then 20 + 480 * (l + 1 - f) else 0 := rfl
    have hok := fun f l => sRange_ok (A := A) (od := od) (f := f) (l := l) hw.1.1
    rw [eP, hpc]
    revert h2 hok
    cases sRange A od with
    | inl w =>
      rintro ⟨S1, _, _, q9, e9, _⟩ hok
      cases e9
    | inr fl =>
      obtain ⟨f, l⟩ := fl
      rintro ⟨e2, hL2, hX2, h16, h17⟩ hok
      cases e2
      have hR := hok f l rfl
      have hle := hR.le
      have hx2 := hL2.1.obx
      (iterate 6 (first | (refine BW.pl rfl rfl ?_) | (refine CW.geti rfl rfl (by assumption) rfl rfl (by assumption) (fun _ => ?_)) | (refine CW.getr rfl rfl (by assumption) rfl rfl (by assumption) ?_)))
      have hD : DoC S2 K la A (B + 34) F zz m od := ⟨hL2, hK, hO.xf hX2 hK, hw, hod, hn, hB⟩
      refine BW.mono2 (fun r S' hh => ?_) (D_at (d := d) hD hP hR)
      show ActX S K la A B (3134 + (if oAct od = 112 ∨ oAct od = 110 then 20 + 480 * (l + 1 - f) else 0)) 21034 (fun _ => True) (sAct A od f l) r S'
      refine (ActX.pre (A := A) (B := B) hX2 hh rfl rfl).wk (V' := fun _ => True) (fun _ _ => trivial) ?_ (by omega) ?_ (by omega)
      · omega
      · split <;> omega
  · intro E q9 S2 h2
    have eP : sPlain A od = match sRange A od with
      | .inl w => .inl w
      | .inr (f, l) => sAct A od f l := rfl
    rw [eP]
    revert h2
    cases sRange A od with
    | inl w =>
      rintro ⟨S1, hL1, hX1, h9⟩
      exact ⟨S1, la, A, hL1.1.le (by omega) (by omega), hX1, LaE.rf, Int.le_refl _, ⟨[], by simp⟩, h9⟩
    | inr fl =>
      rintro ⟨e2, _⟩
      cases e2
end OD
