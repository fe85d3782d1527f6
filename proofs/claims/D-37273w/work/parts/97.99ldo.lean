-- C
set_option maxRecDepth 100000
/-! LINEORDERS: doOrder, more branches: h u e r w p -/
section LD
variable {d n m q i a y cap c1 c2 cap' p p' B c k f e l u w yp pp it lr j first : Nat} {S S' S0 S1 S2 : BS} {K : Nat → Nat} {la : Int → Nat} {G : BG} {A : St} {F V : Nat → Prop} {s s2 z z2 row : List Int} {v nn b1 x1 x2 x3 : Int} {dn rs t : List SLine} {x : SLine} {r : Option Nat} {Q : GO → BS → Prop} {od : SOrd0} {pt : SPat} {b g : MG} {o : Obj} {zz : Prop} {M : GMeth} {ls : GL} {st : List GV} {bk mo : Bool} {ad tg : SAdr} {xs : List (Option Nat)} {rows : List (List Int)}
theorem DoC.ord (h : DoC S K la A B F zz m od) : Ob S m (oOwn 7) ∧ KoM K m ∧ Fi S 48 m (oAct od) ∧ Fi S 49 m (oNum od) := by
  obtain ⟨_, hK, ⟨f0, hm, -, -, -, h48, ⟨q2, h50, _, ⟨h49, -⟩⟩, -⟩, _⟩ := h
  exact ⟨hm, hK _ f0, h48, h49⟩
theorem D_h (h : DoC S K la A B F zz m od) (hmo : (oAct od = 72 ∧ first = A.2.2.1.length ∧ mo = true) ∨ (oAct od = 104 ∧ first = 0 ∧ mo = false)) (hf : 1 ≤ f) (hfl : f ≤ l) (hl : l ≤ A.1.length) : BW (d + 186) gm_X1_doOrder 70 [some (aR (K 1)), some (aR m), some (aI f), some (aI l), none] [] S (ActX S K la A B 3100 21000 (fun _ => True) (sHold A first f l)) := by
  obtain ⟨hm, kq, h48, h49⟩ := h.ord
  obtain ⟨hL, hK, hO, hw, -, hn, hB⟩ := h
  have h40 : A.1.length ≤ 40 := hw.2.1
  have hh40 : A.2.2.1.length ≤ 40 := hw.2.2.2.2.2.2.1.1
  obtain ⟨t, p, G⟩ := A
  have h40 : t.length ≤ 40 := h40
  have hl : l ≤ t.length := hl
  have hh40 : G.1.length ≤ 40 := hh40
  have hmo : (oAct od = 72 ∧ first = G.1.length ∧ mo = true) ∨ (oAct od = 104 ∧ first = 0 ∧ mo = false) := hmo
  have hx := hL.1.obx
  have hsl := seg_len (t := t) hl hf
  have hrl : (rowsOfL (seg t f l)).length = l + 1 - f := by unfold rowsOfL; rw [List.length_map, hsl]
  have e1 : G.1.take first = if mo = true then G.1 else [] := by
    rcases hmo with ⟨_, rfl, rfl⟩ | ⟨_, rfl, rfl⟩
    · rw [if_pos rfl, List.take_length]
    · rw [if_neg (by decide)]; rfl
  have e2 : first = (if mo = true then G.1 else []).length := by
    rcases hmo with ⟨_, rfl, rfl⟩ | ⟨_, rfl, rfl⟩
    · rw [if_pos rfl]
    · rw [if_neg (by decide)]; rfl
  have eS : sHold (t, p, G) first f l = if 40 < first + (l + 1 - f) then .inl 4 else .inr (t, l, setLs G 7 (G.1.take first ++ rowsOfL (seg t f l))) := rfl
  rw [eS]
  (repeat (refine BW.pl rfl rfl ?_))
  refine CW.c3 rfl rfl (by first | exact Or.inl rfl | exact Or.inr (tagO (by assumption) (by rfl) (by rfl))) (by first | exact Or.inl (by decide) | exact Or.inr ⟨_, rfl, by assumption⟩) rfl (L_rowsIn (f := f) (l := l) hL hf (by omega) hl (show t.length < 10000 by omega) (by omega) rfl rfl) ?_
  rintro r S1 ⟨q, ys, rfl, hq0, hq1, hss1, hF1⟩
  have hL1 := hL.fr hF1 LoW.no (by omega)
  have hao := hL.1.ko hq0
  have hX1 : XF K (fun _ => True) S S1 := XF.rf.f0 hF1
  have hx1 := hL1.1.obx
  have hm1 := hm.fr hF1 ⟨oNe rfl, Sep.no⟩
  have h481 := h48.fr hF1 ⟨⟨hm.old (oNe rfl), by decide⟩, Sep.no⟩
  have hL1b : LB S1 K la (idsOfL t) p G (B + (29 + (l + 1 - f))) := hL1.1
  have hss1 : StrsIs S1 ys (rowsOfL (seg t f l)) := hss1
  have at82 : BW (d + 186) gm_X1_doOrder 82 [some (aR (K 1)), some (aR m), some (aI f), some (aI l), none] [aI (b2i mo), aR q, aR (K 1)] S1 (ActX S K la (t, p, G) B 3100 21000 (fun _ => True) (if 40 < first + (l + 1 - f) then .inl 4 else .inr (t, l, setLs G 7 (G.1.take first ++ rowsOfL (seg t f l))))) := by
    obtain ⟨cap, xs, hob, _⟩ := hL1b.list (i := 7) (by decide)
    rw [e1, e2, ← hrl]
    refine CW.x3 rfl rfl (by first | exact Or.inl rfl | exact Or.inr (tagO (by assumption) (by rfl) (by rfl))) (by first | exact Or.inl (by decide) | exact Or.inr ⟨_, rfl, by assumption⟩) rfl rfl (L_hold (V := fun _ => True) hL1b hq1 hss1 hao hh40 (by omega) (by omega) rfl) ?_ ?_
    · rintro r S2 h2
      by_cases z : 40 < (if mo = true then G.1 else []).length + (rowsOfL (seg t f l)).length
      · rw [if_pos z] at h2
        obtain ⟨_, _, _, q9, e9, _⟩ := h2
        cases e9
      · rw [if_neg z] at h2 ⊢
        obtain ⟨e3, hL2, hX2, c, hF2⟩ := h2
        cases e3
        have hx2 := hL2.obx
        have hR2 := hL1.2.f6 hF2 (W6.one hob (oNe rfl) rfl)
        have hL2' : LO S2 K la (t, p, setLs G 7 ((if mo = true then G.1 else []) ++ rowsOfL (seg t f l))) (B + (29 + (l + 1 - f)) + 1 + (rowsOfL (seg t f l)).length) := ⟨hL2, hR2⟩
        (repeat (refine BW.pl rfl rfl ?_))
        first | (refine CW.putr rfl rfl (by assumption) rfl (by decide) (fun S3 hP3 h5 => ?_)) | (refine CW.puti rfl (by assumption) rfl (by decide) (by first | exact Or.inl ⟨rfl, by first | omega | decide | (constructor <;> first | omega | decide)⟩ | exact Or.inr (Or.inl ⟨rfl, by first | omega | decide | (constructor <;> first | omega | decide)⟩) | exact Or.inr (Or.inr (Or.inl ⟨rfl, by first | omega | decide | (constructor <;> first | omega | decide)⟩)) | exact Or.inr (Or.inr (Or.inr ⟨rfl, by first | omega | decide | (constructor <;> first | omega | decide)⟩))) (fun S3 hP3 h5 => ?_))
        have hL3 := hL2'.puP hP3 h5 rfl
        (iterate 1 (refine BW.pl rfl rfl ?_))
        exact BW.ret rfl rfl ⟨rfl, la, hL3.le (by omega) (by omega), (hX1.tr hX2).pu1 hP3 (by decide), LaE.rf⟩
    · intro E q9 S2 h2
      by_cases z : 40 < (if mo = true then G.1 else []).length + (rowsOfL (seg t f l)).length
      · rw [if_pos z] at h2 ⊢
        obtain ⟨S3, hL3, hX3, h9⟩ := h2
        exact ⟨S3, la, (t, p, setLs G 7 (if mo = true then G.1 else [])), hL3.le (by omega) (by omega), hX1.tr hX3, LaE.rf, Int.le_refl _, ⟨[], by rw [List.append_nil]; rfl⟩, h9⟩
      · rw [if_neg z] at h2
        cases h2.1
  (repeat (first | (refine BW.pl rfl rfl ?_) | (refine CW.geti rfl rfl (by assumption) rfl rfl (by assumption) (fun _ => ?_)) | (refine CW.getr rfl rfl (by assumption) rfl rfl (by assumption) ?_)))
  rcases hmo with ⟨ha, _, rfl⟩ | ⟨ha, _, rfl⟩
  · refine BW.br rfl rfl (by first | omega | decide | (constructor <;> first | omega | decide)) (fun w => by first | (exfalso; omega) | exact absurd w (by decide)) (fun w => ?_)
    (iterate 2 (refine BW.pl rfl rfl ?_))
    exact at82
  · refine BW.br rfl rfl (by first | omega | decide | (constructor <;> first | omega | decide)) (fun w => ?_) (fun w => by first | (exfalso; omega) | exact absurd w (by decide))
    (iterate 1 (refine BW.pl rfl rfl ?_))
    exact at82
theorem D_u (h : DoC S K la A B F zz m od) (hl : l ≤ A.1.length) : BW (d + 186) gm_X1_doOrder 87 [some (aR (K 1)), some (aR m), some (aI f), some (aI l), none] [] S (ActX S K la A B 3100 21000 (fun _ => True) (if A.2.2.1 = [] then .inl 5 else sIns A l A.2.2.1)) := by
  obtain ⟨hL, hK, hO, hw, -, hn, hB⟩ := h
  have h40 : A.1.length ≤ 40 := hw.2.1
  have hh40 : A.2.2.1.length ≤ 40 := hw.2.2.2.2.2.2.1.1
  have hx := hL.1.obx
  have e7 := hL.1.e7
  obtain ⟨cap, xs, hob, hss, hcap⟩ := hL.1.list (i := 7) (by decide)
  have hss : StrsIs S xs A.2.2.1 := hss
  have hxl := hss.1
  (repeat (first | (refine BW.pl rfl rfl ?_) | (refine CW.geti rfl rfl (by assumption) rfl rfl (by assumption) (fun _ => ?_)) | (refine CW.getr rfl rfl (by assumption) rfl rfl (by assumption) ?_)))
  refine CW.e1 rfl rfl (by first | exact Or.inl rfl | exact Or.inr (tagO (by assumption) (by rfl) (by rfl))) (by first | exact Or.inl (by decide) | exact Or.inr ⟨_, rfl, by assumption⟩) rfl (B_alEmp hob) ?_
  by_cases z : A.2.2.1 = []
  · have z2 : xs = [] := List.length_eq_zero_iff.mp (by rw [hxl, z]; rfl)
    rw [if_pos z, if_pos z2]
    refine BW.br rfl rfl (by first | omega | decide | (constructor <;> first | omega | decide)) (fun w => ?_) (fun w => by first | (exfalso; omega) | exact absurd w (by decide))
    (repeat (refine BW.pl rfl rfl ?_))
    refine CW.need rfl rfl (by decide) rfl (Or.inl rfl) (by decide) rfl (fun w => absurd w (by decide)) (fun _ r9 S9 hT9 => ?_)
    exact ⟨S, la, A, hL.1.le (by omega) (by omega), XF.rf, LaE.rf, Int.le_refl _, ⟨[], by simp⟩, hT9⟩
  · have z2 : ¬ xs = [] := fun w => z (List.length_eq_zero_iff.mp (by rw [← hxl, w]; rfl))
    rw [if_neg z, if_neg z2]
    refine BW.br rfl rfl (by first | omega | decide | (constructor <;> first | omega | decide)) (fun w => by first | (exfalso; omega) | exact absurd w (by decide)) (fun w => ?_)
    (repeat (refine BW.pl rfl rfl ?_))
    refine CW.need rfl rfl (by decide) rfl (Or.inr rfl) (by decide) rfl (fun _ => ?_) (fun w => absurd w (by decide))
    (repeat (first | (refine BW.pl rfl rfl ?_) | (refine CW.geti rfl rfl (by assumption) rfl rfl (by assumption) (fun _ => ?_)) | (refine CW.getr rfl rfl (by assumption) rfl rfl (by assumption) ?_)))
    refine CW.c1 rfl rfl (by first | exact Or.inl rfl | exact Or.inr (tagO (by assumption) (by rfl) (by rfl))) (by first | exact Or.inl (by decide) | exact Or.inr ⟨_, rfl, by assumption⟩) rfl (L_rowsOf hob hss (by omega)) ?_
    rintro r S1 ⟨a, rfl, ha0, hak, ha, hF1⟩
    have hL1 := hL.fr hF1 LoW.no (by omega)
    have hss1 := hss.fr hF1 NoS.no
    have hao := hL.1.ko ha0
    have hX1 : XF K (fun _ => False) S S1 := XF.rf.f0 hF1
    have hx1 := hL1.1.obx
    refine CW.x3 rfl rfl (by first | exact Or.inl rfl | exact Or.inr (tagO (by assumption) (by rfl) (by rfl))) (by first | exact Or.inl (by decide) | exact Or.inr ⟨_, rfl, by assumption⟩) rfl rfl (L_insert (b := l) hL1 hl (by omega) ha hss1 hao hn (by omega) (by omega) rfl) ?_ ?_
    · intro r S9 h2
      have h2 := (ActX.pre (A := A) (B := B) hX1 h2 rfl rfl).wk (V' := fun _ => True) (c' := 3100) (cx' := 21000) (fun _ _ => trivial) (by omega) (by omega) (by omega) (by omega)
      obtain rfl := h2.ret0
      (iterate 1 (refine BW.pl rfl rfl ?_))
      exact BW.ret rfl rfl h2
    · intro E q9 S9 h2
      exact (ActX.pre (A := A) (B := B) hX1 h2 rfl rfl).wk (V' := fun _ => True) (c' := 3100) (cx' := 21000) (fun _ _ => trivial) (by omega) (by omega) (by omega) (by omega)
/-- what p and n cost and answer -/
theorem D_p (h : DoC S K la A B F zz m od) (hac : oAct od = 112 ∨ oAct od = 110) (hf : 1 ≤ f) (hfl : f ≤ l) (hl : l ≤ A.1.length) : BW (d + 186) gm_X1_doOrder 203 [some (aR (K 1)), some (aR m), some (aI f), some (aI l), none] [] S (ActX S K la A B (20 + 480 * (l + 1 - f)) 21000 (fun _ => True) (prnR A.1 l A.2.2 (sPrint (decide (oAct od = 110)) f (rowsOfL (seg A.1 f l)) A.2.2.2.1))) := by
  obtain ⟨hm, kq, h48, h49⟩ := h.ord
  obtain ⟨hL, hK, hO, hw, -, hn, hB⟩ := h
  have h40 : A.1.length ≤ 40 := hw.2.1
  have hx := hL.1.obx
  (repeat (refine BW.pl rfl rfl ?_))
  refine CW.x4 rfl rfl (by first | exact Or.inl rfl | exact Or.inr (tagO (by assumption) (by rfl) (by rfl))) (by first | exact Or.inl (by decide) | exact Or.inr ⟨_, rfl, by assumption⟩) rfl rfl (L_linesP (f := f) (l := l) hL hK hO hac hf hfl hl h40 hw.txk.2.2.1 hw.2.2.2.2.2.2.2.1.1 (by omega) rfl rfl) ?_ ?_
  · intro r S9 h2
    have h2 := h2.wk (V' := fun _ => True) (c' := 20 + 480 * (l + 1 - f)) (cx' := 21000) (fun _ _ => trivial) (by omega) (by omega) (by omega) (by omega)
    obtain rfl := h2.ret0
    exact BW.ret rfl rfl h2
  · intro E q9 S9 h2
    exact h2.wk (V' := fun _ => True) (c' := 20 + 480 * (l + 1 - f)) (cx' := 21000) (fun _ _ => trivial) (by omega) (by omega) (by omega) (by omega)
end LD
