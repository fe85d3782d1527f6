-- C
set_option maxRecDepth 100000
/-! LINEORDERS: doOrder, more branches: r w e -/
section MD
variable {d n m q i a y cap c1 c2 cap' p p' B c k f e l u w yp pp it lr j first : Nat} {S S' S0 S1 S2 : BS} {K : Nat → Nat} {la : Int → Nat} {G : BG} {A : St} {F V : Nat → Prop} {s s2 z z2 row : List Int} {v nn b1 x1 x2 x3 : Int} {dn rs t : List SLine} {x : SLine} {r : Option Nat} {Q : GO → BS → Prop} {od : SOrd0} {pt : SPat} {b g : MG} {o : Obj} {zz : Prop} {M : GMeth} {ls : GL} {st : List GV} {bk mo : Bool} {ad tg : SAdr} {xs : List (Option Nat)} {rows : List (List Int)} {ids : List Int}
theorem fil_ix (hj : j < 4) : 20 + j ∈ lIx := by unfold lIx; simp; omega
theorem fil_ls (hj : j < 4) : lsA G (20 + j) = G.2.2.1 j := by unfold lsA; rw [if_neg (by omega), if_neg (by omega), Nat.add_sub_cancel_left]
theorem fil_set (hj : j < 4) : setLs G (20 + j) rows = (G.1, G.2.1, fup G.2.2.1 j rows, G.2.2.2) := by unfold setLs; rw [if_neg (by omega), if_neg (by omega), Nat.add_sub_cancel_left]
theorem fil_get (hj : j < 4) : [some (K 20), some (K 21), some (K 22), some (K 23)].getD j none = some (K (20 + j)) := by
  have : j = 0 ∨ j = 1 ∨ j = 2 ∨ j = 3 := by omega
  rcases this with rfl | rfl | rfl | rfl <;> rfl
theorem LB.files (h : LB S K la ids p G B) : Fe S 9 (K 1) (some (K 9)) ∧ ∃ cap, Ob S (K 9) (oAl [some (K 20), some (K 21), some (K 22), some (K 23)] cap) := ⟨h.e9, h.1.2.2.2.2⟩
theorem LB.file (h : LB S K la ids p G B) (hj : j < 4) : ∃ cap xs, Ob S (K (20 + j)) (oAl xs cap) ∧ StrsIs S xs (G.2.2.1 j) ∧ cap ≤ 300 := by
  obtain ⟨cap, xs, h1, h2, h3⟩ := h.list (i := 20 + j) (fil_ix hj)
  rw [fil_ls hj] at h2
  exact ⟨cap, xs, h1, h2, h3⟩
theorem D_r (h : DoC S K la A B F zz m od) (h4 : oNum od < 4) (hl : l ≤ A.1.length) : BW (d + 186) gm_X1_doOrder 166 [some (aR (K 1)), some (aR m), some (aI f), some (aI l), none] [] S (ActX S K la A B 3100 21000 (fun _ => True) (if A.2.2.2.2.1 (oNum od).toNat = [] then .inr A else sIns A l (A.2.2.2.2.1 (oNum od).toNat))) := by
  obtain ⟨hm, kq, h48, h49⟩ := h.ord
  obtain ⟨hL, hK, hO, hw, ⟨hnm, -⟩, hn, hB⟩ := h
  have h40 : A.1.length ≤ 40 := hw.2.1
  have hx := hL.1.obx
  obtain ⟨j, hj⟩ : ∃ j : Nat, oNum od = j := ⟨(oNum od).toNat, by omega⟩
  have ej : (oNum od).toNat = j := by omega
  rw [ej]
  rw [hj] at h49
  have hj4 : j < 4 := by omega
  have hf40 := (hw.2.2.2.2.2.2.2.2 j).1
  obtain ⟨e9, cf, hfs⟩ := hL.1.files
  obtain ⟨cap, xs, hob, hss, hcap⟩ := hL.1.file hj4
  have hss : StrsIs S xs (A.2.2.2.2.1 j) := hss
  have hxl := hss.1
  (repeat (first | (refine BW.pl rfl rfl ?_) | (refine CW.geti rfl rfl (by assumption) rfl rfl (by assumption) (fun _ => ?_)) | (refine CW.getr rfl rfl (by assumption) rfl rfl (by assumption) ?_)))
  refine CW.e2 rfl rfl (by first | exact Or.inl rfl | exact Or.inr (tagO (by assumption) (by rfl) (by rfl))) (by first | exact Or.inl (by decide) | exact Or.inr ⟨_, rfl, by assumption⟩) rfl (C_alGet hfs (show j < 4 from hj4) (fil_get hj4) rfl) ?_
  refine CW.castS rfl hob rfl rfl rfl ?_
  refine CW.e1 rfl rfl (by first | exact Or.inl rfl | exact Or.inr (tagO (by assumption) (by rfl) (by rfl))) (by first | exact Or.inl (by decide) | exact Or.inr ⟨_, rfl, by assumption⟩) rfl (B_alEmp hob) ?_
  by_cases z : A.2.2.2.2.1 j = []
  · have z2 : xs = [] := List.length_eq_zero_iff.mp (by rw [hxl, z]; rfl)
    rw [if_pos z, if_pos z2]
    refine BW.br rfl rfl (by first | omega | decide | (constructor <;> first | omega | decide)) (fun w => ?_) (fun w => by first | (exfalso; omega) | exact absurd w (by decide))
    exact BW.ret rfl rfl ⟨rfl, la, hL.le (by omega) (by omega), XF.rf, LaE.rf⟩
  · have z2 : ¬ xs = [] := fun w => z (List.length_eq_zero_iff.mp (by rw [← hxl, w]; rfl))
    rw [if_neg z, if_neg z2]
    refine BW.br rfl rfl (by first | omega | decide | (constructor <;> first | omega | decide)) (fun w => by first | (exfalso; omega) | exact absurd w (by decide)) (fun w => ?_)
    (repeat (first | (refine BW.pl rfl rfl ?_) | (refine CW.geti rfl rfl (by assumption) rfl rfl (by assumption) (fun _ => ?_)) | (refine CW.getr rfl rfl (by assumption) rfl rfl (by assumption) ?_)))
    refine CW.e2 rfl rfl (by first | exact Or.inl rfl | exact Or.inr (tagO (by assumption) (by rfl) (by rfl))) (by first | exact Or.inl (by decide) | exact Or.inr ⟨_, rfl, by assumption⟩) rfl (C_alGet hfs (show j < 4 from hj4) (fil_get hj4) rfl) ?_
    refine CW.castS rfl hob rfl rfl rfl ?_
    refine CW.c1 rfl rfl (by first | exact Or.inl rfl | exact Or.inr (tagO (by assumption) (by rfl) (by rfl))) (by first | exact Or.inl (by decide) | exact Or.inr ⟨_, rfl, by assumption⟩) rfl (L_rowsOf hob hss (by omega)) ?_
    rintro r S1 ⟨a, rfl, ha0, hak, ha, hF1⟩
    have hL1 := hL.fr hF1 LoW.no (by omega)
    have hss1 := hss.fr hF1 NoS.no
    have hao := hL.1.ko ha0
    have hX1 : XF K (fun _ => False) S S1 := XF.rf.f0 hF1
    have hx1 := hL1.1.obx
    refine CW.x3 rfl rfl (by first | exact Or.inl rfl | exact Or.inr (tagO (by assumption) (by rfl) (by rfl))) (by first | exact Or.inl (by decide) | exact Or.inr ⟨_, rfl, by assumption⟩) rfl rfl (L_insert (b := l) hL1 hl (by omega) ha hss1 hao hn (by omega) (by omega) rfl) ?_ ?_
    · intro r S9 h2
      have h2 := (ActX.pre (A := A) (B := B) hX1 h2 rfl rfl).wk (V' := fun _ => True) (c' := 3100) (cx' := 21000) (fun _ _ => trivial) (by omega) (by omega) (by omega) (by omega)
      obtain rfl := h2.ret0
      (iterate 1 (refine BW.pl rfl rfl ?_))
      exact BW.ret rfl rfl h2
    · intro E q9 S9 h2
      exact (ActX.pre (A := A) (B := B) hX1 h2 rfl rfl).wk (V' := fun _ => True) (c' := 3100) (cx' := 21000) (fun _ _ => trivial) (by omega) (by omega) (by omega) (by omega)
def wriR (A : St) (j f l : Nat) : Nat ⊕ St := .inr (A.1, A.2.1, A.2.2.1, A.2.2.2.1, fup A.2.2.2.2.1 j (rowsOfL (seg A.1 f l)), A.2.2.2.2.2)
theorem D_w (h : DoC S K la A B F zz m od) (h4 : oNum od < 4) (hf : 1 ≤ f) (hfl : f ≤ l + 1) (hl : l ≤ A.1.length) : BW (d + 186) gm_X1_doOrder 185 [some (aR (K 1)), some (aR m), some (aI f), some (aI l), none] [] S (ActX S K la A B 3100 21000 (fun _ => True) (wriR A (oNum od).toNat f l)) := by
  obtain ⟨hm, kq, h48, h49⟩ := h.ord
  obtain ⟨hL, hK, hO, hw, ⟨hnm, -⟩, hn, hB⟩ := h
  have h40 : A.1.length ≤ 40 := hw.2.1
  have hx := hL.1.obx
  obtain ⟨j, hj⟩ : ∃ j : Nat, oNum od = j := ⟨(oNum od).toNat, by omega⟩
  have ej : (oNum od).toNat = j := by omega
  rw [ej]
  rw [hj] at h49
  have hj4 : j < 4 := by omega
  have hsl := seg_len (t := A.1) hl hf
  have hrl : (rowsOfL (seg A.1 f l)).length = l + 1 - f := by unfold rowsOfL; rw [List.length_map, hsl]
  obtain ⟨e9, cf, hfs⟩ := hL.1.files
  obtain ⟨cap0, xs0, hob0, -, -⟩ := hL.1.file hj4
  (repeat (first | (refine BW.pl rfl rfl ?_) | (refine CW.geti rfl rfl (by assumption) rfl rfl (by assumption) (fun _ => ?_)) | (refine CW.getr rfl rfl (by assumption) rfl rfl (by assumption) ?_)))
  refine CW.e2 rfl rfl (by first | exact Or.inl rfl | exact Or.inr (tagO (by assumption) (by rfl) (by rfl))) (by first | exact Or.inl (by decide) | exact Or.inr ⟨_, rfl, by assumption⟩) rfl (C_alGet hfs (show j < 4 from hj4) (fil_get hj4) rfl) ?_
  refine CW.castS rfl hob0 rfl rfl rfl ?_
  (repeat (refine BW.pl rfl rfl ?_))
  refine CW.c3 rfl rfl (by first | exact Or.inl rfl | exact Or.inr (tagO (by assumption) (by rfl) (by rfl))) (by first | exact Or.inl (by decide) | exact Or.inr ⟨_, rfl, by assumption⟩) rfl (L_rowsIn (f := f) (l := l) hL hf hfl hl (by omega) (by omega) rfl rfl) ?_
  rintro r S1 ⟨q, ys, rfl, hq0, hq1, hss1, hF1⟩
  have hL1 := hL.fr hF1 LoW.no (by omega)
  have hX1 : XF K (fun _ => True) S S1 := XF.rf.f0 hF1
  have hyl := hss1.1
  have ht1 := hL1.1.tt
  obtain ⟨cap, xs, hob, _, hcap⟩ := hL1.1.file hj4
  refine CW.c2 rfl rfl (by first | exact Or.inl rfl | exact Or.inr (tagO (by assumption) (by rfl) (by rfl))) (by first | exact Or.inl (by decide) | exact Or.inr ⟨_, rfl, by assumption⟩) rfl (L_lay hob hq1 hss1 (by omega) (by omega) (by omega)) ?_
  rintro r S2 ⟨rfl, cap', hob2, hF2, hc1, hc2⟩
  have hss2 := hss1.fr hF2 (NoS.one hob rfl)
  have hL2 := hL1.1.setList (i := 20 + j) (fil_ix hj4) hob hF2 LoX.k ⟨_, hob2, hss2, by omega⟩ hc1 (by omega)
  rw [fil_set hj4] at hL2
  (iterate 1 (refine BW.pl rfl rfl ?_))
  exact BW.ret rfl rfl ⟨rfl, la, ⟨hL2.le (by omega) (by omega), hL1.2.f6 hF2 (W6.one hob (oNe rfl) rfl)⟩, hX1.f1 hF2 (fun _ => hL1.1.wk (by have := fil_ix hj4; revert this; unfold lIx kCh; simp; omega)), LaE.rf⟩
theorem D_e (h : DoC S K la A B F zz m od) (hf : 1 ≤ f) (hfl : f ≤ l) (hl : l ≤ A.1.length) : BW (d + 186) gm_X1_doOrder 103 [some (aR (K 1)), some (aR m), some (aI f), some (aI l), none] [] S (ActX S K la A B 3100 21000 (fun _ => True) (sXch A f l)) := by
  obtain ⟨hL, hK, hO, hw, -, hn, hB⟩ := h
  have h40 : A.1.length ≤ 40 := hw.2.1
  have hh40 : A.2.2.1.length ≤ 40 := hw.2.2.2.2.2.2.1.1
  have hx := hL.1.obx
  have e7 := hL.1.e7
  have hsl := seg_len (t := A.1) hl hf
  have hrl : (rowsOfL (seg A.1 f l)).length = l + 1 - f := by unfold rowsOfL; rw [List.length_map, hsl]
  obtain ⟨cap0, xs, hob, hss, hcap⟩ := hL.1.list (i := 7) (by decide)
  have hss : StrsIs S xs A.2.2.1 := hss
  have hxl := hss.1
  have eS : sXch A f l = if A.2.2.1 = [] then .inl 5 else match sIns (sDel A f l) (f - 1) A.2.2.1 with
    | .inl w => .inl w
    | .inr A1 => .inr (A1.1, A1.2.1, setLs A1.2.2 7 (rowsOfL (seg A.1 f l))) := by
    unfold sXch
    by_cases z : A.2.2.1 = []
    · rw [if_pos z, if_pos z]
    · rw [if_neg z, if_neg z]
      cases sIns (sDel A f l) (f - 1) A.2.2.1 with
      | inl w => rfl
      | inr A1 => rfl
  rw [eS]
  (repeat (first | (refine BW.pl rfl rfl ?_) | (refine CW.geti rfl rfl (by assumption) rfl rfl (by assumption) (fun _ => ?_)) | (refine CW.getr rfl rfl (by assumption) rfl rfl (by assumption) ?_)))
  refine CW.e1 rfl rfl (by first | exact Or.inl rfl | exact Or.inr (tagO (by assumption) (by rfl) (by rfl))) (by first | exact Or.inl (by decide) | exact Or.inr ⟨_, rfl, by assumption⟩) rfl (B_alEmp hob) ?_
  by_cases z : A.2.2.1 = []
  · have z2 : xs = [] := List.length_eq_zero_iff.mp (by rw [hxl, z]; rfl)
    rw [if_pos z, if_pos z2]
    refine BW.br rfl rfl (by first | omega | decide | (constructor <;> first | omega | decide)) (fun w => ?_) (fun w => by first | (exfalso; omega) | exact absurd w (by decide))
    (repeat (refine BW.pl rfl rfl ?_))
    refine CW.need rfl rfl (by decide) rfl (Or.inl rfl) (by decide) rfl (fun w => absurd w (by decide)) (fun _ r9 S9 hT9 => ?_)
    exact ⟨S, la, A, hL.1.le (by omega) (by omega), XF.rf, LaE.rf, Int.le_refl _, ⟨[], by simp⟩, hT9⟩
  · have z2 : ¬ xs = [] := fun w => z (List.length_eq_zero_iff.mp (by rw [← hxl, w]; rfl))
    rw [if_neg z, if_neg z2]
    refine BW.br rfl rfl (by first | omega | decide | (constructor <;> first | omega | decide)) (fun w => by first | (exfalso; omega) | exact absurd w (by decide)) (fun w => ?_)
    (repeat (refine BW.pl rfl rfl ?_))
    refine CW.need rfl rfl (by decide) rfl (Or.inr rfl) (by decide) rfl (fun _ => ?_) (fun w => absurd w (by decide))
    (repeat (refine BW.pl rfl rfl ?_))
    refine CW.c3 rfl rfl (by first | exact Or.inl rfl | exact Or.inr (tagO (by assumption) (by rfl) (by rfl))) (by first | exact Or.inl (by decide) | exact Or.inr ⟨_, rfl, by assumption⟩) rfl (L_rowsIn (f := f) (l := l) hL hf (by omega) hl (by omega) (by omega) rfl rfl) ?_
    rintro r S1 ⟨q, ys, rfl, hq0, hq1, hssq, hF1⟩
    have hL1 := hL.fr hF1 LoW.no (by omega)
    have hqo := hL.1.ko hq0
    have hX1 : XF K (fun _ => True) S S1 := XF.rf.f0 hF1
    have hob1 := hob.fr hF1 ⟨oNe rfl, Sep.no⟩
    have hss1 := hss.fr hF1 NoS.no
    have hx1 := hL1.1.obx
    have e71 := hL1.1.e7
    (repeat (first | (refine BW.pl rfl rfl ?_) | (refine CW.geti rfl rfl (by assumption) rfl rfl (by assumption) (fun _ => ?_)) | (refine CW.getr rfl rfl (by assumption) rfl rfl (by assumption) ?_)))
    refine CW.c1 rfl rfl (by first | exact Or.inl rfl | exact Or.inr (tagO (by assumption) (by rfl) (by rfl))) (by first | exact Or.inl (by decide) | exact Or.inr ⟨_, rfl, by assumption⟩) rfl (L_rowsOf hob1 hss1 (by omega)) ?_
    rintro r S2 ⟨a, rfl, ha0, hak, ha, hF2⟩
    have hL2 := hL1.fr hF2 LoW.no (by omega)
    have hss2 := hss1.fr hF2 NoS.no
    have hao := hL1.1.ko ha0
    have hX2 := hX1.f0 hF2
    have hq2 := hq1.fr hF2 ⟨oNe rfl, Sep.no⟩
    have hssq2 := hssq.fr hF2 NoS.no
    have hx2 := hL2.1.obx
    have hyl := hssq2.1
    have hL2 : LO S2 K la A (B + (29 + (l + 1 - f) + (12 + xs.length))) := by rw [← Nat.add_assoc]; exact hL2
    refine CW.x4 rfl rfl (by first | exact Or.inl rfl | exact Or.inr (tagO (by assumption) (by rfl) (by rfl))) (by first | exact Or.inl (by decide) | exact Or.inr ⟨_, rfl, by assumption⟩) rfl rfl (L_replaceLines (f := f) (l := l) hL2 hf (by omega) hl (by omega) ha hss2 hao hn (by omega) (by omega) rfl rfl) ?_ ?_
    · intro r S3 h3
      obtain rfl := h3.ret0
      revert h3
      cases sIns (sDel A f l) (f - 1) A.2.2.1 with
      | inl w =>
        rintro ⟨_, _, _, _, _, _, _, _, q9, e9, _⟩
        cases e9
      | inr A1 =>
        rintro ⟨-, la1, hL3, hX23, hE3⟩
        have hx3 := hL3.1.obx
        have e73 := hL3.1.e7
        have hq3 := (hX23.ob hq2 hqo (oNe rfl) rfl).1
        have hssq3 := hX23.strs hssq2
        have ht3 := hL3.1.tt
        obtain ⟨cap3, xs3, hob3, _, hcap3⟩ := hL3.1.list (i := 7) (by decide)
        (repeat (first | (refine BW.pl rfl rfl ?_) | (refine CW.geti rfl rfl (by assumption) rfl rfl (by assumption) (fun _ => ?_)) | (refine CW.getr rfl rfl (by assumption) rfl rfl (by assumption) ?_)))
        refine CW.c2 rfl rfl (by first | exact Or.inl rfl | exact Or.inr (tagO (by assumption) (by rfl) (by rfl))) (by first | exact Or.inl (by decide) | exact Or.inr ⟨_, rfl, by assumption⟩) rfl (L_lay hob3 hq3 hssq3 (by omega) (by omega) (by omega)) ?_
        rintro r S4 ⟨rfl, cap', hob4, hF4, hc1, hc2⟩
        have hss4 := hssq3.fr hF4 (NoS.one hob3 rfl)
        have hL4 := hL3.1.setList (i := 7) (by decide) hob3 hF4 LoX.k ⟨_, hob4, hss4, by omega⟩ hc1 (by omega)
        (iterate 1 (refine BW.pl rfl rfl ?_))
        exact BW.ret rfl rfl ⟨rfl, la1, ⟨hL4.le (by omega) (by omega), hL3.2.f6 hF4 (W6.one hob3 (oNe rfl) rfl)⟩, (hX2.tr (hX23.mono (fun _ _ => trivial))).f1 hF4 (fun _ => hL3.1.wk (by decide)), hE3⟩
    · intro E q9 S3 h3
      have h3 := (ActX.pre (A := A) (B := B) hX2 (h3.wk (V' := fun _ => True) (fun _ z => z.elim) (Nat.le_refl _) (Nat.le_refl _) (by omega) (by omega)) rfl rfl).wk (V' := fun _ => True) (c' := 3100) (cx' := 21000) (fun _ _ => trivial) (by omega) (by omega) (by omega) (by omega)
      revert h3
      cases sIns (sDel A f l) (f - 1) A.2.2.1 with
      | inl w => exact fun h3 => h3
      | inr A1 => exact fun h3 => by cases h3.1
end MD
