-- C
set_option maxRecDepth 100000
/-! LINEORDERS: doOrder, branch by branch -/
section JD
variable {d n m q i a y cap c1 c2 cap' p B c k f e l u w yp pp it lr : Nat} {S S' S0 S1 S2 : BS} {K : Nat → Nat} {la : Int → Nat} {G : BG} {A : St} {F V : Nat → Prop} {s s2 z z2 row : List Int} {v nn b1 x1 x2 x3 : Int} {dn rs t : List SLine} {x : SLine} {r : Option Nat} {Q : GO → BS → Prop} {od : SOrd0} {pt : SPat} {b g : MG} {o : Obj} {zz : Prop} {M : GMeth} {ls : GL} {st : List GV} {bk : Bool} {ad : SAdr}
theorem ActX.ret0 {R : Nat ⊕ St} {c cx : Nat} {r : Option GV} (h : ActX S K la A B c cx V R (.inl r) S') : r = none := by
  cases R with
  | inl w =>
    obtain ⟨_, _, _, _, _, _, _, _, q9, e9, _⟩ := h
    cases e9
  | inr A1 =>
    have := h.1
    cases this
    rfl
/-- what is known of an order that is done -/
def OdK (od : SOrd0) : Prop := (0 ≤ oNum od ∧ oNum od ≤ 99) ∧ ((oRows od).length ≤ 40 ∧ ∀ r ∈ oRows od, r.length ≤ 30) ∧ ChOk od ∧ (∀ a, oFst od = some a → AdK a) ∧ (∀ a, oSnd od = some a → AdK a) ∧ (∀ a, oTgt od = some a → AdK a)
theorem WF.txk (hw : WF A) : TxK A := ⟨hw.1, hw.2.1, fun q hq => (hw.2.2.2.1 q hq).2.1, hw.2.2.1⟩
/-- what every branch is told -/
def DoC (S : BS) (K : Nat → Nat) (la : Int → Nat) (A : St) (B : Nat) (F : Nat → Prop) (zz : Prop) (m : Nat) (od : SOrd0) : Prop := LO S K la A B ∧ (∀ m, F m → KoM K m) ∧ Or0 S F zz m od ∧ WF A ∧ OdK od ∧ A.2.2.2.2.2.2.1 < 1900000 ∧ B + 210000 ≤ 20000000
theorem DoC.rows (h : DoC S K la A B F zz m od) : Ob S m (oOwn 7) ∧ ∃ q2 xs cap, Fe S 50 m (some q2) ∧ Ob S q2 (oAl xs cap) ∧ StrsIs S xs (oRows od) := by
  obtain ⟨_, _, ⟨_, hm, -, -, -, -, ⟨q2, h50, _, ⟨-, ⟨xs, cap, h1, h2⟩, -⟩⟩, -⟩, _⟩ := h
  exact ⟨hm, q2, xs, cap, h50, h1, h2⟩
theorem D_a (h : DoC S K la A B F zz m od) (hl : l ≤ A.1.length) : BW (d + 186) gm_X1_doOrder 12 [some (aR (K 1)), some (aR m), some (aI f), some (aI l), none] [] S (ActX S K la A B 3100 21000 (fun _ => True) (sIns A l (oRows od))) := by
  obtain ⟨hm, q2, xs, cap, h50, hal, hss⟩ := h.rows
  obtain ⟨hL, hK, hO, hw, ⟨hnm, ⟨hr70, hr30⟩, _⟩, hn, hB⟩ := h
  have h40 : A.1.length ≤ 40 := hw.2.1
  have hx := hL.1.obx
  have hxl := hss.1
  (repeat (first | (refine BW.pl rfl rfl ?_) | (refine CW.geti rfl rfl (by assumption) rfl rfl (by assumption) (fun _ => ?_)) | (refine CW.getr rfl rfl (by assumption) rfl rfl (by assumption) ?_)))
  refine CW.c1 rfl rfl (by first | exact Or.inl rfl | exact Or.inr (tagO (by assumption) (by rfl) (by rfl))) (by first | exact Or.inl (by decide) | exact Or.inr ⟨_, rfl, by assumption⟩) rfl (L_rowsOf hal hss (by omega)) ?_
  rintro r S1 ⟨a, rfl, ha0, hak, ha, hF1⟩
  have hL1 := hL.fr hF1 LoW.no (by omega)
  have hss1 := hss.fr hF1 NoS.no
  have hao := hL.1.ko ha0
  have hX1 : XF K (fun _ => False) S S1 := XF.rf.f0 hF1
  have hx1 := hL1.1.obx
  refine CW.x3 rfl rfl (by first | exact Or.inl rfl | exact Or.inr (tagO (by assumption) (by rfl) (by rfl))) (by first | exact Or.inl (by decide) | exact Or.inr ⟨_, rfl, by assumption⟩) rfl rfl (L_insert (b := l) hL1 hl (by omega) ha hss1 hao hn (by omega) (by omega) rfl) ?_ ?_
  · intro r S9 h2
    have h2 := (ActX.pre (A := A) (B := B) hX1 h2 rfl rfl).wk (V' := fun _ => True) (c' := 3100) (cx' := 21000) (fun _ _ => trivial) (by omega) (by omega) (by omega) (by omega)
    obtain rfl := h2.ret0
    (iterate 1 (refine BW.pl rfl rfl ?_))
    exact BW.ret rfl rfl h2
  · intro E q9 S9 h2
    exact (ActX.pre (A := A) (B := B) hX1 h2 rfl rfl).wk (V' := fun _ => True) (c' := 3100) (cx' := 21000) (fun _ _ => trivial) (by omega) (by omega) (by omega) (by omega)
theorem D_i (h : DoC S K la A B F zz m od) (hf : 1 ≤ f) (hl : f ≤ A.1.length) : BW (d + 186) gm_X1_doOrder 19 [some (aR (K 1)), some (aR m), some (aI f), some (aI l), none] [] S (ActX S K la A B 3100 21000 (fun _ => True) (sIns A (f - 1) (oRows od))) := by
  obtain ⟨hm, q2, xs, cap, h50, hal, hss⟩ := h.rows
  obtain ⟨hL, hK, hO, hw, ⟨hnm, ⟨hr70, hr30⟩, _⟩, hn, hB⟩ := h
  have h40 : A.1.length ≤ 40 := hw.2.1
  have hx := hL.1.obx
  have hxl := hss.1
  (repeat (first | (refine BW.pl rfl rfl ?_) | (refine CW.geti rfl rfl (by assumption) rfl rfl (by assumption) (fun _ => ?_)) | (refine CW.getr rfl rfl (by assumption) rfl rfl (by assumption) ?_)))
  refine CW.c1 rfl rfl (by first | exact Or.inl rfl | exact Or.inr (tagO (by assumption) (by rfl) (by rfl))) (by first | exact Or.inl (by decide) | exact Or.inr ⟨_, rfl, by assumption⟩) rfl (L_rowsOf hal hss (by omega)) ?_
  rintro r S1 ⟨a, rfl, ha0, hak, ha, hF1⟩
  have hL1 := hL.fr hF1 LoW.no (by omega)
  have hss1 := hss.fr hF1 NoS.no
  have hao := hL.1.ko ha0
  have hX1 : XF K (fun _ => False) S S1 := XF.rf.f0 hF1
  have hx1 := hL1.1.obx
  refine CW.x3 rfl rfl (by first | exact Or.inl rfl | exact Or.inr (tagO (by assumption) (by rfl) (by rfl))) (by first | exact Or.inl (by decide) | exact Or.inr ⟨_, rfl, by assumption⟩) rfl rfl (L_insert (b := f - 1) hL1 (by omega) (by omega) ha hss1 hao hn (by omega) (by omega) (by omega)) ?_ ?_
  · intro r S9 h2
    have h2 := (ActX.pre (A := A) (B := B) hX1 h2 rfl rfl).wk (V' := fun _ => True) (c' := 3100) (cx' := 21000) (fun _ _ => trivial) (by omega) (by omega) (by omega) (by omega)
    obtain rfl := h2.ret0
    (iterate 1 (refine BW.pl rfl rfl ?_))
    exact BW.ret rfl rfl h2
  · intro E q9 S9 h2
    exact (ActX.pre (A := A) (B := B) hX1 h2 rfl rfl).wk (V' := fun _ => True) (c' := 3100) (cx' := 21000) (fun _ _ => trivial) (by omega) (by omega) (by omega) (by omega)
theorem D_c (h : DoC S K la A B F zz m od) (hf : 1 ≤ f) (hfl : f ≤ l + 1) (hl : l ≤ A.1.length) : BW (d + 186) gm_X1_doOrder 28 [some (aR (K 1)), some (aR m), some (aI f), some (aI l), none] [] S (ActX S K la A B 3100 21000 (fun _ => True) (sIns (sDel A f l) (f - 1) (oRows od))) := by
  obtain ⟨hm, q2, xs, cap, h50, hal, hss⟩ := h.rows
  obtain ⟨hL, hK, hO, hw, ⟨hnm, ⟨hr70, hr30⟩, _⟩, hn, hB⟩ := h
  have h40 : A.1.length ≤ 40 := hw.2.1
  have hx := hL.1.obx
  have hxl := hss.1
  (repeat (first | (refine BW.pl rfl rfl ?_) | (refine CW.geti rfl rfl (by assumption) rfl rfl (by assumption) (fun _ => ?_)) | (refine CW.getr rfl rfl (by assumption) rfl rfl (by assumption) ?_)))
  refine CW.c1 rfl rfl (by first | exact Or.inl rfl | exact Or.inr (tagO (by assumption) (by rfl) (by rfl))) (by first | exact Or.inl (by decide) | exact Or.inr ⟨_, rfl, by assumption⟩) rfl (L_rowsOf hal hss (by omega)) ?_
  rintro r S1 ⟨a, rfl, ha0, hak, ha, hF1⟩
  have hL1 := hL.fr hF1 LoW.no (by omega)
  have hss1 := hss.fr hF1 NoS.no
  have hao := hL.1.ko ha0
  have hX1 : XF K (fun _ => False) S S1 := XF.rf.f0 hF1
  have hx1 := hL1.1.obx
  refine CW.x4 rfl rfl (by first | exact Or.inl rfl | exact Or.inr (tagO (by assumption) (by rfl) (by rfl))) (by first | exact Or.inl (by decide) | exact Or.inr ⟨_, rfl, by assumption⟩) rfl rfl (L_replaceLines (f := f) (l := l) hL1 hf hfl hl (by omega) ha hss1 hao hn (by omega) (by omega) rfl rfl) ?_ ?_
  · intro r S9 h2
    have h2 := (ActX.pre (A := A) (B := B) hX1 h2 rfl rfl).wk (V' := fun _ => True) (c' := 3100) (cx' := 21000) (fun _ _ => trivial) (by omega) (by omega) (by omega) (by omega)
    obtain rfl := h2.ret0
    (iterate 1 (refine BW.pl rfl rfl ?_))
    exact BW.ret rfl rfl h2
  · intro E q9 S9 h2
    exact (ActX.pre (A := A) (B := B) hX1 h2 rfl rfl).wk (V' := fun _ => True) (c' := 3100) (cx' := 21000) (fun _ _ => trivial) (by omega) (by omega) (by omega) (by omega)
theorem D_j (h : DoC S K la A B F zz m od) (hf : 1 ≤ f) (hfl : f ≤ l) (hl : l ≤ A.1.length) : BW (d + 186) gm_X1_doOrder 48 [some (aR (K 1)), some (aR m), some (aI f), some (aI l), none] [] S (ActX S K la A B 3100 21000 (fun _ => True) (sJoin A f l)) := by
  obtain ⟨hL, hK, hO, hw, ⟨hnm, ⟨hr70, hr30⟩, hch, had1, had2, had3⟩, hn, hB⟩ := h
  have h40 : A.1.length ≤ 40 := hw.2.1
  have htx := hw.txk
  obtain ⟨f0, hm, h45, h46, h47, h48, ⟨q2, h50, fq2, ⟨h49, -, ⟨r51, h51, h51a⟩, h52, h53, h54, h55⟩⟩, -⟩ := id hO
  have h48 : Fi S 48 m (oAct od) := h48
  have h49 : Fi S 49 m (oNum od) := h49
  have kq := hK _ f0
  have hx := hL.1.obx
  (repeat (refine BW.pl rfl rfl ?_))
  refine CW.x3 rfl rfl (by first | exact Or.inl rfl | exact Or.inr (tagO (by assumption) (by rfl) (by rfl))) (by first | exact Or.inl (by decide) | exact Or.inr ⟨_, rfl, by assumption⟩) rfl rfl (L_join (f := f) (l := l) hL hf hfl hl h40 hw.2.2.1 htx.2.2.1 (by omega) rfl rfl) ?_ ?_
  · intro r S9 h2
    have h2 := h2.wk (V' := fun _ => True) (c' := 3100) (cx' := 21000) (fun _ _ => trivial) (by omega) (by omega) (by omega) (by omega)
    obtain rfl := h2.ret0
    (iterate 1 (refine BW.pl rfl rfl ?_))
    exact BW.ret rfl rfl h2
  · intro E q9 S9 h2
    exact h2.wk (V' := fun _ => True) (c' := 3100) (cx' := 21000) (fun _ _ => trivial) (by omega) (by omega) (by omega) (by omega)
theorem D_v (h : DoC S K la A B F zz m od) (hf : 1 ≤ f) (hfl : f ≤ l) (hl : l ≤ A.1.length) : BW (d + 186) gm_X1_doOrder 53 [some (aR (K 1)), some (aR m), some (aI f), some (aI l), none] [] S (ActX S K la A B 3100 21000 (fun _ => True) (sPart A (oNum od).toNat f l)) := by
  obtain ⟨hL, hK, hO, hw, ⟨hnm, ⟨hr70, hr30⟩, hch, had1, had2, had3⟩, hn, hB⟩ := h
  have h40 : A.1.length ≤ 40 := hw.2.1
  have htx := hw.txk
  obtain ⟨f0, hm, h45, h46, h47, h48, ⟨q2, h50, fq2, ⟨h49, -, ⟨r51, h51, h51a⟩, h52, h53, h54, h55⟩⟩, -⟩ := id hO
  have h48 : Fi S 48 m (oAct od) := h48
  have h49 : Fi S 49 m (oNum od) := h49
  have kq := hK _ f0
  have hx := hL.1.obx
  (repeat (first | (refine BW.pl rfl rfl ?_) | (refine CW.geti rfl rfl (by assumption) rfl rfl (by assumption) (fun _ => ?_)) | (refine CW.getr rfl rfl (by assumption) rfl rfl (by assumption) ?_)))
  refine CW.x4 rfl rfl (by first | exact Or.inl rfl | exact Or.inr (tagO (by assumption) (by rfl) (by rfl))) (by first | exact Or.inl (by decide) | exact Or.inr ⟨_, rfl, by assumption⟩) rfl rfl (L_part (size := (oNum od).toNat) (f := f) (l := l) hL hf (by omega) hl h40 hw.2.2.1 htx.2.2.1 hn (by omega) (by omega) (by omega) rfl rfl) ?_ ?_
  · intro r S9 h2
    have h2 := h2.wk (V' := fun _ => True) (c' := 3100) (cx' := 21000) (fun _ _ => trivial) (by omega) (by omega) (by omega) (by omega)
    obtain rfl := h2.ret0
    (iterate 1 (refine BW.pl rfl rfl ?_))
    exact BW.ret rfl rfl h2
  · intro E q9 S9 h2
    exact h2.wk (V' := fun _ => True) (c' := 3100) (cx' := 21000) (fun _ _ => trivial) (by omega) (by omega) (by omega) (by omega)
theorem D_l (h : DoC S K la A B F zz m od) (hf : 1 ≤ f) (hfl : f ≤ l) (hl : l ≤ A.1.length) : BW (d + 186) gm_X1_doOrder 60 [some (aR (K 1)), some (aR m), some (aI f), some (aI l), none] [] S (ActX S K la A B 3100 21000 (fun _ => True) (.inr (sLeave A f l))) := by
  obtain ⟨hL, hK, hO, hw, ⟨hnm, ⟨hr70, hr30⟩, hch, had1, had2, had3⟩, hn, hB⟩ := h
  have h40 : A.1.length ≤ 40 := hw.2.1
  have htx := hw.txk
  obtain ⟨f0, hm, h45, h46, h47, h48, ⟨q2, h50, fq2, ⟨h49, -, ⟨r51, h51, h51a⟩, h52, h53, h54, h55⟩⟩, -⟩ := id hO
  have h48 : Fi S 48 m (oAct od) := h48
  have h49 : Fi S 49 m (oNum od) := h49
  have kq := hK _ f0
  have hx := hL.1.obx
  (repeat (refine BW.pl rfl rfl ?_))
  refine CW.c3 rfl rfl (by first | exact Or.inl rfl | exact Or.inr (tagO (by assumption) (by rfl) (by rfl))) (by first | exact Or.inl (by decide) | exact Or.inr ⟨_, rfl, by assumption⟩) rfl (L_leaveOut (V := fun _ => True) (f := f) (l := l) hL hf hfl hl (by omega) (by omega) rfl rfl) ?_
  rintro r S2 ⟨rfl, hL2, hX2⟩
  (iterate 1 (refine BW.pl rfl rfl ?_))
  exact BW.ret rfl rfl ⟨rfl, la, hL2.le (by omega) (by omega), hX2, LaE.rf⟩
theorem D_o (h : DoC S K la A B F zz m od) (hf : 1 ≤ f) (hfl : f ≤ l) (hl : l ≤ A.1.length) (hac : oAct od = 111 ∨ oAct od = 79) : BW (d + 186) gm_X1_doOrder 129 [some (aR (K 1)), some (aR m), some (aI f), some (aI l), none] [] S (ActX S K la A B 3100 21000 (fun _ => True) (.inr (sSort A od f l))) := by
  obtain ⟨hL, hK, hO, hw, ⟨hnm, ⟨hr70, hr30⟩, hch, had1, had2, had3⟩, hn, hB⟩ := h
  have h40 : A.1.length ≤ 40 := hw.2.1
  have htx := hw.txk
  obtain ⟨f0, hm, h45, h46, h47, h48, ⟨q2, h50, fq2, ⟨h49, -, ⟨r51, h51, h51a⟩, h52, h53, h54, h55⟩⟩, -⟩ := id hO
  have h48 : Fi S 48 m (oAct od) := h48
  have h49 : Fi S 49 m (oNum od) := h49
  have kq := hK _ f0
  have hx := hL.1.obx
  (repeat (refine BW.pl rfl rfl ?_))
  refine CW.c4 rfl rfl (by first | exact Or.inl rfl | exact Or.inr (tagO (by assumption) (by rfl) (by rfl))) (by first | exact Or.inl (by decide) | exact Or.inr ⟨_, rfl, by assumption⟩) rfl (L_sort (V := fun _ => True) (f := f) (l := l) hL hf hfl hl (by omega) hm kq h48 h49 hac hnm (by omega) rfl rfl) ?_
  rintro r S2 ⟨rfl, hL2, hX2⟩
  (iterate 1 (refine BW.pl rfl rfl ?_))
  exact BW.ret rfl rfl ⟨rfl, la, hL2.le (by omega) (by omega), hX2, LaE.rf⟩
theorem D_z (h : DoC S K la A B F zz m od) (hf : 1 ≤ f) (hfl : f ≤ l) (hl : l ≤ A.1.length) (hac : oAct od = 115 ∨ oAct od = 122 ∨ oAct od = 62 ∨ oAct od = 60) : BW (d + 186) gm_X1_doOrder 203 [some (aR (K 1)), some (aR m), some (aI f), some (aI l), none] [] S (ActX S K la A B 3100 21000 (fun _ => True) (sChange A od f l)) := by
  obtain ⟨hL, hK, hO, hw, ⟨hnm, ⟨hr70, hr30⟩, hch, had1, had2, had3⟩, hn, hB⟩ := h
  have h40 : A.1.length ≤ 40 := hw.2.1
  have htx := hw.txk
  obtain ⟨f0, hm, h45, h46, h47, h48, ⟨q2, h50, fq2, ⟨h49, -, ⟨r51, h51, h51a⟩, h52, h53, h54, h55⟩⟩, -⟩ := id hO
  have h48 : Fi S 48 m (oAct od) := h48
  have h49 : Fi S 49 m (oNum od) := h49
  have kq := hK _ f0
  have hx := hL.1.obx
  (repeat (refine BW.pl rfl rfl ?_))
  refine CW.x4 rfl rfl (by first | exact Or.inl rfl | exact Or.inr (tagO (by assumption) (by rfl) (by rfl))) (by first | exact Or.inl (by decide) | exact Or.inr ⟨_, rfl, by assumption⟩) rfl rfl (L_linesC (f := f) (l := l) hL hK hO hch hac hf hfl hl h40 hw.2.2.1 htx.2.2.1 (by omega) rfl rfl) ?_ ?_
  · intro r S9 h2
    have h2 := h2.wk (V' := fun _ => True) (c' := 3100) (cx' := 21000) (fun _ _ => trivial) (by omega) (by omega) (by omega) (by omega)
    obtain rfl := h2.ret0
    exact BW.ret rfl rfl h2
  · intro E q9 S9 h2
    exact h2.wk (V' := fun _ => True) (c' := 3100) (cx' := 21000) (fun _ _ => trivial) (by omega) (by omega) (by omega) (by omega)
end JD
