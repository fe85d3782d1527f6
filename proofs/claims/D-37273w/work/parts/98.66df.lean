-- C
set_option maxRecDepth 100000
/-! LINEORDERS: differ, pairOf, isSound -/
section DF
variable {d n m q i e y cap c k j pl B B' p F0 cl re l W : Nat} {S S' S0 S1 S2 S3 : BS} {K : Nat → Nat} {la la' : Int → Nat} {A A1 : St} {F V : Nat → Prop} {v nn x1 x z k9 : Int} {r : Option Nat} {t : List SLine} {xs ws : List (Option Nat)} {ds : List SDeed} {tp s : List Int} {sc : Nat → Option (List Int)} {rows a b : List (List Int)} {us vs : List Int} {w : PW}
def prI (ps : List (Nat × Nat)) (k : Nat) : Nat := if prOf ps k = 0 then 0 else 1
def prT (ps : List (Nat × Nat)) (n j : Nat) : Nat := ((List.range' j (n - j)).map (prI ps)).sum
theorem prT_s {ps : List (Nat × Nat)} (h : j < n) : prT ps n j = prI ps j + prT ps n (j + 1) := by
  unfold prT
  rw [show n - j = (n - (j + 1)) + 1 by omega, List.range'_succ, List.map_cons, List.sum_cons]
theorem prT_e {ps : List (Nat × Nat)} (h : n ≤ j) : prT ps n j = 0 := by
  unfold prT
  rw [show n - j = 0 by omega]
  rfl
theorem prT_le {ps : List (Nat × Nat)} : ∀ (m j : Nat), n - j ≤ m → prT ps n j ≤ m := by
  intro m
  induction m with
  | zero => intro j h; rw [prT_e (by omega)]; exact Nat.le_refl _
  | succ m ih =>
    intro j h
    by_cases z : j < n
    · have := ih (j + 1) (by omega)
      rw [prT_s z]
      unfold prI
      split <;> omega
    · rw [prT_e (by omega)]; exact Nat.zero_le _
theorem prT_0 : prT (prs a b) a.length 0 = (prs a b).length := prF_cnt (a := a) (b := b) (a.length + b.length) 0 0
theorem L_differ (hL : LO S K la A B) (hw : WF A) (hk9 : inR k9) (hB : B + 100000 ≤ 20000000) : BM (d + 7) gk_X1_differ [aR (K 1), aI k9] S (PrX S 2000 [202] (if isFo k9 = false then .inl 1 else .inr ((A.1.length : Int) + (A.2.2.2.2.1 k9.toNat).length - 2 * (prs (rowsOfL A.1) (A.2.2.2.2.1 k9.toNat)).length))) := by
  have h40 := hw.2.1
  have hxb := hL.1.obx
  refine BM.of rfl rfl rfl ?_
  (repeat (refine BW.pl rfl rfl ?_))
  refine CW.call (as := [aR (K 1), aI k9]) (rest := []) rfl rfl rfl rfl rfl (by first | exact Or.inl rfl | exact Or.inr (tagO hxb rfl rfl)) (Or.inl (by decide)) (L_fileOf (d := d + 2) hL hk9) (fun r S1 hq => ?_) (fun E q S1 hq => ?_)
  rotate_left
  · obtain ⟨h9, e9, hF⟩ := hq.inr
    cases e9
    exact Or.inl ⟨rfl, PrX.no hF (by omega) (by rw [if_pos h9]) rfl⟩
  obtain ⟨h9, rfl, rfl⟩ := hq.inl
  have h9' := isFo_t.mp h9
  have e9 : isFo k9 ≠ false := by rw [h9]; decide
  have hf40 : (A.2.2.2.2.1 k9.toNat).length ≤ 40 := by obtain ⟨_, _, _, _, _, _, _, _, g⟩ := hw; exact (g _).1
  obtain ⟨cap, xs, hl, hs, -⟩ := K_file hL (show k9.toNat < 4 by omega)
  rw [if_neg e9]
  generalize A.2.2.2.2.1 k9.toNat = rows at hf40 hs ⊢
  obtain ⟨a, ha⟩ : ∃ a, a = rowsOfL A.1 := ⟨_, rfl⟩
  have hal : a.length = A.1.length := by rw [ha]; unfold rowsOfL; rw [List.length_map]
  have hxl := hs.1
  (repeat (refine BW.pl rfl rfl ?_))
  refine CW.c2 rfl rfl (by first | exact Or.inl rfl | exact Or.inr (tagO (by assumption) (by rfl) (by rfl)) | exact Or.inr (tagO (AdrIs.ox (by assumption)) (by rfl) (by rfl)) | exact Or.inr (tagO (PatIs.ox (by assumption)) (by rfl) (by rfl)) | exact Or.inr (tagO (Or0.ox (by assumption)) (by rfl) (by rfl))) (by first | exact Or.inl (by decide) | exact Or.inr ⟨_, rfl, by assumption⟩) rfl (L_pairs (d := d) hL hw hl hs hf40 hB) ?_
  rintro r S2 ⟨q, us, rfl, hq2, hul, huk, hF2⟩
  rw [← ha] at huk ⊢
  rw [← hal] at hul huk ⊢
  have hl2 := hl.fr hF2 ⟨oNe rfl, Sep.no⟩
  have hT0 := prT_0 (a := a) (b := rows)
  have hTl := prT_le (ps := prs a rows) (n := a.length) a.length 0 (by omega)
  have hPR : ∀ k, prOf (prs a rows) k ≤ rows.length := fun k => prOf_R _ (fun q hq => (prF_ge _ _ _ q hq).2.2)
  generalize hPS : prs a rows = PS at huk hT0 hTl hPR ⊢
  (repeat (refine BW.pl rfl rfl ?_))
  refine CW.alenI rfl hq2 (fun _ => ?_)
  rw [hul]
  (repeat (refine BW.pl rfl rfl ?_))
  refine CW.e1 rfl rfl (by first | exact Or.inl rfl | exact Or.inr (tagO (by assumption) (by rfl) (by rfl)) | exact Or.inr (tagO (AdrIs.ox (by assumption)) (by rfl) (by rfl)) | exact Or.inr (tagO (PatIs.ox (by assumption)) (by rfl) (by rfl)) | exact Or.inr (tagO (Or0.ox (by assumption)) (by rfl) (by rfl))) (by first | exact Or.inl (by decide) | exact Or.inr ⟨_, rfl, by assumption⟩) rfl (B_alSize hl2) ?_
  rw [hxl]
  (iterate 4 (refine BW.pl rfl rfl ?_))
  have loop : ∀ (N j : Nat) (v4 : Int), j + N = a.length → v4 = (a.length : Int) + rows.length - 2 * PS.length + 2 * prT PS a.length j → BW (d + 6) gm_X1_differ 16 [some (aR (K 1)), some (aI k9), some (aR (K (20 + k9.toNat))), some (aR q), some (aI v4), some (aI j)] [] S2 (PrX S1 2000 [202] (.inr ((a.length : Int) + rows.length - 2 * PS.length))) := by
    intro N
    induction N with
    | zero =>
      intro j v4 hj hv4
      rw [prT_e (by omega)] at hv4
      (repeat (refine BW.pl rfl rfl ?_))
      refine CW.alenI rfl hq2 (fun _ => ?_)
      rw [hul]
      refine BW.br rfl rfl (by first | omega | decide | (constructor <;> first | omega | decide)) (fun w => ?_) (fun w => by first | (exfalso; omega) | exact absurd w (by decide))
      (repeat (refine BW.pl rfl rfl ?_))
      exact BW.irx rfl (Or.inl ⟨rfl, by constructor <;> omega⟩) (PrX.ok hF2 (Nat.le_refl _) (by rw [hv4]; congr 1; omega) (by constructor <;> omega))
    | succ N ih =>
      intro j v4 hj hv4
      have hjl : j < a.length := by omega
      have ej : ((j : Nat) : Int).toNat = j := by omega
      rw [prT_s hjl] at hv4
      have hu := huk j hjl
      have hpj := hPR j
      have hTj := prT_le (ps := PS) (n := a.length) a.length (j + 1) (by omega)
      (repeat (refine BW.pl rfl rfl ?_))
      refine CW.alenI rfl hq2 (fun _ => ?_)
      rw [hul]
      refine BW.br rfl rfl (by first | omega | decide | (constructor <;> first | omega | decide)) (fun w => by first | (exfalso; omega) | exact absurd w (by decide)) (fun w => ?_)
      (repeat (refine BW.pl rfl rfl ?_))
      refine CW.iald rfl hq2 ⟨by omega, by omega⟩ (fun _ => ?_)
      rw [ej, hu]
      have e1 : (j : Int) + 1 = ((j + 1 : Nat) : Int) := by omega
      by_cases z : prOf PS j = 0
      · have : prI PS j = 0 := if_pos z
        refine BW.br rfl rfl (by first | omega | decide | (constructor <;> first | omega | decide)) (fun w2 => ?_) (fun w2 => by first | (exfalso; omega) | exact absurd w2 (by decide))
        (iterate 5 (refine BW.pl rfl rfl ?_))
        show BW (d + 6) gm_X1_differ 16 [some (aR (K 1)), some (aI k9), some (aR (K (20 + k9.toNat))), some (aR q), some (aI (v4 - 0)), some (aI ((j : Int) + 1))] [] S2 _
        rw [e1]
        exact ih (j + 1) (v4 - 0) (by omega) (by omega)
      · have : prI PS j = 1 := if_neg z
        refine BW.br rfl rfl (by first | omega | decide | (constructor <;> first | omega | decide)) (fun w2 => by first | (exfalso; omega) | exact absurd w2 (by decide)) (fun w2 => ?_)
        (iterate 6 (refine BW.pl rfl rfl ?_))
        show BW (d + 6) gm_X1_differ 16 [some (aR (K 1)), some (aI k9), some (aR (K (20 + k9.toNat))), some (aR q), some (aI (v4 - 2)), some (aI ((j : Int) + 1))] [] S2 _
        rw [e1]
        exact ih (j + 1) (v4 - 2) (by omega) (by omega)
  exact loop a.length 0 _ (by omega) (by rw [hT0]; omega)
theorem L_pairOf (hL : LO S K la A B) (hw : WF A) (hk9 : inR k9) (hx : inR x) (hB : B + 100000 ≤ 20000000) : BM (d + 7) gk_X1_pairOf [aR (K 1), aI k9, aI x] S (PrX S 2000 [202] (if isFo k9 = false ∨ isNr x A.1.length = false then .inl 1 else .inr (if prOf (prs (rowsOfL A.1) (A.2.2.2.2.1 k9.toNat)) (x - 1).toNat = 0 then -1 else (prOf (prs (rowsOfL A.1) (A.2.2.2.2.1 k9.toNat)) (x - 1).toNat : Int)))) := by
  have h40 := hw.2.1
  have hxb := hL.1.obx
  refine BM.of rfl rfl rfl ?_
  (repeat (refine BW.pl rfl rfl ?_))
  refine CW.call (as := [aR (K 1), aI k9]) (rest := []) rfl rfl rfl rfl rfl (by first | exact Or.inl rfl | exact Or.inr (tagO hxb rfl rfl)) (Or.inl (by decide)) (L_fileOf (d := d + 2) hL hk9) (fun r S1 hq => ?_) (fun E q S1 hq => ?_)
  rotate_left
  · obtain ⟨h9, e9, hF⟩ := hq.inr
    cases e9
    exact Or.inl ⟨rfl, PrX.no hF (by omega) (by rw [if_pos (Or.inl h9)]) rfl⟩
  obtain ⟨h9, rfl, rfl⟩ := hq.inl
  have h9' := isFo_t.mp h9
  have e9 : isFo k9 ≠ false := by rw [h9]; decide
  have hf40 : (A.2.2.2.2.1 k9.toNat).length ≤ 40 := by obtain ⟨_, _, _, _, _, _, _, _, g⟩ := hw; exact (g _).1
  obtain ⟨cap, xs, hl, hs, -⟩ := K_file hL (show k9.toNat < 4 by omega)
  (repeat (refine BW.pl rfl rfl ?_))
  refine CW.e2 rfl rfl (by first | exact Or.inl rfl | exact Or.inr (tagO (by assumption) (by rfl) (by rfl)) | exact Or.inr (tagO (AdrIs.ox (by assumption)) (by rfl) (by rfl)) | exact Or.inr (tagO (PatIs.ox (by assumption)) (by rfl) (by rfl)) | exact Or.inr (tagO (Or0.ox (by assumption)) (by rfl) (by rfl))) (by first | exact Or.inl (by decide) | exact Or.inr ⟨_, rfl, by assumption⟩) rfl (L_isLine (d := d + 4) hL.1 (by rw [ids_len]; omega) hx) ?_
  rw [ids_len]
  by_cases h : isNr x A.1.length = true
  rotate_left
  · have h' := isNr_f.mp (Bool.eq_false_iff.mpr h)
    rw [if_neg (by omega)]
    refine CW.tst rfl rfl (by decide) rfl (Or.inl ⟨rfl, rfl⟩) (Or.inl rfl) rfl (fun w => absurd w (by decide)) (fun _ S2 hF2 => ?_)
    exact PrX.no hF2 (by omega) (by rw [if_pos (Or.inr (Bool.eq_false_iff.mpr h))]) rfl
  have h' := isNr_t.mp h
  have hn : ¬ (isFo k9 = false ∨ isNr x A.1.length = false) := by rw [h, h9]; decide
  rw [if_pos (by omega), if_neg hn]
  refine CW.tst rfl rfl (by decide) rfl (Or.inl ⟨rfl, rfl⟩) (Or.inr rfl) rfl (fun _ => ?_) (fun w _ _ => absurd w (by decide))
  generalize A.2.2.2.2.1 k9.toNat = rows at hf40 hs ⊢
  obtain ⟨a, ha⟩ : ∃ a, a = rowsOfL A.1 := ⟨_, rfl⟩
  have hal : a.length = A.1.length := by rw [ha]; unfold rowsOfL; rw [List.length_map]
  (repeat (refine BW.pl rfl rfl ?_))
  refine CW.c2 rfl rfl (by first | exact Or.inl rfl | exact Or.inr (tagO (by assumption) (by rfl) (by rfl)) | exact Or.inr (tagO (AdrIs.ox (by assumption)) (by rfl) (by rfl)) | exact Or.inr (tagO (PatIs.ox (by assumption)) (by rfl) (by rfl)) | exact Or.inr (tagO (Or0.ox (by assumption)) (by rfl) (by rfl))) (by first | exact Or.inl (by decide) | exact Or.inr ⟨_, rfl, by assumption⟩) rfl (L_pairs (d := d) hL hw hl hs hf40 hB) ?_
  rintro r S2 ⟨q, us, rfl, hq2, hul, huk, hF2⟩
  have hu := huk (x - 1).toNat (by omega)
  rw [← ha] at hu ⊢
  have hR : prOf (prs a rows) (x - 1).toNat ≤ rows.length := prOf_R _ (fun q hq => (prF_ge _ _ _ q hq).2.2)
  (repeat (refine BW.pl rfl rfl ?_))
  refine CW.iald rfl hq2 ⟨by omega, by omega⟩ (fun _ => ?_)
  rw [hu]
  (repeat (refine BW.pl rfl rfl ?_))
  by_cases z : prOf (prs a rows) (x - 1).toNat = 0
  · refine BW.br rfl rfl (by first | omega | decide | (constructor <;> first | omega | decide)) (fun w => by first | (exfalso; omega) | exact absurd w (by decide)) (fun w => ?_)
    (repeat (refine BW.pl rfl rfl ?_))
    exact BW.irx rfl (Or.inl ⟨rfl, by decide⟩) (PrX.ok (v := -1) hF2 (Nat.le_refl _) (by rw [if_pos z]) (by decide))
  · refine BW.br rfl rfl (by first | omega | decide | (constructor <;> first | omega | decide)) (fun w => ?_) (fun w => by first | (exfalso; omega) | exact absurd w (by decide))
    (repeat (refine BW.pl rfl rfl ?_))
    exact BW.irx rfl (Or.inl ⟨rfl, by constructor <;> omega⟩) (PrX.ok hF2 (Nat.le_refl _) (by rw [if_neg z]) (by constructor <;> omega))
theorem L_areRows {mo : Int} (hl : Ob S l (oAl xs cap)) (hs : StrsIs S xs rows) (hR : ∀ r ∈ rows, RowOk r) (hm : (rows.length : Int) ≤ mo) (hm2 : mo ≤ 100) : BE (d + 4) gk_X1_areRows [aR l, aI mo] S (vI 1) := by
  have hxl := hs.1
  refine BM.of rfl rfl rfl ?_
  (repeat (refine BW.pl rfl rfl ?_))
  refine CW.e1 rfl rfl (by first | exact Or.inl rfl | exact Or.inr (tagO (by assumption) (by rfl) (by rfl)) | exact Or.inr (tagO (AdrIs.ox (by assumption)) (by rfl) (by rfl)) | exact Or.inr (tagO (PatIs.ox (by assumption)) (by rfl) (by rfl)) | exact Or.inr (tagO (Or0.ox (by assumption)) (by rfl) (by rfl))) (by first | exact Or.inl (by decide) | exact Or.inr ⟨_, rfl, by assumption⟩) rfl (B_alSize hl) ?_
  rw [hxl]
  (repeat (refine BW.pl rfl rfl ?_))
  refine BW.br rfl rfl (by first | omega | decide | (constructor <;> first | omega | decide)) (fun w => by first | (exfalso; omega) | exact absurd w (by decide)) (fun w => ?_)
  (iterate 5 (refine BW.pl rfl rfl ?_))
  have loop : ∀ (N j : Nat), j + N = rows.length → BW (d + 3) gm_X1_areRows 10 [some (aR l), some (aI mo), some (aI 1), some (aI j)] [] S (fun r S' => ∃ v, r = .inl v ∧ (vI 1 = v ∧ S = S')) := by
    intro N
    induction N with
    | zero =>
      intro j hj
      (repeat (refine BW.pl rfl rfl ?_))
      refine CW.e1 rfl rfl (by first | exact Or.inl rfl | exact Or.inr (tagO (by assumption) (by rfl) (by rfl)) | exact Or.inr (tagO (AdrIs.ox (by assumption)) (by rfl) (by rfl)) | exact Or.inr (tagO (PatIs.ox (by assumption)) (by rfl) (by rfl)) | exact Or.inr (tagO (Or0.ox (by assumption)) (by rfl) (by rfl))) (by first | exact Or.inl (by decide) | exact Or.inr ⟨_, rfl, by assumption⟩) rfl (B_alSize hl) ?_
      rw [hxl]
      refine BW.br rfl rfl (by first | omega | decide | (constructor <;> first | omega | decide)) (fun w2 => ?_) (fun w2 => by first | (exfalso; omega) | exact absurd w2 (by decide))
      (repeat (refine BW.pl rfl rfl ?_))
      exact BW.irx rfl (Or.inr (Or.inl ⟨rfl, Or.inr rfl⟩)) ⟨_, rfl, rfl, rfl⟩
    | succ N ih =>
      intro j hj
      obtain ⟨⟨y, hy1, hy2⟩, -⟩ := hs.2 j (by omega)
      have hok := (hR _ (getD_mem (dd := []) (show j < rows.length by omega))).1
      (repeat (refine BW.pl rfl rfl ?_))
      refine CW.e1 rfl rfl (by first | exact Or.inl rfl | exact Or.inr (tagO (by assumption) (by rfl) (by rfl)) | exact Or.inr (tagO (AdrIs.ox (by assumption)) (by rfl) (by rfl)) | exact Or.inr (tagO (PatIs.ox (by assumption)) (by rfl) (by rfl)) | exact Or.inr (tagO (Or0.ox (by assumption)) (by rfl) (by rfl))) (by first | exact Or.inl (by decide) | exact Or.inr ⟨_, rfl, by assumption⟩) rfl (B_alSize hl) ?_
      rw [hxl]
      refine BW.br rfl rfl (by first | omega | decide | (constructor <;> first | omega | decide)) (fun w2 => by first | (exfalso; omega) | exact absurd w2 (by decide)) (fun w2 => ?_)
      (repeat (refine BW.pl rfl rfl ?_))
      refine BW.br rfl rfl (by first | omega | decide | (constructor <;> first | omega | decide)) (fun w3 => by first | (exfalso; omega) | exact absurd w3 (by decide)) (fun w3 => ?_)
      (repeat (refine BW.pl rfl rfl ?_))
      refine CW.e2 rfl rfl (by first | exact Or.inl rfl | exact Or.inr (tagO (by assumption) (by rfl) (by rfl)) | exact Or.inr (tagO (AdrIs.ox (by assumption)) (by rfl) (by rfl)) | exact Or.inr (tagO (PatIs.ox (by assumption)) (by rfl) (by rfl)) | exact Or.inr (tagO (Or0.ox (by assumption)) (by rfl) (by rfl))) (by first | exact Or.inl (by decide) | exact Or.inr ⟨_, rfl, by assumption⟩) rfl (C_alGet (k := j) hl (by omega) hy1 rfl) ?_
      refine CW.castS rfl hy2 rfl rfl rfl ?_
      refine CW.e1 rfl rfl (by first | exact Or.inl rfl | exact Or.inr (tagO (by assumption) (by rfl) (by rfl)) | exact Or.inr (tagO (AdrIs.ox (by assumption)) (by rfl) (by rfl)) | exact Or.inr (tagO (PatIs.ox (by assumption)) (by rfl) (by rfl)) | exact Or.inr (tagO (Or0.ox (by assumption)) (by rfl) (by rfl))) (by first | exact Or.inl (by decide) | exact Or.inr ⟨_, rfl, by assumption⟩) rfl (B_slen hy2) ?_
      (repeat (refine BW.pl rfl rfl ?_))
      refine BW.br rfl rfl (by first | omega | decide | (constructor <;> first | omega | decide)) (fun w4 => by first | (exfalso; omega) | exact absurd w4 (by decide)) (fun w4 => ?_)
      (iterate 5 (refine BW.pl rfl rfl ?_))
      have e1 : (j : Int) + 1 = ((j + 1 : Nat) : Int) := by omega
      show BW (d + 3) gm_X1_areRows 10 [some (aR l), some (aI mo), some (aI 1), some (aI ((j : Int) + 1))] [] S _
      rw [e1]
      exact ih (j + 1) (by omega)
  exact loop rows.length 0 (by omega)
theorem nodup_at (hw : WF A) (hk : k < A.1.length) : ∀ i, i < k → idAt A.1 i ≠ idAt A.1 k := fun i hi => by
  have hnd : (idsOfL A.1).Nodup := hw.2.2.1
  have h := List.pairwise_iff_getElem.mp hnd i k (by rw [ids_len]; omega) (by rw [ids_len]; omega) hi
  have e : ∀ j, (hj : j < (idsOfL A.1).length) → (idsOfL A.1)[j] = idAt A.1 j := fun j hj => by
    have := ids_get (t := A.1) (k := j)
    rw [List.getD_eq_getElem?_getD, List.getElem?_eq_getElem hj] at this
    exact this
  rw [e, e] at h
  exact h
theorem L_isSound (hL : LO S K la A B) (hw : WF A) (hB : B + 1000 ≤ 20000000) : BM (d + 8) gk_X1_isSound [aR (K 1)] S (PrX S 200 [] (.inr 1)) := by
  have h40 := hw.2.1
  have hxb := hL.1.obx
  have e3 := hL.1.e3
  have e7 := hL.1.e7
  have e8 := hL.1.e8
  have e9 := hL.1.e9
  obtain ⟨mc, hT⟩ := hL.1.text
  obtain ⟨hh1, hh2⟩ : A.2.2.1.length ≤ 40 ∧ ∀ r ∈ A.2.2.1, RowOk r := by obtain ⟨_, _, _, _, _, _, g, _⟩ := hw; exact g
  obtain ⟨ho1, ho2⟩ := hw.ou
  obtain ⟨cap7, xs7, hl7, hs7, -⟩ := hL.1.list (i := 7) (by decide)
  have hs7 : StrsIs S xs7 A.2.2.1 := hs7
  obtain ⟨cap8, xs8, hl8, hs8, -⟩ := hL.1.list (i := 8) (by decide)
  have hs8 : StrsIs S xs8 A.2.2.2.1 := hs8
  -- the end
  have at103 : ∀ (S2 : BS) (v2 : Int) (v3 : Option GV), Fr0 S S2 100 → BW (d + 7) gm_X1_isSound 103 [some (aR (K 1)), some (aI 1), some (aI v2), v3] [] S2 (PrX S 200 [] (.inr 1)) := fun S2 v2 v3 hF2 => by
    have hL2 := hL.fr hF2 LoW.no (by omega)
    have hx2 := hL2.1.obx
    have e32 := hL2.1.e3
    have f5 := hL2.1.f5
    obtain ⟨mc2, hT2⟩ := hL2.1.text
    have hp := hw.1
    (repeat (refine BW.pl rfl rfl ?_))
    refine BW.br rfl rfl (by first | omega | decide | (constructor <;> first | omega | decide)) (fun w => by first | (exfalso; omega) | exact absurd w (by decide)) (fun w => ?_)
    (repeat (first | (refine BW.pl rfl rfl ?_) | (refine CW.geti rfl rfl (by assumption) rfl rfl (by assumption) (fun _ => ?_)) | (refine CW.getr rfl rfl (by assumption) rfl rfl (by assumption) ?_)))
    refine CW.e1 rfl rfl (by first | exact Or.inl rfl | exact Or.inr (tagO (by assumption) (by rfl) (by rfl)) | exact Or.inr (tagO (AdrIs.ox (by assumption)) (by rfl) (by rfl)) | exact Or.inr (tagO (PatIs.ox (by assumption)) (by rfl) (by rfl)) | exact Or.inr (tagO (Or0.ox (by assumption)) (by rfl) (by rfl))) (by first | exact Or.inl (by decide) | exact Or.inr ⟨_, rfl, by assumption⟩) rfl (B_llEmp hT2) ?_
    by_cases z : A.1 = []
    · rw [if_pos (by rw [z]; rfl)]
      have hp0 : A.2.1 = 0 := by have := hp.1; rw [z] at this; exact Nat.le_zero.mp this
      refine BW.br rfl rfl (by first | omega | decide | (constructor <;> first | omega | decide)) (fun w2 => by first | (exfalso; omega) | exact absurd w2 (by decide)) (fun w2 => ?_)
      (repeat (first | (refine BW.pl rfl rfl ?_) | (refine CW.geti rfl rfl (by assumption) rfl rfl (by assumption) (fun _ => ?_)) | (refine CW.getr rfl rfl (by assumption) rfl rfl (by assumption) ?_)))
      refine BW.br rfl rfl (by first | omega | decide | (constructor <;> first | omega | decide)) (fun w3 => by first | (exfalso; omega) | exact absurd w3 (by decide)) (fun w3 => ?_)
      (repeat (refine BW.pl rfl rfl ?_))
      exact BW.irx rfl (Or.inr (Or.inl ⟨rfl, Or.inr rfl⟩)) (PrX.ok (v := 1) hF2 (by omega) rfl (by decide))
    · have hp1 := hp.2 z
      have hle := hp.1
      have hlt : lsOf la (idsOfL A.1) ≠ [] := fun w => z (List.length_eq_zero_iff.mp (by rw [← ids_len, ← lsOf_len (la := la), w]; rfl))
      rw [if_neg hlt]
      refine BW.br rfl rfl (by first | omega | decide | (constructor <;> first | omega | decide)) (fun w2 => ?_) (fun w2 => by first | (exfalso; omega) | exact absurd w2 (by decide))
      (repeat (first | (refine BW.pl rfl rfl ?_) | (refine CW.geti rfl rfl (by assumption) rfl rfl (by assumption) (fun _ => ?_)) | (refine CW.getr rfl rfl (by assumption) rfl rfl (by assumption) ?_)))
      refine CW.e2 rfl rfl (by first | exact Or.inl rfl | exact Or.inr (tagO (by assumption) (by rfl) (by rfl)) | exact Or.inr (tagO (AdrIs.ox (by assumption)) (by rfl) (by rfl)) | exact Or.inr (tagO (PatIs.ox (by assumption)) (by rfl) (by rfl)) | exact Or.inr (tagO (Or0.ox (by assumption)) (by rfl) (by rfl))) (by first | exact Or.inl (by decide) | exact Or.inr ⟨_, rfl, by assumption⟩) rfl (L_isLine (d := d + 5) hL2.1 (by rw [ids_len]; omega) (by constructor <;> omega)) ?_
      rw [ids_len, if_pos (by omega)]
      refine BW.br rfl rfl (by first | omega | decide | (constructor <;> first | omega | decide)) (fun w3 => by first | (exfalso; omega) | exact absurd w3 (by decide)) (fun w3 => ?_)
      (repeat (refine BW.pl rfl rfl ?_))
      exact BW.irx rfl (Or.inr (Or.inl ⟨rfl, Or.inr rfl⟩)) (PrX.ok (v := 1) hF2 (by omega) rfl (by decide))
  -- the marks
  have marks : ∀ (N j : Nat) (S2 : BS) (v3 : Option GV), gn1 v3 = true → j + N = 5 → Fr0 S S2 (17 * j) → BW (d + 7) gm_X1_isSound 77 [some (aR (K 1)), some (aI 1), some (aI j), v3] [] S2 (PrX S 200 [] (.inr 1)) := by
    intro N
    induction N with
    | zero =>
      intro j S2 v3 g3 hj hF2
      (repeat (refine BW.pl rfl rfl ?_))
      refine BW.br rfl rfl (by first | omega | decide | (constructor <;> first | omega | decide)) (fun w => ?_) (fun w => by first | (exfalso; omega) | exact absurd w (by decide))
      exact at103 S2 _ v3 (hF2.w (fun _ _ z => z) (by omega))
    | succ N ih =>
      intro j S2 v3 g3 hj hF2
      have hL2 := hL.fr hF2 LoW.no (by omega)
      have hx2 := hL2.1.obx
      have e62 := hL2.1.e6
      obtain ⟨M, hM, hMk⟩ := hL2.1.marks
      obtain ⟨g1, g2⟩ := hMk j (by omega)
      have g1 : M (j : Int) = (A.2.2.2.2.2.1 j).map la := g1
      have g2 : ∀ y, A.2.2.2.2.2.1 j = some y → 0 ≤ y ∧ y < A.2.2.2.2.2.2.1 := g2
      have e1 : (j : Int) + 1 = ((j + 1 : Nat) : Int) := by omega
      have nx : ∀ S4 : BS, Fr0 S S4 (17 * (j + 1)) → BW (d + 7) gm_X1_isSound 97 [some (aR (K 1)), some (aI 1), some (aI j), v3] [] S4 (PrX S 200 [] (.inr 1)) := fun S4 hF4 => by
        (iterate 2 (refine BW.pl rfl rfl ?_))
        refine BW.stiV rfl rfl (by simp only [List.set, List.all_cons, List.all_nil, g3]; rfl) ?_
        refine BW.incV rfl rfl rfl (by simp only [List.set, List.all_cons, List.all_nil, g3]; rfl) ?_
        (iterate 1 (refine BW.pl rfl rfl ?_))
        show BW (d + 7) gm_X1_isSound 77 [some (aR (K 1)), some (aI 1), some (aI ((j : Int) + 1)), v3] [] S4 _
        rw [e1]
        exact ih (j + 1) S4 v3 g3 (by omega) hF4
      (repeat (refine BW.pl rfl rfl ?_))
      refine BW.br rfl rfl (by first | omega | decide | (constructor <;> first | omega | decide)) (fun w => by first | (exfalso; omega) | exact absurd w (by decide)) (fun w => ?_)
      (repeat (refine BW.pl rfl rfl ?_))
      refine BW.br rfl rfl (by first | omega | decide | (constructor <;> first | omega | decide)) (fun w2 => by first | (exfalso; omega) | exact absurd w2 (by decide)) (fun w2 => ?_)
      (repeat (first | (refine BW.pl rfl rfl ?_) | (refine CW.geti rfl rfl (by assumption) rfl rfl (by assumption) (fun _ => ?_)) | (refine CW.getr rfl rfl (by assumption) rfl rfl (by assumption) ?_)))
      refine CW.e1 rfl rfl (by first | exact Or.inl rfl | exact Or.inr (tagO (by assumption) (by rfl) (by rfl)) | exact Or.inr (tagO (AdrIs.ox (by assumption)) (by rfl) (by rfl)) | exact Or.inr (tagO (PatIs.ox (by assumption)) (by rfl) (by rfl)) | exact Or.inr (tagO (Or0.ox (by assumption)) (by rfl) (by rfl))) (by first | exact Or.inl (by decide) | exact Or.inr ⟨_, rfl, by assumption⟩) rfl (B_intOf ⟨by omega, by omega⟩) ?_
      cases hm : A.2.2.2.2.2.1 j with
      | none =>
        rw [hm] at g1
        refine CW.e2 rfl rfl (by first | exact Or.inl rfl | exact Or.inr (tagO (by assumption) (by rfl) (by rfl)) | exact Or.inr (tagO (AdrIs.ox (by assumption)) (by rfl) (by rfl)) | exact Or.inr (tagO (PatIs.ox (by assumption)) (by rfl) (by rfl)) | exact Or.inr (tagO (Or0.ox (by assumption)) (by rfl) (by rfl))) (by first | exact Or.inl (by decide) | exact Or.inr ⟨_, rfl, by assumption⟩) rfl (C_tmGet hM ⟨by omega, by omega⟩ g1) ?_
        refine CW.nul rfl rfl (fun n h => by cases h) ?_
        exact nx S2 (hF2.w (fun _ _ z => z) (by omega))
      | some y =>
        rw [hm] at g1
        have hy := g2 y hm
        have h6 := hL2.1.la6 hy
        have hyin : y ∈ idsOfL A.1 := hw.2.2.2.2.1 j y hm
        have hpos := linNo_mem.mpr hyin
        rw [linNo_id] at hpos
        have hid := idNo_R (ids := idsOfL A.1) (x := y)
        rw [ids_len] at hid
        refine CW.e2 rfl rfl (by first | exact Or.inl rfl | exact Or.inr (tagO (by assumption) (by rfl) (by rfl)) | exact Or.inr (tagO (AdrIs.ox (by assumption)) (by rfl) (by rfl)) | exact Or.inr (tagO (PatIs.ox (by assumption)) (by rfl) (by rfl)) | exact Or.inr (tagO (Or0.ox (by assumption)) (by rfl) (by rfl))) (by first | exact Or.inl (by decide) | exact Or.inr ⟨_, rfl, by assumption⟩) rfl (C_tmGet hM ⟨by omega, by omega⟩ g1) ?_
        refine CW.nul rfl rfl (fun n h => by cases h; rw [show S2.1 (la y) = _ from h6]; rfl) ?_
        (repeat (first | (refine BW.pl rfl rfl ?_) | (refine CW.geti rfl rfl (by assumption) rfl rfl (by assumption) (fun _ => ?_)) | (refine CW.getr rfl rfl (by assumption) rfl rfl (by assumption) ?_)))
        refine CW.e1 rfl rfl (by first | exact Or.inl rfl | exact Or.inr (tagO (by assumption) (by rfl) (by rfl)) | exact Or.inr (tagO (AdrIs.ox (by assumption)) (by rfl) (by rfl)) | exact Or.inr (tagO (PatIs.ox (by assumption)) (by rfl) (by rfl)) | exact Or.inr (tagO (Or0.ox (by assumption)) (by rfl) (by rfl))) (by first | exact Or.inl (by decide) | exact Or.inr ⟨_, rfl, by assumption⟩) rfl (B_intOf ⟨by omega, by omega⟩) ?_
        refine CW.e2 rfl rfl (by first | exact Or.inl rfl | exact Or.inr (tagO (by assumption) (by rfl) (by rfl)) | exact Or.inr (tagO (AdrIs.ox (by assumption)) (by rfl) (by rfl)) | exact Or.inr (tagO (PatIs.ox (by assumption)) (by rfl) (by rfl)) | exact Or.inr (tagO (Or0.ox (by assumption)) (by rfl) (by rfl))) (by first | exact Or.inl (by decide) | exact Or.inr ⟨_, rfl, by assumption⟩) rfl (C_tmGet hM ⟨by omega, by omega⟩ g1) ?_
        refine CW.castS rfl h6 rfl rfl rfl ?_
        refine CW.c2 rfl rfl (by first | exact Or.inl rfl | exact Or.inr (tagO (by assumption) (by rfl) (by rfl)) | exact Or.inr (tagO (AdrIs.ox (by assumption)) (by rfl) (by rfl)) | exact Or.inr (tagO (PatIs.ox (by assumption)) (by rfl) (by rfl)) | exact Or.inr (tagO (Or0.ox (by assumption)) (by rfl) (by rfl))) (by first | exact Or.inl (by decide) | exact Or.inr ⟨_, rfl, by assumption⟩) rfl (L_numberOf (d := d + 2) hL2.1 hy hw.2.2.1 (by rw [ids_len]; omega) (by omega)) ?_
        rintro r S3 ⟨rfl, hF3⟩
        refine BW.br rfl rfl (by first | omega | decide | (constructor <;> first | omega | decide)) (fun w3 => by first | (exfalso; omega) | exact absurd w3 (by decide)) (fun w3 => ?_)
        exact nx S3 (hF2.tr0 hF3 (by omega))
  -- the lines
  have lines : ∀ (N j : Nat) (S2 : BS) (v3 : Option GV), gn1 v3 = true → j + N = A.1.length → Fr0 S S2 0 → BW (d + 7) gm_X1_isSound 42 [some (aR (K 1)), some (aI 1), some (aI ((j + 1 : Nat) : Int)), v3] [] S2 (PrX S 200 [] (.inr 1)) := by
    intro N
    induction N with
    | zero =>
      intro j S2 v3 g3 hj hF2
      have hL2 := hL.fr hF2 LoW.no (by omega)
      have hx2 := hL2.1.obx
      have e32 := hL2.1.e3
      obtain ⟨mc2, hT2⟩ := hL2.1.text
      (repeat (first | (refine BW.pl rfl rfl ?_) | (refine CW.geti rfl rfl (by assumption) rfl rfl (by assumption) (fun _ => ?_)) | (refine CW.getr rfl rfl (by assumption) rfl rfl (by assumption) ?_)))
      refine CW.e1 rfl rfl (by first | exact Or.inl rfl | exact Or.inr (tagO (by assumption) (by rfl) (by rfl)) | exact Or.inr (tagO (AdrIs.ox (by assumption)) (by rfl) (by rfl)) | exact Or.inr (tagO (PatIs.ox (by assumption)) (by rfl) (by rfl)) | exact Or.inr (tagO (Or0.ox (by assumption)) (by rfl) (by rfl))) (by first | exact Or.inl (by decide) | exact Or.inr ⟨_, rfl, by assumption⟩) rfl (B_llSize hT2) ?_
      rw [lsOf_len, ids_len]
      refine BW.br rfl rfl (by first | omega | decide | (constructor <;> first | omega | decide)) (fun w => ?_) (fun w => by first | (exfalso; omega) | exact absurd w (by decide))
      (iterate 1 (refine BW.pl rfl rfl ?_))
      refine BW.stiV rfl rfl (by simp only [List.set, List.all_cons, List.all_nil, g3]; rfl) ?_
      exact marks 5 0 S2 v3 g3 rfl (hF2.w (fun _ _ z => z) (by omega))
    | succ N ih =>
      intro j S2 v3 g3 hj hF2
      have hL2 := hL.fr hF2 LoW.no (by omega)
      have hx2 := hL2.1.obx
      have e32 := hL2.1.e3
      have f42 := hL2.1.f4
      obtain ⟨mc2, hT2⟩ := hL2.1.text
      have hnR := hL2.1.nR
      obtain ⟨hid, h6, h43, y, h44, hy, -⟩ := L_row hL2 (k := j) (by omega)
      have hok := (rowAt_ok hw (k := j) (by omega)).1
      have hln := linNo_here (t := A.1) (nodup_at hw (show j < A.1.length by omega)) rfl (show j < A.1.length by omega)
      (repeat (first | (refine BW.pl rfl rfl ?_) | (refine CW.geti rfl rfl (by assumption) rfl rfl (by assumption) (fun _ => ?_)) | (refine CW.getr rfl rfl (by assumption) rfl rfl (by assumption) ?_)))
      refine CW.e1 rfl rfl (by first | exact Or.inl rfl | exact Or.inr (tagO (by assumption) (by rfl) (by rfl)) | exact Or.inr (tagO (AdrIs.ox (by assumption)) (by rfl) (by rfl)) | exact Or.inr (tagO (PatIs.ox (by assumption)) (by rfl) (by rfl)) | exact Or.inr (tagO (Or0.ox (by assumption)) (by rfl) (by rfl))) (by first | exact Or.inl (by decide) | exact Or.inr ⟨_, rfl, by assumption⟩) rfl (B_llSize hT2) ?_
      rw [lsOf_len, ids_len]
      refine BW.br rfl rfl (by first | omega | decide | (constructor <;> first | omega | decide)) (fun w => by first | (exfalso; omega) | exact absurd w (by decide)) (fun w => ?_)
      (repeat (refine BW.pl rfl rfl ?_))
      refine CW.e2 rfl rfl (by first | exact Or.inl rfl | exact Or.inr (tagO (by assumption) (by rfl) (by rfl)) | exact Or.inr (tagO (AdrIs.ox (by assumption)) (by rfl) (by rfl)) | exact Or.inr (tagO (PatIs.ox (by assumption)) (by rfl) (by rfl)) | exact Or.inr (tagO (Or0.ox (by assumption)) (by rfl) (by rfl))) (by first | exact Or.inl (by decide) | exact Or.inr ⟨_, rfl, by assumption⟩) rfl (L_lineAt (d := d + 3) hL2.1 (k := j) (by rw [ids_len]; omega) (show (idsOfL A.1).getD j 0 = idAt A.1 j from ids_get) (by rw [ids_len]; omega) (by omega)) ?_
      refine BW.strV rfl rfl (by simp only [List.set, List.all_cons, List.all_nil, g3]; rfl) ?_
      (repeat (refine BW.pl rfl rfl ?_))
      refine BW.br rfl rfl (by first | omega | decide | (constructor <;> first | omega | decide)) (fun w2 => by first | (exfalso; omega) | exact absurd w2 (by decide)) (fun w2 => ?_)
      (repeat (first | (refine BW.pl rfl rfl ?_) | (refine CW.geti rfl rfl (by assumption) rfl rfl (by assumption) (fun _ => ?_)) | (refine CW.getr rfl rfl (by assumption) rfl rfl (by assumption) ?_)))
      refine CW.e1 rfl rfl (by first | exact Or.inl rfl | exact Or.inr (tagO (by assumption) (by rfl) (by rfl)) | exact Or.inr (tagO (AdrIs.ox (by assumption)) (by rfl) (by rfl)) | exact Or.inr (tagO (PatIs.ox (by assumption)) (by rfl) (by rfl)) | exact Or.inr (tagO (Or0.ox (by assumption)) (by rfl) (by rfl))) (by first | exact Or.inl (by decide) | exact Or.inr ⟨_, rfl, by assumption⟩) rfl (B_slen hy) ?_
      (repeat (refine BW.pl rfl rfl ?_))
      refine BW.br rfl rfl (by first | omega | decide | (constructor <;> first | omega | decide)) (fun w3 => by first | (exfalso; omega) | exact absurd w3 (by decide)) (fun w3 => ?_)
      (repeat (first | (refine BW.pl rfl rfl ?_) | (refine CW.geti rfl rfl (by assumption) rfl rfl (by assumption) (fun _ => ?_)) | (refine CW.getr rfl rfl (by assumption) rfl rfl (by assumption) ?_)))
      refine BW.br rfl rfl (by first | omega | decide | (constructor <;> first | omega | decide)) (fun w4 => by first | (exfalso; omega) | exact absurd w4 (by decide)) (fun w4 => ?_)
      (repeat (first | (refine BW.pl rfl rfl ?_) | (refine CW.geti rfl rfl (by assumption) rfl rfl (by assumption) (fun _ => ?_)) | (refine CW.getr rfl rfl (by assumption) rfl rfl (by assumption) ?_)))
      refine CW.call (as := [aR (K 1), aI (idAt A.1 j)]) (rest := []) rfl rfl rfl rfl rfl (by first | exact Or.inl rfl | exact Or.inr (tagO hx2 rfl rfl)) (Or.inl (by decide)) (L_lineOf (d := d + 1) hL2 hw (by constructor <;> omega)) (fun r S3 hq => ?_) (fun E q9 S3 hq => absurd hq.2.1 (by simp))
      obtain ⟨v9, rfl, hv9, hv, hF3⟩ := hq.ret
      rw [hln, if_neg (by omega)] at hv
      have hv : ((j + 1 : Nat) : Int) = v9 := by cases hv; rfl
      subst hv
      (repeat (refine BW.pl rfl rfl ?_))
      refine BW.br rfl rfl (by first | omega | decide | (constructor <;> first | omega | decide)) (fun w5 => by first | (exfalso; omega) | exact absurd w5 (by decide)) (fun w5 => ?_)
      (iterate 5 (refine BW.pl rfl rfl ?_))
      have e1 : ((j + 1 : Nat) : Int) + 1 = ((j + 1 + 1 : Nat) : Int) := by omega
      show BW (d + 7) gm_X1_isSound 42 [some (aR (K 1)), some (aI 1), some (aI (((j + 1 : Nat) : Int) + 1)), some (aR (la (idAt A.1 j)))] [] S3 _
      rw [e1]
      exact ih (j + 1) S3 _ rfl (by omega) (hF2.tr0 hF3 (Nat.le_refl _))
  -- the files
  have files : ∀ (N j : Nat), j + N = 4 → BW (d + 7) gm_X1_isSound 21 [some (aR (K 1)), some (aI 1), some (aI j), none] [] S (PrX S 200 [] (.inr 1)) := by
    intro N
    induction N with
    | zero =>
      intro j hj
      (repeat (refine BW.pl rfl rfl ?_))
      refine BW.br rfl rfl (by first | omega | decide | (constructor <;> first | omega | decide)) (fun w => ?_) (fun w => by first | (exfalso; omega) | exact absurd w (by decide))
      (iterate 2 (refine BW.pl rfl rfl ?_))
      exact lines A.1.length 0 S none rfl (by omega) Fr0.z
    | succ N ih =>
      intro j hj
      obtain ⟨cap9, h9⟩ := K_files hL
      obtain ⟨capf, xsf, hlf, hsf, -⟩ := K_file hL (show j < 4 by omega)
      obtain ⟨k1, k2⟩ : (A.2.2.2.2.1 j).length ≤ 40 ∧ ∀ r ∈ A.2.2.2.2.1 j, RowOk r := by obtain ⟨_, _, _, _, _, _, _, _, g⟩ := hw; exact g j
      (repeat (refine BW.pl rfl rfl ?_))
      refine BW.br rfl rfl (by first | omega | decide | (constructor <;> first | omega | decide)) (fun w => by first | (exfalso; omega) | exact absurd w (by decide)) (fun w => ?_)
      (repeat (refine BW.pl rfl rfl ?_))
      refine BW.br rfl rfl (by first | omega | decide | (constructor <;> first | omega | decide)) (fun w2 => by first | (exfalso; omega) | exact absurd w2 (by decide)) (fun w2 => ?_)
      (repeat (first | (refine BW.pl rfl rfl ?_) | (refine CW.geti rfl rfl (by assumption) rfl rfl (by assumption) (fun _ => ?_)) | (refine CW.getr rfl rfl (by assumption) rfl rfl (by assumption) ?_)))
      refine CW.e2 rfl rfl (by first | exact Or.inl rfl | exact Or.inr (tagO (by assumption) (by rfl) (by rfl)) | exact Or.inr (tagO (AdrIs.ox (by assumption)) (by rfl) (by rfl)) | exact Or.inr (tagO (PatIs.ox (by assumption)) (by rfl) (by rfl)) | exact Or.inr (tagO (Or0.ox (by assumption)) (by rfl) (by rfl))) (by first | exact Or.inl (by decide) | exact Or.inr ⟨_, rfl, by assumption⟩) rfl (C_alGet (k := j) h9 (show j < 4 by omega) (K_get (by omega)) rfl) ?_
      refine CW.castS rfl hlf rfl rfl rfl ?_
      (repeat (refine BW.pl rfl rfl ?_))
      refine CW.e2 rfl rfl (by first | exact Or.inl rfl | exact Or.inr (tagO (by assumption) (by rfl) (by rfl)) | exact Or.inr (tagO (AdrIs.ox (by assumption)) (by rfl) (by rfl)) | exact Or.inr (tagO (PatIs.ox (by assumption)) (by rfl) (by rfl)) | exact Or.inr (tagO (Or0.ox (by assumption)) (by rfl) (by rfl))) (by first | exact Or.inl (by decide) | exact Or.inr ⟨_, rfl, by assumption⟩) rfl (L_areRows (d := d + 3) hlf hsf k2 (by omega) (by omega)) ?_
      refine BW.br rfl rfl (by first | omega | decide | (constructor <;> first | omega | decide)) (fun w3 => by first | (exfalso; omega) | exact absurd w3 (by decide)) (fun w3 => ?_)
      (iterate 5 (refine BW.pl rfl rfl ?_))
      have e1 : (j : Int) + 1 = ((j + 1 : Nat) : Int) := by omega
      show BW (d + 7) gm_X1_isSound 21 [some (aR (K 1)), some (aI 1), some (aI ((j : Int) + 1)), none] [] S _
      rw [e1]
      exact ih (j + 1) (by omega)
  refine BM.of rfl rfl rfl ?_
  (repeat (first | (refine BW.pl rfl rfl ?_) | (refine CW.geti rfl rfl (by assumption) rfl rfl (by assumption) (fun _ => ?_)) | (refine CW.getr rfl rfl (by assumption) rfl rfl (by assumption) ?_)))
  refine CW.e1 rfl rfl (by first | exact Or.inl rfl | exact Or.inr (tagO (by assumption) (by rfl) (by rfl)) | exact Or.inr (tagO (AdrIs.ox (by assumption)) (by rfl) (by rfl)) | exact Or.inr (tagO (PatIs.ox (by assumption)) (by rfl) (by rfl)) | exact Or.inr (tagO (Or0.ox (by assumption)) (by rfl) (by rfl))) (by first | exact Or.inl (by decide) | exact Or.inr ⟨_, rfl, by assumption⟩) rfl (B_llSize hT) ?_
  rw [lsOf_len, ids_len]
  (repeat (refine BW.pl rfl rfl ?_))
  refine BW.br rfl rfl (by first | omega | decide | (constructor <;> first | omega | decide)) (fun w => by first | (exfalso; omega) | exact absurd w (by decide)) (fun w => ?_)
  (repeat (first | (refine BW.pl rfl rfl ?_) | (refine CW.geti rfl rfl (by assumption) rfl rfl (by assumption) (fun _ => ?_)) | (refine CW.getr rfl rfl (by assumption) rfl rfl (by assumption) ?_)))
  refine CW.e2 rfl rfl (by first | exact Or.inl rfl | exact Or.inr (tagO (by assumption) (by rfl) (by rfl)) | exact Or.inr (tagO (AdrIs.ox (by assumption)) (by rfl) (by rfl)) | exact Or.inr (tagO (PatIs.ox (by assumption)) (by rfl) (by rfl)) | exact Or.inr (tagO (Or0.ox (by assumption)) (by rfl) (by rfl))) (by first | exact Or.inl (by decide) | exact Or.inr ⟨_, rfl, by assumption⟩) rfl (L_areRows (d := d + 3) hl7 hs7 hh2 (by omega) (by omega)) ?_
  refine BW.br rfl rfl (by first | omega | decide | (constructor <;> first | omega | decide)) (fun w2 => by first | (exfalso; omega) | exact absurd w2 (by decide)) (fun w2 => ?_)
  (repeat (first | (refine BW.pl rfl rfl ?_) | (refine CW.geti rfl rfl (by assumption) rfl rfl (by assumption) (fun _ => ?_)) | (refine CW.getr rfl rfl (by assumption) rfl rfl (by assumption) ?_)))
  refine CW.e2 rfl rfl (by first | exact Or.inl rfl | exact Or.inr (tagO (by assumption) (by rfl) (by rfl)) | exact Or.inr (tagO (AdrIs.ox (by assumption)) (by rfl) (by rfl)) | exact Or.inr (tagO (PatIs.ox (by assumption)) (by rfl) (by rfl)) | exact Or.inr (tagO (Or0.ox (by assumption)) (by rfl) (by rfl))) (by first | exact Or.inl (by decide) | exact Or.inr ⟨_, rfl, by assumption⟩) rfl (L_areRows (d := d + 3) hl8 hs8 ho2 (by omega) (by omega)) ?_
  refine BW.br rfl rfl (by first | omega | decide | (constructor <;> first | omega | decide)) (fun w3 => by first | (exfalso; omega) | exact absurd w3 (by decide)) (fun w3 => ?_)
  (iterate 5 (refine BW.pl rfl rfl ?_))
  exact files 4 0 rfl
end DF
