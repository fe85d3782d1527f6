-- C
set_option maxRecDepth 100000
/-! LINEORDERS: undo, undoRun -/
section UN
variable {d n m q i a b e y cap c k j pl B B' p F0 cl re l : Nat} {S S' S0 S1 S2 : BS} {K : Nat → Nat} {la la' : Int → Nat} {A A1 : St} {F V : Nat → Prop} {v nn x1 x z : Int} {r : Option Nat} {t : List SLine} {xs ws : List (Option Nat)} {ds : List SDeed} {tp s : List Int} {sc : Nat → Option (List Int)} {rows : List (List Int)} {w : PW} {cs : List Nat} {R : Nat ⊕ Int} {rg : GO}
theorem DsI.last (h : DsI S K la ds cap) (hne : ds ≠ []) : ∃ xs m, Ob S (K 10) (oAd xs cap) ∧ xs.length = ds.length ∧ 0 < xs.length ∧ xs.getD (xs.length - 1) none = some m ∧ DeedIs S K la m (lastD ds) := by
  obtain ⟨xs, h1, h2, h3⟩ := h
  have hl := List.length_pos_iff.mpr hne
  obtain ⟨m, g1, g2⟩ := h3 (ds.length - 1) (by omega)
  exact ⟨xs, m, h1, h2, by omega, by rw [h2]; exact g1, g2⟩
theorem lastD_mem (hne : ds ≠ []) : lastD ds ∈ ds := by
  have hl := List.length_pos_iff.mpr hne
  exact getD_mem (by omega)
/-- the latest deed is taken out -/
theorem DsI.take (h : DsI S K la ds cap) (h0 : Ob S (K 10) (oAd xs cap)) (h1 : Ob S' (K 10) (oAd (xs.take (xs.length - 1)) cap)) (hF : Fr1 S S' (K 10) c) : DsI S' K la (ds.take (ds.length - 1)) cap := by
  obtain ⟨xs', g1, g2, g3⟩ := h
  have e : xs' = xs := by
    have : oAd xs' cap = oAd xs cap := g1.symm.trans h0
    exact congrArg (fun o : Obj => o.2.2.1) this
  subst e
  refine ⟨_, h1, by rw [List.length_take, List.length_take, g2], fun j hj => ?_⟩
  rw [List.length_take] at hj
  obtain ⟨m, k1, k2⟩ := g3 j (by omega)
  refine ⟨m, ?_, ?_⟩
  · rw [List.getD_eq_getElem?_getD, List.getElem?_take, if_pos (by omega), ← List.getD_eq_getElem?_getD]
    exact k1
  · rw [List.getD_eq_getElem?_getD, List.getElem?_take, if_pos (by omega), ← List.getD_eq_getElem?_getD]
    exact k2.fr hF (fun z hz => hz 10 (by decide)) (NoS.one h0 rfl)
/-- removeLast, then bring: what it does -/
theorem UnS (hL : LO S K la A B) (hD : DsI S K la ds cap) (h0 : Ob S (K 10) (oAd xs cap)) (h1 : Ob S1 (K 10) (oAd (xs.take (xs.length - 1)) cap)) (hF : Fr1 S S1 (K 10) 0) (hR : RsI S K tp sc) (h11 : Fi S 11 (K 1) cl) (h12 : Fi S 12 (K 1) re) (hB : B ≤ 20000000) : LO S1 K la A B ∧ DsI S1 K la (ds.take (ds.length - 1)) cap ∧ RsI S1 K tp sc ∧ Fi S1 11 (K 1) cl ∧ Fi S1 12 (K 1) re := by
  have s1 : K 1 ≠ K 10 := hL.1.inj (by decide) (by decide) (by decide)
  have e := hL.1.obx.old (oNe rfl)
  exact ⟨hL.frK hF h0 (oNe rfl) rfl hL.1.ne10 hB, hD.take h0 h1 hF, hR.f10 hF h0 rfl hL.1, h11.fr hF ⟨⟨e, by decide⟩, s1⟩, h12.fr hF ⟨⟨e, by decide⟩, s1⟩⟩
theorem L_undo (h : PwI S K la tp sc A ds cl re B) (hw : PwK (tp, sc, A, ds, cl, re)) (hB : B + 50000 ≤ 20000000) : BM (d + 14) gk_X1_undo [aR (K 1)] S (PuX K (pUndo (tp, sc, A, ds, cl, re)).2 (B + 800) [201] (pUndo (tp, sc, A, ds, cl, re)).1) := by
  have h0 := h
  obtain ⟨-, -, k3, k4, k5, k6, k7⟩ := hw
  have k4 : ∀ q ∈ ds, DqK A.2.2.2.2.2.2.1 q := k4
  have k5 : ds.length ≤ 40 := k5
  obtain ⟨cap, hcap, hL, hD, hR, h11, h12⟩ := h
  have hxb := hL.1.obx
  have e10 := hL.1.e10
  refine BM.of rfl rfl rfl ?_
  by_cases z : ds = []
  · have e : pUndo (tp, sc, A, ds, cl, re) = (.inl 1, tp, sc, A, ds, cl, re) := by unfold pUndo; rw [if_pos z]
    rw [e]
    obtain ⟨xs, h10, hxl, -⟩ := hD
    have hxn : xs = [] := List.length_eq_zero_iff.mp (by rw [hxl, z]; rfl)
    (repeat (first | (refine BW.pl rfl rfl ?_) | (refine CW.geti rfl rfl (by assumption) rfl rfl (by assumption) (fun _ => ?_)) | (refine CW.getr rfl rfl (by assumption) rfl rfl (by assumption) ?_)))
    refine CW.e1 rfl rfl (by first | exact Or.inl rfl | exact Or.inr (tagO (by assumption) (by rfl) (by rfl)) | exact Or.inr (tagO (AdrIs.ox (by assumption)) (by rfl) (by rfl)) | exact Or.inr (tagO (PatIs.ox (by assumption)) (by rfl) (by rfl)) | exact Or.inr (tagO (Or0.ox (by assumption)) (by rfl) (by rfl))) (by first | exact Or.inl (by decide) | exact Or.inr ⟨_, rfl, by assumption⟩) rfl (B_adEmp h10) ?_
    rw [if_pos hxn]
    refine BW.br rfl rfl (by first | omega | decide | (constructor <;> first | omega | decide)) (fun w => ?_) (fun w => by first | (exfalso; omega) | exact absurd w (by decide))
    (repeat (refine BW.pl rfl rfl ?_))
    refine CW.tst rfl rfl (by decide) rfl (Or.inr (Or.inl ⟨rfl, rfl⟩)) (Or.inl rfl) rfl (fun w => absurd w (by decide)) (fun _ S3 hF3 => ?_)
    exact PuX.no h0 hF3 (by omega) (by omega) rfl rfl
  · have e : pUndo (tp, sc, A, ds, cl, re) = (.inr ((ds.length - 1 : Nat) : Int), setAD (tp, sc, A, ds, cl, re) (undoA A (lastD ds)) (ds.take (ds.length - 1))) := by unfold pUndo; rw [if_neg z]
    rw [e]
    obtain ⟨xs, m, h10, hxl, hx0, hm, hDm⟩ := hD.last z
    have hm4 := hDm.2.1
    have hxn : xs ≠ [] := List.length_pos_iff.mp hx0
    have hko : ∀ z, KoM K z → z ≠ K 10 := fun z hz => hz 10 (by decide)
    (repeat (first | (refine BW.pl rfl rfl ?_) | (refine CW.geti rfl rfl (by assumption) rfl rfl (by assumption) (fun _ => ?_)) | (refine CW.getr rfl rfl (by assumption) rfl rfl (by assumption) ?_)))
    refine CW.e1 rfl rfl (by first | exact Or.inl rfl | exact Or.inr (tagO (by assumption) (by rfl) (by rfl)) | exact Or.inr (tagO (AdrIs.ox (by assumption)) (by rfl) (by rfl)) | exact Or.inr (tagO (PatIs.ox (by assumption)) (by rfl) (by rfl)) | exact Or.inr (tagO (Or0.ox (by assumption)) (by rfl) (by rfl))) (by first | exact Or.inl (by decide) | exact Or.inr ⟨_, rfl, by assumption⟩) rfl (B_adEmp h10) ?_
    rw [if_neg hxn]
    refine BW.br rfl rfl (by first | omega | decide | (constructor <;> first | omega | decide)) (fun w => by first | (exfalso; omega) | exact absurd w (by decide)) (fun w => ?_)
    (repeat (refine BW.pl rfl rfl ?_))
    refine CW.tst rfl rfl (by decide) rfl (Or.inr (Or.inl ⟨rfl, rfl⟩)) (Or.inr rfl) rfl (fun _ => ?_) (fun w _ _ => absurd w (by decide))
    (repeat (first | (refine BW.pl rfl rfl ?_) | (refine CW.geti rfl rfl (by assumption) rfl rfl (by assumption) (fun _ => ?_)) | (refine CW.getr rfl rfl (by assumption) rfl rfl (by assumption) ?_)))
    refine CW.c1 rfl rfl (by first | exact Or.inl rfl | exact Or.inr (tagO (by assumption) (by rfl) (by rfl)) | exact Or.inr (tagO (AdrIs.ox (by assumption)) (by rfl) (by rfl)) | exact Or.inr (tagO (PatIs.ox (by assumption)) (by rfl) (by rfl)) | exact Or.inr (tagO (Or0.ox (by assumption)) (by rfl) (by rfl))) (by first | exact Or.inl (by decide) | exact Or.inr ⟨_, rfl, by assumption⟩) rfl (C_adRL h10 hx0) ?_
    rintro r S1 ⟨rfl, h101, hF1⟩
    obtain ⟨hL1, hD1, hR1, h111, h121⟩ := UnS hL hD h10 h101 hF1 hR h11 h12 (by omega)
    have hDm1 := hDm.fr hF1 hko (NoS.one h10 rfl)
    have hm41 := hDm1.2.1
    rw [hm]
    refine CW.castS rfl hm41 rfl rfl rfl ?_
    refine CW.c1 rfl rfl (by first | exact Or.inl rfl | exact Or.inr (tagO (by assumption) (by rfl) (by rfl)) | exact Or.inr (tagO (AdrIs.ox (by assumption)) (by rfl) (by rfl)) | exact Or.inr (tagO (PatIs.ox (by assumption)) (by rfl) (by rfl)) | exact Or.inr (tagO (Or0.ox (by assumption)) (by rfl) (by rfl))) (by first | exact Or.inl (by decide) | exact Or.inr ⟨_, rfl, by assumption⟩) rfl (L_deedBring (d := d + 3) hL1.1 hDm1 (k4 _ (lastD_mem z)) (by omega)) ?_
    rintro r S2 ⟨rfl, hL2, hX2⟩
    have hx2 := hL2.1.obx
    have e102 := hL2.1.e10
    have hD2 := hD1.xg (XG.of hX2) hL1.1
    have hR2 := hR1.xg (XG.of hX2) hL1.1 hL2.1
    obtain ⟨xs2, h102, hxl2, -⟩ := id hD2
    (repeat (first | (refine BW.pl rfl rfl ?_) | (refine CW.geti rfl rfl (by assumption) rfl rfl (by assumption) (fun _ => ?_)) | (refine CW.getr rfl rfl (by assumption) rfl rfl (by assumption) ?_)))
    refine CW.e1 rfl rfl (by first | exact Or.inl rfl | exact Or.inr (tagO (by assumption) (by rfl) (by rfl)) | exact Or.inr (tagO (AdrIs.ox (by assumption)) (by rfl) (by rfl)) | exact Or.inr (tagO (PatIs.ox (by assumption)) (by rfl) (by rfl)) | exact Or.inr (tagO (Or0.ox (by assumption)) (by rfl) (by rfl))) (by first | exact Or.inl (by decide) | exact Or.inr ⟨_, rfl, by assumption⟩) rfl (B_adSize h102) ?_
    rw [hxl2, List.length_take, show min (ds.length - 1) ds.length = ds.length - 1 by omega]
    exact BW.irx rfl (Or.inl ⟨rfl, by constructor <;> omega⟩) (PuX.ok (la := la) (B := B + 760) (w := setAD (tp, sc, A, ds, cl, re) (undoA A (lastD ds)) (ds.take (ds.length - 1))) ⟨cap, hcap, hL2.le (by omega) (by omega), hD2, hR2, hX2.fK hL1.1 h111 (by decide), hX2.fK hL1.1 h121 (by decide)⟩ (by omega) (by omega) rfl)
theorem undoA_n {q : SDeed} : (undoA A q).2.2.2.2.2.2.1 = A.2.2.2.2.2.2.1 := rfl
theorem undoF_e {n : Nat} : undoF pl (n + 1) A ds = if ds ≠ [] ∧ (lastD ds).1 = pl then ((undoF pl n (undoA A (lastD ds)) (ds.take (ds.length - 1))).1 + 1, (undoF pl n (undoA A (lastD ds)) (ds.take (ds.length - 1))).2) else (0, A, ds) := rfl
theorem L_undoRun (h : PwI S K la tp sc A ds cl re B) (hw : PwK (tp, sc, A, ds, cl, re)) (hB : B + 50000 ≤ 20000000) : BM (d + 14) gk_X1_undoRun [aR (K 1)] S (PuX K (pUndoRun (tp, sc, A, ds, cl, re)).2 (B + 31000) [201] (pUndoRun (tp, sc, A, ds, cl, re)).1) := by
  have h0 := h
  obtain ⟨-, -, k3, k4, k5, k6, k7⟩ := hw
  have k4 : ∀ q ∈ ds, DqK A.2.2.2.2.2.2.1 q := k4
  have k5 : ds.length ≤ 40 := k5
  obtain ⟨cap, hcap, hL, hD, hR, h11, h12⟩ := h
  have hxb := hL.1.obx
  have e10 := hL.1.e10
  refine BM.of rfl rfl rfl ?_
  by_cases z : ds = []
  · have e : pUndoRun (tp, sc, A, ds, cl, re) = (.inl 1, tp, sc, A, ds, cl, re) := by unfold pUndoRun; rw [if_pos z]
    rw [e]
    obtain ⟨xs, h10, hxl, -⟩ := hD
    have hxn : xs = [] := List.length_eq_zero_iff.mp (by rw [hxl, z]; rfl)
    (repeat (first | (refine BW.pl rfl rfl ?_) | (refine CW.geti rfl rfl (by assumption) rfl rfl (by assumption) (fun _ => ?_)) | (refine CW.getr rfl rfl (by assumption) rfl rfl (by assumption) ?_)))
    refine CW.e1 rfl rfl (by first | exact Or.inl rfl | exact Or.inr (tagO (by assumption) (by rfl) (by rfl)) | exact Or.inr (tagO (AdrIs.ox (by assumption)) (by rfl) (by rfl)) | exact Or.inr (tagO (PatIs.ox (by assumption)) (by rfl) (by rfl)) | exact Or.inr (tagO (Or0.ox (by assumption)) (by rfl) (by rfl))) (by first | exact Or.inl (by decide) | exact Or.inr ⟨_, rfl, by assumption⟩) rfl (B_adEmp h10) ?_
    rw [if_pos hxn]
    refine BW.br rfl rfl (by first | omega | decide | (constructor <;> first | omega | decide)) (fun w => ?_) (fun w => by first | (exfalso; omega) | exact absurd w (by decide))
    (repeat (refine BW.pl rfl rfl ?_))
    refine CW.tst rfl rfl (by decide) rfl (Or.inr (Or.inl ⟨rfl, rfl⟩)) (Or.inl rfl) rfl (fun w => absurd w (by decide)) (fun _ S3 hF3 => ?_)
    exact PuX.no h0 hF3 (by omega) (by omega) rfl rfl
  have e : pUndoRun (tp, sc, A, ds, cl, re) = (.inr ((undoF (lastD ds).1 ds.length A ds).1 : Int), setAD (tp, sc, A, ds, cl, re) (undoF (lastD ds).1 ds.length A ds).2.1 (undoF (lastD ds).1 ds.length A ds).2.2) := by unfold pUndoRun; rw [if_neg z]
  rw [e]
  obtain ⟨xs, m, h10, hxl, hx0, hm, hDm⟩ := hD.last z
  have hm4 := hDm.2.1
  have h30 : Fi S 30 m ((lastD ds).1 : Int) := hDm.2.2.1
  have hxn : xs ≠ [] := List.length_pos_iff.mp hx0
  have hko : ∀ z, KoM K z → z ≠ K 10 := fun z hz => hz 10 (by decide)
  (repeat (first | (refine BW.pl rfl rfl ?_) | (refine CW.geti rfl rfl (by assumption) rfl rfl (by assumption) (fun _ => ?_)) | (refine CW.getr rfl rfl (by assumption) rfl rfl (by assumption) ?_)))
  refine CW.e1 rfl rfl (by first | exact Or.inl rfl | exact Or.inr (tagO (by assumption) (by rfl) (by rfl)) | exact Or.inr (tagO (AdrIs.ox (by assumption)) (by rfl) (by rfl)) | exact Or.inr (tagO (PatIs.ox (by assumption)) (by rfl) (by rfl)) | exact Or.inr (tagO (Or0.ox (by assumption)) (by rfl) (by rfl))) (by first | exact Or.inl (by decide) | exact Or.inr ⟨_, rfl, by assumption⟩) rfl (B_adEmp h10) ?_
  rw [if_neg hxn]
  refine BW.br rfl rfl (by first | omega | decide | (constructor <;> first | omega | decide)) (fun w => by first | (exfalso; omega) | exact absurd w (by decide)) (fun w => ?_)
  (repeat (refine BW.pl rfl rfl ?_))
  refine CW.tst rfl rfl (by decide) rfl (Or.inr (Or.inl ⟨rfl, rfl⟩)) (Or.inr rfl) rfl (fun _ => ?_) (fun w _ _ => absurd w (by decide))
  (repeat (first | (refine BW.pl rfl rfl ?_) | (refine CW.geti rfl rfl (by assumption) rfl rfl (by assumption) (fun _ => ?_)) | (refine CW.getr rfl rfl (by assumption) rfl rfl (by assumption) ?_)))
  refine CW.e1 rfl rfl (by first | exact Or.inl rfl | exact Or.inr (tagO (by assumption) (by rfl) (by rfl)) | exact Or.inr (tagO (AdrIs.ox (by assumption)) (by rfl) (by rfl)) | exact Or.inr (tagO (PatIs.ox (by assumption)) (by rfl) (by rfl)) | exact Or.inr (tagO (Or0.ox (by assumption)) (by rfl) (by rfl))) (by first | exact Or.inl (by decide) | exact Or.inr ⟨_, rfl, by assumption⟩) rfl (B_adPeek h10 hx0) ?_
  rw [hm]
  refine CW.castS rfl hm4 rfl rfl rfl ?_
  have hplR : (lastD ds).1 < 2000000 := (k4 _ (lastD_mem z)).1
  generalize hpl : (lastD ds).1 = pl at h30 hplR ⊢
  generalize hres : undoF pl ds.length A ds = RES
  have loop : ∀ (N k : Nat) (A2 : St) (ds2 : List SDeed) (S2 : BS), ds2.length ≤ N → k + N ≤ 40 → LO S2 K la A2 (B + 760 * k + 6 * cap) → DsI S2 K la ds2 cap → RsI S2 K tp sc → Fi S2 11 (K 1) cl → Fi S2 12 (K 1) re → (∀ q ∈ ds2, DqK A2.2.2.2.2.2.2.1 q) → ((undoF pl N A2 ds2).1 + k, (undoF pl N A2 ds2).2) = RES → BW (d + 13) gm_X1_undoRun 16 [some (aR (K 1)), some (aI pl), some (aI k)] [] S2 (PuX K (setAD (tp, sc, A, ds, cl, re) RES.2.1 RES.2.2) (B + 31000) [201] (.inr (RES.1 : Int))) := by
    intro N
    induction N with
    | zero =>
      intro k A2 ds2 S2 hN hk hL2 hD2 hR2 h112 h122 hds2 hr
      have hx2 := hL2.1.obx
      have e102 := hL2.1.e10
      have hz2 : ds2 = [] := List.length_eq_zero_iff.mp (by omega)
      obtain ⟨xs2, h102, hxl2, -⟩ := id hD2
      have hxn2 : xs2 = [] := List.length_eq_zero_iff.mp (by rw [hxl2, hz2]; rfl)
      have hr : ((0 : Nat) + k, A2, ds2) = RES := hr
      rw [Nat.zero_add] at hr
      subst hr
      (repeat (first | (refine BW.pl rfl rfl ?_) | (refine CW.geti rfl rfl (by assumption) rfl rfl (by assumption) (fun _ => ?_)) | (refine CW.getr rfl rfl (by assumption) rfl rfl (by assumption) ?_)))
      refine CW.e1 rfl rfl (by first | exact Or.inl rfl | exact Or.inr (tagO (by assumption) (by rfl) (by rfl)) | exact Or.inr (tagO (AdrIs.ox (by assumption)) (by rfl) (by rfl)) | exact Or.inr (tagO (PatIs.ox (by assumption)) (by rfl) (by rfl)) | exact Or.inr (tagO (Or0.ox (by assumption)) (by rfl) (by rfl))) (by first | exact Or.inl (by decide) | exact Or.inr ⟨_, rfl, by assumption⟩) rfl (B_adEmp h102) ?_
      rw [if_pos hxn2]
      refine BW.br rfl rfl (by first | omega | decide | (constructor <;> first | omega | decide)) (fun w2 => ?_) (fun w2 => by first | (exfalso; omega) | exact absurd w2 (by decide))
      (repeat (refine BW.pl rfl rfl ?_))
      exact BW.irx rfl (Or.inl ⟨rfl, by constructor <;> omega⟩) (PuX.ok (la := la) (B := B + 760 * k) (w := setAD (tp, sc, A, ds, cl, re) A2 ds2) ⟨cap, hcap, hL2, hD2, hR2, h112, h122⟩ (by omega) (by omega) rfl)
    | succ N ih =>
      intro k A2 ds2 S2 hN hk hL2 hD2 hR2 h112 h122 hds2 hr
      have hx2 := hL2.1.obx
      have e102 := hL2.1.e10
      rw [undoF_e] at hr
      by_cases hz2 : ds2 = []
      · rw [if_neg (fun w => w.1 hz2)] at hr
        obtain ⟨xs2, h102, hxl2, -⟩ := id hD2
        have hxn2 : xs2 = [] := List.length_eq_zero_iff.mp (by rw [hxl2, hz2]; rfl)
        have hr : ((0 : Nat) + k, A2, ds2) = RES := hr
        rw [Nat.zero_add] at hr
        subst hr
        (repeat (first | (refine BW.pl rfl rfl ?_) | (refine CW.geti rfl rfl (by assumption) rfl rfl (by assumption) (fun _ => ?_)) | (refine CW.getr rfl rfl (by assumption) rfl rfl (by assumption) ?_)))
        refine CW.e1 rfl rfl (by first | exact Or.inl rfl | exact Or.inr (tagO (by assumption) (by rfl) (by rfl)) | exact Or.inr (tagO (AdrIs.ox (by assumption)) (by rfl) (by rfl)) | exact Or.inr (tagO (PatIs.ox (by assumption)) (by rfl) (by rfl)) | exact Or.inr (tagO (Or0.ox (by assumption)) (by rfl) (by rfl))) (by first | exact Or.inl (by decide) | exact Or.inr ⟨_, rfl, by assumption⟩) rfl (B_adEmp h102) ?_
        rw [if_pos hxn2]
        refine BW.br rfl rfl (by first | omega | decide | (constructor <;> first | omega | decide)) (fun w2 => ?_) (fun w2 => by first | (exfalso; omega) | exact absurd w2 (by decide))
        (repeat (refine BW.pl rfl rfl ?_))
        exact BW.irx rfl (Or.inl ⟨rfl, by constructor <;> omega⟩) (PuX.ok (la := la) (B := B + 760 * k) (w := setAD (tp, sc, A, ds, cl, re) A2 ds2) ⟨cap, hcap, hL2, hD2, hR2, h112, h122⟩ (by omega) (by omega) rfl)
      obtain ⟨xs2, m2, h102, hxl2, hx02, hm2, hDm2⟩ := hD2.last hz2
      have hm42 := hDm2.2.1
      have h302 : Fi S2 30 m2 ((lastD ds2).1 : Int) := hDm2.2.2.1
      have hxn2 : xs2 ≠ [] := List.length_pos_iff.mp hx02
      have hq2 := hds2 _ (lastD_mem hz2)
      have hq20 := hq2.1
      (repeat (first | (refine BW.pl rfl rfl ?_) | (refine CW.geti rfl rfl (by assumption) rfl rfl (by assumption) (fun _ => ?_)) | (refine CW.getr rfl rfl (by assumption) rfl rfl (by assumption) ?_)))
      refine CW.e1 rfl rfl (by first | exact Or.inl rfl | exact Or.inr (tagO (by assumption) (by rfl) (by rfl)) | exact Or.inr (tagO (AdrIs.ox (by assumption)) (by rfl) (by rfl)) | exact Or.inr (tagO (PatIs.ox (by assumption)) (by rfl) (by rfl)) | exact Or.inr (tagO (Or0.ox (by assumption)) (by rfl) (by rfl))) (by first | exact Or.inl (by decide) | exact Or.inr ⟨_, rfl, by assumption⟩) rfl (B_adEmp h102) ?_
      rw [if_neg hxn2]
      refine BW.br rfl rfl (by first | omega | decide | (constructor <;> first | omega | decide)) (fun w2 => by first | (exfalso; omega) | exact absurd w2 (by decide)) (fun w2 => ?_)
      (repeat (first | (refine BW.pl rfl rfl ?_) | (refine CW.geti rfl rfl (by assumption) rfl rfl (by assumption) (fun _ => ?_)) | (refine CW.getr rfl rfl (by assumption) rfl rfl (by assumption) ?_)))
      refine CW.e1 rfl rfl (by first | exact Or.inl rfl | exact Or.inr (tagO (by assumption) (by rfl) (by rfl)) | exact Or.inr (tagO (AdrIs.ox (by assumption)) (by rfl) (by rfl)) | exact Or.inr (tagO (PatIs.ox (by assumption)) (by rfl) (by rfl)) | exact Or.inr (tagO (Or0.ox (by assumption)) (by rfl) (by rfl))) (by first | exact Or.inl (by decide) | exact Or.inr ⟨_, rfl, by assumption⟩) rfl (B_adPeek h102 hx02) ?_
      rw [hm2]
      refine CW.castS rfl hm42 rfl rfl rfl ?_
      (repeat (first | (refine BW.pl rfl rfl ?_) | (refine CW.geti rfl rfl (by assumption) rfl rfl (by assumption) (fun _ => ?_)) | (refine CW.getr rfl rfl (by assumption) rfl rfl (by assumption) ?_)))
      by_cases hp : (lastD ds2).1 = pl
      rotate_left
      · rw [if_neg (fun w => hp w.2)] at hr
        have hr : ((0 : Nat) + k, A2, ds2) = RES := hr
        rw [Nat.zero_add] at hr
        subst hr
        refine BW.br rfl rfl (by first | omega | decide | (constructor <;> first | omega | decide)) (fun w3 => ?_) (fun w3 => by first | (exfalso; omega) | exact absurd w3 (by decide))
        (repeat (refine BW.pl rfl rfl ?_))
        exact BW.irx rfl (Or.inl ⟨rfl, by constructor <;> omega⟩) (PuX.ok (la := la) (B := B + 760 * k) (w := setAD (tp, sc, A, ds, cl, re) A2 ds2) ⟨cap, hcap, hL2, hD2, hR2, h112, h122⟩ (by omega) (by omega) rfl)
      rw [if_pos ⟨hz2, hp⟩] at hr
      refine BW.br rfl rfl (by first | omega | decide | (constructor <;> first | omega | decide)) (fun w3 => by first | (exfalso; omega) | exact absurd w3 (by decide)) (fun w3 => ?_)
      (repeat (first | (refine BW.pl rfl rfl ?_) | (refine CW.geti rfl rfl (by assumption) rfl rfl (by assumption) (fun _ => ?_)) | (refine CW.getr rfl rfl (by assumption) rfl rfl (by assumption) ?_)))
      refine CW.c1 rfl rfl (by first | exact Or.inl rfl | exact Or.inr (tagO (by assumption) (by rfl) (by rfl)) | exact Or.inr (tagO (AdrIs.ox (by assumption)) (by rfl) (by rfl)) | exact Or.inr (tagO (PatIs.ox (by assumption)) (by rfl) (by rfl)) | exact Or.inr (tagO (Or0.ox (by assumption)) (by rfl) (by rfl))) (by first | exact Or.inl (by decide) | exact Or.inr ⟨_, rfl, by assumption⟩) rfl (C_adRL h102 hx02) ?_
      rintro r S3 ⟨rfl, h103, hF3⟩
      obtain ⟨hL3, hD3, hR3, h113, h123⟩ := UnS hL2 hD2 h102 h103 hF3 hR2 h112 h122 (by omega)
      have hDm3 := hDm2.fr hF3 hko (NoS.one h102 rfl)
      have hm43 := hDm3.2.1
      rw [hm2]
      refine CW.castS rfl hm43 rfl rfl rfl ?_
      refine CW.c1 rfl rfl (by first | exact Or.inl rfl | exact Or.inr (tagO (by assumption) (by rfl) (by rfl)) | exact Or.inr (tagO (AdrIs.ox (by assumption)) (by rfl) (by rfl)) | exact Or.inr (tagO (PatIs.ox (by assumption)) (by rfl) (by rfl)) | exact Or.inr (tagO (Or0.ox (by assumption)) (by rfl) (by rfl))) (by first | exact Or.inl (by decide) | exact Or.inr ⟨_, rfl, by assumption⟩) rfl (L_deedBring (d := d + 3) hL3.1 hDm3 hq2 (by omega)) ?_
      rintro r S4 ⟨rfl, hL4, hX4⟩
      (iterate 2 (refine BW.pl rfl rfl ?_))
      have ek : (k : Int) + 1 = ((k + 1 : Nat) : Int) := by omega
      show BW (d + 13) gm_X1_undoRun 16 [some (aR (K 1)), some (aI pl), some (aI ((k : Int) + 1))] [] S4 _
      rw [ek]
      refine ih (k + 1) (undoA A2 (lastD ds2)) (ds2.take (ds2.length - 1)) S4 (by rw [List.length_take]; omega) (by omega) (hL4.le (by omega) (by omega)) (hD3.xg (XG.of hX4) hL3.1) (hR3.xg (XG.of hX4) hL3.1 hL4.1) (hX4.fK hL3.1 h113 (by decide)) (hX4.fK hL3.1 h123 (by decide)) (fun q hq => hds2 q (List.mem_of_mem_take hq)) ?_
      rw [← hr]
      show (_ + (k + 1), _) = (_ + 1 + k, _)
      rw [show ∀ a : Nat, a + (k + 1) = a + 1 + k from fun a => by omega]
  (iterate 4 (first | (refine BW.pl rfl rfl ?_) | (refine CW.geti rfl rfl (by assumption) rfl rfl (by assumption) (fun _ => ?_)) | (refine CW.getr rfl rfl (by assumption) rfl rfl (by assumption) ?_)))
  exact loop ds.length 0 A ds S (Nat.le_refl _) (by omega) (hL.le (by omega) (by omega)) hD hR h11 h12 k4 (by rw [hres]; rfl)
end UN
