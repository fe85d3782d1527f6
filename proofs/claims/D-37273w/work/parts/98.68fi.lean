-- C
set_option maxRecDepth 100000
/-! LINEORDERS: find -/
section FI
variable {d n m q i a b e y cap c k j pl B B' p F0 cl re l : Nat} {S S' S0 S1 S2 : BS} {K : Nat → Nat} {la la' : Int → Nat} {A A1 : St} {F V : Nat → Prop} {v nn x1 x z : Int} {r : Option Nat} {t : List SLine} {xs ws : List (Option Nat)} {ds : List SDeed} {tp s : List Int} {sc : Nat → Option (List Int)} {rows : List (List Int)} {w : PW} {cs : List Nat} {R : Nat ⊕ Int} {rg : GO} {bk : Bool}
theorem L_find (h : PwI S K la tp sc A ds cl re B) (hw : PwK (tp, sc, A, ds, cl, re)) (hb : v = b2i bk) (hB : B + 400000 ≤ 20000000) : BM (d + 194) gk_X1_find [aR (K 1), aI v] S (PuX K (pFind bk (tp, sc, A, ds, cl, re)).2 (B + 110000) [201] (pFind bk (tp, sc, A, ds, cl, re)).1) := by
  have h0 := h
  have htp : SgO tp := hw.1.1
  have h24 : tp.length ≤ 24 := hw.1.2
  have hwf : WF A := hw.2.2.1
  obtain ⟨cap, hcap, hL, hD, hR, h11, h12⟩ := h
  have hxb := hL.1.obx
  have hl60 := htp.1
  refine BM.of rfl rfl rfl ?_
  (repeat (refine BW.pl rfl rfl ?_))
  refine CW.c1 rfl rfl (by first | exact Or.inl rfl | exact Or.inr (tagO (by assumption) (by rfl) (by rfl)) | exact Or.inr (tagO (AdrIs.ox (by assumption)) (by rfl) (by rfl)) | exact Or.inr (tagO (PatIs.ox (by assumption)) (by rfl) (by rfl)) | exact Or.inr (tagO (Or0.ox (by assumption)) (by rfl) (by rfl))) (by first | exact Or.inl (by decide) | exact Or.inr ⟨_, rfl, by assumption⟩) rfl (L_tapePattern (d := d + 171) hL hR htp (by omega)) ?_
  rintro r S1 ⟨hF1, h1⟩
  have hL1 := hL.fr hF1 LoW.no (by omega)
  have hx1 := hL1.1.obx
  cases hs : sPattern tp with
  | inl k9 =>
    have e : pFind bk (tp, sc, A, ds, cl, re) = (.inl 1, tp, sc, A, ds, cl, re) := by unfold pFind; dsimp only; rw [hs]
    rw [e]
    rw [hs] at h1
    subst h1
    (repeat (refine BW.pl rfl rfl ?_))
    refine CW.nul rfl rfl (fun n h => by cases h) ?_
    (repeat (refine BW.pl rfl rfl ?_))
    refine CW.tst rfl rfl (by decide) rfl (Or.inr (Or.inl ⟨rfl, rfl⟩)) (Or.inl rfl) rfl (fun w => absurd w (by decide)) (fun _ S2 hF2 => ?_)
    exact PuX.no h0 (hF1.tr0 hF2 (Nat.le_refl _)) (by omega) (by omega) rfl rfl
  | inr pt =>
    have e : pFind bk (tp, sc, A, ds, cl, re) = (.inr (if sSeek A.1 A.2.1 pt bk = 0 then -1 else (sSeek A.1 A.2.1 pt bk : Int)), tp, sc, A, ds, cl, re) := by unfold pFind; dsimp only; rw [hs]
    rw [e]
    rw [hs] at h1
    obtain ⟨q, rfl, hq⟩ := h1
    have hpk := sPattern_K hs hl60
    have hq1 : Ob S1 q (oOwn 9) := by obtain ⟨_, _, _, _, _, _, _, _, h, _⟩ := hq; exact h
    have h01 := h0.f0 hF1 (by omega)
    obtain ⟨cap1, hcap1, hL1, hD1, hR1, h111, h121⟩ := h01
    have hx1 := hL1.1.obx
    (repeat (refine BW.pl rfl rfl ?_))
    refine CW.nul rfl rfl (fun n h => by cases h; rw [show S1.1 q = _ from hq1]; rfl) ?_
    (repeat (refine BW.pl rfl rfl ?_))
    refine CW.tst rfl rfl (by decide) rfl (Or.inr (Or.inl ⟨rfl, rfl⟩)) (Or.inr rfl) rfl (fun _ => ?_) (fun w _ _ => absurd w (by decide))
    (repeat (refine BW.pl rfl rfl ?_))
    refine CW.c3 rfl rfl (by first | exact Or.inl rfl | exact Or.inr (tagO (by assumption) (by rfl) (by rfl)) | exact Or.inr (tagO (AdrIs.ox (by assumption)) (by rfl) (by rfl)) | exact Or.inr (tagO (PatIs.ox (by assumption)) (by rfl) (by rfl)) | exact Or.inr (tagO (Or0.ox (by assumption)) (by rfl) (by rfl))) (by first | exact Or.inl (by decide) | exact Or.inr ⟨_, rfl, by assumption⟩) rfl (L_nextHolding (d := d + 11) (V := fun _ => True) (bk := bk) hL1 (fun m hm => hL.ko hm) hq hpk hwf.1 hwf.2.1 (fun z hz => (hwf.2.2.2.1 z hz).2.1) hb) ?_
    rintro r S2 ⟨rfl, hL2, hX2⟩
    have hsk := sSeek_R (t := A.1) (p := A.2.1) (pt := pt) (back := bk)
    have h40 := hwf.2.1
    exact BW.irx rfl (Or.inl ⟨rfl, by split <;> constructor <;> omega⟩) (PuX.ok (la := la) (B := B + (2800 * tp.length + 32000)) ⟨cap1, hcap1, hL2, hD1.xg (XG.of hX2) hL1.1, hR1.xg (XG.of hX2) hL1.1 hL2.1, hX2.fK hL1.1 h111 (by decide), hX2.fK hL1.1 h121 (by decide)⟩ (by omega) (by omega) rfl)
end FI
