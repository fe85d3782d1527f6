-- C
set_option maxRecDepth 100000
/-! LINEORDERS: the tape; what is written on it as orders, as a pattern -/
section TP
variable {d n m q i a b e y cap c k j pl B p F0 cl re l : Nat} {S S' S0 S1 S2 : BS} {K : Nat → Nat} {la la' : Int → Nat} {A A1 : St} {F V : Nat → Prop} {v nn x1 x z : Int} {r : Option Nat} {t : List SLine} {xs ws : List (Option Nat)} {ds : List SDeed} {tp s : List Int} {sc : Nat → Option (List Int)} {rows : List (List Int)} {w : PW}
theorem L_tapeText (hx : Ob S (K 1) (oOwn 1)) (hR : RsI S K tp sc) (htp : SgO tp) : BMr (d + 8) gk_X1_tapeText [aR (K 1)] S (fun r S' => ∃ y, r = vR (some y) ∧ S.1 y = oNil ∧ 1000 ≤ y ∧ Ob S' y (oStr tp) ∧ Fr0 S S' 500) := by
  obtain ⟨e0, ⟨us, hus, hul, htl, hug, h1⟩, -⟩ := hR
  have hl60 := htp.1
  refine BM.of rfl rfl rfl ?_
  refine CW.newJ (L := 4) (c := 14) rfl rfl rfl (fun b S1 hN => ?_)
  have hb := hN.ob
  have hbk := hN.1
  have hbz := hN.nil
  (repeat (refine BW.pl rfl rfl ?_))
  refine CW.c1 rfl rfl (by first | exact Or.inl rfl | exact Or.inr (tagO (by assumption) (by rfl) (by rfl)) | exact Or.inr (tagO (AdrIs.ox (by assumption)) (by rfl) (by rfl)) | exact Or.inr (tagO (PatIs.ox (by assumption)) (by rfl) (by rfl)) | exact Or.inr (tagO (Or0.ox (by assumption)) (by rfl) (by rfl))) (by first | exact Or.inl (by decide) | exact Or.inr ⟨_, rfl, by assumption⟩) rfl (C_sbNew hb) ?_
  rintro r S2 ⟨rfl, hb2, hF2⟩
  have hF02 : Fr S S2 (fun m => m = b) 44 := ((hN.fr.w (W2 := fun m => m = b) (fun _ _ z => z.elim) (Nat.le_refl _)).tr hF2 (fun _ _ z => z)).w (fun _ _ z => z) (by omega)
  have nb : ∀ {m : Nat} {o : Obj}, Ob S m o → o ≠ oNil → Sep S (fun k => k = b) m := fun h ho z => h.old ho (by rw [show _ = b from z]; exact hbz)
  have hxo := hx.old (oNe rfl)
  (iterate 3 (refine BW.pl rfl rfl ?_))
  have loop : ∀ (N j : Nat) (S3 : BS) (cp : Nat), j + N = tp.length → Fr S S3 (fun m => m = b) (44 + 3 * (cp - 16)) → Ob S3 b (oSb (tp.take j) cp) → 16 ≤ cp → (cp = 16 ∨ cp ≤ 2 * j) → BW (d + 7) gm_X1_tapeText 6 [some (aR (K 1)), some (aR b), some (aI j)] [] S3 (fun r S' => ∃ v, r = .inl v ∧ ∃ y, v = vR (some y) ∧ S.1 y = oNil ∧ 1000 ≤ y ∧ Ob S' y (oStr tp) ∧ Fr0 S S' 500) := by
    intro N
    induction N with
    | zero =>
      intro j S3 cp hj hF hb3 hc1 hc2
      obtain rfl : j = tp.length := by omega
      rw [List.take_length] at hb3
      have hx3 := hx.fr hF ⟨oNe rfl, nb hx (oNe rfl)⟩
      have h13 := h1.fr hF ⟨⟨hxo, by decide⟩, nb hx (oNe rfl)⟩
      (repeat (first | (refine BW.pl rfl rfl ?_) | (refine CW.geti rfl rfl (by assumption) rfl rfl (by assumption) (fun _ => ?_)) | (refine CW.getr rfl rfl (by assumption) rfl rfl (by assumption) ?_)))
      refine BW.br rfl rfl (by first | omega | decide | (constructor <;> first | omega | decide)) (fun w => ?_) (fun w => by first | (exfalso; omega) | exact absurd w (by decide))
      (repeat (refine BW.pl rfl rfl ?_))
      refine CW.c1 rfl rfl (by first | exact Or.inl rfl | exact Or.inr (tagO (by assumption) (by rfl) (by rfl)) | exact Or.inr (tagO (AdrIs.ox (by assumption)) (by rfl) (by rfl)) | exact Or.inr (tagO (PatIs.ox (by assumption)) (by rfl) (by rfl)) | exact Or.inr (tagO (Or0.ox (by assumption)) (by rfl) (by rfl))) (by first | exact Or.inl (by decide) | exact Or.inr ⟨_, rfl, by assumption⟩) rfl (C_sbStr hb3) ?_
      rintro r S4 ⟨y, rfl, hyk, hyz, hy, hF4⟩
      exact BW.aret rfl rfl ⟨_, rfl, y, rfl, Classical.byContradiction (fun z => hF.1 y z hyz), hyk, hy, (hF.tr hF4 (fun _ _ z => z.elim)).w (fun m hm z => hm (by rw [show m = b from z]; exact hbz)) (by omega)⟩
    | succ N ih =>
      intro j S3 cp hj hF hb3 hc1 hc2
      have hjl : j < tp.length := by omega
      have ej : ((j : Nat) : Int).toNat = j := by omega
      have hx3 := hx.fr hF ⟨oNe rfl, nb hx (oNe rfl)⟩
      have h13 := h1.fr hF ⟨⟨hxo, by decide⟩, nb hx (oNe rfl)⟩
      have h03 := e0.fr hF ⟨⟨hxo, by decide⟩, nb hx (oNe rfl)⟩
      have hus3 := hus.fr hF ⟨oNe rfl, nb hus (oNe rfl)⟩
      have hsg := htp.get hjl
      have hlt : (tp.take j).length = j := by rw [List.length_take]; omega
      have et : tp.take j ++ [tp.getD j 0] = tp.take (j + 1) := by
        rw [List.take_succ_eq_append_getElem hjl, List.getD_eq_getElem?_getD, List.getElem?_eq_getElem hjl]; rfl
      (repeat (first | (refine BW.pl rfl rfl ?_) | (refine CW.geti rfl rfl (by assumption) rfl rfl (by assumption) (fun _ => ?_)) | (refine CW.getr rfl rfl (by assumption) rfl rfl (by assumption) ?_)))
      refine BW.br rfl rfl (by first | omega | decide | (constructor <;> first | omega | decide)) (fun w => by first | (exfalso; omega) | exact absurd w (by decide)) (fun w => ?_)
      (repeat (first | (refine BW.pl rfl rfl ?_) | (refine CW.geti rfl rfl (by assumption) rfl rfl (by assumption) (fun _ => ?_)) | (refine CW.getr rfl rfl (by assumption) rfl rfl (by assumption) ?_)))
      refine CW.iald rfl hus3 ⟨by omega, by omega⟩ (fun _ => ?_)
      rw [show us.getD ((j : Nat) : Int).toNat 0 = tp.getD j 0 by rw [ej]; exact hug j hjl]
      refine BW.i2c rfl ⟨by omega, by omega⟩ ?_
      refine CW.c2 rfl rfl (by first | exact Or.inl rfl | exact Or.inr (tagO (by assumption) (by rfl) (by rfl)) | exact Or.inr (tagO (AdrIs.ox (by assumption)) (by rfl) (by rfl)) | exact Or.inr (tagO (PatIs.ox (by assumption)) (by rfl) (by rfl)) | exact Or.inr (tagO (Or0.ox (by assumption)) (by rfl) (by rfl))) (by first | exact Or.inl (by decide) | exact Or.inr ⟨_, rfl, by assumption⟩) rfl (C_sbAppC hb3 ⟨by omega, by omega⟩ (by omega)) ?_
      rintro r S4 ⟨rfl, cp', hb4, hF4, hc3, hc4⟩
      rw [et] at hb4
      rw [List.length_append, hlt, List.length_singleton] at hc4
      (iterate 3 (refine BW.pl rfl rfl ?_))
      exact ih (j + 1) S4 cp' (by omega) ((hF.tr hF4 (fun _ _ z => z)).w (fun _ _ z => z) (by omega)) hb4 (by omega) (by omega)
  exact loop tp.length 0 S2 16 (by omega) (hF02.w (fun _ _ z => z) (by omega)) hb2 (Nat.le_refl _) (Or.inl rfl)
theorem RsI.f0 (hR : RsI S K tp sc) (hL : LO S K la A B) (hL' : LO S' K la A B) (hF : Fr0 S S' c) : RsI S' K tp sc := hR.xg (V := fun _ => True) (XG.of (XF.rf.f0 hF)) hL.1 hL'.1
/-- a reader ahead of the tape -/
def RdN (S : BS) (tp : List Int) (n : Nat) (S' : BS) : Prop := S.1 n = oNil ∧ RdAt S' n tp tp ∧ Fr S S' (fun m => m = n) 520
theorem C_all0 (h : RdAt S n s s) (hs : SgO s) (hT : S.2.2.2 < 100000000) : BM (d + 21) gk_X3_all [aR n] S (fun r S' => match sOrders s with
    | .inl k => ∃ S1, Fr S S1 (fun k => k = n) (2800 * s.length + 31000) ∧ Thr9 5 42 (k : Int) S1 r S' ∧ k ≤ s.length
    | .inr os => ∃ q, r = .inl (vR (some q)) ∧ Fr S S' (fun k => k = n) (2800 * s.length + 31000) ∧ OrsD S' (Nu S) True q os) := by
  have hl := hs.1
  refine BM.mono (C_all (d := d) h (fun x hx => (hs.2 x hx).1) (by omega) hT) (fun r S' hX => ?_)
  unfold OrdX at hX
  unfold sOrders
  have h1 := pOrders_fl s.length s
  have h2 := pOrders_shl s.length s
  cases e : pOrders s.length s with
  | inl f =>
    rw [e] at hX h1
    obtain ⟨S1, g1, g2⟩ := hX
    have g3 := h1 f rfl
    have ek : (s.length : Int) - f.length = ((s.length - f.length : Nat) : Int) := by omega
    rw [ek] at g2
    exact ⟨S1, g1, g2, by omega⟩
  | inr v =>
    obtain ⟨l, os⟩ := v
    rw [e] at hX h2
    dsimp only at hX ⊢
    by_cases z : l = []
    · rw [if_pos z] at hX
      rw [if_pos z]
      obtain ⟨q, g1, g2, g3⟩ := hX
      exact ⟨q, g1, g2.w (fun _ _ z => z) (by omega), g3⟩
    · rw [if_neg z] at hX
      rw [if_neg z]
      obtain ⟨S1, g1, g2⟩ := hX
      have g3 := h2 l os rfl
      have ek : (s.length : Int) - l.length = ((s.length - l.length : Nat) : Int) := by omega
      rw [ek] at g2
      exact ⟨S1, g1, g2, by omega⟩
theorem C_pat0 (h : RdAt S n s s) (hs : SgO s) (hT : S.2.2.2 < 100000000) : BM (d + 12) gk_X3_pattern [aR n, aI (-1)] S (fun r S' => match sPattern s with
    | .inl k => ∃ S1, Fr S S1 (fun k => k = n) (600 * s.length + 21000) ∧ Thr9 5 42 (k : Int) S1 r S' ∧ k ≤ s.length
    | .inr pt => ∃ q, r = .inl (vR (some q)) ∧ Fr S S' (fun k => k = n) (600 * s.length + 21000) ∧ PatIs S' (Nu S) q pt) := by
  have hl := hs.1
  have h0 := C_pattern (d := d) (e := 0) h (fun x hx => (hs.2 x hx).1) (Or.inl rfl) (by omega) (by omega)
  rw [if_pos rfl] at h0
  refine BM.mono h0 (fun r S' hX => ?_)
  unfold patR RdY at hX
  unfold sPattern
  have h1 := pPat_fl (l := s) 0
  have h2 := pPat_shr (l := s) 0
  cases e : pPat 0 s with
  | inl f =>
    rw [e] at hX h1
    obtain ⟨S1, g1, g2⟩ := hX
    have g3 := h1 f rfl
    have ek : (s.length : Int) - f.length = ((s.length - f.length : Nat) : Int) := by omega
    rw [ek] at g2
    exact ⟨S1, g1.w (fun _ _ z => z) (by omega), g2, by omega⟩
  | inr v =>
    obtain ⟨l, cc, pt⟩ := v
    rw [e] at hX h2
    dsimp only at hX ⊢
    rw [if_pos rfl] at hX
    by_cases z : l = []
    · rw [if_pos z] at hX
      rw [if_pos z]
      obtain ⟨w, g1, _, g2, _, q, g3, g4, _⟩ := hX
      subst g3
      exact ⟨q, g1, g2.w (fun _ _ z => z) (by omega), g4⟩
    · rw [if_neg z] at hX
      rw [if_neg z]
      obtain ⟨S1, g1, g2⟩ := hX
      have g3 := h2 l _ rfl
      have ek : (s.length : Int) - l.length = ((s.length - l.length : Nat) : Int) := by omega
      rw [ek] at g2
      exact ⟨S1, g1.w (fun _ _ z => z) (by omega), g2, by omega⟩
theorem L_fault (hL : LO S K la A B) (hR : RsI S K tp sc) (htp : SgO tp) (hB : B + 300000 ≤ 20000000) : BM (d + 22) gk_X1_fault [aR (K 1)] S (PrX S (2800 * tp.length + 32000) [] (.inr (flt (sOrders tp)))) := by
  have hl60 := htp.1
  obtain ⟨htt, _⟩ := hL.1.tt
  refine BM.of rfl rfl rfl ?_
  refine CW.newO (L := 4) (c := 10) rfl rfl rfl rfl (fun n S1 hN => ?_)
  have hL1 := hL.fr hN.fr LoW.no (by omega)
  have hR1 := hR.xg (V := fun _ => True) (XG.of (XF.rf.nw hN)) hL.1 hL1.1
  have hn := hN.ob
  have hx1 := hL1.1.obx
  have hnk := hN.1
  have hnz := hN.nil
  (repeat (refine BW.pl rfl rfl ?_))
  refine CW.c1 rfl rfl (by first | exact Or.inl rfl | exact Or.inr (tagO (by assumption) (by rfl) (by rfl)) | exact Or.inr (tagO (AdrIs.ox (by assumption)) (by rfl) (by rfl)) | exact Or.inr (tagO (PatIs.ox (by assumption)) (by rfl) (by rfl)) | exact Or.inr (tagO (Or0.ox (by assumption)) (by rfl) (by rfl))) (by first | exact Or.inl (by decide) | exact Or.inr ⟨_, rfl, by assumption⟩) rfl (L_tapeText (d := d + 13) hL1.1.obx hR1 htp) ?_
  rintro r S2 ⟨y, rfl, hy0, hyk, hy, hF2⟩
  have hn2 := hn.fr hF2 ⟨oNe rfl, Sep.no⟩
  refine CW.c2 rfl rfl (by first | exact Or.inl rfl | exact Or.inr (tagO (by assumption) (by rfl) (by rfl)) | exact Or.inr (tagO (AdrIs.ox (by assumption)) (by rfl) (by rfl)) | exact Or.inr (tagO (PatIs.ox (by assumption)) (by rfl) (by rfl)) | exact Or.inr (tagO (Or0.ox (by assumption)) (by rfl) (by rfl))) (by first | exact Or.inl (by decide) | exact Or.inr ⟨_, rfl, by assumption⟩) rfl (C_readNew (d := d + 20) hn2 hnk hy (fun F hF => ⟨(hN.2.2.2.2 F hF).1.fr hF2 ⟨⟨hn.old (oNe rfl), hF⟩, Sep.no⟩, (hN.2.2.2.2 F hF).2.fr hF2 ⟨⟨hn.old (oNe rfl), hF⟩, Sep.no⟩⟩) (by omega) (fun c hc => by have := htp.2 c hc; omega)) ?_
  rintro r S3 ⟨rfl, hF3, h3⟩
  have hn3 := h3.ob
  have hA : Fr S S3 (fun m => m = n) 520 := (((hN.fr.tr hF2 (fun _ _ z => z)).w (W2 := fun m => m = n) (fun _ _ z => z.elim) (Nat.le_refl _)).tr hF3 (fun _ _ z => z)).w (fun _ _ z => z) (by omega)
  have hz : ∀ m, S.1 m ≠ oNil → m = n → False := fun m hm z => hm (by rw [z]; exact hnz)
  have hAt := hA.2.2
  refine CW.call (as := [aR n]) (rest := []) rfl rfl rfl rfl rfl (by first | exact Or.inl rfl | exact Or.inr (tagO hn3 rfl rfl)) (Or.inl (by decide)) (C_all0 (d := d) h3 htp (by omega)) (fun r S' hX => ?_) (fun E q9 S' hX => ?_)
  · cases e : sOrders tp with
    | inl k9 =>
      rw [e] at hX
      obtain ⟨_, _, ⟨_, e9, _⟩, _⟩ := hX
      cases e9
    | inr os =>
      rw [e] at hX
      obtain ⟨q, e9, g2, g3⟩ := hX
      cases e9
      (repeat (refine BW.pl rfl rfl ?_))
      exact BW.irx rfl (Or.inl ⟨rfl, by decide⟩) (PrX.ok (v := -1) ((hA.tr g2 (fun _ _ z => z)).w (fun m hm z => hz m hm z) (Nat.le_refl _)) (by omega) rfl (by decide))
  · cases e : sOrders tp with
    | inr os =>
      rw [e] at hX
      obtain ⟨q, e9, g2, g3⟩ := hX
      cases e9
    | inl k9 =>
      rw [e] at hX
      obtain ⟨S4, g1, g2, g3⟩ := hX
      obtain ⟨q, e9, hqk, hqz, hq, h42, hF5⟩ := g2.fr0 (Or.inl rfl)
      cases e9
      refine Or.inr ⟨9, q, rfl, rfl, ?_⟩
      (repeat (first | (refine BW.pl rfl rfl ?_) | (refine CW.geti rfl rfl (by assumption) rfl rfl (by assumption) (fun _ => ?_)) | (refine CW.getr rfl rfl (by assumption) rfl rfl (by assumption) ?_)))
      exact BW.irx rfl (Or.inl ⟨rfl, by constructor <;> omega⟩) (PrX.ok (((hA.tr g1 (fun _ _ z => z)).tr hF5 (fun _ _ z => z.elim)).w (fun m hm z => hz m hm z) (Nat.le_refl _)) (by omega) rfl (by constructor <;> omega))
theorem L_patternFault (hL : LO S K la A B) (hR : RsI S K tp sc) (htp : SgO tp) (hB : B + 300000 ≤ 20000000) : BM (d + 22) gk_X1_patternFault [aR (K 1)] S (PrX S (2800 * tp.length + 32000) [] (.inr (flt (sPattern tp)))) := by
  have hl60 := htp.1
  obtain ⟨htt, _⟩ := hL.1.tt
  refine BM.of rfl rfl rfl ?_
  refine CW.newO (L := 4) (c := 10) rfl rfl rfl rfl (fun n S1 hN => ?_)
  have hL1 := hL.fr hN.fr LoW.no (by omega)
  have hR1 := hR.xg (V := fun _ => True) (XG.of (XF.rf.nw hN)) hL.1 hL1.1
  have hn := hN.ob
  have hx1 := hL1.1.obx
  have hnk := hN.1
  have hnz := hN.nil
  (repeat (refine BW.pl rfl rfl ?_))
  refine CW.c1 rfl rfl (by first | exact Or.inl rfl | exact Or.inr (tagO (by assumption) (by rfl) (by rfl)) | exact Or.inr (tagO (AdrIs.ox (by assumption)) (by rfl) (by rfl)) | exact Or.inr (tagO (PatIs.ox (by assumption)) (by rfl) (by rfl)) | exact Or.inr (tagO (Or0.ox (by assumption)) (by rfl) (by rfl))) (by first | exact Or.inl (by decide) | exact Or.inr ⟨_, rfl, by assumption⟩) rfl (L_tapeText (d := d + 13) hL1.1.obx hR1 htp) ?_
  rintro r S2 ⟨y, rfl, hy0, hyk, hy, hF2⟩
  have hn2 := hn.fr hF2 ⟨oNe rfl, Sep.no⟩
  refine CW.c2 rfl rfl (by first | exact Or.inl rfl | exact Or.inr (tagO (by assumption) (by rfl) (by rfl)) | exact Or.inr (tagO (AdrIs.ox (by assumption)) (by rfl) (by rfl)) | exact Or.inr (tagO (PatIs.ox (by assumption)) (by rfl) (by rfl)) | exact Or.inr (tagO (Or0.ox (by assumption)) (by rfl) (by rfl))) (by first | exact Or.inl (by decide) | exact Or.inr ⟨_, rfl, by assumption⟩) rfl (C_readNew (d := d + 20) hn2 hnk hy (fun F hF => ⟨(hN.2.2.2.2 F hF).1.fr hF2 ⟨⟨hn.old (oNe rfl), hF⟩, Sep.no⟩, (hN.2.2.2.2 F hF).2.fr hF2 ⟨⟨hn.old (oNe rfl), hF⟩, Sep.no⟩⟩) (by omega) (fun c hc => by have := htp.2 c hc; omega)) ?_
  rintro r S3 ⟨rfl, hF3, h3⟩
  have hn3 := h3.ob
  have hA : Fr S S3 (fun m => m = n) 520 := (((hN.fr.tr hF2 (fun _ _ z => z)).w (W2 := fun m => m = n) (fun _ _ z => z.elim) (Nat.le_refl _)).tr hF3 (fun _ _ z => z)).w (fun _ _ z => z) (by omega)
  have hz : ∀ m, S.1 m ≠ oNil → m = n → False := fun m hm z => hm (by rw [z]; exact hnz)
  have hAt := hA.2.2
  (repeat (refine BW.pl rfl rfl ?_))
  refine CW.call (as := [aR n, aI (-1)]) (rest := []) rfl rfl rfl rfl rfl (by first | exact Or.inl rfl | exact Or.inr (tagO hn3 rfl rfl)) (Or.inl (by decide)) (C_pat0 (d := d + 9) h3 htp (by omega)) (fun r S' hX => ?_) (fun E q9 S' hX => ?_)
  · cases e : sPattern tp with
    | inl k9 =>
      rw [e] at hX
      obtain ⟨_, _, ⟨_, e9, _⟩, _⟩ := hX
      cases e9
    | inr os =>
      rw [e] at hX
      obtain ⟨q, e9, g2, g3⟩ := hX
      cases e9
      (repeat (refine BW.pl rfl rfl ?_))
      exact BW.irx rfl (Or.inl ⟨rfl, by decide⟩) (PrX.ok (v := -1) ((hA.tr g2 (fun _ _ z => z)).w (fun m hm z => hz m hm z) (Nat.le_refl _)) (by omega) rfl (by decide))
  · cases e : sPattern tp with
    | inr os =>
      rw [e] at hX
      obtain ⟨q, e9, g2, g3⟩ := hX
      cases e9
    | inl k9 =>
      rw [e] at hX
      obtain ⟨S4, g1, g2, g3⟩ := hX
      obtain ⟨q, e9, hqk, hqz, hq, h42, hF5⟩ := g2.fr0 (Or.inl rfl)
      cases e9
      refine Or.inr ⟨10, q, rfl, rfl, ?_⟩
      (repeat (first | (refine BW.pl rfl rfl ?_) | (refine CW.geti rfl rfl (by assumption) rfl rfl (by assumption) (fun _ => ?_)) | (refine CW.getr rfl rfl (by assumption) rfl rfl (by assumption) ?_)))
      exact BW.irx rfl (Or.inl ⟨rfl, by constructor <;> omega⟩) (PrX.ok (((hA.tr g1 (fun _ _ z => z)).tr hF5 (fun _ _ z => z.elim)).w (fun m hm z => hz m hm z) (Nat.le_refl _)) (by omega) rfl (by constructor <;> omega))
theorem L_tapePattern (hL : LO S K la A B) (hR : RsI S K tp sc) (htp : SgO tp) (hB : B + 300000 ≤ 20000000) : BMr (d + 22) gk_X1_tapePattern [aR (K 1)] S (fun r S' => Fr0 S S' (2800 * tp.length + 32000) ∧ match sPattern tp with
    | .inl _ => r = vR none
    | .inr pt => ∃ q, r = vR (some q) ∧ PatIs S' (Nu S) q pt) := by
  have hl60 := htp.1
  obtain ⟨htt, _⟩ := hL.1.tt
  refine BM.of rfl rfl rfl ?_
  refine CW.newO (L := 4) (c := 10) rfl rfl rfl rfl (fun n S1 hN => ?_)
  have hL1 := hL.fr hN.fr LoW.no (by omega)
  have hR1 := hR.xg (V := fun _ => True) (XG.of (XF.rf.nw hN)) hL.1 hL1.1
  have hn := hN.ob
  have hx1 := hL1.1.obx
  have hnk := hN.1
  have hnz := hN.nil
  (repeat (refine BW.pl rfl rfl ?_))
  refine CW.c1 rfl rfl (by first | exact Or.inl rfl | exact Or.inr (tagO (by assumption) (by rfl) (by rfl)) | exact Or.inr (tagO (AdrIs.ox (by assumption)) (by rfl) (by rfl)) | exact Or.inr (tagO (PatIs.ox (by assumption)) (by rfl) (by rfl)) | exact Or.inr (tagO (Or0.ox (by assumption)) (by rfl) (by rfl))) (by first | exact Or.inl (by decide) | exact Or.inr ⟨_, rfl, by assumption⟩) rfl (L_tapeText (d := d + 13) hL1.1.obx hR1 htp) ?_
  rintro r S2 ⟨y, rfl, hy0, hyk, hy, hF2⟩
  have hn2 := hn.fr hF2 ⟨oNe rfl, Sep.no⟩
  refine CW.c2 rfl rfl (by first | exact Or.inl rfl | exact Or.inr (tagO (by assumption) (by rfl) (by rfl)) | exact Or.inr (tagO (AdrIs.ox (by assumption)) (by rfl) (by rfl)) | exact Or.inr (tagO (PatIs.ox (by assumption)) (by rfl) (by rfl)) | exact Or.inr (tagO (Or0.ox (by assumption)) (by rfl) (by rfl))) (by first | exact Or.inl (by decide) | exact Or.inr ⟨_, rfl, by assumption⟩) rfl (C_readNew (d := d + 20) hn2 hnk hy (fun F hF => ⟨(hN.2.2.2.2 F hF).1.fr hF2 ⟨⟨hn.old (oNe rfl), hF⟩, Sep.no⟩, (hN.2.2.2.2 F hF).2.fr hF2 ⟨⟨hn.old (oNe rfl), hF⟩, Sep.no⟩⟩) (by omega) (fun c hc => by have := htp.2 c hc; omega)) ?_
  rintro r S3 ⟨rfl, hF3, h3⟩
  have hn3 := h3.ob
  have hA : Fr S S3 (fun m => m = n) 520 := (((hN.fr.tr hF2 (fun _ _ z => z)).w (W2 := fun m => m = n) (fun _ _ z => z.elim) (Nat.le_refl _)).tr hF3 (fun _ _ z => z)).w (fun _ _ z => z) (by omega)
  have hz : ∀ m, S.1 m ≠ oNil → m = n → False := fun m hm z => hm (by rw [z]; exact hnz)
  have hAt := hA.2.2
  (repeat (refine BW.pl rfl rfl ?_))
  refine CW.call (as := [aR n, aI (-1)]) (rest := []) rfl rfl rfl rfl rfl (by first | exact Or.inl rfl | exact Or.inr (tagO hn3 rfl rfl)) (Or.inl (by decide)) (C_pat0 (d := d + 9) h3 htp (by omega)) (fun r S' hX => ?_) (fun E q9 S' hX => ?_)
  · cases e : sPattern tp with
    | inl k9 =>
      rw [e] at hX
      obtain ⟨_, _, ⟨_, e9, _⟩, _⟩ := hX
      cases e9
    | inr os =>
      rw [e] at hX
      obtain ⟨q, e9, g2, g3⟩ := hX
      cases e9
      exact BW.aret rfl rfl ⟨_, rfl, (hA.tr g2 (fun _ _ z => z)).w (fun m hm z => hz m hm z) (by omega), q, rfl, g3.mono (F' := Nu S) (fun k hk => Classical.byContradiction (fun z => hA.1 k z hk))⟩
  · cases e : sPattern tp with
    | inr os =>
      rw [e] at hX
      obtain ⟨q, e9, g2, g3⟩ := hX
      cases e9
    | inl k9 =>
      rw [e] at hX
      obtain ⟨S4, g1, g2, g3⟩ := hX
      obtain ⟨q, e9, hqk, hqz, hq, h42, hF5⟩ := g2.fr0 (Or.inl rfl)
      cases e9
      refine Or.inr ⟨8, q, rfl, rfl, ?_⟩
      (repeat (refine BW.pl rfl rfl ?_))
      exact BW.aret rfl rfl ⟨_, rfl, ((hA.tr g1 (fun _ _ z => z)).tr hF5 (fun _ _ z => z.elim)).w (fun m hm z => hz m hm z) (by omega), rfl⟩
theorem P_isIn2 {row : List Int} {pt : SPat} (hP : PatIs S F p pt) (hK : PatK pt) (hy : Ob S y (oStr row)) (hrl : row.length < 1000) : BMr (d + 181) gk_X7_isIn [aR p, aR y] S (fun r S' => (Scr S S' ∧ FnR S F S') ∧ Ob S' p (oOwn 9) ∧ match mFind pt row 0 with
    | none => r = vI 0
    | some (a, b, _) => r = vI 1 ∧ Fi S' 72 p (a : Int) ∧ Fi S' 73 p (b : Int)) := by
  refine BM.of rfl rfl rfl ?_
  have hp : Ob S p (oOwn 9) := by obtain ⟨q, cap, xs, u, w, us, ws, _, h, _⟩ := hP; exact h
  (repeat (refine BW.pl rfl rfl ?_))
  refine CW.c4 rfl rfl (by first | exact Or.inl rfl | exact Or.inr (tagO (by assumption) (by rfl) (by rfl)) | exact Or.inr (tagO (AdrIs.ox (by assumption)) (by rfl) (by rfl)) | exact Or.inr (tagO (PatIs.ox (by assumption)) (by rfl) (by rfl)) | exact Or.inr (tagO (Or0.ox (by assumption)) (by rfl) (by rfl))) (by first | exact Or.inl (by decide) | exact Or.inr ⟨_, rfl, by assumption⟩) rfl (P_find (at' := 0) hP hK hy hrl rfl (Nat.zero_le _) ⟨by decide, by decide⟩) ?_
  rintro v S1 ⟨h1, h2, h3⟩
  have hp1 : Ob S1 p (oOwn 9) := by obtain ⟨q, cap, xs, u, w, us, ws, _, h, _⟩ := h2; exact h
  have e : fF pt row (-1) (row.length + 1 - 0) 0 = mFind pt row 0 := fF_find
  rw [e] at h3
  cases hm : mFind pt row 0 with
  | none =>
    rw [hm] at h3
    subst h3
    exact BW.irx rfl (Or.inr (Or.inl ⟨rfl, Or.inl rfl⟩)) ⟨_, rfl, h1, hp1, rfl⟩
  | some z =>
    obtain ⟨z1, z2, z3, z4⟩ := z
    rw [hm] at h3
    obtain ⟨rfl, _, h72, h73, _⟩ := h3
    exact BW.irx rfl (Or.inr (Or.inl ⟨rfl, Or.inr rfl⟩)) ⟨_, rfl, h1, hp1, rfl, h72, h73⟩
/-- patternIn -/
def PinX (S : BS) (A : St) (tp : List Int) (c : Nat) (x : Int) (rg : GO) (S' : BS) : Prop := Fr0 S S' c ∧ if isNr x A.1.length = false then rg = .inr (202, none) else match sPattern tp with
  | .inl _ => rg = .inr (201, none)
  | .inr pt => match mFind pt (rowAt A.1 (x - 1).toNat) 0 with
    | none => rg = .inl (vR none)
    | some (a, b, _) => ∃ q, rg = .inl (vR (some q)) ∧ Ob S' q (oOwn 9) ∧ Fi S' 72 q (a : Int) ∧ Fi S' 73 q (b : Int)
theorem sPattern_K {pt : SPat} (h : sPattern tp = .inr pt) (hl : tp.length ≤ 60) : PatK pt := by
  unfold sPattern at h
  cases e : pPat 0 tp with
  | inl f => rw [e] at h; cases h
  | inr v =>
    obtain ⟨l, cc, pt'⟩ := v
    rw [e] at h
    dsimp only at h
    split at h
    · cases h
      exact pPat_K e (by omega)
    · cases h
theorem L_patternIn (hL : LO S K la A B) (hR : RsI S K tp sc) (hw : WF A) (htp : SgO tp) (hx : inR x) (hB : B + 300000 ≤ 20000000) : BM (d + 183) gk_X1_patternIn [aR (K 1), aI x] S (PinX S A tp (2800 * tp.length + 32100) x) := by
  have h40 := hw.2.1
  have hxb := hL.1.obx
  have hl60 := htp.1
  unfold PinX
  refine BM.of rfl rfl rfl ?_
  (repeat (refine BW.pl rfl rfl ?_))
  refine CW.e2 rfl rfl (by first | exact Or.inl rfl | exact Or.inr (tagO (by assumption) (by rfl) (by rfl)) | exact Or.inr (tagO (AdrIs.ox (by assumption)) (by rfl) (by rfl)) | exact Or.inr (tagO (PatIs.ox (by assumption)) (by rfl) (by rfl)) | exact Or.inr (tagO (Or0.ox (by assumption)) (by rfl) (by rfl))) (by first | exact Or.inl (by decide) | exact Or.inr ⟨_, rfl, by assumption⟩) rfl (L_isLine (d := d + 180) hL.1 (by rw [ids_len]; omega) hx) ?_
  rw [ids_len]
  by_cases h : isNr x A.1.length = true
  rotate_left
  · have h' := isNr_f.mp (Bool.eq_false_iff.mpr h)
    rw [if_neg (by omega)]
    refine CW.tst rfl rfl (by decide) rfl (Or.inl ⟨rfl, rfl⟩) (Or.inl rfl) rfl (fun w => absurd w (by decide)) (fun _ S1 hF1 => ?_)
    refine ⟨hF1.w (fun _ _ z => z) (by omega), ?_⟩
    rw [if_pos (Bool.eq_false_iff.mpr h)]
  have h' := isNr_t.mp h
  have hn : ¬ isNr x A.1.length = false := by rw [h]; decide
  rw [if_pos (by omega)]
  refine CW.tst rfl rfl (by decide) rfl (Or.inl ⟨rfl, rfl⟩) (Or.inr rfl) rfl (fun _ => ?_) (fun w _ _ => absurd w (by decide))
  (repeat (refine BW.pl rfl rfl ?_))
  refine CW.c1 rfl rfl (by first | exact Or.inl rfl | exact Or.inr (tagO (by assumption) (by rfl) (by rfl)) | exact Or.inr (tagO (AdrIs.ox (by assumption)) (by rfl) (by rfl)) | exact Or.inr (tagO (PatIs.ox (by assumption)) (by rfl) (by rfl)) | exact Or.inr (tagO (Or0.ox (by assumption)) (by rfl) (by rfl))) (by first | exact Or.inl (by decide) | exact Or.inr ⟨_, rfl, by assumption⟩) rfl (L_tapePattern (d := d + 160) hL hR htp hB) ?_
  rintro r S1 ⟨hF1, h1⟩
  have hL1 := hL.fr hF1 LoW.no (by omega)
  have hx1 := hL1.1.obx
  cases hs : sPattern tp with
  | inl k9 =>
    rw [hs] at h1
    subst h1
    (repeat (refine BW.pl rfl rfl ?_))
    refine CW.nul rfl rfl (fun n h => by cases h) ?_
    (repeat (refine BW.pl rfl rfl ?_))
    refine CW.tst rfl rfl (by decide) rfl (Or.inr (Or.inl ⟨rfl, rfl⟩)) (Or.inl rfl) rfl (fun w => absurd w (by decide)) (fun _ S2 hF2 => ?_)
    refine ⟨hF1.tr0 hF2 (by omega), ?_⟩
    rw [if_neg hn]
  | inr pt =>
    rw [hs] at h1
    obtain ⟨q, rfl, hq⟩ := h1
    have hpk := sPattern_K hs hl60
    have hq1 : Ob S1 q (oOwn 9) := by obtain ⟨_, _, _, _, _, _, _, _, h, _⟩ := hq; exact h
    obtain ⟨hid, h6, h43, y, h44, hy, -⟩ := L_row hL1 (k := (x - 1).toNat) (by omega)
    have hok := (rowAt_ok hw (k := (x - 1).toNat) (by omega)).1
    (repeat (refine BW.pl rfl rfl ?_))
    refine CW.nul rfl rfl (fun n h => by cases h; rw [show S1.1 q = _ from hq1]; rfl) ?_
    (repeat (refine BW.pl rfl rfl ?_))
    refine CW.tst rfl rfl (by decide) rfl (Or.inr (Or.inl ⟨rfl, rfl⟩)) (Or.inr rfl) rfl (fun _ => ?_) (fun w _ _ => absurd w (by decide))
    (repeat (refine BW.pl rfl rfl ?_))
    refine CW.e2 rfl rfl (by first | exact Or.inl rfl | exact Or.inr (tagO (by assumption) (by rfl) (by rfl)) | exact Or.inr (tagO (AdrIs.ox (by assumption)) (by rfl) (by rfl)) | exact Or.inr (tagO (PatIs.ox (by assumption)) (by rfl) (by rfl)) | exact Or.inr (tagO (Or0.ox (by assumption)) (by rfl) (by rfl))) (by first | exact Or.inl (by decide) | exact Or.inr ⟨_, rfl, by assumption⟩) rfl (L_lineAt (d := d + 178) hL1.1 (k := (x - 1).toNat) (by rw [ids_len]; omega) (show (idsOfL A.1).getD (x - 1).toNat 0 = idAt A.1 (x - 1).toNat from ids_get) (by rw [ids_len]; omega) (by omega)) ?_
    (repeat (first | (refine BW.pl rfl rfl ?_) | (refine CW.geti rfl rfl (by assumption) rfl rfl (by assumption) (fun _ => ?_)) | (refine CW.getr rfl rfl (by assumption) rfl rfl (by assumption) ?_)))
    refine CW.c2 rfl rfl (by first | exact Or.inl rfl | exact Or.inr (tagO (by assumption) (by rfl) (by rfl)) | exact Or.inr (tagO (AdrIs.ox (by assumption)) (by rfl) (by rfl)) | exact Or.inr (tagO (PatIs.ox (by assumption)) (by rfl) (by rfl)) | exact Or.inr (tagO (Or0.ox (by assumption)) (by rfl) (by rfl))) (by first | exact Or.inl (by decide) | exact Or.inr ⟨_, rfl, by assumption⟩) rfl (P_isIn2 (d := d + 1) hq hpk hy (by omega)) ?_
    rintro r S2 ⟨⟨hS2, hN2⟩, hq2, h2⟩
    have hF2 : Fr0 S S2 (2800 * tp.length + 32100) := (hF1.tr hN2 (fun m hm z => absurd z.1 hm)).w (fun _ _ z => z) (by omega)
    cases hm : mFind pt (rowAt A.1 (x - 1).toNat) 0 with
    | none =>
      rw [hm] at h2
      subst h2
      refine BW.br rfl rfl (by first | omega | decide | (constructor <;> first | omega | decide)) (fun w => ?_) (fun w => by first | (exfalso; omega) | exact absurd w (by decide))
      (repeat (refine BW.pl rfl rfl ?_))
      refine BW.aret rfl rfl ⟨hF2, ?_⟩
      rw [if_neg hn]
      simp only [hm]
    | some z =>
      obtain ⟨z1, z2, z3, z4⟩ := z
      rw [hm] at h2
      obtain ⟨rfl, h72, h73⟩ := h2
      refine BW.br rfl rfl (by first | omega | decide | (constructor <;> first | omega | decide)) (fun w => by first | (exfalso; omega) | exact absurd w (by decide)) (fun w => ?_)
      (repeat (refine BW.pl rfl rfl ?_))
      refine BW.aret rfl rfl ⟨hF2, ?_⟩
      rw [if_neg hn]
      simp only [hm]
      exact ⟨q, rfl, hq2, h72, h73⟩
theorem L_findSE {en : Bool} (hL : LO S K la A B) (hR : RsI S K tp sc) (hw : WF A) (htp : SgO tp) (hx : inR x) (hB : B + 300000 ≤ 20000000) : BM (d + 184) (if en = true then gk_X1_findEnd else gk_X1_findStart) [aR (K 1), aI x] S (PrX S (2800 * tp.length + 32100) [202, 201] (pFSE en x (tp, sc, A, ds, cl, re)).1) := by
  have hxb := hL.1.obx
  have eP : (pFSE en x (tp, sc, A, ds, cl, re)).1 = if isNr x A.1.length = false then .inl 1 else match sPattern tp with
      | .inl _ => .inl 2
      | .inr pt => .inr (fndV en (mFind pt (rowAt A.1 (x - 1).toNat) 0)) := by
    unfold pFSE
    split
    · rfl
    · dsimp only
      cases sPattern tp <;> rfl
  rw [eP]
  have key : ∀ {rg : GO} {S1 : BS}, PinX S A tp (2800 * tp.length + 32100) x rg S1 → (∀ e, rg = .inr e → PrX S (2800 * tp.length + 32100) [202, 201] (if isNr x A.1.length = false then .inl 1 else match sPattern tp with
      | .inl _ => .inl 2
      | .inr pt => .inr (fndV en (mFind pt (rowAt A.1 (x - 1).toNat) 0))) (.inr e) S1) ∧ ∀ r, rg = .inl r → Fr0 S S1 (2800 * tp.length + 32100) ∧ ∃ R9, (if isNr x A.1.length = false then (.inl 1 : Nat ⊕ Int) else match sPattern tp with
      | .inl _ => .inl 2
      | .inr pt => .inr (fndV en (mFind pt (rowAt A.1 (x - 1).toNat) 0))) = .inr (fndV en R9) ∧ ((r = vR none ∧ R9 = none) ∨ ∃ q a b w9, R9 = some (a, b, w9) ∧ r = vR (some q) ∧ Ob S1 q (oOwn 9) ∧ Fi S1 72 q (a : Int) ∧ Fi S1 73 q (b : Int)) := by
    intro rg S1 ⟨hF, hX⟩
    by_cases h : isNr x A.1.length = false
    · rw [if_pos h] at hX ⊢
      subst hX
      exact ⟨(fun e he => by cases he; exact PrX.no hF (Nat.le_refl _) rfl rfl), (fun r hr => by cases hr)⟩
    · rw [if_neg h] at hX ⊢
      cases hs : sPattern tp with
      | inl k9 =>
        rw [hs] at hX
        subst hX
        exact ⟨(fun e he => by cases he; exact PrX.no hF (Nat.le_refl _) rfl rfl), (fun r hr => by cases hr)⟩
      | inr pt =>
        rw [hs] at hX
        dsimp only at hX ⊢
        cases hm : mFind pt (rowAt A.1 (x - 1).toNat) 0 with
        | none =>
          rw [hm] at hX
          subst hX
          exact ⟨(fun e he => by cases he), fun r hr => ⟨hF, none, rfl, Or.inl ⟨(by cases hr; rfl), rfl⟩⟩⟩
        | some z =>
          obtain ⟨z1, z2, z3⟩ := z
          rw [hm] at hX
          obtain ⟨q, g1, g2, g3, g4⟩ := hX
          subst g1
          exact ⟨(fun e he => by cases he), fun r hr => ⟨hF, _, rfl, Or.inr ⟨q, z1, z2, z3, rfl, (by cases hr; rfl), g2, g3, g4⟩⟩⟩
  cases en with
  | false =>
    refine BM.of (mid := gk_X1_findStart) rfl rfl rfl ?_
    (repeat (refine BW.pl rfl rfl ?_))
    refine CW.call (as := [aR (K 1), aI x]) (rest := []) rfl rfl rfl rfl rfl (by first | exact Or.inl rfl | exact Or.inr (tagO hxb rfl rfl)) (Or.inl (by decide)) (L_patternIn (d := d) hL hR hw htp hx hB) (fun r S1 hX => ?_) (fun E q9 S1 hX => Or.inl ⟨rfl, (key hX).1 _ rfl⟩)
    obtain ⟨hF, R9, e9, h9⟩ := (key hX).2 _ rfl
    rw [e9]
    rcases h9 with ⟨rfl, rfl⟩ | ⟨q, a, b, w9, rfl, rfl, hq, h72, h73⟩
    · (repeat (refine BW.pl rfl rfl ?_))
      refine CW.nul rfl rfl (fun n h => by cases h) ?_
      (repeat (refine BW.pl rfl rfl ?_))
      exact BW.irx rfl (Or.inl ⟨rfl, by decide⟩) (PrX.ok (v := -1) hF (Nat.le_refl _) rfl (by decide))
    · (repeat (refine BW.pl rfl rfl ?_))
      refine CW.nul rfl rfl (fun n h => by cases h; rw [show S1.1 q = _ from hq]; rfl) ?_
      (repeat (refine BW.pl rfl rfl ?_))
      refine CW.geti rfl rfl hq rfl rfl h72 (fun hR => ?_)
      exact BW.irx rfl (Or.inl ⟨rfl, hR⟩) (PrX.ok hF (Nat.le_refl _) rfl hR)
  | true =>
    refine BM.of (mid := gk_X1_findEnd) rfl rfl rfl ?_
    (repeat (refine BW.pl rfl rfl ?_))
    refine CW.call (as := [aR (K 1), aI x]) (rest := []) rfl rfl rfl rfl rfl (by first | exact Or.inl rfl | exact Or.inr (tagO hxb rfl rfl)) (Or.inl (by decide)) (L_patternIn (d := d) hL hR hw htp hx hB) (fun r S1 hX => ?_) (fun E q9 S1 hX => Or.inl ⟨rfl, (key hX).1 _ rfl⟩)
    obtain ⟨hF, R9, e9, h9⟩ := (key hX).2 _ rfl
    rw [e9]
    rcases h9 with ⟨rfl, rfl⟩ | ⟨q, a, b, w9, rfl, rfl, hq, h72, h73⟩
    · (repeat (refine BW.pl rfl rfl ?_))
      refine CW.nul rfl rfl (fun n h => by cases h) ?_
      (repeat (refine BW.pl rfl rfl ?_))
      exact BW.irx rfl (Or.inl ⟨rfl, by decide⟩) (PrX.ok (v := -1) hF (Nat.le_refl _) rfl (by decide))
    · (repeat (refine BW.pl rfl rfl ?_))
      refine CW.nul rfl rfl (fun n h => by cases h; rw [show S1.1 q = _ from hq]; rfl) ?_
      (repeat (refine BW.pl rfl rfl ?_))
      refine CW.geti rfl rfl hq rfl rfl h73 (fun hR => ?_)
      exact BW.irx rfl (Or.inl ⟨rfl, hR⟩) (PrX.ok hF (Nat.le_refl _) rfl hR)
end TP
