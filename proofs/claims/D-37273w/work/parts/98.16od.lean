-- C
set_option maxRecDepth 100000
/-! LINEORDERS: doOrder of any order that is no jump -/
section DO
variable {d n m q i a y cap c c1 B k k' f l b0 : Nat} {S S' S0 S1 S2 : BS} {K : Nat → Nat} {la : Int → Nat} {A A1 : St} {F V : Nat → Prop} {v nn b1 x1 : Int} {r : GO} {od : SOrd0} {o : SOrd} {zz : Prop} {R : Nat ⊕ (Nat × St)}
theorem InX.pre (hX : XG K (fun _ => True) S S1) (h : InX S1 K la A c (B + b0) k R r S') (hk : b0 + k ≤ k') (hB : B + k' + 1000000 ≤ 20000000) (h40 : 480 * (match R with | .inl _ => 0 | .inr (_, A1) => A1.2.2.2.1.length - A.2.2.2.1.length) ≤ 48000) (hc : (match R with | .inl _ => 0 | .inr (c1, _) => c1) ≤ 60) : InX S K la A c B k' R r S' := by
  cases R with
  | inl w =>
    obtain ⟨S3, la1, A1, g1, g2, g3⟩ := h
    exact ⟨S3, la1, A1, g1.le (by omega) (by omega), hX.tr g2, g3⟩
  | inr z =>
    obtain ⟨c1, A1⟩ := z
    obtain ⟨e, la1, g1, g2, g3⟩ := h
    dsimp only at h40 hc
    exact ⟨e, la1, g1.le (by omega) (by omega), hX.tr g2, g3⟩
theorem sOrd_plain (hg : sIsG (oAct o.1) = false) : sOrd A o c = match sPlain A o.1 with
    | .inl w => .inl w
    | .inr A1 => .inr (c, A1) := by
  have eP : sPlain A o.1 = match sRange A o.1 with
    | .inl w => .inl w
    | .inr (f, l) => sAct A o.1 f l := rfl
  rw [eP]
  unfold sOrd
  cases sRange A o.1 with
  | inl w => rfl
  | inr fl =>
    obtain ⟨f, l⟩ := fl
    dsimp only
    rw [if_neg (by rw [hg]; decide)]
    cases sAct A o.1 f l <;> rfl
theorem L_doOrd (hL : LO S K la A B) (hK : ∀ m, F m → KoM K m) (hO : OrdIs S F zz m o) (hw : WF A) (ho : OgK o) (hout : isOut (oAct o.1) = false) (hok : OrdOk o) (hn : A.2.2.2.2.2.2.1 + 40 * (61 - (c : Int)) < 1900000) (hB : B + 1100000 ≤ 20000000) (h13 : Fi S 13 (K 1) c) (hc : c ≤ 60) : BM (d + 190) gk_X1_doOrder [aR (K 1), aR m] S (InX S K la A c B 3160 (sOrd A o c)) := by
  obtain ⟨⟨had1, had2⟩, hnr, hac, hcase⟩ := ho
  have h100 := hw.2.2.2.2.2.2.2.1.1
  rcases hcase with ⟨hg, hodK, hpk, hio, hin⟩ | ⟨_, z⟩ | ⟨hg, _, hodK, hodP⟩
  · have hact : oAct o.1 = 123 ∨ oAct o.1 = 103 ∨ oAct o.1 = 71 := of_decide_eq_true hg
    have hx := hL.1.obx
    have h40 := hw.2.1
    refine BM.of rfl rfl rfl ?_
    (repeat (refine BW.pl rfl rfl ?_))
    refine CW.x2 rfl rfl (by first | exact Or.inl rfl | exact Or.inr (tagO (by assumption) (by rfl) (by rfl))) (by first | exact Or.inl (by decide) | exact Or.inr ⟨_, rfl, by assumption⟩) rfl rfl (L_findRange (d := d + 4) (V := fun _ => True) hL hK hO.1 had1 had2 ⟨hac.1, by omega⟩ hw.txk (by omega)) ?_ ?_
    · intro r S2 h2
      have eP : sOrd A o c = match sRange A o.1 with
        | .inl w => .inl w
        | .inr (f, l) => if sIsG (oAct o.1) = true then sEachL o.2 (sMet o.1 (seg A.1 f l)) c A else match sAct A o.1 f l with
          | .inl w => .inl w
          | .inr A1 => .inr (c, A1) := rfl
      have hwf := fun R c1 A1 (h : sOrd A o c = R) (e : R = .inr (c1, A1)) => sOrd_wf hok hout hw hc (h.trans e)
      rw [eP] at hwf ⊢
      revert h2 hwf
      have hok := fun f l => sRange_ok (A := A) (od := o.1) (f := f) (l := l) hw.1.1
      revert hok
      cases sRange A o.1 with
      | inl w =>
        rintro hok ⟨S1, _, _, q9, e9, _⟩ _
        cases e9
      | inr fl =>
        obtain ⟨f, l⟩ := fl
        rintro hok ⟨e2, hL2, hX2, h16, h17⟩ hwf
        cases e2
        dsimp only at hwf ⊢
        rw [if_pos hg] at hwf ⊢
        have hR := hok f l rfl
        have hle := hR.le
        obtain ⟨r1, r2, r3, _⟩ := RanOk.one hR (decide_eq_false (by omega))
        have hx2 := hL2.1.obx
        have hO2 := hO.xf hX2 hK
        have hm2 := hO2.1.2.1
        have h48 : Fi S2 48 m (oAct o.1) := hO2.1.2.2.2.2.2.1
        have h132 := hX2.f13 hL h13
        have go : BW (d + 189) gm_X1_doOrder 197 [some (aR (K 1)), some (aR m), some (aI f), some (aI l), none] [] S2 (InX S K la A c B 3160 (sEachL o.2 (sMet o.1 (seg A.1 f l)) c A)) := by
          (repeat (refine BW.pl rfl rfl ?_))
          refine CW.x4 rfl rfl (by first | exact Or.inl rfl | exact Or.inr (tagO (by assumption) (by rfl) (by rfl))) (by first | exact Or.inl (by decide) | exact Or.inr ⟨_, rfl, by assumption⟩) rfl rfl (L_doInner (d := d) hL2 hK hO2 hw hact hpk hio hin (by omega) (by omega) h132 hc r1 r2 r3 rfl rfl) ?_ ?_
          · intro r S3 h3
            have hz : ∀ R, sEachL o.2 (sMet o.1 (seg A.1 f l)) c A = R → InX S2 K la A c (B + 34) 1700 R (.inl r) S3 → r = none ∧ InX S K la A c B 3160 R (.inl none) S3 := by
              intro R hR h3
              cases R with
              | inl w =>
                obtain ⟨S4, _, _, _, _, _, _, _, q9, e9, _⟩ := h3
                cases e9
              | inr z =>
                obtain ⟨c9, A9⟩ := z
                have h3' := h3
                obtain ⟨e9, _⟩ := h3'
                cases e9
                obtain ⟨w1, w2⟩ := hwf _ c9 A9 hR rfl
                have := w1.2.2.2.2.2.2.2.1.1
                exact ⟨rfl, InX.pre (XG.of hX2) h3 (by omega) (by omega) (by show 480 * (A9.2.2.2.1.length - A.2.2.2.1.length) ≤ 48000; omega) w2⟩
            obtain ⟨rfl, h4⟩ := hz _ rfl h3
            (iterate 1 (refine BW.pl rfl rfl ?_))
            exact BW.ret rfl rfl h4
          · intro E q9 S3 h3
            have hz : ∀ R, InX S2 K la A c (B + 34) 1700 R (.inr (E, q9)) S3 → InX S K la A c B 3160 R (.inr (E, q9)) S3 := by
              intro R h3
              cases R with
              | inl w => exact InX.pre (XG.of hX2) h3 (by omega) (by omega) (by show 480 * 0 ≤ 48000; omega) (Nat.zero_le _)
              | inr z =>
                obtain ⟨c9, A9⟩ := z
                cases h3.1
            exact hz _ h3
        (iterate 6 (first | (refine BW.pl rfl rfl ?_) | (refine CW.geti rfl rfl (by assumption) rfl rfl (by assumption) (fun _ => ?_)) | (refine CW.getr rfl rfl (by assumption) rfl rfl (by assumption) ?_)))
        rcases hact with z | z | z
        · have h48' : Fi S2 48 m 123 := by rw [← z]; exact h48
          clear h48
          (iterate 2 (first | (refine BW.pl rfl rfl ?_) | (refine CW.geti rfl rfl (by assumption) rfl rfl (by assumption) (fun _ => ?_)) | (refine CW.getr rfl rfl (by assumption) rfl rfl (by assumption) ?_)))
          refine BW.sw (i' := 197) rfl rfl (by constructor <;> omega) rfl ?_
          exact go
        · have h48' : Fi S2 48 m 103 := by rw [← z]; exact h48
          clear h48
          (iterate 2 (first | (refine BW.pl rfl rfl ?_) | (refine CW.geti rfl rfl (by assumption) rfl rfl (by assumption) (fun _ => ?_)) | (refine CW.getr rfl rfl (by assumption) rfl rfl (by assumption) ?_)))
          refine BW.sw (i' := 197) rfl rfl (by constructor <;> omega) rfl ?_
          exact go
        · have h48' : Fi S2 48 m 71 := by rw [← z]; exact h48
          clear h48
          (iterate 2 (first | (refine BW.pl rfl rfl ?_) | (refine CW.geti rfl rfl (by assumption) rfl rfl (by assumption) (fun _ => ?_)) | (refine CW.getr rfl rfl (by assumption) rfl rfl (by assumption) ?_)))
          refine BW.sw (i' := 197) rfl rfl (by constructor <;> omega) rfl ?_
          exact go
    · intro E q9 S2 h2
      have eP : sOrd A o c = match sRange A o.1 with
        | .inl w => .inl w
        | .inr (f, l) => if sIsG (oAct o.1) = true then sEachL o.2 (sMet o.1 (seg A.1 f l)) c A else match sAct A o.1 f l with
          | .inl w => .inl w
          | .inr A1 => .inr (c, A1) := rfl
      rw [eP]
      revert h2
      cases sRange A o.1 with
      | inl w =>
        rintro ⟨S1, hL1, hX1, h9⟩
        exact ⟨S1, la, A, hL1.1.le (by omega) (by omega), XG.of hX1, LaE.rf, Int.le_refl _, ⟨[], by simp⟩, h9⟩
      | inr fl =>
        rintro ⟨e2, _⟩
        cases e2
  · rw [hout] at z; cases z
  · have hD : DoC S K la A (B + 34) F zz m o.1 := ⟨hL.le (by omega) (by omega), hK, hO.1, hw, hodK, by omega, by omega⟩
    refine BM.mono (L_doPlain (d := d + 3) hD hL hodP) (fun r S2 h2 => ?_)
    rw [sOrd_plain hg]
    have hwf := fun A1 (h : sPlain A o.1 = .inr A1) => sOrd_wf (c := c) hok hout hw hc (show sOrd A o c = .inr (c, A1) by rw [sOrd_plain hg, h])
    cases hs : sPlain A o.1 with
    | inl w =>
      rw [hs] at h2
      obtain ⟨S3, la3, A3, g1, g2, g3⟩ := h2
      exact ⟨S3, la3, A3, g1.le (by omega) (by omega), XG.of g2, g3⟩
    | inr A4 =>
      rw [hs] at h2
      obtain ⟨e, la4, hL7, hX67, hE7⟩ := h2
      obtain ⟨ex7, hex7, hpc⟩ := sPlain_O hodP.1 hw.1.1 hs
      have hex7l : A4.2.2.2.1.length = A.2.2.2.1.length + ex7.length := by rw [hex7, List.length_append]
      have := (hwf A4 hs).1.2.2.2.2.2.2.2.1.1
      exact ⟨e, la4, hL7.le (by omega) (by omega), XG.of hX67, hE7, hX67.f13 hL h13, Nat.le_refl _, ex7, hex7⟩
end DO
