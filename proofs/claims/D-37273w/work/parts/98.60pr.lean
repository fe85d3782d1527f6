-- C
set_option maxRecDepth 100000
/-! LINEORDERS: public methods that only look -/
section T0
variable {d i a : Nat} {b1 : Int} {M : GMeth} {ls : GL} {st : List GV} {S S' S1 : BS} {Q : GO → BS → Prop} {c c' c1 c2 k mid kind e : Nat} {cs : List Nat} {R : Nat ⊕ Int} {rg : GO} {r : Option GV} {x v : Int}
theorem Fr0.x18 {H : Nat → Obj} {fi : Nat → Nat → Int} {fr : Nat → Nat → Option Nat} {t : Nat} : Fr0 (H, fi, fr, t) (H, fi, fr, t + 18) 18 := ⟨fun _ h => h, fun _ _ _ => ⟨rfl, fun _ _ => ⟨rfl, rfl⟩⟩, Nat.le_refl _⟩
theorem Fr0.z : Fr0 S S 0 := Fr.rf
theorem Fr0.tr0 (h : Fr0 S S1 c1) (h2 : Fr0 S1 S' c2) (hc : c1 + c2 ≤ c) : Fr0 S S' c := (h.tr h2 (fun _ _ z => z)).w (fun _ _ z => z) hc
/-- there, state, range: it goes on, or throws -/
theorem L_tst (hx : x = 0 ∨ x = 1) (hm : (mid = gk_X1_there ∧ k = 202) ∨ (mid = gk_X1_state ∧ k = 201) ∨ (mid = gk_X1_range ∧ k = 200)) : BM (d + 1) mid [aI x] S (fun r S' => if x = 1 then Ret9 S r S' else r = .inr (k, none) ∧ Fr0 S S' 18) := by
  obtain ⟨H, fi, fr, t⟩ := S
  rcases hm with ⟨rfl, rfl⟩ | ⟨rfl, rfl⟩ | ⟨rfl, rfl⟩
  · refine BM.of rfl rfl rfl ?_
    (repeat (refine BW.pl rfl rfl ?_))
    refine BW.br rfl rfl (by first | omega | decide | (constructor <;> first | omega | decide)) (fun z => ?_) (fun z => ?_)
    · exact BW.ret rfl rfl (by rw [if_pos (by omega)]; exact ⟨rfl, rfl⟩)
    · exact BW.thx rfl rfl (Or.inr (Or.inr ⟨rfl, rfl⟩)) (by decide) (by rw [if_neg (by omega)]; exact ⟨rfl, Fr0.x18⟩)
  · refine BM.of rfl rfl rfl ?_
    (repeat (refine BW.pl rfl rfl ?_))
    refine BW.br rfl rfl (by first | omega | decide | (constructor <;> first | omega | decide)) (fun z => ?_) (fun z => ?_)
    · exact BW.ret rfl rfl (by rw [if_pos (by omega)]; exact ⟨rfl, rfl⟩)
    · exact BW.thx rfl rfl (Or.inr (Or.inl ⟨rfl, rfl⟩)) (by decide) (by rw [if_neg (by omega)]; exact ⟨rfl, Fr0.x18⟩)
  · refine BM.of rfl rfl rfl ?_
    (repeat (refine BW.pl rfl rfl ?_))
    refine BW.br rfl rfl (by first | omega | decide | (constructor <;> first | omega | decide)) (fun z => ?_) (fun z => ?_)
    · exact BW.ret rfl rfl (by rw [if_pos (by omega)]; exact ⟨rfl, rfl⟩)
    · exact BW.thx rfl rfl (Or.inl ⟨rfl, rfl⟩) (by decide) (by rw [if_neg (by omega)]; exact ⟨rfl, Fr0.x18⟩)
theorem CW.tst (hC : M.2.2.1[i]? = some (60, a, b1)) (hs : gsites[a]? = some (kind, mid, 0, 1)) (hin : kind ≠ 4 ∧ kind ≠ 11) (hr : Nat.ble ((st.map gcat).sum) 8 = true) (hm : (mid = gk_X1_there ∧ k = 202) ∨ (mid = gk_X1_state ∧ k = 201) ∨ (mid = gk_X1_range ∧ k = 200)) (hx : x = 0 ∨ x = 1) (hh : ghnd M.2.2.2 i = none)
    (k1 : x = 1 → BW (d + 1) M (i + 1) ls st S Q) (k0 : x = 0 → ∀ S', Fr0 S S' 18 → Q (.inr (k, none)) S') : BW (d + 1) M i ls (.inl x :: st) S Q := by
  refine CW.call (as := [aI x]) (rest := st) hC hs rfl rfl hr (Or.inl rfl) (Or.inl hin) (L_tst (d := d) hx hm) (fun r S' hq => ?_) (fun E q S' hq => ?_)
  · rcases hx with rfl | rfl
    · rw [if_neg (by decide)] at hq
      obtain ⟨e, -⟩ := hq
      cases e
    · rw [if_pos rfl] at hq
      obtain ⟨e, rfl⟩ := hq
      cases e
      exact k1 rfl
  · left
    refine ⟨hh, ?_⟩
    rcases hx with rfl | rfl
    · rw [if_neg (by decide)] at hq
      obtain ⟨e, hF⟩ := hq
      cases e
      exact k0 rfl _ hF
    · rw [if_pos rfl] at hq
      obtain ⟨e, _⟩ := hq
      cases e
/-- a look's answer: a value, or an exception of the class cs[k - 1] -/
def PrX (S : BS) (c : Nat) (cs : List Nat) (R : Nat ⊕ Int) (rg : GO) (S' : BS) : Prop := Fr0 S S' c ∧ match R with
  | .inl k => rg = .inr (cs.getD (k - 1) 0, none)
  | .inr v => rg = .inl (vI v) ∧ inR v
theorem PrX.ok (hF : Fr0 S S' c') (hc : c' ≤ c) (hR : R = .inr v) (hv : inR v) : PrX S c cs R (.inl (vI v)) S' := by
  subst hR
  exact ⟨hF.w (fun _ _ z => z) hc, rfl, hv⟩
theorem PrX.no (hF : Fr0 S S' c') (hc : c' ≤ c) (hR : R = .inl k) (he : cs.getD (k - 1) 0 = e) : PrX S c cs R (.inr (e, none)) S' := by
  subst hR he
  exact ⟨hF.w (fun _ _ z => z) hc, rfl⟩
theorem PrX.ret (h : PrX S c cs R (.inl r) S') : ∃ v, r = vI v ∧ inR v ∧ R = .inr v ∧ Fr0 S S' c := by
  obtain ⟨hF, h⟩ := h
  cases R with
  | inl k => cases h
  | inr v =>
    obtain ⟨h1, h2⟩ := h
    cases h1
    exact ⟨v, rfl, h2, rfl, hF⟩
theorem PrX.le (h : PrX S c cs R rg S') (hc : c ≤ c') : PrX S c' cs R rg S' := ⟨h.1.w (fun _ _ z => z) hc, h.2⟩
theorem PrX.pre (hF : Fr0 S S1 c1) (h : PrX S1 c2 cs R rg S') (hc : c1 + c2 ≤ c) : PrX S c cs R rg S' := ⟨hF.tr0 h.1 hc, h.2⟩
end T0
section LK
variable {d n m q i a b e y cap c k j pl B p F0 cl re l : Nat} {S S' S0 S1 S2 : BS} {K : Nat → Nat} {la la' : Int → Nat} {A A1 : St} {F V : Nat → Prop} {v nn x1 x z : Int} {r : Option Nat} {t : List SLine} {xs ws : List (Option Nat)} {ds : List SDeed} {tp s : List Int} {sc : Nat → Option (List Int)} {rows : List (List Int)} {w : PW}
/-- signs that were typed -/
def SgO (s : List Int) : Prop := s.length ≤ 60 ∧ ∀ c ∈ s, 32 ≤ c ∧ c ≤ 126
theorem RowOk.sg {r : List Int} (h : RowOk r) : SgO r := ⟨by have := h.1; omega, h.2⟩
theorem SgO.get (h : SgO s) (hk : k < s.length) : 32 ≤ s.getD k 0 ∧ s.getD k 0 ≤ 126 := h.2 _ (getD_mem hk)
theorem SgO.nil : SgO [] := ⟨by decide, fun _ z => by cases z⟩
theorem isNr_t : isNr x k = true ↔ 1 ≤ x ∧ x ≤ (k : Int) := by unfold isNr; exact decide_eq_true_iff
theorem isNr_f : isNr x k = false ↔ ¬ (1 ≤ x ∧ x ≤ (k : Int)) := by unfold isNr; exact decide_eq_false_iff_not
theorem isFo_t : isFo x = true ↔ 0 ≤ x ∧ x < 4 := by unfold isFo; exact decide_eq_true_iff
theorem isFo_f : isFo x = false ↔ ¬ (0 ≤ x ∧ x < 4) := by unfold isFo; exact decide_eq_false_iff_not
/-- signAt -/
def sgnR (s : List Int) (x : Int) : Nat ⊕ Int := if 0 ≤ x ∧ x < (s.length : Int) then .inr (s.getD x.toNat 0) else .inl 1
theorem sgnR_w : (sgnAt s x w).1 = sgnR s x := by unfold sgnAt sgnR; split <;> rfl
theorem L_signAt (hy : Ob S y (oStr s)) (hs : SgO s) (hx : inR x) : BM (d + 5) gk_X1_signAt [aR y, aI x] S (PrX S 18 [202] (sgnR s x)) := by
  have hl := hs.1
  refine BM.of rfl rfl rfl ?_
  (repeat (refine BW.pl rfl rfl ?_))
  refine BW.i2l rfl hx ?_
  (repeat (refine BW.pl rfl rfl ?_))
  refine CW.e1 rfl rfl (by first | exact Or.inl rfl | exact Or.inr (tagO (by assumption) (by rfl) (by rfl)) | exact Or.inr (tagO (AdrIs.ox (by assumption)) (by rfl) (by rfl)) | exact Or.inr (tagO (PatIs.ox (by assumption)) (by rfl) (by rfl)) | exact Or.inr (tagO (Or0.ox (by assumption)) (by rfl) (by rfl))) (by first | exact Or.inl (by decide) | exact Or.inr ⟨_, rfl, by assumption⟩) rfl (B_slen hy) ?_
  (repeat (refine BW.pl rfl rfl ?_))
  refine BW.i2l rfl (by constructor <;> omega) ?_
  refine CW.e3 rfl rfl (by first | exact Or.inl rfl | exact Or.inr (tagO (by assumption) (by rfl) (by rfl)) | exact Or.inr (tagO (AdrIs.ox (by assumption)) (by rfl) (by rfl)) | exact Or.inr (tagO (PatIs.ox (by assumption)) (by rfl) (by rfl)) | exact Or.inr (tagO (Or0.ox (by assumption)) (by rfl) (by rfl))) (by first | exact Or.inl (by decide) | exact Or.inr ⟨_, rfl, by assumption⟩) rfl (B_in hx (by decide) (by constructor <;> omega)) ?_
  by_cases h : 0 ≤ x ∧ x < (s.length : Int)
  · rw [if_pos (by omega)]
    refine CW.tst rfl rfl (by decide) rfl (Or.inl ⟨rfl, rfl⟩) (Or.inr rfl) rfl (fun _ => ?_) (fun w _ _ => absurd w (by decide))
    (repeat (refine BW.pl rfl rfl ?_))
    refine CW.e2 rfl rfl (by first | exact Or.inl rfl | exact Or.inr (tagO (by assumption) (by rfl) (by rfl)) | exact Or.inr (tagO (AdrIs.ox (by assumption)) (by rfl) (by rfl)) | exact Or.inr (tagO (PatIs.ox (by assumption)) (by rfl) (by rfl)) | exact Or.inr (tagO (Or0.ox (by assumption)) (by rfl) (by rfl))) (by first | exact Or.inl (by decide) | exact Or.inr ⟨_, rfl, by assumption⟩) rfl (B_schar hy h) ?_
    have := hs.get (k := x.toNat) (by omega)
    exact BW.irx rfl (Or.inl ⟨rfl, by constructor <;> omega⟩) (PrX.ok Fr0.z (by omega) (by unfold sgnR; rw [if_pos h]) (by constructor <;> omega))
  · rw [if_neg (by omega)]
    refine CW.tst rfl rfl (by decide) rfl (Or.inl ⟨rfl, rfl⟩) (Or.inl rfl) rfl (fun w => absurd w (by decide)) (fun _ S1 hF1 => ?_)
    exact PrX.no hF1 (Nat.le_refl _) (by unfold sgnR; rw [if_neg h]) rfl
/-- rowOf -/
def RoX (S : BS) (rows : List (List Int)) (x : Int) (rg : GO) (S' : BS) : Prop := if isNr x rows.length = true then S' = S ∧ ∃ y, rg = .inl (vR (some y)) ∧ Ob S y (oStr (rows.getD (x - 1).toNat [])) else rg = .inr (202, none) ∧ Fr0 S S' 18
theorem L_rowOf (hl : Ob S l (oAl xs cap)) (hs : StrsIs S xs rows) (hx : inR x) (h100 : rows.length ≤ 100) : BM (d + 4) gk_X1_rowOf [aR l, aI x] S (RoX S rows x) := by
  have hxl := hs.1
  refine BM.of rfl rfl rfl ?_
  (repeat (refine BW.pl rfl rfl ?_))
  refine BW.i2l rfl hx ?_
  (repeat (refine BW.pl rfl rfl ?_))
  refine CW.e1 rfl rfl (by first | exact Or.inl rfl | exact Or.inr (tagO (by assumption) (by rfl) (by rfl)) | exact Or.inr (tagO (AdrIs.ox (by assumption)) (by rfl) (by rfl)) | exact Or.inr (tagO (PatIs.ox (by assumption)) (by rfl) (by rfl)) | exact Or.inr (tagO (Or0.ox (by assumption)) (by rfl) (by rfl))) (by first | exact Or.inl (by decide) | exact Or.inr ⟨_, rfl, by assumption⟩) rfl (B_alSize hl) ?_
  refine BW.i2l rfl (by constructor <;> omega) ?_
  refine CW.e3 rfl rfl (by first | exact Or.inl rfl | exact Or.inr (tagO (by assumption) (by rfl) (by rfl)) | exact Or.inr (tagO (AdrIs.ox (by assumption)) (by rfl) (by rfl)) | exact Or.inr (tagO (PatIs.ox (by assumption)) (by rfl) (by rfl)) | exact Or.inr (tagO (Or0.ox (by assumption)) (by rfl) (by rfl))) (by first | exact Or.inl (by decide) | exact Or.inr ⟨_, rfl, by assumption⟩) rfl (B_in hx (by decide) (by constructor <;> omega)) ?_
  by_cases h : isNr x rows.length = true
  · have h' := isNr_t.mp h
    rw [if_pos (by omega)]
    refine CW.tst rfl rfl (by decide) rfl (Or.inl ⟨rfl, rfl⟩) (Or.inr rfl) rfl (fun _ => ?_) (fun w _ _ => absurd w (by decide))
    (repeat (refine BW.pl rfl rfl ?_))
    obtain ⟨⟨y, hy1, hy2⟩, -⟩ := hs.2 (x - 1).toNat (by omega)
    refine CW.e2 rfl rfl (by first | exact Or.inl rfl | exact Or.inr (tagO (by assumption) (by rfl) (by rfl)) | exact Or.inr (tagO (AdrIs.ox (by assumption)) (by rfl) (by rfl)) | exact Or.inr (tagO (PatIs.ox (by assumption)) (by rfl) (by rfl)) | exact Or.inr (tagO (Or0.ox (by assumption)) (by rfl) (by rfl))) (by first | exact Or.inl (by decide) | exact Or.inr ⟨_, rfl, by assumption⟩) rfl (C_alGet (k := (x - 1).toNat) hl (by omega) hy1 (by omega)) ?_
    refine CW.castS rfl hy2 rfl rfl rfl ?_
    exact BW.aret rfl rfl (by unfold RoX; rw [if_pos h]; exact ⟨rfl, y, rfl, hy2⟩)
  · have h' := isNr_f.mp (Bool.eq_false_iff.mpr h)
    rw [if_neg (by omega)]
    refine CW.tst rfl rfl (by decide) rfl (Or.inl ⟨rfl, rfl⟩) (Or.inl rfl) rfl (fun w => absurd w (by decide)) (fun _ S1 hF1 => ?_)
    unfold RoX
    rw [if_neg h]
    exact ⟨rfl, hF1⟩
def lenR (rows : List (List Int)) (x : Int) : Nat ⊕ Int := if isNr x rows.length = false then .inl 1 else .inr ((rows.getD (x - 1).toNat []).length : Int)
def atR (rows : List (List Int)) (x z : Int) : Nat ⊕ Int := if isNr x rows.length = false then .inl 1 else sgnR (rows.getD (x - 1).toNat []) z
theorem lenR_w : (rLen rows x w).1 = lenR rows x := by unfold rLen lenR; split <;> rfl
theorem atR_w : (rAt rows x z w).1 = atR rows x z := by
  unfold rAt atR
  split
  · rfl
  · exact sgnR_w
theorem lenR_t (h : isNr x rows.length = true) : lenR rows x = .inr ((rows.getD (x - 1).toNat []).length : Int) := by unfold lenR; rw [if_neg (by rw [h]; decide)]
theorem lenR_f (h : isNr x rows.length = false) : lenR rows x = .inl 1 := by unfold lenR; rw [if_pos h]
theorem atR_t (h : isNr x rows.length = true) : atR rows x z = sgnR (rows.getD (x - 1).toNat []) z := by unfold atR; rw [if_neg (by rw [h]; decide)]
theorem atR_f (h : isNr x rows.length = false) : atR rows x z = .inl 1 := by unfold atR; rw [if_pos h]
theorem RoX.inl {r : Option GV} (h : RoX S rows x (.inl r) S') : isNr x rows.length = true ∧ S' = S ∧ ∃ y, r = vR (some y) ∧ Ob S y (oStr (rows.getD (x - 1).toNat [])) := by
  unfold RoX at h
  by_cases z : isNr x rows.length = true
  · rw [if_pos z] at h
    obtain ⟨h1, y, h2, h3⟩ := h
    cases h2
    exact ⟨z, h1, y, rfl, h3⟩
  · rw [if_neg z] at h
    cases h.1
theorem RoX.inr {e : Nat × Option Nat} (h : RoX S rows x (.inr e) S') : isNr x rows.length = false ∧ e = (202, none) ∧ Fr0 S S' 18 := by
  unfold RoX at h
  by_cases z : isNr x rows.length = true
  · rw [if_pos z] at h
    obtain ⟨h1, y, h2, h3⟩ := h
    cases h2
  · rw [if_neg z] at h
    obtain ⟨h1, h2⟩ := h
    cases h1
    exact ⟨Bool.eq_false_iff.mpr z, rfl, h2⟩
theorem rowOk_at (hR : ∀ r ∈ rows, RowOk r) (h : isNr x rows.length = true) : RowOk (rows.getD (x - 1).toNat []) := by
  have := isNr_t.mp h
  exact hR _ (getD_mem (by omega))
/-- fileOf -/
def FoX (S : BS) (K : Nat → Nat) (x : Int) (rg : GO) (S' : BS) : Prop := if isFo x = true then S' = S ∧ rg = .inl (vR (some (K (20 + x.toNat)))) else rg = .inr (202, none) ∧ Fr0 S S' 18
theorem FoX.inl {r : Option GV} (h : FoX S K x (.inl r) S') : isFo x = true ∧ S' = S ∧ r = vR (some (K (20 + x.toNat))) := by
  unfold FoX at h
  by_cases z : isFo x = true
  · rw [if_pos z] at h
    obtain ⟨h1, h2⟩ := h
    cases h2
    exact ⟨z, h1, rfl⟩
  · rw [if_neg z] at h
    cases h.1
theorem FoX.inr {e : Nat × Option Nat} (h : FoX S K x (.inr e) S') : isFo x = false ∧ e = (202, none) ∧ Fr0 S S' 18 := by
  unfold FoX at h
  by_cases z : isFo x = true
  · rw [if_pos z] at h
    obtain ⟨h1, h2⟩ := h
    cases h2
  · rw [if_neg z] at h
    obtain ⟨h1, h2⟩ := h
    cases h1
    exact ⟨Bool.eq_false_iff.mpr z, rfl, h2⟩
theorem L_fileOf (hL : LO S K la A B) (hx : inR x) : BM (d + 4) gk_X1_fileOf [aR (K 1), aI x] S (FoX S K x) := by
  have hxb := hL.1.obx
  have e9 := hL.1.e9
  obtain ⟨cap9, h9⟩ := K_files hL
  refine BM.of rfl rfl rfl ?_
  (repeat (refine BW.pl rfl rfl ?_))
  refine BW.i2l rfl hx ?_
  (repeat (refine BW.pl rfl rfl ?_))
  refine CW.e3 rfl rfl (by first | exact Or.inl rfl | exact Or.inr (tagO (by assumption) (by rfl) (by rfl)) | exact Or.inr (tagO (AdrIs.ox (by assumption)) (by rfl) (by rfl)) | exact Or.inr (tagO (PatIs.ox (by assumption)) (by rfl) (by rfl)) | exact Or.inr (tagO (Or0.ox (by assumption)) (by rfl) (by rfl))) (by first | exact Or.inl (by decide) | exact Or.inr ⟨_, rfl, by assumption⟩) rfl (B_in hx (by decide) (by decide)) ?_
  by_cases h : isFo x = true
  · have h' := isFo_t.mp h
    obtain ⟨capf, xsf, hlf, -⟩ := K_file hL (show x.toNat < 4 by omega)
    rw [if_pos (by omega)]
    refine CW.tst rfl rfl (by decide) rfl (Or.inl ⟨rfl, rfl⟩) (Or.inr rfl) rfl (fun _ => ?_) (fun w _ _ => absurd w (by decide))
    (repeat (first | (refine BW.pl rfl rfl ?_) | (refine CW.geti rfl rfl (by assumption) rfl rfl (by assumption) (fun _ => ?_)) | (refine CW.getr rfl rfl (by assumption) rfl rfl (by assumption) ?_)))
    refine CW.e2 rfl rfl (by first | exact Or.inl rfl | exact Or.inr (tagO (by assumption) (by rfl) (by rfl)) | exact Or.inr (tagO (AdrIs.ox (by assumption)) (by rfl) (by rfl)) | exact Or.inr (tagO (PatIs.ox (by assumption)) (by rfl) (by rfl)) | exact Or.inr (tagO (Or0.ox (by assumption)) (by rfl) (by rfl))) (by first | exact Or.inl (by decide) | exact Or.inr ⟨_, rfl, by assumption⟩) rfl (C_alGet (k := x.toNat) h9 (show x.toNat < 4 by omega) (K_get (by omega)) (by omega)) ?_
    refine CW.castS rfl hlf rfl rfl rfl ?_
    exact BW.aret rfl rfl (by unfold FoX; rw [if_pos h]; exact ⟨rfl, rfl⟩)
  · have h' := isFo_f.mp (Bool.eq_false_iff.mpr h)
    rw [if_neg (by omega)]
    refine CW.tst rfl rfl (by decide) rfl (Or.inl ⟨rfl, rfl⟩) (Or.inl rfl) rfl (fun w => absurd w (by decide)) (fun _ S1 hF1 => ?_)
    unfold FoX
    rw [if_neg h]
    exact ⟨rfl, hF1⟩
theorem WF.hl (hw : WF A) : A.2.2.1.length ≤ 100 ∧ ∀ r ∈ A.2.2.1, RowOk r := by
  obtain ⟨_, _, _, _, _, _, ⟨g1, g2⟩, _⟩ := hw
  exact ⟨by omega, g2⟩
theorem WF.ou (hw : WF A) : A.2.2.2.1.length ≤ 100 ∧ ∀ r ∈ A.2.2.2.1, RowOk r := by
  obtain ⟨_, _, _, _, _, _, _, ⟨g1, g2⟩, _⟩ := hw
  exact ⟨by omega, g2⟩
theorem WF.fl (hw : WF A) (k : Nat) : (A.2.2.2.2.1 k).length ≤ 100 ∧ ∀ r ∈ A.2.2.2.2.1 k, RowOk r := by
  obtain ⟨_, _, _, _, _, _, _, _, g⟩ := hw
  exact ⟨by have := (g k).1; omega, (g k).2⟩
theorem L_heldLength (hL : LO S K la A B) (hw : WF A) (hx : inR x) : BM (d + 6) gk_X1_heldLength [aR (K 1), aI x] S (PrX S 18 [202] (lenR A.2.2.1 x)) := by
  obtain ⟨h100, hR⟩ := hw.hl
  obtain ⟨cap, xs, hl, hs, -⟩ := hL.1.list (i := 7) (by decide)
  have hs : StrsIs S xs A.2.2.1 := hs
  have hxb := hL.1.obx
  have e9 := hL.1.e7
  refine BM.of rfl rfl rfl ?_
  (repeat (first | (refine BW.pl rfl rfl ?_) | (refine CW.geti rfl rfl (by assumption) rfl rfl (by assumption) (fun _ => ?_)) | (refine CW.getr rfl rfl (by assumption) rfl rfl (by assumption) ?_)))
  refine CW.call (as := [aR (K 7), aI x]) (rest := []) rfl rfl rfl rfl rfl (Or.inl rfl) (Or.inl (by decide)) (L_rowOf (d := d + 1) hl hs hx h100) (fun r S1 hq => ?_) (fun E q S1 hq => ?_)
  · obtain ⟨h, rfl, y, rfl, hy⟩ := hq.inl
    have hok1 := (rowOk_at hR h).1
    refine CW.e1 rfl rfl (by first | exact Or.inl rfl | exact Or.inr (tagO (by assumption) (by rfl) (by rfl)) | exact Or.inr (tagO (AdrIs.ox (by assumption)) (by rfl) (by rfl)) | exact Or.inr (tagO (PatIs.ox (by assumption)) (by rfl) (by rfl)) | exact Or.inr (tagO (Or0.ox (by assumption)) (by rfl) (by rfl))) (by first | exact Or.inl (by decide) | exact Or.inr ⟨_, rfl, by assumption⟩) rfl (B_slen hy) ?_
    exact BW.irx rfl (Or.inl ⟨rfl, by constructor <;> omega⟩) (PrX.ok Fr0.z (by omega) (lenR_t h) (by constructor <;> omega))
  · obtain ⟨h, e9, hF⟩ := hq.inr
    cases e9
    exact Or.inl ⟨rfl, PrX.no hF (Nat.le_refl _) (lenR_f h) rfl⟩
theorem L_heldAt (hL : LO S K la A B) (hw : WF A) (hx : inR x) (hz : inR z) : BM (d + 6) gk_X1_heldAt [aR (K 1), aI x, aI z] S (PrX S 18 [202] (atR A.2.2.1 x z)) := by
  obtain ⟨h100, hR⟩ := hw.hl
  obtain ⟨cap, xs, hl, hs, -⟩ := hL.1.list (i := 7) (by decide)
  have hs : StrsIs S xs A.2.2.1 := hs
  have hxb := hL.1.obx
  have e9 := hL.1.e7
  refine BM.of rfl rfl rfl ?_
  (repeat (first | (refine BW.pl rfl rfl ?_) | (refine CW.geti rfl rfl (by assumption) rfl rfl (by assumption) (fun _ => ?_)) | (refine CW.getr rfl rfl (by assumption) rfl rfl (by assumption) ?_)))
  refine CW.call (as := [aR (K 7), aI x]) (rest := []) rfl rfl rfl rfl rfl (Or.inl rfl) (Or.inl (by decide)) (L_rowOf (d := d + 1) hl hs hx h100) (fun r S1 hq => ?_) (fun E q S1 hq => ?_)
  · obtain ⟨h, rfl, y, rfl, hy⟩ := hq.inl
    rw [atR_t h]
    (repeat (refine BW.pl rfl rfl ?_))
    refine CW.call (as := [aR y, aI z]) (rest := []) rfl rfl rfl rfl rfl (Or.inl rfl) (Or.inl (by decide)) (L_signAt (d := d) hy (rowOk_at hR h).sg hz) (fun r S1 hq => ?_) (fun E q S1 hq => Or.inl ⟨rfl, hq⟩)
    obtain ⟨v9, rfl, hv9, e9, hF9⟩ := hq.ret
    exact BW.irx rfl (Or.inl ⟨rfl, hv9⟩) (PrX.ok hF9 (Nat.le_refl _) e9 hv9)
  · obtain ⟨h, e9, hF⟩ := hq.inr
    cases e9
    exact Or.inl ⟨rfl, PrX.no hF (Nat.le_refl _) (atR_f h) rfl⟩
theorem L_held (hL : LO S K la A B) (hw : WF A) : BM (d + 6) gk_X1_held [aR (K 1)] S (PrX S 0 [] (.inr (A.2.2.1.length : Int))) := by
  obtain ⟨h100, hR⟩ := hw.hl
  obtain ⟨cap, xs, hl, hs, -⟩ := hL.1.list (i := 7) (by decide)
  have hs : StrsIs S xs A.2.2.1 := hs
  have hxb := hL.1.obx
  have e9 := hL.1.e7
  refine BM.of rfl rfl rfl ?_
  (repeat (first | (refine BW.pl rfl rfl ?_) | (refine CW.geti rfl rfl (by assumption) rfl rfl (by assumption) (fun _ => ?_)) | (refine CW.getr rfl rfl (by assumption) rfl rfl (by assumption) ?_)))
  refine CW.e1 rfl rfl (by first | exact Or.inl rfl | exact Or.inr (tagO (by assumption) (by rfl) (by rfl)) | exact Or.inr (tagO (AdrIs.ox (by assumption)) (by rfl) (by rfl)) | exact Or.inr (tagO (PatIs.ox (by assumption)) (by rfl) (by rfl)) | exact Or.inr (tagO (Or0.ox (by assumption)) (by rfl) (by rfl))) (by first | exact Or.inl (by decide) | exact Or.inr ⟨_, rfl, by assumption⟩) rfl (B_alSize hl) ?_
  have hxl := hs.1
  exact BW.irx rfl (Or.inl ⟨rfl, by constructor <;> omega⟩) (PrX.ok Fr0.z (Nat.le_refl _) (by rw [hxl]) (by constructor <;> omega))
theorem L_outLength (hL : LO S K la A B) (hw : WF A) (hx : inR x) : BM (d + 6) gk_X1_outLength [aR (K 1), aI x] S (PrX S 18 [202] (lenR A.2.2.2.1 x)) := by
  obtain ⟨h100, hR⟩ := hw.ou
  obtain ⟨cap, xs, hl, hs, -⟩ := hL.1.list (i := 8) (by decide)
  have hs : StrsIs S xs A.2.2.2.1 := hs
  have hxb := hL.1.obx
  have e9 := hL.1.e8
  refine BM.of rfl rfl rfl ?_
  (repeat (first | (refine BW.pl rfl rfl ?_) | (refine CW.geti rfl rfl (by assumption) rfl rfl (by assumption) (fun _ => ?_)) | (refine CW.getr rfl rfl (by assumption) rfl rfl (by assumption) ?_)))
  refine CW.call (as := [aR (K 8), aI x]) (rest := []) rfl rfl rfl rfl rfl (Or.inl rfl) (Or.inl (by decide)) (L_rowOf (d := d + 1) hl hs hx h100) (fun r S1 hq => ?_) (fun E q S1 hq => ?_)
  · obtain ⟨h, rfl, y, rfl, hy⟩ := hq.inl
    have hok1 := (rowOk_at hR h).1
    refine CW.e1 rfl rfl (by first | exact Or.inl rfl | exact Or.inr (tagO (by assumption) (by rfl) (by rfl)) | exact Or.inr (tagO (AdrIs.ox (by assumption)) (by rfl) (by rfl)) | exact Or.inr (tagO (PatIs.ox (by assumption)) (by rfl) (by rfl)) | exact Or.inr (tagO (Or0.ox (by assumption)) (by rfl) (by rfl))) (by first | exact Or.inl (by decide) | exact Or.inr ⟨_, rfl, by assumption⟩) rfl (B_slen hy) ?_
    exact BW.irx rfl (Or.inl ⟨rfl, by constructor <;> omega⟩) (PrX.ok Fr0.z (by omega) (lenR_t h) (by constructor <;> omega))
  · obtain ⟨h, e9, hF⟩ := hq.inr
    cases e9
    exact Or.inl ⟨rfl, PrX.no hF (Nat.le_refl _) (lenR_f h) rfl⟩
theorem L_outAt (hL : LO S K la A B) (hw : WF A) (hx : inR x) (hz : inR z) : BM (d + 6) gk_X1_outAt [aR (K 1), aI x, aI z] S (PrX S 18 [202] (atR A.2.2.2.1 x z)) := by
  obtain ⟨h100, hR⟩ := hw.ou
  obtain ⟨cap, xs, hl, hs, -⟩ := hL.1.list (i := 8) (by decide)
  have hs : StrsIs S xs A.2.2.2.1 := hs
  have hxb := hL.1.obx
  have e9 := hL.1.e8
  refine BM.of rfl rfl rfl ?_
  (repeat (first | (refine BW.pl rfl rfl ?_) | (refine CW.geti rfl rfl (by assumption) rfl rfl (by assumption) (fun _ => ?_)) | (refine CW.getr rfl rfl (by assumption) rfl rfl (by assumption) ?_)))
  refine CW.call (as := [aR (K 8), aI x]) (rest := []) rfl rfl rfl rfl rfl (Or.inl rfl) (Or.inl (by decide)) (L_rowOf (d := d + 1) hl hs hx h100) (fun r S1 hq => ?_) (fun E q S1 hq => ?_)
  · obtain ⟨h, rfl, y, rfl, hy⟩ := hq.inl
    rw [atR_t h]
    (repeat (refine BW.pl rfl rfl ?_))
    refine CW.call (as := [aR y, aI z]) (rest := []) rfl rfl rfl rfl rfl (Or.inl rfl) (Or.inl (by decide)) (L_signAt (d := d) hy (rowOk_at hR h).sg hz) (fun r S1 hq => ?_) (fun E q S1 hq => Or.inl ⟨rfl, hq⟩)
    obtain ⟨v9, rfl, hv9, e9, hF9⟩ := hq.ret
    exact BW.irx rfl (Or.inl ⟨rfl, hv9⟩) (PrX.ok hF9 (Nat.le_refl _) e9 hv9)
  · obtain ⟨h, e9, hF⟩ := hq.inr
    cases e9
    exact Or.inl ⟨rfl, PrX.no hF (Nat.le_refl _) (atR_f h) rfl⟩
theorem L_outs (hL : LO S K la A B) (hw : WF A) : BM (d + 6) gk_X1_outs [aR (K 1)] S (PrX S 0 [] (.inr (A.2.2.2.1.length : Int))) := by
  obtain ⟨h100, hR⟩ := hw.ou
  obtain ⟨cap, xs, hl, hs, -⟩ := hL.1.list (i := 8) (by decide)
  have hs : StrsIs S xs A.2.2.2.1 := hs
  have hxb := hL.1.obx
  have e9 := hL.1.e8
  refine BM.of rfl rfl rfl ?_
  (repeat (first | (refine BW.pl rfl rfl ?_) | (refine CW.geti rfl rfl (by assumption) rfl rfl (by assumption) (fun _ => ?_)) | (refine CW.getr rfl rfl (by assumption) rfl rfl (by assumption) ?_)))
  refine CW.e1 rfl rfl (by first | exact Or.inl rfl | exact Or.inr (tagO (by assumption) (by rfl) (by rfl)) | exact Or.inr (tagO (AdrIs.ox (by assumption)) (by rfl) (by rfl)) | exact Or.inr (tagO (PatIs.ox (by assumption)) (by rfl) (by rfl)) | exact Or.inr (tagO (Or0.ox (by assumption)) (by rfl) (by rfl))) (by first | exact Or.inl (by decide) | exact Or.inr ⟨_, rfl, by assumption⟩) rfl (B_alSize hl) ?_
  have hxl := hs.1
  exact BW.irx rfl (Or.inl ⟨rfl, by constructor <;> omega⟩) (PrX.ok Fr0.z (Nat.le_refl _) (by rw [hxl]) (by constructor <;> omega))
theorem L_fileRows (hL : LO S K la A B) (hw : WF A) {k9 : Int} (hk9 : inR k9) : BM (d + 6) gk_X1_fileRows [aR (K 1), aI k9] S (PrX S 18 [202] (if isFo k9 = false then .inl 1 else .inr ((A.2.2.2.2.1 k9.toNat).length : Int))) := by
  have hxb := hL.1.obx
  refine BM.of rfl rfl rfl ?_
  (repeat (refine BW.pl rfl rfl ?_))
  refine CW.call (as := [aR (K 1), aI k9]) (rest := []) rfl rfl rfl rfl rfl (by first | exact Or.inl rfl | exact Or.inr (tagO hxb rfl rfl)) (Or.inl (by decide)) (L_fileOf (d := d + 1) hL hk9) (fun r S1 hq => ?_) (fun E q S1 hq => ?_)
  rotate_left
  · obtain ⟨h9, e9, hF⟩ := hq.inr
    cases e9
    exact Or.inl ⟨rfl, PrX.no hF (Nat.le_refl _) (by rw [if_pos h9]) rfl⟩
  obtain ⟨h9, rfl, rfl⟩ := hq.inl
  have h9' := isFo_t.mp h9
  have e9 : isFo k9 ≠ false := by rw [h9]; decide
  obtain ⟨h100, hR⟩ := hw.fl k9.toNat
  obtain ⟨cap, xs, hl, hs, -⟩ := K_file hL (show k9.toNat < 4 by omega)
  rw [if_neg e9]
  refine CW.e1 rfl rfl (by first | exact Or.inl rfl | exact Or.inr (tagO (by assumption) (by rfl) (by rfl)) | exact Or.inr (tagO (AdrIs.ox (by assumption)) (by rfl) (by rfl)) | exact Or.inr (tagO (PatIs.ox (by assumption)) (by rfl) (by rfl)) | exact Or.inr (tagO (Or0.ox (by assumption)) (by rfl) (by rfl))) (by first | exact Or.inl (by decide) | exact Or.inr ⟨_, rfl, by assumption⟩) rfl (B_alSize hl) ?_
  have hxl := hs.1
  exact BW.irx rfl (Or.inl ⟨rfl, by constructor <;> omega⟩) (PrX.ok Fr0.z (by omega) (by rw [hxl]) (by constructor <;> omega))
theorem L_fileLength (hL : LO S K la A B) (hw : WF A) {k9 : Int} (hk9 : inR k9) (hx : inR x) : BM (d + 6) gk_X1_fileLength [aR (K 1), aI k9, aI x] S (PrX S 18 [202] (if isFo k9 = false then .inl 1 else lenR (A.2.2.2.2.1 k9.toNat) x)) := by
  have hxb := hL.1.obx
  refine BM.of rfl rfl rfl ?_
  (repeat (refine BW.pl rfl rfl ?_))
  refine CW.call (as := [aR (K 1), aI k9]) (rest := []) rfl rfl rfl rfl rfl (by first | exact Or.inl rfl | exact Or.inr (tagO hxb rfl rfl)) (Or.inl (by decide)) (L_fileOf (d := d + 1) hL hk9) (fun r S1 hq => ?_) (fun E q S1 hq => ?_)
  rotate_left
  · obtain ⟨h9, e9, hF⟩ := hq.inr
    cases e9
    exact Or.inl ⟨rfl, PrX.no hF (Nat.le_refl _) (by rw [if_pos h9]) rfl⟩
  obtain ⟨h9, rfl, rfl⟩ := hq.inl
  have h9' := isFo_t.mp h9
  have e9 : isFo k9 ≠ false := by rw [h9]; decide
  obtain ⟨h100, hR⟩ := hw.fl k9.toNat
  obtain ⟨cap, xs, hl, hs, -⟩ := K_file hL (show k9.toNat < 4 by omega)
  rw [if_neg e9]
  (repeat (refine BW.pl rfl rfl ?_))
  refine CW.call (as := [aR (K (20 + k9.toNat)), aI x]) (rest := []) rfl rfl rfl rfl rfl (Or.inl rfl) (Or.inl (by decide)) (L_rowOf (d := d + 1) hl hs hx h100) (fun r S1 hq => ?_) (fun E q S1 hq => ?_)
  · obtain ⟨h, rfl, y, rfl, hy⟩ := hq.inl
    have hok1 := (rowOk_at hR h).1
    refine CW.e1 rfl rfl (by first | exact Or.inl rfl | exact Or.inr (tagO (by assumption) (by rfl) (by rfl)) | exact Or.inr (tagO (AdrIs.ox (by assumption)) (by rfl) (by rfl)) | exact Or.inr (tagO (PatIs.ox (by assumption)) (by rfl) (by rfl)) | exact Or.inr (tagO (Or0.ox (by assumption)) (by rfl) (by rfl))) (by first | exact Or.inl (by decide) | exact Or.inr ⟨_, rfl, by assumption⟩) rfl (B_slen hy) ?_
    exact BW.irx rfl (Or.inl ⟨rfl, by constructor <;> omega⟩) (PrX.ok Fr0.z (by omega) (lenR_t h) (by constructor <;> omega))
  · obtain ⟨h, e9, hF⟩ := hq.inr
    cases e9
    exact Or.inl ⟨rfl, PrX.no hF (Nat.le_refl _) (lenR_f h) rfl⟩
theorem L_fileAt (hL : LO S K la A B) (hw : WF A) {k9 : Int} (hk9 : inR k9) (hx : inR x) (hz : inR z) : BM (d + 6) gk_X1_fileAt [aR (K 1), aI k9, aI x, aI z] S (PrX S 18 [202] (if isFo k9 = false then .inl 1 else atR (A.2.2.2.2.1 k9.toNat) x z)) := by
  have hxb := hL.1.obx
  refine BM.of rfl rfl rfl ?_
  (repeat (refine BW.pl rfl rfl ?_))
  refine CW.call (as := [aR (K 1), aI k9]) (rest := []) rfl rfl rfl rfl rfl (by first | exact Or.inl rfl | exact Or.inr (tagO hxb rfl rfl)) (Or.inl (by decide)) (L_fileOf (d := d + 1) hL hk9) (fun r S1 hq => ?_) (fun E q S1 hq => ?_)
  rotate_left
  · obtain ⟨h9, e9, hF⟩ := hq.inr
    cases e9
    exact Or.inl ⟨rfl, PrX.no hF (Nat.le_refl _) (by rw [if_pos h9]) rfl⟩
  obtain ⟨h9, rfl, rfl⟩ := hq.inl
  have h9' := isFo_t.mp h9
  have e9 : isFo k9 ≠ false := by rw [h9]; decide
  obtain ⟨h100, hR⟩ := hw.fl k9.toNat
  obtain ⟨cap, xs, hl, hs, -⟩ := K_file hL (show k9.toNat < 4 by omega)
  rw [if_neg e9]
  (repeat (refine BW.pl rfl rfl ?_))
  refine CW.call (as := [aR (K (20 + k9.toNat)), aI x]) (rest := []) rfl rfl rfl rfl rfl (Or.inl rfl) (Or.inl (by decide)) (L_rowOf (d := d + 1) hl hs hx h100) (fun r S1 hq => ?_) (fun E q S1 hq => ?_)
  · obtain ⟨h, rfl, y, rfl, hy⟩ := hq.inl
    rw [atR_t h]
    (repeat (refine BW.pl rfl rfl ?_))
    refine CW.call (as := [aR y, aI z]) (rest := []) rfl rfl rfl rfl rfl (Or.inl rfl) (Or.inl (by decide)) (L_signAt (d := d) hy (rowOk_at hR h).sg hz) (fun r S1 hq => ?_) (fun E q S1 hq => Or.inl ⟨rfl, hq⟩)
    obtain ⟨v9, rfl, hv9, e9, hF9⟩ := hq.ret
    exact BW.irx rfl (Or.inl ⟨rfl, hv9⟩) (PrX.ok hF9 (Nat.le_refl _) e9 hv9)
  · obtain ⟨h, e9, hF⟩ := hq.inr
    cases e9
    exact Or.inl ⟨rfl, PrX.no hF (Nat.le_refl _) (atR_f h) rfl⟩
/-! the text -/
theorem L_isLine {ids : List Int} {G : BG} (hL : LB S K la ids p G B) (hl : ids.length < 100000) (hx : inR x) : BE (d + 2) gk_X1_isLine [aR (K 1), aI x] S (vI (if 1 ≤ x ∧ x ≤ (ids.length : Int) then 1 else 0)) := by
  have hxb := hL.obx
  have e3 := hL.e3
  obtain ⟨mc, hT⟩ := hL.text
  refine BM.of rfl rfl rfl ?_
  (repeat (refine BW.pl rfl rfl ?_))
  refine BW.i2l rfl hx ?_
  (repeat (first | (refine BW.pl rfl rfl ?_) | (refine CW.geti rfl rfl (by assumption) rfl rfl (by assumption) (fun _ => ?_)) | (refine CW.getr rfl rfl (by assumption) rfl rfl (by assumption) ?_)))
  refine CW.e1 rfl rfl (by first | exact Or.inl rfl | exact Or.inr (tagO (by assumption) (by rfl) (by rfl)) | exact Or.inr (tagO (AdrIs.ox (by assumption)) (by rfl) (by rfl)) | exact Or.inr (tagO (PatIs.ox (by assumption)) (by rfl) (by rfl)) | exact Or.inr (tagO (Or0.ox (by assumption)) (by rfl) (by rfl))) (by first | exact Or.inl (by decide) | exact Or.inr ⟨_, rfl, by assumption⟩) rfl (B_llSize hT) ?_
  rw [lsOf_len]
  refine BW.i2l rfl (by constructor <;> omega) ?_
  refine CW.e3 rfl rfl (by first | exact Or.inl rfl | exact Or.inr (tagO (by assumption) (by rfl) (by rfl)) | exact Or.inr (tagO (AdrIs.ox (by assumption)) (by rfl) (by rfl)) | exact Or.inr (tagO (PatIs.ox (by assumption)) (by rfl) (by rfl)) | exact Or.inr (tagO (Or0.ox (by assumption)) (by rfl) (by rfl))) (by first | exact Or.inl (by decide) | exact Or.inr ⟨_, rfl, by assumption⟩) rfl (B_in hx (by decide) (by constructor <;> omega)) ?_
  exact BW.irx rfl (Or.inr (Or.inl ⟨rfl, by split; exact Or.inr rfl; exact Or.inl rfl⟩)) ⟨_, rfl, rfl, rfl⟩
theorem L_row (hL : LO S K la A B) (hk : k < A.1.length) : (0 ≤ idAt A.1 k ∧ idAt A.1 k < A.2.2.2.2.2.2.1) ∧ Ob S (la (idAt A.1 k)) (oOwn 6) ∧ Fi S 43 (la (idAt A.1 k)) (idAt A.1 k) ∧ ∃ y, Fe S 44 (la (idAt A.1 k)) (some y) ∧ Ob S y (oStr (rowAt A.1 k)) ∧ okS (some y) := by
  obtain ⟨h1, h2, r, h3, ⟨y, rfl, h4⟩, h5⟩ := hL.2 _ (getD_mem (dd := (0, [])) hk)
  exact ⟨h1, h2, (hL.1.2.2.1.1.1 _ h1.1 h1.2).2, y, h3, h4, h5⟩
theorem rowAt_ok (hw : WF A) (hk : k < A.1.length) : RowOk (rowAt A.1 k) := (hw.2.2.2.1 _ (getD_mem hk)).2
theorem L_length (hL : LO S K la A B) (hw : WF A) (hx : inR x) : BM (d + 6) gk_X1_length [aR (K 1), aI x] S (PrX S 18 [202] (if isNr x A.1.length = false then .inl 1 else .inr ((rowAt A.1 (x - 1).toNat).length : Int))) := by
  have h40 := hw.2.1
  have hxb := hL.1.obx
  refine BM.of rfl rfl rfl ?_
  (repeat (refine BW.pl rfl rfl ?_))
  refine CW.e2 rfl rfl (by first | exact Or.inl rfl | exact Or.inr (tagO (by assumption) (by rfl) (by rfl)) | exact Or.inr (tagO (AdrIs.ox (by assumption)) (by rfl) (by rfl)) | exact Or.inr (tagO (PatIs.ox (by assumption)) (by rfl) (by rfl)) | exact Or.inr (tagO (Or0.ox (by assumption)) (by rfl) (by rfl))) (by first | exact Or.inl (by decide) | exact Or.inr ⟨_, rfl, by assumption⟩) rfl (L_isLine (d := d + 3) hL.1 (by rw [ids_len]; omega) hx) ?_
  rw [ids_len]
  by_cases h : isNr x A.1.length = true
  rotate_left
  · have h' := isNr_f.mp (Bool.eq_false_iff.mpr h)
    rw [if_neg (by omega)]
    refine CW.tst rfl rfl (by decide) rfl (Or.inl ⟨rfl, rfl⟩) (Or.inl rfl) rfl (fun w => absurd w (by decide)) (fun _ S1 hF1 => ?_)
    exact PrX.no hF1 (Nat.le_refl _) (by rw [if_pos (Bool.eq_false_iff.mpr h)]) rfl
  have h' := isNr_t.mp h
  have hn : ¬ isNr x A.1.length = false := by rw [h]; decide
  rw [if_pos (by omega)]
  refine CW.tst rfl rfl (by decide) rfl (Or.inl ⟨rfl, rfl⟩) (Or.inr rfl) rfl (fun _ => ?_) (fun w _ _ => absurd w (by decide))
  (repeat (refine BW.pl rfl rfl ?_))
  obtain ⟨hid, h6, h43, y, h44, hy, -⟩ := L_row hL (k := (x - 1).toNat) (by omega)
  refine CW.e2 rfl rfl (by first | exact Or.inl rfl | exact Or.inr (tagO (by assumption) (by rfl) (by rfl)) | exact Or.inr (tagO (AdrIs.ox (by assumption)) (by rfl) (by rfl)) | exact Or.inr (tagO (PatIs.ox (by assumption)) (by rfl) (by rfl)) | exact Or.inr (tagO (Or0.ox (by assumption)) (by rfl) (by rfl))) (by first | exact Or.inl (by decide) | exact Or.inr ⟨_, rfl, by assumption⟩) rfl (L_lineAt (d := d + 1) hL.1 (k := (x - 1).toNat) (by rw [ids_len]; omega) (show (idsOfL A.1).getD (x - 1).toNat 0 = idAt A.1 (x - 1).toNat from ids_get) (by rw [ids_len]; omega) (by omega)) ?_
  have hok := rowAt_ok hw (k := (x - 1).toNat) (by omega)
  have hnR := hL.1.nR
  have hok1 := hok.1
  (repeat (first | (refine BW.pl rfl rfl ?_) | (refine CW.geti rfl rfl (by assumption) rfl rfl (by assumption) (fun _ => ?_)) | (refine CW.getr rfl rfl (by assumption) rfl rfl (by assumption) ?_)))
  refine CW.e1 rfl rfl (by first | exact Or.inl rfl | exact Or.inr (tagO (by assumption) (by rfl) (by rfl)) | exact Or.inr (tagO (AdrIs.ox (by assumption)) (by rfl) (by rfl)) | exact Or.inr (tagO (PatIs.ox (by assumption)) (by rfl) (by rfl)) | exact Or.inr (tagO (Or0.ox (by assumption)) (by rfl) (by rfl))) (by first | exact Or.inl (by decide) | exact Or.inr ⟨_, rfl, by assumption⟩) rfl (B_slen hy) ?_
  exact BW.irx rfl (Or.inl ⟨rfl, by constructor <;> omega⟩) (PrX.ok Fr0.z (by omega) (by rw [if_neg hn]) (by constructor <;> omega))
theorem L_id (hL : LO S K la A B) (hw : WF A) (hx : inR x) : BM (d + 6) gk_X1_id [aR (K 1), aI x] S (PrX S 18 [202] (if isNr x A.1.length = false then .inl 1 else .inr (idAt A.1 (x - 1).toNat))) := by
  have h40 := hw.2.1
  have hxb := hL.1.obx
  refine BM.of rfl rfl rfl ?_
  (repeat (refine BW.pl rfl rfl ?_))
  refine CW.e2 rfl rfl (by first | exact Or.inl rfl | exact Or.inr (tagO (by assumption) (by rfl) (by rfl)) | exact Or.inr (tagO (AdrIs.ox (by assumption)) (by rfl) (by rfl)) | exact Or.inr (tagO (PatIs.ox (by assumption)) (by rfl) (by rfl)) | exact Or.inr (tagO (Or0.ox (by assumption)) (by rfl) (by rfl))) (by first | exact Or.inl (by decide) | exact Or.inr ⟨_, rfl, by assumption⟩) rfl (L_isLine (d := d + 3) hL.1 (by rw [ids_len]; omega) hx) ?_
  rw [ids_len]
  by_cases h : isNr x A.1.length = true
  rotate_left
  · have h' := isNr_f.mp (Bool.eq_false_iff.mpr h)
    rw [if_neg (by omega)]
    refine CW.tst rfl rfl (by decide) rfl (Or.inl ⟨rfl, rfl⟩) (Or.inl rfl) rfl (fun w => absurd w (by decide)) (fun _ S1 hF1 => ?_)
    exact PrX.no hF1 (Nat.le_refl _) (by rw [if_pos (Bool.eq_false_iff.mpr h)]) rfl
  have h' := isNr_t.mp h
  have hn : ¬ isNr x A.1.length = false := by rw [h]; decide
  rw [if_pos (by omega)]
  refine CW.tst rfl rfl (by decide) rfl (Or.inl ⟨rfl, rfl⟩) (Or.inr rfl) rfl (fun _ => ?_) (fun w _ _ => absurd w (by decide))
  (repeat (refine BW.pl rfl rfl ?_))
  obtain ⟨hid, h6, h43, y, h44, hy, -⟩ := L_row hL (k := (x - 1).toNat) (by omega)
  refine CW.e2 rfl rfl (by first | exact Or.inl rfl | exact Or.inr (tagO (by assumption) (by rfl) (by rfl)) | exact Or.inr (tagO (AdrIs.ox (by assumption)) (by rfl) (by rfl)) | exact Or.inr (tagO (PatIs.ox (by assumption)) (by rfl) (by rfl)) | exact Or.inr (tagO (Or0.ox (by assumption)) (by rfl) (by rfl))) (by first | exact Or.inl (by decide) | exact Or.inr ⟨_, rfl, by assumption⟩) rfl (L_lineAt (d := d + 1) hL.1 (k := (x - 1).toNat) (by rw [ids_len]; omega) (show (idsOfL A.1).getD (x - 1).toNat 0 = idAt A.1 (x - 1).toNat from ids_get) (by rw [ids_len]; omega) (by omega)) ?_
  have hok := rowAt_ok hw (k := (x - 1).toNat) (by omega)
  have hnR := hL.1.nR
  (repeat (first | (refine BW.pl rfl rfl ?_) | (refine CW.geti rfl rfl (by assumption) rfl rfl (by assumption) (fun _ => ?_)) | (refine CW.getr rfl rfl (by assumption) rfl rfl (by assumption) ?_)))
  exact BW.irx rfl (Or.inl ⟨rfl, by constructor <;> omega⟩) (PrX.ok Fr0.z (by omega) (by rw [if_neg hn]) (by constructor <;> omega))
theorem L_at (hL : LO S K la A B) (hw : WF A) (hx : inR x) (hz : inR z) : BM (d + 6) gk_X1_at [aR (K 1), aI x, aI z] S (PrX S 18 [202] (if isNr x A.1.length = false then .inl 1 else sgnR (rowAt A.1 (x - 1).toNat) z)) := by
  have h40 := hw.2.1
  have hxb := hL.1.obx
  refine BM.of rfl rfl rfl ?_
  (repeat (refine BW.pl rfl rfl ?_))
  refine CW.e2 rfl rfl (by first | exact Or.inl rfl | exact Or.inr (tagO (by assumption) (by rfl) (by rfl)) | exact Or.inr (tagO (AdrIs.ox (by assumption)) (by rfl) (by rfl)) | exact Or.inr (tagO (PatIs.ox (by assumption)) (by rfl) (by rfl)) | exact Or.inr (tagO (Or0.ox (by assumption)) (by rfl) (by rfl))) (by first | exact Or.inl (by decide) | exact Or.inr ⟨_, rfl, by assumption⟩) rfl (L_isLine (d := d + 3) hL.1 (by rw [ids_len]; omega) hx) ?_
  rw [ids_len]
  by_cases h : isNr x A.1.length = true
  rotate_left
  · have h' := isNr_f.mp (Bool.eq_false_iff.mpr h)
    rw [if_neg (by omega)]
    refine CW.tst rfl rfl (by decide) rfl (Or.inl ⟨rfl, rfl⟩) (Or.inl rfl) rfl (fun w => absurd w (by decide)) (fun _ S1 hF1 => ?_)
    exact PrX.no hF1 (Nat.le_refl _) (by rw [if_pos (Bool.eq_false_iff.mpr h)]) rfl
  have h' := isNr_t.mp h
  have hn : ¬ isNr x A.1.length = false := by rw [h]; decide
  rw [if_pos (by omega)]
  refine CW.tst rfl rfl (by decide) rfl (Or.inl ⟨rfl, rfl⟩) (Or.inr rfl) rfl (fun _ => ?_) (fun w _ _ => absurd w (by decide))
  (repeat (refine BW.pl rfl rfl ?_))
  obtain ⟨hid, h6, h43, y, h44, hy, -⟩ := L_row hL (k := (x - 1).toNat) (by omega)
  refine CW.e2 rfl rfl (by first | exact Or.inl rfl | exact Or.inr (tagO (by assumption) (by rfl) (by rfl)) | exact Or.inr (tagO (AdrIs.ox (by assumption)) (by rfl) (by rfl)) | exact Or.inr (tagO (PatIs.ox (by assumption)) (by rfl) (by rfl)) | exact Or.inr (tagO (Or0.ox (by assumption)) (by rfl) (by rfl))) (by first | exact Or.inl (by decide) | exact Or.inr ⟨_, rfl, by assumption⟩) rfl (L_lineAt (d := d + 1) hL.1 (k := (x - 1).toNat) (by rw [ids_len]; omega) (show (idsOfL A.1).getD (x - 1).toNat 0 = idAt A.1 (x - 1).toNat from ids_get) (by rw [ids_len]; omega) (by omega)) ?_
  have hok := rowAt_ok hw (k := (x - 1).toNat) (by omega)
  have hnR := hL.1.nR
  rw [if_neg hn]
  (repeat (first | (refine BW.pl rfl rfl ?_) | (refine CW.geti rfl rfl (by assumption) rfl rfl (by assumption) (fun _ => ?_)) | (refine CW.getr rfl rfl (by assumption) rfl rfl (by assumption) ?_)))
  refine CW.call (as := [aR y, aI z]) (rest := []) rfl rfl rfl rfl rfl (Or.inl rfl) (Or.inl (by decide)) (L_signAt (d := d) hy hok.sg hz) (fun r S1 hq => ?_) (fun E q S1 hq => Or.inl ⟨rfl, hq⟩)
  obtain ⟨v9, rfl, hv9, e9, hF9⟩ := hq.ret
  exact BW.irx rfl (Or.inl ⟨rfl, hv9⟩) (PrX.ok hF9 (Nat.le_refl _) e9 hv9)
theorem L_lines (hL : LO S K la A B) (hw : WF A) : BM (d + 6) gk_X1_lines [aR (K 1)] S (PrX S 0 [] (.inr (A.1.length : Int))) := by
  have h40 := hw.2.1
  have hxb := hL.1.obx
  have e3 := hL.1.e3
  obtain ⟨mc, hT⟩ := hL.1.text
  refine BM.of rfl rfl rfl ?_
  (repeat (first | (refine BW.pl rfl rfl ?_) | (refine CW.geti rfl rfl (by assumption) rfl rfl (by assumption) (fun _ => ?_)) | (refine CW.getr rfl rfl (by assumption) rfl rfl (by assumption) ?_)))
  refine CW.e1 rfl rfl (by first | exact Or.inl rfl | exact Or.inr (tagO (by assumption) (by rfl) (by rfl)) | exact Or.inr (tagO (AdrIs.ox (by assumption)) (by rfl) (by rfl)) | exact Or.inr (tagO (PatIs.ox (by assumption)) (by rfl) (by rfl)) | exact Or.inr (tagO (Or0.ox (by assumption)) (by rfl) (by rfl))) (by first | exact Or.inl (by decide) | exact Or.inr ⟨_, rfl, by assumption⟩) rfl (B_llSize hT) ?_
  rw [lsOf_len, ids_len]
  exact BW.irx rfl (Or.inl ⟨rfl, by constructor <;> omega⟩) (PrX.ok Fr0.z (Nat.le_refl _) rfl (by constructor <;> omega))
theorem L_present (hL : LO S K la A B) (hw : WF A) : BM (d + 6) gk_X1_present [aR (K 1)] S (PrX S 0 [] (.inr (A.2.1 : Int))) := by
  have h40 := hw.2.1
  have hp := hw.1.1
  have hxb := hL.1.obx
  have e5 := hL.1.f5
  refine BM.of rfl rfl rfl ?_
  (repeat (first | (refine BW.pl rfl rfl ?_) | (refine CW.geti rfl rfl (by assumption) rfl rfl (by assumption) (fun _ => ?_)) | (refine CW.getr rfl rfl (by assumption) rfl rfl (by assumption) ?_)))
  exact BW.irx rfl (Or.inl ⟨rfl, by constructor <;> omega⟩) (PrX.ok Fr0.z (Nat.le_refl _) rfl (by constructor <;> omega))
theorem L_reason (hxb : Ob S (K 1) (oOwn 1)) (h12 : Fi S 12 (K 1) (re : Int)) : BM (d + 6) gk_X1_reason [aR (K 1)] S (PrX S 0 [] (.inr (re : Int))) := by
  refine BM.of rfl rfl rfl ?_
  (repeat (refine BW.pl rfl rfl ?_))
  refine CW.geti rfl rfl hxb rfl rfl h12 (fun hR => ?_)
  exact BW.irx rfl (Or.inl ⟨rfl, hR⟩) (PrX.ok Fr0.z (Nat.le_refl _) rfl hR)
theorem L_deeds (hL : LO S K la A B) (hD : DsI S K la ds cap) (hdl : ds.length ≤ 40) : BM (d + 6) gk_X1_deeds [aR (K 1)] S (PrX S 0 [] (.inr (ds.length : Int))) := by
  have hxb := hL.1.obx
  have e10 := hL.1.e10
  obtain ⟨xs, h10, hxl, -⟩ := hD
  refine BM.of rfl rfl rfl ?_
  (repeat (first | (refine BW.pl rfl rfl ?_) | (refine CW.geti rfl rfl (by assumption) rfl rfl (by assumption) (fun _ => ?_)) | (refine CW.getr rfl rfl (by assumption) rfl rfl (by assumption) ?_)))
  refine CW.e1 rfl rfl (by first | exact Or.inl rfl | exact Or.inr (tagO (by assumption) (by rfl) (by rfl)) | exact Or.inr (tagO (AdrIs.ox (by assumption)) (by rfl) (by rfl)) | exact Or.inr (tagO (PatIs.ox (by assumption)) (by rfl) (by rfl)) | exact Or.inr (tagO (Or0.ox (by assumption)) (by rfl) (by rfl))) (by first | exact Or.inl (by decide) | exact Or.inr ⟨_, rfl, by assumption⟩) rfl (B_adSize h10) ?_
  exact BW.irx rfl (Or.inl ⟨rfl, by constructor <;> omega⟩) (PrX.ok Fr0.z (Nat.le_refl _) (by rw [hxl]) (by constructor <;> omega))
theorem linNo_here (h1 : ∀ i, i < k → idAt t i ≠ x) (h2 : idAt t k = x) (hk : k < t.length) : linNo t x = k + 1 := by
  have ei : ∀ i, (hi : i < t.length) → idAt t i = t[i].1 := fun i hi => by unfold idAt; rw [List.getD_eq_getElem?_getD, List.getElem?_eq_getElem hi]; rfl
  have : t.findIdx? (fun q => q.1 == x) = some k := by
    rw [List.findIdx?_eq_some_iff_getElem]
    refine ⟨hk, ?_, fun j hj => ?_⟩
    · rw [ei k hk] at h2
      exact beq_iff_eq.mpr h2
    · have := h1 j hj
      rw [ei j (by omega)] at this
      exact fun z => this (beq_iff_eq.mp z)
  unfold linNo
  rw [this]
theorem linNo_none (h1 : ∀ i, i < t.length → idAt t i ≠ x) : linNo t x = 0 := by
  have : t.findIdx? (fun q => q.1 == x) = none := by
    rw [List.findIdx?_eq_none_iff]
    intro q hq
    obtain ⟨i, hi, e⟩ := List.getElem_of_mem hq
    have := h1 i hi
    unfold idAt at this
    rw [List.getD_eq_getElem?_getD, List.getElem?_eq_getElem hi] at this
    have e2 : q.1 ≠ x := by rw [← e]; exact this
    exact beq_eq_false_iff_ne.mpr e2
  unfold linNo
  rw [this]
theorem L_lineOf (hL : LO S K la A B) (hw : WF A) (hx : inR x) : BM (d + 6) gk_X1_lineOf [aR (K 1), aI x] S (PrX S 0 [] (.inr (if linNo A.1 x = 0 then -1 else (linNo A.1 x : Int)))) := by
  have h40 := hw.2.1
  have hxb := hL.1.obx
  have e3 := hL.1.e3
  obtain ⟨mc, hT⟩ := hL.1.text
  have hlen : (idsOfL A.1).length = A.1.length := ids_len
  have hnR := hL.1.nR
  refine BM.of rfl rfl rfl ?_
  (iterate 2 (refine BW.pl rfl rfl ?_))
  have loop : ∀ (N j : Nat), j + N = A.1.length → (∀ i, i < j → idAt A.1 i ≠ x) → BW (d + 5) gm_X1_lineOf 2 [some (aR (K 1)), some (aI x), some (aI ((j + 1 : Nat) : Int))] [] S (PrX S 0 [] (.inr (if linNo A.1 x = 0 then -1 else (linNo A.1 x : Int)))) := by
    intro N
    induction N with
    | zero =>
      intro j hj hi
      (repeat (first | (refine BW.pl rfl rfl ?_) | (refine CW.geti rfl rfl (by assumption) rfl rfl (by assumption) (fun _ => ?_)) | (refine CW.getr rfl rfl (by assumption) rfl rfl (by assumption) ?_)))
      refine CW.e1 rfl rfl (by first | exact Or.inl rfl | exact Or.inr (tagO (by assumption) (by rfl) (by rfl)) | exact Or.inr (tagO (AdrIs.ox (by assumption)) (by rfl) (by rfl)) | exact Or.inr (tagO (PatIs.ox (by assumption)) (by rfl) (by rfl)) | exact Or.inr (tagO (Or0.ox (by assumption)) (by rfl) (by rfl))) (by first | exact Or.inl (by decide) | exact Or.inr ⟨_, rfl, by assumption⟩) rfl (B_llSize hT) ?_
      rw [lsOf_len, ids_len]
      refine BW.br rfl rfl (by first | omega | decide | (constructor <;> first | omega | decide)) (fun w => ?_) (fun w => by first | (exfalso; omega) | exact absurd w (by decide))
      (repeat (refine BW.pl rfl rfl ?_))
      exact BW.irx rfl (Or.inl ⟨rfl, by decide⟩) (PrX.ok (v := -1) Fr0.z (Nat.le_refl _) (by rw [if_pos (linNo_none (fun i h => hi i (by omega)))]) (by decide))
    | succ N ih =>
      intro j hj hi
      obtain ⟨hid, h6, h43, -⟩ := L_row hL (k := j) (by omega)
      (repeat (first | (refine BW.pl rfl rfl ?_) | (refine CW.geti rfl rfl (by assumption) rfl rfl (by assumption) (fun _ => ?_)) | (refine CW.getr rfl rfl (by assumption) rfl rfl (by assumption) ?_)))
      refine CW.e1 rfl rfl (by first | exact Or.inl rfl | exact Or.inr (tagO (by assumption) (by rfl) (by rfl)) | exact Or.inr (tagO (AdrIs.ox (by assumption)) (by rfl) (by rfl)) | exact Or.inr (tagO (PatIs.ox (by assumption)) (by rfl) (by rfl)) | exact Or.inr (tagO (Or0.ox (by assumption)) (by rfl) (by rfl))) (by first | exact Or.inl (by decide) | exact Or.inr ⟨_, rfl, by assumption⟩) rfl (B_llSize hT) ?_
      rw [lsOf_len, ids_len]
      refine BW.br rfl rfl (by first | omega | decide | (constructor <;> first | omega | decide)) (fun w => by first | (exfalso; omega) | exact absurd w (by decide)) (fun w => ?_)
      (repeat (refine BW.pl rfl rfl ?_))
      refine CW.e2 rfl rfl (by first | exact Or.inl rfl | exact Or.inr (tagO (by assumption) (by rfl) (by rfl)) | exact Or.inr (tagO (AdrIs.ox (by assumption)) (by rfl) (by rfl)) | exact Or.inr (tagO (PatIs.ox (by assumption)) (by rfl) (by rfl)) | exact Or.inr (tagO (Or0.ox (by assumption)) (by rfl) (by rfl))) (by first | exact Or.inl (by decide) | exact Or.inr ⟨_, rfl, by assumption⟩) rfl (L_lineAt (d := d + 1) hL.1 (k := j) (by omega) (show (idsOfL A.1).getD j 0 = idAt A.1 j from ids_get) (by omega) (by omega)) ?_
      (repeat (first | (refine BW.pl rfl rfl ?_) | (refine CW.geti rfl rfl (by assumption) rfl rfl (by assumption) (fun _ => ?_)) | (refine CW.getr rfl rfl (by assumption) rfl rfl (by assumption) ?_)))
      refine BW.br rfl rfl (by first | omega | decide | (constructor <;> first | omega | decide)) (fun w2 => ?_) (fun w2 => ?_)
      · (iterate 2 (refine BW.pl rfl rfl ?_))
        refine ih (j + 1) (by omega) (fun i h => ?_)
        by_cases z : i = j
        · rw [z]; omega
        · exact hi i (by omega)
      · (repeat (refine BW.pl rfl rfl ?_))
        have e := linNo_here hi (by omega) (show j < A.1.length by omega)
        exact BW.irx rfl (Or.inl ⟨rfl, by constructor <;> omega⟩) (PrX.ok Fr0.z (Nat.le_refl _) (by rw [if_neg (by omega), e]) (by constructor <;> omega))
  exact loop A.1.length 0 (by omega) (fun i h => absurd h (Nat.not_lt_zero _))
theorem L_mark (hL : LO S K la A B) (hw : WF A) (hB : B + 17 ≤ 20000000) (hx : inR x) : BM (d + 6) gk_X1_mark [aR (K 1), aI x] S (PrX S 18 [202] (pMark x (tp, sc, A, ds, cl, re)).1) := by
  have h40 := hw.2.1
  have hxb := hL.1.obx
  have e6 := hL.1.e6
  have eP : (pMark x (tp, sc, A, ds, cl, re)).1 = if 0 ≤ x ∧ x < 5 then (match A.2.2.2.2.2.1 x.toNat with
    | none => .inr (-1)
    | some y => .inr (linNo A.1 y : Int)) else .inl 1 := by
    unfold pMark
    split
    · dsimp only
      cases A.2.2.2.2.2.1 x.toNat <;> rfl
    · rfl
  rw [eP]
  obtain ⟨M, hM, hMk⟩ := hL.1.marks
  refine BM.of rfl rfl rfl ?_
  (repeat (refine BW.pl rfl rfl ?_))
  refine BW.i2l rfl hx ?_
  (repeat (refine BW.pl rfl rfl ?_))
  refine CW.e3 rfl rfl (by first | exact Or.inl rfl | exact Or.inr (tagO (by assumption) (by rfl) (by rfl)) | exact Or.inr (tagO (AdrIs.ox (by assumption)) (by rfl) (by rfl)) | exact Or.inr (tagO (PatIs.ox (by assumption)) (by rfl) (by rfl)) | exact Or.inr (tagO (Or0.ox (by assumption)) (by rfl) (by rfl))) (by first | exact Or.inl (by decide) | exact Or.inr ⟨_, rfl, by assumption⟩) rfl (B_in hx (by decide) (by decide)) ?_
  by_cases h : 0 ≤ x ∧ x < 5
  rotate_left
  · rw [if_neg (by omega)]
    refine CW.tst rfl rfl (by decide) rfl (Or.inl ⟨rfl, rfl⟩) (Or.inl rfl) rfl (fun w => absurd w (by decide)) (fun _ S1 hF1 => ?_)
    exact PrX.no hF1 (Nat.le_refl _) (by rw [if_neg h]) rfl
  rw [if_pos (by omega), if_pos h]
  refine CW.tst rfl rfl (by decide) rfl (Or.inl ⟨rfl, rfl⟩) (Or.inr rfl) rfl (fun _ => ?_) (fun w _ _ => absurd w (by decide))
  (repeat (first | (refine BW.pl rfl rfl ?_) | (refine CW.geti rfl rfl (by assumption) rfl rfl (by assumption) (fun _ => ?_)) | (refine CW.getr rfl rfl (by assumption) rfl rfl (by assumption) ?_)))
  refine CW.e1 rfl rfl (by first | exact Or.inl rfl | exact Or.inr (tagO (by assumption) (by rfl) (by rfl)) | exact Or.inr (tagO (AdrIs.ox (by assumption)) (by rfl) (by rfl)) | exact Or.inr (tagO (PatIs.ox (by assumption)) (by rfl) (by rfl)) | exact Or.inr (tagO (Or0.ox (by assumption)) (by rfl) (by rfl))) (by first | exact Or.inl (by decide) | exact Or.inr ⟨_, rfl, by assumption⟩) rfl (B_intOf ⟨by omega, by omega⟩) ?_
  obtain ⟨g1, g2⟩ := hMk x.toNat (by omega)
  have ex : ((x.toNat : Nat) : Int) = x := by omega
  rw [ex] at g1
  have g1 : M x = (A.2.2.2.2.2.1 x.toNat).map la := g1
  have g2 : ∀ y, A.2.2.2.2.2.1 x.toNat = some y → 0 ≤ y ∧ y < A.2.2.2.2.2.2.1 := g2
  cases hm : A.2.2.2.2.2.1 x.toNat with
  | none =>
    rw [hm] at g1
    refine CW.e2 rfl rfl (by first | exact Or.inl rfl | exact Or.inr (tagO (by assumption) (by rfl) (by rfl)) | exact Or.inr (tagO (AdrIs.ox (by assumption)) (by rfl) (by rfl)) | exact Or.inr (tagO (PatIs.ox (by assumption)) (by rfl) (by rfl)) | exact Or.inr (tagO (Or0.ox (by assumption)) (by rfl) (by rfl))) (by first | exact Or.inl (by decide) | exact Or.inr ⟨_, rfl, by assumption⟩) rfl (C_tmGet hM ⟨by omega, by omega⟩ g1) ?_
    refine CW.castN rfl ?_
    (repeat (refine BW.pl rfl rfl ?_))
    refine CW.nul rfl rfl (fun n h => by cases h) ?_
    (repeat (refine BW.pl rfl rfl ?_))
    exact BW.irx rfl (Or.inl ⟨rfl, by decide⟩) (PrX.ok (v := -1) Fr0.z (by omega) rfl (by decide))
  | some y =>
    rw [hm] at g1
    have hy := g2 y hm
    have h6 := hL.1.la6 hy
    refine CW.e2 rfl rfl (by first | exact Or.inl rfl | exact Or.inr (tagO (by assumption) (by rfl) (by rfl)) | exact Or.inr (tagO (AdrIs.ox (by assumption)) (by rfl) (by rfl)) | exact Or.inr (tagO (PatIs.ox (by assumption)) (by rfl) (by rfl)) | exact Or.inr (tagO (Or0.ox (by assumption)) (by rfl) (by rfl))) (by first | exact Or.inl (by decide) | exact Or.inr ⟨_, rfl, by assumption⟩) rfl (C_tmGet hM ⟨by omega, by omega⟩ g1) ?_
    refine CW.castS rfl h6 rfl rfl rfl ?_
    (repeat (refine BW.pl rfl rfl ?_))
    refine CW.nul rfl rfl (fun n h => by cases h; rw [show S.1 (la y) = _ from h6]; rfl) ?_
    (repeat (refine BW.pl rfl rfl ?_))
    refine CW.c2 rfl rfl (by first | exact Or.inl rfl | exact Or.inr (tagO (by assumption) (by rfl) (by rfl)) | exact Or.inr (tagO (AdrIs.ox (by assumption)) (by rfl) (by rfl)) | exact Or.inr (tagO (PatIs.ox (by assumption)) (by rfl) (by rfl)) | exact Or.inr (tagO (Or0.ox (by assumption)) (by rfl) (by rfl))) (by first | exact Or.inl (by decide) | exact Or.inr ⟨_, rfl, by assumption⟩) rfl (L_numberOf (d := d) hL.1 hy hw.2.2.1 (by rw [ids_len]; omega) hB) ?_
    rintro r S1 ⟨rfl, hF1⟩
    have := idNo_R (ids := idsOfL A.1) (x := y)
    rw [ids_len] at this
    exact BW.irx rfl (Or.inl ⟨rfl, by constructor <;> omega⟩) (PrX.ok hF1 (by omega) (by show (.inr (linNo A.1 y : Int) : Nat ⊕ Int) = .inr _; rw [linNo_id]) (by constructor <;> omega))
/-! scripts -/
theorem L_isScript (hx : inR x) : BE (d + 2) gk_X1_isScript [aI x] S (vI (if isFo x = true then 1 else 0)) := by
  refine BM.of rfl rfl rfl ?_
  (repeat (refine BW.pl rfl rfl ?_))
  refine BW.i2l rfl hx ?_
  (repeat (refine BW.pl rfl rfl ?_))
  refine CW.e3 rfl rfl (by first | exact Or.inl rfl | exact Or.inr (tagO (by assumption) (by rfl) (by rfl)) | exact Or.inr (tagO (AdrIs.ox (by assumption)) (by rfl) (by rfl)) | exact Or.inr (tagO (PatIs.ox (by assumption)) (by rfl) (by rfl)) | exact Or.inr (tagO (Or0.ox (by assumption)) (by rfl) (by rfl))) (by first | exact Or.inl (by decide) | exact Or.inr ⟨_, rfl, by assumption⟩) rfl (B_in hx (by decide) (by decide)) ?_
  by_cases h : isFo x = true
  · have h' := isFo_t.mp h
    rw [if_pos (by omega), if_pos h]
    exact BW.irx rfl (Or.inr (Or.inl ⟨rfl, Or.inr rfl⟩)) ⟨_, rfl, rfl, rfl⟩
  · have h' := isFo_f.mp (Bool.eq_false_iff.mpr h)
    rw [if_neg (by omega), if_neg h]
    exact BW.irx rfl (Or.inr (Or.inl ⟨rfl, Or.inl rfl⟩)) ⟨_, rfl, rfl, rfl⟩
theorem L_scriptLength (hL : LO S K la A B) (hR : RsI S K tp sc) (hsc : ∀ k s, sc k = some s → SgO s) (hx : inR x) : BM (d + 6) gk_X1_scriptLength [aR (K 1), aI x] S (PrX S 18 [202] (if isFo x = false then .inl 1 else match sc x.toNat with
    | none => .inr (-1)
    | some s => .inr (s.length : Int))) := by
  have hxb := hL.1.obx
  have e2 := hL.1.e2
  obtain ⟨-, -, ys, hys, hyl, hyk⟩ := hR
  refine BM.of rfl rfl rfl ?_
  (repeat (refine BW.pl rfl rfl ?_))
  refine CW.e1 rfl rfl (by first | exact Or.inl rfl | exact Or.inr (tagO (by assumption) (by rfl) (by rfl)) | exact Or.inr (tagO (AdrIs.ox (by assumption)) (by rfl) (by rfl)) | exact Or.inr (tagO (PatIs.ox (by assumption)) (by rfl) (by rfl)) | exact Or.inr (tagO (Or0.ox (by assumption)) (by rfl) (by rfl))) (by first | exact Or.inl (by decide) | exact Or.inr ⟨_, rfl, by assumption⟩) rfl (L_isScript (d := d + 3) hx) ?_
  by_cases h : isFo x = true
  rotate_left
  · rw [if_neg h]
    refine CW.tst rfl rfl (by decide) rfl (Or.inl ⟨rfl, rfl⟩) (Or.inl rfl) rfl (fun w => absurd w (by decide)) (fun _ S1 hF1 => ?_)
    exact PrX.no hF1 (Nat.le_refl _) (by rw [if_pos (Bool.eq_false_iff.mpr h)]) rfl
  have h' := isFo_t.mp h
  rw [if_pos h, if_neg (by rw [h]; decide)]
  refine CW.tst rfl rfl (by decide) rfl (Or.inl ⟨rfl, rfl⟩) (Or.inr rfl) rfl (fun _ => ?_) (fun w _ _ => absurd w (by decide))
  (repeat (first | (refine BW.pl rfl rfl ?_) | (refine CW.geti rfl rfl (by assumption) rfl rfl (by assumption) (fun _ => ?_)) | (refine CW.getr rfl rfl (by assumption) rfl rfl (by assumption) ?_)))
  refine CW.aald rfl hys ⟨by omega, by omega⟩ ?_
  obtain ⟨g1, g2⟩ := hyk x.toNat (by omega)
  cases hz : sc x.toNat with
  | none =>
    rw [g1 hz]
    refine CW.nul rfl rfl (fun n h => by cases h) ?_
    (repeat (refine BW.pl rfl rfl ?_))
    exact BW.irx rfl (Or.inl ⟨rfl, by decide⟩) (PrX.ok (v := -1) Fr0.z (by omega) rfl (by decide))
  | some s =>
    obtain ⟨⟨y, hy1, hy⟩, -⟩ := g2 s hz
    have hl := (hsc _ _ hz).1
    rw [hy1]
    refine CW.nul rfl rfl (fun n h => by cases h; rw [show S.1 y = _ from hy]; rfl) ?_
    (repeat (first | (refine BW.pl rfl rfl ?_) | (refine CW.geti rfl rfl (by assumption) rfl rfl (by assumption) (fun _ => ?_)) | (refine CW.getr rfl rfl (by assumption) rfl rfl (by assumption) ?_)))
    refine CW.aald rfl hys ⟨by omega, by omega⟩ ?_
    rw [hy1]
    refine CW.e1 rfl rfl (by first | exact Or.inl rfl | exact Or.inr (tagO (by assumption) (by rfl) (by rfl)) | exact Or.inr (tagO (AdrIs.ox (by assumption)) (by rfl) (by rfl)) | exact Or.inr (tagO (PatIs.ox (by assumption)) (by rfl) (by rfl)) | exact Or.inr (tagO (Or0.ox (by assumption)) (by rfl) (by rfl))) (by first | exact Or.inl (by decide) | exact Or.inr ⟨_, rfl, by assumption⟩) rfl (B_slen hy) ?_
    exact BW.irx rfl (Or.inl ⟨rfl, by constructor <;> omega⟩) (PrX.ok Fr0.z (by omega) rfl (by constructor <;> omega))
theorem L_scriptAt (hL : LO S K la A B) (hR : RsI S K tp sc) (hsc : ∀ k s, sc k = some s → SgO s) (hx : inR x) (hz : inR z) : BM (d + 6) gk_X1_scriptAt [aR (K 1), aI x, aI z] S (PrX S 18 [202] (if isFo x = false then .inl 1 else match sc x.toNat with
    | none => .inl 1
    | some s => sgnR s z)) := by
  have hxb := hL.1.obx
  have e2 := hL.1.e2
  obtain ⟨-, -, ys, hys, hyl, hyk⟩ := hR
  have no : ∀ {R : Nat ⊕ Int}, R = .inl 1 → BW (d + 5) gm_X1_scriptAt 23 [some (aR (K 1)), some (aI x), some (aI z)] [] S (PrX S 18 [202] R) := fun eR => by
    (repeat (refine BW.pl rfl rfl ?_))
    refine CW.tst rfl rfl (by decide) rfl (Or.inl ⟨rfl, rfl⟩) (Or.inl rfl) rfl (fun w => absurd w (by decide)) (fun _ S1 hF1 => ?_)
    exact PrX.no hF1 (Nat.le_refl _) eR rfl
  refine BM.of rfl rfl rfl ?_
  (repeat (refine BW.pl rfl rfl ?_))
  refine CW.e1 rfl rfl (by first | exact Or.inl rfl | exact Or.inr (tagO (by assumption) (by rfl) (by rfl)) | exact Or.inr (tagO (AdrIs.ox (by assumption)) (by rfl) (by rfl)) | exact Or.inr (tagO (PatIs.ox (by assumption)) (by rfl) (by rfl)) | exact Or.inr (tagO (Or0.ox (by assumption)) (by rfl) (by rfl))) (by first | exact Or.inl (by decide) | exact Or.inr ⟨_, rfl, by assumption⟩) rfl (L_isScript (d := d + 3) hx) ?_
  by_cases h : isFo x = true
  rotate_left
  · rw [if_neg h]
    refine BW.br rfl rfl (by first | omega | decide | (constructor <;> first | omega | decide)) (fun w => ?_) (fun w => by first | (exfalso; omega) | exact absurd w (by decide))
    exact no (by rw [if_pos (Bool.eq_false_iff.mpr h)])
  have h' := isFo_t.mp h
  rw [if_pos h, if_neg (by rw [h]; decide)]
  refine BW.br rfl rfl (by first | omega | decide | (constructor <;> first | omega | decide)) (fun w => by first | (exfalso; omega) | exact absurd w (by decide)) (fun w => ?_)
  (repeat (first | (refine BW.pl rfl rfl ?_) | (refine CW.geti rfl rfl (by assumption) rfl rfl (by assumption) (fun _ => ?_)) | (refine CW.getr rfl rfl (by assumption) rfl rfl (by assumption) ?_)))
  refine CW.aald rfl hys ⟨by omega, by omega⟩ ?_
  obtain ⟨g1, g2⟩ := hyk x.toNat (by omega)
  cases hz9 : sc x.toNat with
  | none =>
    rw [g1 hz9]
    refine CW.nul rfl rfl (fun n h => by cases h) ?_
    exact no rfl
  | some s =>
    obtain ⟨⟨y, hy1, hy⟩, -⟩ := g2 s hz9
    have hso := hsc _ _ hz9
    have hl := hso.1
    rw [hy1]
    refine CW.nul rfl rfl (fun n h => by cases h; rw [show S.1 y = _ from hy]; rfl) ?_
    (repeat (refine BW.pl rfl rfl ?_))
    refine BW.i2l rfl hz ?_
    (repeat (first | (refine BW.pl rfl rfl ?_) | (refine CW.geti rfl rfl (by assumption) rfl rfl (by assumption) (fun _ => ?_)) | (refine CW.getr rfl rfl (by assumption) rfl rfl (by assumption) ?_)))
    refine CW.aald rfl hys ⟨by omega, by omega⟩ ?_
    rw [hy1]
    refine CW.e1 rfl rfl (by first | exact Or.inl rfl | exact Or.inr (tagO (by assumption) (by rfl) (by rfl)) | exact Or.inr (tagO (AdrIs.ox (by assumption)) (by rfl) (by rfl)) | exact Or.inr (tagO (PatIs.ox (by assumption)) (by rfl) (by rfl)) | exact Or.inr (tagO (Or0.ox (by assumption)) (by rfl) (by rfl))) (by first | exact Or.inl (by decide) | exact Or.inr ⟨_, rfl, by assumption⟩) rfl (B_slen hy) ?_
    (repeat (refine BW.pl rfl rfl ?_))
    refine BW.i2l rfl (by constructor <;> omega) ?_
    refine CW.e3 rfl rfl (by first | exact Or.inl rfl | exact Or.inr (tagO (by assumption) (by rfl) (by rfl)) | exact Or.inr (tagO (AdrIs.ox (by assumption)) (by rfl) (by rfl)) | exact Or.inr (tagO (PatIs.ox (by assumption)) (by rfl) (by rfl)) | exact Or.inr (tagO (Or0.ox (by assumption)) (by rfl) (by rfl))) (by first | exact Or.inl (by decide) | exact Or.inr ⟨_, rfl, by assumption⟩) rfl (B_in hz (by decide) (by constructor <;> omega)) ?_
    show BW _ _ _ _ _ _ (PrX S 18 [202] (sgnR s z))
    by_cases hzz : 0 ≤ z ∧ z < (s.length : Int)
    · rw [if_pos (by omega)]
      refine BW.br rfl rfl (by first | omega | decide | (constructor <;> first | omega | decide)) (fun w2 => by first | (exfalso; omega) | exact absurd w2 (by decide)) (fun w2 => ?_)
      (repeat (refine BW.pl rfl rfl ?_))
      refine CW.tst rfl rfl (by decide) rfl (Or.inl ⟨rfl, rfl⟩) (Or.inr rfl) rfl (fun _ => ?_) (fun w _ _ => absurd w (by decide))
      (repeat (first | (refine BW.pl rfl rfl ?_) | (refine CW.geti rfl rfl (by assumption) rfl rfl (by assumption) (fun _ => ?_)) | (refine CW.getr rfl rfl (by assumption) rfl rfl (by assumption) ?_)))
      refine CW.aald rfl hys ⟨by omega, by omega⟩ ?_
      rw [hy1]
      (repeat (refine BW.pl rfl rfl ?_))
      refine CW.e2 rfl rfl (by first | exact Or.inl rfl | exact Or.inr (tagO (by assumption) (by rfl) (by rfl)) | exact Or.inr (tagO (AdrIs.ox (by assumption)) (by rfl) (by rfl)) | exact Or.inr (tagO (PatIs.ox (by assumption)) (by rfl) (by rfl)) | exact Or.inr (tagO (Or0.ox (by assumption)) (by rfl) (by rfl))) (by first | exact Or.inl (by decide) | exact Or.inr ⟨_, rfl, by assumption⟩) rfl (B_schar hy hzz) ?_
      have := hso.get (k := z.toNat) (by omega)
      exact BW.irx rfl (Or.inl ⟨rfl, by constructor <;> omega⟩) (PrX.ok Fr0.z (by omega) (by unfold sgnR; rw [if_pos hzz]) (by constructor <;> omega))
    · rw [if_neg (by omega)]
      refine BW.br rfl rfl (by first | omega | decide | (constructor <;> first | omega | decide)) (fun w2 => ?_) (fun w2 => by first | (exfalso; omega) | exact absurd w2 (by decide))
      exact no (by unfold sgnR; rw [if_neg hzz])
end LK
