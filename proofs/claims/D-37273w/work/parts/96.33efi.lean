set_option maxRecDepth 100000
/-! the twin empties the files that a script writes -/
abbrev fZ : List Nat := [23, 24, 25, 26, 27, 28, 29, 30, 33, 34, 35, 36, 37]
abbrev aZ : List Nat := [11, 31, 32]
section TEfi
variable {d : Nat} {σ τ υ : TS} {s l l1 l2 lx : List Int} {t : List SLine} {os : List SOrd} {n : Int} {p : Nat} {od : SOrd0} {o' : SOrd} {h o : List (List Int)} {fi : Nat → List (List Int)} {m : Nat → Option Int} {rp : Bool} {w : Bool × Option SAdr × Option SAdr}
theorem pOrder_plain (hp : pOrder l = .inr (l2, o')) (hw : pWhere l = .inr (l1, w)) (hG : sIsG (hd l1) = false) : o'.2 = [] := by
  have hG : ¬ (hd l1 = 123 ∨ hd l1 = 103 ∨ hd l1 = 71) := of_decide_eq_false hG
  unfold pOrder at hp
  rw [hw] at hp
  dsimp only at hp
  rw [if_neg (fun z => hG (Or.inl z)), if_neg (fun z => hG (Or.inr z))] at hp
  cases ha : pAct false w l1 with
  | inl f => rw [ha] at hp; cases hp
  | inr q =>
    obtain ⟨l3, o3⟩ := q
    rw [ha] at hp
    cases hp
    rfl
theorem T_emptyFiles (hs : SgnIs σ s) (hg : GS σ) (hP : Place s os 0 0) (hA : TA (t, p, h, o, fi, m, n, rp) σ) : TM (d + 17) tk_emptyFiles [.inr 0] σ (fun r τ => r = none ∧ (TFr fZ aZ σ τ ∧ SgnIs τ s ∧ GS τ) ∧ TA (t, p, h, o, stEmpty os fi, m, n, rp) τ) := by
  have loop : ∀ (q k : Nat) (x : Int) (o2 : Option TV) (fi' : Nat → List (List Int)) (τ : TS), k + q = os.length → (0 < q → Place s os k x) → (q = 0 → (s.length : Int) ≤ x ∧ x ≤ s.length + 1) → TFr fZ aZ σ τ ∧ SgnIs τ s ∧ GS τ → TA (t, p, h, o, fi', m, n, rp) τ → TW (d + 16) tc_emptyFiles 2 [some (.inr 0), some (.inl x), o2] [] τ (fun r τ => r = none ∧ (TFr fZ aZ σ τ ∧ SgnIs τ s ∧ GS τ) ∧ TA (t, p, h, o, stEmpty (os.drop k) fi', m, n, rp) τ) := by
    intro q
    induction q with
    | zero =>
      intro k x o2 fi' τ hk _ hx hF hA
      have hx := hx rfl
      have h60 := hF.2.1.2.1
      have h22 : τ.1 22 = s.length := hF.2.1.1
      have e : os.drop k = [] := List.drop_eq_nil_iff.mpr (by omega)
      rw [e]
      (repeat (first | (refine TW.getf rfl rfl rfl (fun _ => ?_)) | (refine TW.pl rfl rfl ?_)))
      refine TW.br rfl rfl (by first | omega | exact b2i_R _ | exact ⟨b2i_R _, by omega⟩) (fun c1 => ?_) (fun c1 => ?_)
      · exact TW.vret rfl ⟨rfl, hF, hA⟩
      · omega
    | succ q ih =>
      intro k x o2 fi' τ hk hPk _ hF hA
      obtain ⟨o', l, l2, hoi, hx, hpo, h48, hnx⟩ := (hPk (by omega)).get (by omega)
      obtain ⟨l1, w, hwh, hw0, hl1, hcase⟩ := pOrder_out hpo h48
      have hoa := hw0.2.2.2
      have h60 := hF.2.1.2.1
      have h22 : τ.1 22 = s.length := hF.2.1.1
      have hxl := hx.len
      have hl0 : 0 < l.length := by have := (pOrder_key hpo).1; omega
      have hdr : os.drop k = o' :: os.drop (k + 1) := by
        rw [dropc (y := o') (by omega), List.getD_eq_getElem?_getD, hoi]
        rfl
      rw [hdr]
      have next : ∀ (o2 : Option TV) (υ : TS), TFr fZ aZ σ υ ∧ SgnIs υ s ∧ GS υ → TA (t, p, h, o, o'.2.foldl stEmpty1 (stEmpty1 fi' o'.1), m, n, rp) υ → TW (d + 16) tc_emptyFiles 50 [some (.inr 0), some (.inl x), o2] [] υ (fun r τ => r = none ∧ (TFr fZ aZ σ τ ∧ SgnIs τ s ∧ GS τ) ∧ TA (t, p, h, o, stEmpty (o' :: os.drop (k + 1)) fi', m, n, rp) τ) := by
        intro o2 υ hF hA
        (repeat (first | (refine TW.getf rfl rfl rfl (fun _ => ?_)) | (refine TW.pl rfl rfl ?_)))
        refine TW.cv2 rfl rfl rfl (Nat.le_of_ble_eq_true rfl) (T_endO hF.2.1 hF.2.2 hx hpo) ?_
        rintro _ τ2 ⟨⟨y2, rfl, hy2⟩, hr2⟩
        have hyl := hy2.len
        (iterate 4 (first | (refine TW.getf rfl rfl rfl (fun _ => ?_)) | (refine TW.pl rfl rfl ?_)))
        refine ih (k + 1) (y2 + 1) o2 _ τ2 (by omega) (fun z => ?_) (fun z => ?_) ⟨hF.1.trans (hr2.1.mono (by decide) (by decide)), hr2.2.1, hr2.2.2⟩ (hr2.ta hA)
        · rcases hnx with ⟨_, z2⟩ | ⟨_, z2⟩
          · omega
          · exact z2 _ hy2
        · rcases hnx with ⟨z2, _⟩ | ⟨z3, z2⟩
          · rw [z2] at hyl
            simp at hyl
            omega
          · rcases z2 _ hy2 with ⟨z4, _⟩ | ⟨_, z4⟩
            · omega
            · omega
      (repeat (first | (refine TW.getf rfl rfl rfl (fun _ => ?_)) | (refine TW.pl rfl rfl ?_)))
      refine TW.br rfl rfl (by first | omega | exact b2i_R _ | exact ⟨b2i_R _, by omega⟩) (fun c1 => ?_) (fun c1 => ?_)
      · omega
      (repeat (first | (refine TW.getf rfl rfl rfl (fun _ => ?_)) | (refine TW.pl rfl rfl ?_)))
      refine TW.cv1 rfl rfl rfl (Nat.le_of_ble_eq_true rfl) (T_readWhere hF.2.1 hF.2.2 hx hwh) ?_
      rintro _ τ1 ⟨rfl, hr1, hwk⟩
      have hA1 := hr1.ta hA
      have hF1 : TFr fZ aZ σ τ1 := hF.1.trans (hr1.1.mono (by decide) (by decide))
      have hsx := hwk.2.1
      have ha := hr1.2.1.at hsx hl1
      have grp : ∀ {lb : List Int}, sIsG (hd l1) = true → stEmpty1 fi' o'.1 = fi' := fun z => by
        have z : hd l1 = 123 ∨ hd l1 = 103 ∨ hd l1 = 71 := of_decide_eq_true z
        unfold stEmpty1
        rw [hoa, if_neg (by omega)]
      have pat : (hd l1 = 103 ∨ hd l1 = 71) → TW (d + 16) tc_emptyFiles 24 [some (.inr 0), some (.inl x), some (.inl (τ1.1 30))] [] τ1 (fun r τ => r = none ∧ (TFr fZ aZ σ τ ∧ SgnIs τ s ∧ GS τ) ∧ TA (t, p, h, o, stEmpty (o' :: os.drop (k + 1)) fi', m, n, rp) τ) := by
        intro hgG
        have hG : sIsG (hd l1) = true := by unfold sIsG; exact decide_eq_true (by omega)
        rcases hcase with ⟨_, hg2⟩ | ⟨z, _⟩
        · rcases hg2 with ⟨z, _⟩ | ⟨_, _, h47, la, g2, hpat, h47', hpp⟩
          · omega
          · have hx1 := hsx.step (y := τ1.1 30 + 1) hl1 rfl
            have hx2 : Sfx s l1.tail.tail (τ1.1 30 + 2) := hx1.step (hd_ne h47 (by decide)) (by omega)
            (repeat (first | (refine TW.getf rfl rfl rfl (fun _ => ?_)) | (refine TW.pl rfl rfl ?_)))
            refine TW.cv2 rfl rfl rfl (Nat.le_of_ble_eq_true rfl) (T_compile hr1.2.1 hx2 (Or.inl rfl) hpat h47') ?_
            rintro _ τ2 ⟨rfl, hf2, hcm, hbp⟩
            (repeat (first | (refine TW.getf rfl rfl rfl (fun _ => ?_)) | (refine TW.pl rfl rfl ?_)))
            refine TW.cv1 rfl rfl rfl (Nat.le_of_ble_eq_true rfl) (T_emptyParts (d := d + 1) (hr1.2.1.fr hf2 (by decide) (by decide)) (hr1.2.2.fr hf2 (by decide) (by decide)) (hA1.fr hf2 (by decide) (by decide)) (hbp.step (hd_ne h47' (by decide)) rfl) hpp) ?_
            rintro _ τ3 ⟨rfl, ⟨f3, s3, g3⟩, hA3⟩
            (iterate 1 (first | (refine TW.getf rfl rfl rfl (fun _ => ?_)) | (refine TW.pl rfl rfl ?_)))
            exact next _ τ3 ⟨(hF1.trans (hf2.mono (by decide) (by decide))).trans (f3.mono (by decide) (by decide)), s3, g3⟩ (by rw [grp (lb := []) hG]; exact hA3)
        · rw [z] at hG; cases hG
      (repeat (first | (refine TW.getf rfl rfl rfl (fun _ => ?_)) | (refine TW.pl rfl rfl ?_)))
      refine TW.iald (n := 60) rfl rfl rfl (by omega) (fun _ => ?_)
      rw [ha.1]
      (repeat (first | (refine TW.getf rfl rfl rfl (fun _ => ?_)) | (refine TW.pl rfl rfl ?_)))
      refine TW.br rfl rfl (by first | omega | exact b2i_R _ | exact ⟨b2i_R _, by omega⟩) (fun c2 => ?_) (fun c2 => ?_)
      · exact pat (Or.inl c2)
      (repeat (first | (refine TW.getf rfl rfl rfl (fun _ => ?_)) | (refine TW.pl rfl rfl ?_)))
      refine TW.iald (n := 60) rfl rfl rfl (by omega) (fun _ => ?_)
      rw [ha.1]
      (repeat (first | (refine TW.getf rfl rfl rfl (fun _ => ?_)) | (refine TW.pl rfl rfl ?_)))
      refine TW.br rfl rfl (by first | omega | exact b2i_R _ | exact ⟨b2i_R _, by omega⟩) (fun c3 => ?_) (fun c3 => ?_)
      rotate_left
      · exact pat (Or.inr c3)
      (repeat (first | (refine TW.getf rfl rfl rfl (fun _ => ?_)) | (refine TW.pl rfl rfl ?_)))
      refine TW.iald (n := 60) rfl rfl rfl (by omega) (fun _ => ?_)
      rw [ha.1]
      (repeat (first | (refine TW.getf rfl rfl rfl (fun _ => ?_)) | (refine TW.pl rfl rfl ?_)))
      refine TW.br rfl rfl (by first | omega | exact b2i_R _ | exact ⟨b2i_R _, by omega⟩) (fun c4 => ?_) (fun c4 => ?_)
      · have hG : sIsG (hd l1) = false := by unfold sIsG; exact decide_eq_false (by omega)
        rcases hcase with ⟨z, _⟩ | ⟨_, hpa⟩
        · rw [hG] at z; cases z
        obtain ⟨g1, g2, g3, g4, g5⟩ := pAct_out hpa
        (repeat (first | (refine TW.getf rfl rfl rfl (fun _ => ?_)) | (refine TW.pl rfl rfl ?_)))
        refine TW.cv1 rfl rfl rfl (Nat.le_of_ble_eq_true rfl) (T_emptyFile (d := d + 15) hr1.2.1 hA1 hsx hl1 hoa (fun z => g5.2.2.2.2.1 (Or.inr z))) ?_
        rintro _ τ3 ⟨rfl, f3, hA3⟩
        exact next _ τ3 ⟨hF1.trans (f3.mono (by decide) (by decide)), hr1.2.1.fr f3 (by decide) (by decide), hr1.2.2.fr f3 (by decide) (by decide)⟩ (by rw [pOrder_plain hpo hwh hG]; exact hA3)
      · have hG : sIsG (hd l1) = true := by unfold sIsG; exact decide_eq_true (by omega)
        rcases hcase with ⟨_, hg2⟩ | ⟨z, _⟩
        · rcases hg2 with ⟨_, _, hpp⟩ | ⟨z, _⟩
          · (repeat (first | (refine TW.getf rfl rfl rfl (fun _ => ?_)) | (refine TW.pl rfl rfl ?_)))
            refine TW.cv1 rfl rfl rfl (Nat.le_of_ble_eq_true rfl) (T_emptyParts (d := d + 1) hr1.2.1 hr1.2.2 hA1 hsx hpp) ?_
            rintro _ τ3 ⟨rfl, ⟨f3, s3, g3⟩, hA3⟩
            (iterate 1 (first | (refine TW.getf rfl rfl rfl (fun _ => ?_)) | (refine TW.pl rfl rfl ?_)))
            exact next _ τ3 ⟨hF1.trans (f3.mono (by decide) (by decide)), s3, g3⟩ (by rw [grp (lb := []) hG]; exact hA3)
          · omega
        · rw [z] at hG; cases hG
  refine TM.of rfl rfl ?_
  (iterate 2 (first | (refine TW.getf rfl rfl rfl (fun _ => ?_)) | (refine TW.pl rfl rfl ?_)))
  refine loop os.length 0 0 none fi σ (by omega) (fun _ => hP) (fun z => ?_) ⟨TFr.rf, hs, hg⟩ hA
  rcases hP with ⟨z2, _⟩ | ⟨_, z2⟩
  · omega
  · omega
end TEfi
