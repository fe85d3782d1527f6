set_option maxRecDepth 100000
/-! the twin empties the files of inner orders -/
def EpQ (σ : TS) (s : List Int) (A : St) (r : Option Int) (τ : TS) : Prop := r = none ∧ (TFr fW [11] σ τ ∧ SgnIs τ s ∧ GS τ) ∧ TA A τ
section TEpa
variable {d : Nat} {σ τ υ : TS} {s l l1 l2 lx : List Int} {t : List SLine} {fs as : List Nat} {n : Int} {p : Nat} {od : SOrd0} {h o : List (List Int)} {fi : Nat → List (List Int)} {m : Nat → Option Int} {rp : Bool}
theorem T_emptyParts {x : Int} {os : List SOrd0} (hs : SgnIs σ s) (hg : GS σ) (hA : TA (t, p, h, o, fi, m, n, rp) σ) (hx : Sfx s l x) (hp : PartsP l os) : TM (d + 15) tk_emptyParts [.inr 0, .inl x] σ (EpQ σ s (t, p, h, o, os.foldl stEmpty1 fi, m, n, rp)) := by
  have hl0 : l ≠ [] := by
    rcases hp with ⟨z, _⟩ | ⟨_, z, _⟩
    · exact hd_ne z (by decide)
    · exact z
  have ha := hs.at hx hl0
  refine TM.of rfl rfl ?_
  (repeat (first | (refine TW.getf rfl rfl rfl (fun _ => ?_)) | (refine TW.pl rfl rfl ?_)))
  refine TW.iald (n := 60) rfl rfl rfl (by omega) (fun _ => ?_)
  rw [ha.1]
  (repeat (first | (refine TW.getf rfl rfl rfl (fun _ => ?_)) | (refine TW.pl rfl rfl ?_)))
  rcases hp with ⟨h123, kk, lx, hin, h125⟩ | ⟨h123, -, od, l1, rfl, hpi, h48⟩
  · have loop : ∀ (os : List SOrd0) (kk : Nat) (l' : List Int) (y : Int) (fi' : Nat → List (List Int)) (τ : TS), pInners kk l' = .inr (lx, os) → Sfx s l' y → TFr fW [11] σ τ ∧ SgnIs τ s ∧ GS τ → TA (t, p, h, o, fi', m, n, rp) τ → TW (d + 14) tc_emptyParts 14 [some (.inr 0), some (.inl x), some (.inl y), some (.inl 1)] [] τ (EpQ σ s (t, p, h, o, os.foldl stEmpty1 fi', m, n, rp)) := by
      intro os
      induction os with
      | nil =>
        intro kk l' y fi' τ hin
        obtain ⟨_, _, _, h8⟩ := pInners_out hin
        rcases h8 with ⟨_, z, _⟩ | ⟨_, _, _, z, _⟩ <;> cases z
      | cons od os ih =>
        intro kk l' y fi' τ hin hy hF hA
        obtain ⟨o2, l2, hpi, hc⟩ := pInners_out hin
        (repeat (first | (refine TW.getf rfl rfl rfl (fun _ => ?_)) | (refine TW.pl rfl rfl ?_)))
        refine TW.br rfl rfl (by first | omega | exact b2i_R _ | exact ⟨b2i_R _, by omega⟩) (fun c1 => ?_) (fun c1 => ?_)
        · exact absurd c1 (by decide)
        (repeat (first | (refine TW.getf rfl rfl rfl (fun _ => ?_)) | (refine TW.pl rfl rfl ?_)))
        refine TW.cv1 rfl rfl rfl (Nat.le_of_ble_eq_true rfl) (T_emptyInner (d := d + 2) hF.2.1 hF.2.2 hA hy hpi) ?_
        rintro _ τ1 ⟨rfl, ⟨f1, s1, g1⟩, hA1⟩
        (repeat (first | (refine TW.getf rfl rfl rfl (fun _ => ?_)) | (refine TW.pl rfl rfl ?_)))
        refine TW.cv2 rfl rfl rfl (Nat.le_of_ble_eq_true rfl) (T_endI s1 g1 hy hpi) ?_
        rintro _ τ2 ⟨⟨y2, rfl, hy2⟩, hr2⟩
        have hA2 := hr2.ta hA1
        have hF2 : TFr fW [11] σ τ2 ∧ SgnIs τ2 s ∧ GS τ2 := ⟨(hF.1.trans f1).trans (hr2.1.mono (by decide) (by decide)), hr2.2.1, hr2.2.2⟩
        have hax := hr2.2.1.at hx hl0
        (repeat (first | (refine TW.getf rfl rfl rfl (fun _ => ?_)) | (refine TW.pl rfl rfl ?_)))
        refine TW.iald (n := 60) rfl rfl rfl (by omega) (fun _ => ?_)
        rw [hax.1, h123]
        (repeat (first | (refine TW.getf rfl rfl rfl (fun _ => ?_)) | (refine TW.pl rfl rfl ?_)))
        refine TW.br rfl rfl (by first | omega | exact b2i_R _ | exact ⟨b2i_R _, by omega⟩) (fun c2 => ?_) (fun c2 => ?_)
        · exact absurd rfl c2
        rcases hc with ⟨h59, he, hl⟩ | ⟨h59, k', os', he, hin'⟩
        · cases he
          subst hl
          have hay := hr2.2.1.at hy2 (hd_ne h125 (by decide))
          (repeat (first | (refine TW.getf rfl rfl rfl (fun _ => ?_)) | (refine TW.pl rfl rfl ?_)))
          refine TW.iald (n := 60) rfl rfl rfl (by omega) (fun _ => ?_)
          rw [hay.1, h125]
          (repeat (first | (refine TW.getf rfl rfl rfl (fun _ => ?_)) | (refine TW.pl rfl rfl ?_)))
          refine TW.br rfl rfl (by first | omega | exact b2i_R _ | exact ⟨b2i_R _, by omega⟩) (fun c3 => ?_) (fun c3 => ?_)
          · (repeat (first | (refine TW.getf rfl rfl rfl (fun _ => ?_)) | (refine TW.pl rfl rfl ?_)))
            refine TW.br rfl rfl (by first | omega | exact b2i_R _ | exact ⟨b2i_R _, by omega⟩) (fun c4 => ?_) (fun c4 => ?_)
            · exact TW.vret rfl ⟨rfl, hF2, hA2⟩
            · exact absurd rfl c4
          · exact absurd c3 (by decide)
        · cases he
          have hl2 := hd_ne h59 (by decide)
          have hay := hr2.2.1.at hy2 hl2
          (repeat (first | (refine TW.getf rfl rfl rfl (fun _ => ?_)) | (refine TW.pl rfl rfl ?_)))
          refine TW.iald (n := 60) rfl rfl rfl (by omega) (fun _ => ?_)
          rw [hay.1, h59]
          (repeat (first | (refine TW.getf rfl rfl rfl (fun _ => ?_)) | (refine TW.pl rfl rfl ?_)))
          refine TW.br rfl rfl (by first | omega | exact b2i_R _ | exact ⟨b2i_R _, by omega⟩) (fun c3 => ?_) (fun c3 => ?_)
          · exact absurd rfl c3
          · (iterate 5 (first | (refine TW.getf rfl rfl rfl (fun _ => ?_)) | (refine TW.pl rfl rfl ?_)))
            exact ih k' l2.tail (y2 + 1) _ τ2 hin' (hy2.step hl2 rfl) hF2 hA2
    rw [h123]
    refine TW.br rfl rfl (by first | omega | exact b2i_R _ | exact ⟨b2i_R _, by omega⟩) (fun c0 => ?_) (fun c0 => ?_)
    · exact absurd rfl c0
    · (iterate 7 (first | (refine TW.getf rfl rfl rfl (fun _ => ?_)) | (refine TW.pl rfl rfl ?_)))
      exact loop os kk l.tail (x + 1) fi σ hin (hx.step hl0 rfl) ⟨TFr.rf, hs, hg⟩ hA
  · refine TW.br rfl rfl (by first | omega | exact b2i_R _ | exact ⟨b2i_R _, by omega⟩) (fun c0 => ?_) (fun c0 => ?_)
    rotate_left
    · exact absurd c0 h123
    (repeat (first | (refine TW.getf rfl rfl rfl (fun _ => ?_)) | (refine TW.pl rfl rfl ?_)))
    refine TW.br rfl rfl (by first | omega | exact b2i_R _ | exact ⟨b2i_R _, by omega⟩) (fun c1 => ?_) (fun c1 => ?_)
    · exact absurd c1 (by decide)
    (repeat (first | (refine TW.getf rfl rfl rfl (fun _ => ?_)) | (refine TW.pl rfl rfl ?_)))
    refine TW.cv1 rfl rfl rfl (Nat.le_of_ble_eq_true rfl) (T_emptyInner (d := d + 2) hs hg hA hx hpi) ?_
    rintro _ τ1 ⟨rfl, ⟨f1, s1, g1⟩, hA1⟩
    (repeat (first | (refine TW.getf rfl rfl rfl (fun _ => ?_)) | (refine TW.pl rfl rfl ?_)))
    refine TW.cv2 rfl rfl rfl (Nat.le_of_ble_eq_true rfl) (T_endI s1 g1 hx hpi) ?_
    rintro _ τ2 ⟨⟨y2, rfl, hy2⟩, hr2⟩
    have hax := hr2.2.1.at hx hl0
    have hy2l := hy2.len
    have h60 := hs.2.1
    (repeat (first | (refine TW.getf rfl rfl rfl (fun _ => ?_)) | (refine TW.pl rfl rfl ?_)))
    refine TW.iald (n := 60) rfl rfl rfl (by omega) (fun _ => ?_)
    rw [hax.1]
    (repeat (first | (refine TW.getf rfl rfl rfl (fun _ => ?_)) | (refine TW.pl rfl rfl ?_)))
    refine TW.br rfl rfl (by first | omega | exact b2i_R _ | exact ⟨b2i_R _, by omega⟩) (fun c2 => ?_) (fun c2 => ?_)
    rotate_left
    · exact absurd c2 h123
    (repeat (first | (refine TW.getf rfl rfl rfl (fun _ => ?_)) | (refine TW.pl rfl rfl ?_)))
    refine TW.br rfl rfl (by first | omega | exact b2i_R _ | exact ⟨b2i_R _, by omega⟩) (fun c3 => ?_) (fun c3 => ?_)
    · exact TW.vret rfl ⟨rfl, ⟨f1.trans (hr2.1.mono (by decide) (by decide)), hr2.2.1, hr2.2.2⟩, hr2.ta hA1⟩
    · exact absurd rfl c3
end TEpa
