set_option maxRecDepth 100000
/-! the twin does all orders -/
abbrev fQ : List Nat := [12, 14, 15, 16, 17, 20, 23, 24, 25, 26, 27, 28, 29, 30, 33, 34, 35, 36, 37, 40, 41, 42, 43, 44, 45, 64]
def OQ (σ τ : TS) : Prop := TFr fQ aE σ τ ∧ RSame (fun k => k < 480) σ τ
theorem OE.q {σ τ : TS} (h : OE σ τ) : OQ σ τ := ⟨h.1.mono (by decide) (by decide), h.2⟩
theorem OQ.rf {σ : TS} : OQ σ σ := ⟨TFr.rf, fun _ _ => rfl⟩
theorem OQ.trans {σ τ υ : TS} (h : OQ σ τ) (h2 : OQ τ υ) : OQ σ υ := ⟨h.1.trans h2.1, fun j hj => (h2.2 j hj).trans (h.2 j hj)⟩
theorem OQ.fr {σ τ : TS} {fs as : List Nat} (h : TFr fs as σ τ) (h1 : ∀ k ∈ fs, k ∈ fQ) (h2 : ∀ k ∈ as, k ∈ aE) (h6 : 6 ∉ as) : OQ σ τ := ⟨h.mono h1 h2, fun j _ => by rw [h.2 6 h6]⟩
theorem OQ.sg {σ τ : TS} {s : List Int} (h : OQ σ τ) (hs : SgnIs σ s) : SgnIs τ s := hs.fr h.1 (by decide) (by decide)
def sOne1 (os : List SOrd) (k : Nat) (o : SOrd0) (A : St) : Nat ⊕ (Nat × St) :=
    if oAct o = 113 then .inr (os.length, A)
    else if oAct o = 78 then (if A.2.1 = A.1.length then .inl 1 else .inr (k + 1, setP A (A.2.1 + 1)))
    else if oAct o = 98 then (match sJump os o with | .inl w => .inl w | .inr j => .inr (j, A))
    else if A.2.2.2.2.2.2.2 = true then (match sJump os o with | .inl w => .inl w | .inr j => .inr (j, setR A false))
    else .inr (k + 1, A)
theorem sSteer_def (os : List SOrd) (k : Nat) (o : SOrd0) (A : St) : sSteer os k o A = if oAll o = true ∨ oFst o ≠ none then (match sRange A o with
    | .inl w => .inl w
    | .inr (f, l) => if f ≤ A.2.1 ∧ A.2.1 ≤ l then sOne1 os k o A else .inr (k + 1, A)) else sOne1 os k o A := by
  unfold sSteer
  by_cases h : oAll o = true ∨ oFst o ≠ none
  · rw [if_pos h, if_pos h]
    cases sRange A o with
    | inl w => rfl
    | inr q =>
      obtain ⟨f, l⟩ := q
      by_cases h2 : f ≤ A.2.1 ∧ A.2.1 ≤ l
      · dsimp only; rw [if_pos h2, decide_eq_true h2]; rfl
      · dsimp only; rw [if_neg h2, decide_eq_false h2]
  · rw [if_neg h, if_neg h]; rfl
def SteQ (σ : TS) (s : List Int) (os : List SOrd) (R : Nat ⊕ (Nat × St)) (r : Option Int) (τ : TS) : Prop := (OQ σ τ ∧ GS τ ∧ (τ.1 45) = (σ.1 45)) ∧ match R with
  | .inl w => r = some (w : Int) ∧ 1 ≤ w ∧ w ≤ 7
  | .inr (j, A) => r = some 0 ∧ Place s os j (τ.1 64) ∧ TA A τ
section TAll
variable {d : Nat} {σ τ : TS} {s l l1 l2 : List Int} {A : St} {os : List SOrd} {o : SOrd} {fs as : List Nat} {ds : List SDeed}
theorem T_steer {x : Int} {k : Nat} {w : Bool × Option SAdr × Option SAdr} (hs : SgnIs σ s) (hg : GS σ) (hA : TA A σ) (hw : WF A) (hP : Place s os 0 0) (h0 : 0 < os.length) (hwk : WhK s l w l1 σ) (hl1 : l1 ≠ []) (hx : Sfx s l1 x) (ho : oAll o.1 = w.1 ∧ oFst o.1 = w.2.1 ∧ oSnd o.1 = w.2.2 ∧ oAct o.1 = hd l1) (hw2 : (w.2.1 = none → w.2.2 = none) ∧ (w.1 = true → w.2.1 = none)) (hp : ActP l1 l2 o.1) (hst : sSteers (hd l1) = true) (hgo : Place s os (k + 1) (σ.1 64)) (hn : A.2.2.2.2.2.2.1 < 1000000) : TM (d + 17) tk_steer [.inr 0, .inl x] σ (SteQ σ s os (sSteer os k o.1 A)) := by
  obtain ⟨ho1, ho2, ho3, ho4⟩ := ho
  have hact : hd l1 = 98 ∨ hd l1 = 84 ∨ hd l1 = 113 ∨ hd l1 = 78 := of_decide_eq_true hst
  have hk := hwk.1
  rw [sSteer_def]
  refine TM.of rfl rfl ?_
  -- behind the range
  have go : ∀ (τ : TS) (o2 : Option TV), OQ σ τ → GS τ → TA A τ → (τ.1 64) = (σ.1 64) → (τ.1 45) = (σ.1 45) → TW (d + 16) tc_steer 22 [some (.inr 0), some (.inl x), o2] [] τ (SteQ σ s os (sOne1 os k o.1 A)) := by
    intro τ o2 hq hgτ hAτ hg64 hc45
    have hsτ := hq.sg hs
    have ha := hsτ.at hx hl1
    have hpr : τ.1 16 = A.2.1 := hAτ.2.1
    have hmn : τ.1 12 = A.1.length := hAτ.1.1
    have h40 : A.1.length ≤ 40 := hAτ.1.2.1
    have hpl : A.2.1 ≤ A.1.length := hw.1.1
    have hrp : τ.1 44 = b2i A.2.2.2.2.2.2.2 := hAτ.2.2.2.2.2
    unfold sOne1
    rw [ho4]
    (repeat (first | (refine TW.getf rfl rfl rfl (fun _ => ?_)) | (refine TW.pl rfl rfl ?_)))
    refine TW.iald (n := 60) rfl rfl rfl (by omega) (fun _ => ?_)
    rw [ha.1]
    (repeat (first | (refine TW.getf rfl rfl rfl (fun _ => ?_)) | (refine TW.pl rfl rfl ?_)))
    refine TW.br rfl rfl (by first | omega | exact b2i_R _ | exact ⟨b2i_R _, by omega⟩) (fun q1 => ?_) (fun q1 => ?_)
    rotate_left
    · -- q
      rw [if_pos q1]
      (repeat (first | (refine TW.getf rfl rfl rfl (fun _ => ?_)) | (refine TW.pl rfl rfl ?_)))
      refine TW.putf rfl rfl (by omega) ?_
      have hf : TFr [64] [] τ (ts1 τ 64 (τ.1 22)) := TFr.rf.ts1 (by decide)
      have h64 : (ts1 τ 64 (τ.1 22)).1 64 = s.length := by rw [ts1_eq]; exact hsτ.1
      have fin : SteQ σ s os (.inr (os.length, A)) (some 0) (ts1 τ 64 (τ.1 22)) := ⟨⟨hq.trans (OQ.fr hf (by decide) (by decide) (by decide)), hgτ.fr hf (by decide) (by decide), (hf.1 45 (by decide)).trans hc45⟩, rfl, Or.inr ⟨rfl, h64⟩, hAτ.fr hf (by decide) (by decide)⟩
      (repeat (first | (refine TW.getf rfl rfl rfl (fun _ => ?_)) | (refine TW.pl rfl rfl ?_)))
      refine TW.br rfl rfl (by first | omega | exact b2i_R _ | exact ⟨b2i_R _, by omega⟩) (fun q2 => ?_) (fun q2 => ?_)
      · (repeat (first | (refine TW.getf rfl rfl rfl (fun _ => ?_)) | (refine TW.pl rfl rfl ?_)))
        refine TW.br rfl rfl (by first | omega | exact b2i_R _ | exact ⟨b2i_R _, by omega⟩) (fun q3 => ?_) (fun q3 => ?_)
        · (repeat (first | (refine TW.getf rfl rfl rfl (fun _ => ?_)) | (refine TW.pl rfl rfl ?_)))
          refine TW.br rfl rfl (by first | omega | exact b2i_R _ | exact ⟨b2i_R _, by omega⟩) (fun q4 => ?_) (fun q4 => ?_)
          · (repeat (first | (refine TW.getf rfl rfl rfl (fun _ => ?_)) | (refine TW.pl rfl rfl ?_)))
            exact TW.iret rfl fin
          · omega
        · omega
      · omega
    rw [if_neg q1]
    (repeat (first | (refine TW.getf rfl rfl rfl (fun _ => ?_)) | (refine TW.pl rfl rfl ?_)))
    refine TW.br rfl rfl (by first | omega | exact b2i_R _ | exact ⟨b2i_R _, by omega⟩) (fun q2 => ?_) (fun q2 => ?_)
    rotate_left
    · -- N
      rw [if_pos q2]
      (repeat (first | (refine TW.getf rfl rfl rfl (fun _ => ?_)) | (refine TW.pl rfl rfl ?_)))
      rw [hpr, hmn]
      refine TW.br rfl rfl (by first | omega | exact b2i_R _ | exact ⟨b2i_R _, by omega⟩) (fun q3 => ?_) (fun q3 => ?_)
      · rw [if_neg (by omega)]
        (repeat (first | (refine TW.getf rfl rfl rfl (fun _ => ?_)) | (refine TW.pl rfl rfl ?_)))
        refine TW.putf rfl rfl (by omega) ?_
        have hf : TFr [16] [] τ (ts1 τ 16 (τ.1 16 + 1)) := TFr.rf.ts1 (by decide)
        have hA1 : TA (setP A (A.2.1 + 1)) (ts1 τ 16 (τ.1 16 + 1)) := by
          obtain ⟨t, p, h, ou, fi, m, n, rp⟩ := A
          exact hAτ.pres (v := p + 1) (by rw [hpr]; show (p : Int) + 1 = ((p + 1 : Nat) : Int); omega)
        have fin : SteQ σ s os (.inr (k + 1, setP A (A.2.1 + 1))) (some 0) (ts1 τ 16 (τ.1 16 + 1)) := ⟨⟨hq.trans (OQ.fr hf (by decide) (by decide) (by decide)), hgτ.fr hf (by decide) (by decide), (hf.1 45 (by decide)).trans hc45⟩, rfl, by rw [hf.1 64 (by decide), hg64]; exact hgo, hA1⟩
        (repeat (first | (refine TW.getf rfl rfl rfl (fun _ => ?_)) | (refine TW.pl rfl rfl ?_)))
        refine TW.br rfl rfl (by first | omega | exact b2i_R _ | exact ⟨b2i_R _, by omega⟩) (fun q4 => ?_) (fun q4 => ?_)
        · (repeat (first | (refine TW.getf rfl rfl rfl (fun _ => ?_)) | (refine TW.pl rfl rfl ?_)))
          refine TW.br rfl rfl (by first | omega | exact b2i_R _ | exact ⟨b2i_R _, by omega⟩) (fun q5 => ?_) (fun q5 => ?_)
          · (repeat (first | (refine TW.getf rfl rfl rfl (fun _ => ?_)) | (refine TW.pl rfl rfl ?_)))
            exact TW.iret rfl fin
          · omega
        · omega
      · rw [if_pos (by omega)]
        (repeat (first | (refine TW.getf rfl rfl rfl (fun _ => ?_)) | (refine TW.pl rfl rfl ?_)))
        exact TW.iret rfl ⟨⟨hq, hgτ, hc45⟩, rfl, by decide, by decide⟩
    rw [if_neg q2]
    have jmp : ∀ (υ : TS) (B : St), OQ σ υ → GS υ → TA B υ → (υ.1 45) = (σ.1 45) → (hd l1 = 98 ∨ hd l1 = 84) → TM (d + 16) tk_jump [.inr 0, .inl x] υ (SteQ σ s os (match sJump os o.1 with | .inl w => .inl w | .inr j => .inr (j, B))) := by
      intro υ B hqυ hgυ hBυ hcυ hc
      refine (T_jump (d := d) (hqυ.sg hs) hgυ hP h0 hx hl1 (hp.2.2.2.2.2.2.1 hc)).mono (Nat.le_refl _) (fun r τ' q => ?_)
      obtain ⟨⟨e1, e2, e3⟩, e4⟩ := q
      have hq' : OQ υ τ' := OQ.fr e1 (by decide) (by decide) (by decide)
      refine ⟨⟨hqυ.trans hq', e3, (e1.1 45 (by decide)).trans hcυ⟩, ?_⟩
      revert e4
      cases sJump os o.1 with
      | inl w => exact id
      | inr j => exact fun e4 => ⟨e4.1, e4.2, hBυ.fr e1 (by decide) (by decide)⟩
    (repeat (first | (refine TW.getf rfl rfl rfl (fun _ => ?_)) | (refine TW.pl rfl rfl ?_)))
    refine TW.br rfl rfl (by first | omega | exact b2i_R _ | exact ⟨b2i_R _, by omega⟩) (fun q3 => ?_) (fun q3 => ?_)
    rotate_left
    · -- b
      rw [if_pos q3]
      (repeat (first | (refine TW.getf rfl rfl rfl (fun _ => ?_)) | (refine TW.pl rfl rfl ?_)))
      refine TW.cv1 rfl rfl rfl (Nat.le_of_ble_eq_true rfl) (jmp τ A hq hgτ hAτ hc45 (Or.inl q3)) ?_
      intro r τ' hr
      have : ∃ v, r = some v := by
        revert hr
        cases sJump os o.1 with
        | inl w => exact fun hr => ⟨_, hr.2.1⟩
        | inr j => exact fun hr => ⟨_, hr.2.1⟩
      obtain ⟨v, rfl⟩ := this
      exact TW.iret rfl hr
    rw [if_neg q3]
    (repeat (first | (refine TW.getf rfl rfl rfl (fun _ => ?_)) | (refine TW.pl rfl rfl ?_)))
    refine TW.br rfl rfl (by first | omega | exact b2i_R _ | exact ⟨b2i_R _, by omega⟩) (fun q4 => ?_) (fun q4 => ?_)
    · omega
    · (repeat (first | (refine TW.getf rfl rfl rfl (fun _ => ?_)) | (refine TW.pl rfl rfl ?_)))
      rw [hrp]
      refine TW.br rfl rfl (by first | omega | exact b2i_R _ | exact ⟨b2i_R _, by omega⟩) (fun q5 => ?_) (fun q5 => ?_)
      · have hrf : A.2.2.2.2.2.2.2 = false := b2i_0 q5
        rw [if_neg (by rw [hrf]; decide)]
        (repeat (first | (refine TW.getf rfl rfl rfl (fun _ => ?_)) | (refine TW.pl rfl rfl ?_)))
        exact TW.iret rfl ⟨⟨hq, hgτ, hc45⟩, rfl, by rw [hg64]; exact hgo, hAτ⟩
      · have hrf : A.2.2.2.2.2.2.2 = true := b2i_1 q5
        rw [if_pos hrf]
        (repeat (first | (refine TW.getf rfl rfl rfl (fun _ => ?_)) | (refine TW.pl rfl rfl ?_)))
        refine TW.putz rfl rfl (Or.inl rfl) ?_
        have hf : TFr [44] [] τ (ts1 τ 44 0) := TFr.rf.ts1 (by decide)
        have hA1 : TA (setR A false) (ts1 τ 44 0) := by
          have := (hAτ.t0.fr hf (by decide) (by decide)).setR false
          refine this.ta ?_
          obtain ⟨t, p, h, ou, fi, m, n, rp⟩ := A
          exact ts1_eq
        (repeat (first | (refine TW.getf rfl rfl rfl (fun _ => ?_)) | (refine TW.pl rfl rfl ?_)))
        refine TW.cv1 rfl rfl rfl (Nat.le_of_ble_eq_true rfl) (jmp (ts1 τ 44 0) (setR A false) (hq.trans (OQ.fr hf (by decide) (by decide) (by decide))) (hgτ.fr hf (by decide) (by decide)) hA1 ((hf.1 45 (by decide)).trans hc45) (by omega)) ?_
        intro r τ' hr
        have : ∃ v, r = some v := by
          revert hr
          cases sJump os o.1 with
          | inl w => exact fun hr => ⟨_, hr.2.1⟩
          | inr j => exact fun hr => ⟨_, hr.2.1⟩
        obtain ⟨v, rfl⟩ := this
        exact TW.iret rfl hr
  have hkk : (0 < wKind w) ↔ (oAll o.1 = true ∨ oFst o.1 ≠ none) := by rw [wk_iff, ho1, ho2]
  (repeat (first | (refine TW.getf rfl rfl rfl (fun _ => ?_)) | (refine TW.pl rfl rfl ?_)))
  refine TW.br rfl rfl (by first | omega | exact b2i_R _ | exact ⟨b2i_R _, by omega⟩) (fun q0 => ?_) (fun q0 => ?_)
  · rw [if_neg (fun z => by have := hkk.mpr z; omega)]
    exact go σ none OQ.rf hg hA rfl rfl
  · rw [if_pos (hkk.mp (by omega))]
    (repeat (first | (refine TW.getf rfl rfl rfl (fun _ => ?_)) | (refine TW.pl rfl rfl ?_)))
    refine TW.cv0 rfl rfl rfl (Nat.le_of_ble_eq_true rfl) (T_range (od := o.1) hs hA hw hwk hl1 ⟨ho1, ho2, ho3, ho4⟩ hw2 hn) ?_
    rintro r τ ⟨hf, hq⟩
    have hA1 := hA.fr hf (by decide) (by decide)
    have hg1 : GS τ := hg.fr hf (by decide) (by decide)
    have hq1 : OQ σ τ := OQ.fr hf (by decide) (by decide) (by decide)
    have h64 : τ.1 64 = σ.1 64 := hf.1 64 (by decide)
    have h45 : τ.1 45 = σ.1 45 := hf.1 45 (by decide)
    have hpr : τ.1 16 = A.2.1 := hA1.2.1
    have hpl : A.2.1 ≤ A.1.length := hw.1.1
    have h40 : A.1.length ≤ 40 := hA1.1.2.1
    revert hq
    cases hR : sRange A o.1 with
    | inl w1 =>
      intro hq
      have hq : r = some (w1 : Int) := hq
      subst hq
      have hw1 := sRange_pos hR
      dsimp only
      (repeat (first | (refine TW.getf rfl rfl rfl (fun _ => ?_)) | (refine TW.pl rfl rfl ?_)))
      refine TW.br rfl rfl (by first | omega | exact b2i_R _ | exact ⟨b2i_R _, by omega⟩) (fun q1 => ?_) (fun q1 => ?_)
      · omega
      · (repeat (first | (refine TW.getf rfl rfl rfl (fun _ => ?_)) | (refine TW.pl rfl rfl ?_)))
        exact TW.iret rfl ⟨⟨hq1, hg1, h45⟩, rfl, by omega, by omega⟩
    | inr q =>
      obtain ⟨f, e⟩ := q
      rintro ⟨rfl, hfv, hev⟩
      dsimp only
      (repeat (first | (refine TW.getf rfl rfl rfl (fun _ => ?_)) | (refine TW.pl rfl rfl ?_)))
      refine TW.br rfl rfl (by first | omega | exact b2i_R _ | exact ⟨b2i_R _, by omega⟩) (fun q1 => ?_) (fun q1 => ?_)
      · (repeat (first | (refine TW.getf rfl rfl rfl (fun _ => ?_)) | (refine TW.pl rfl rfl ?_)))
        refine TW.br rfl rfl (by first | omega | exact b2i_R _ | exact ⟨b2i_R _, by omega⟩) (fun q2 => ?_) (fun q2 => ?_)
        · rw [if_neg (by omega)]
          (repeat (first | (refine TW.getf rfl rfl rfl (fun _ => ?_)) | (refine TW.pl rfl rfl ?_)))
          exact TW.iret rfl ⟨⟨hq1, hg1, h45⟩, rfl, by rw [h64]; exact hgo, hA1⟩
        · (repeat (first | (refine TW.getf rfl rfl rfl (fun _ => ?_)) | (refine TW.pl rfl rfl ?_)))
          refine TW.br rfl rfl (by first | omega | exact b2i_R _ | exact ⟨b2i_R _, by omega⟩) (fun q3 => ?_) (fun q3 => ?_)
          · rw [if_pos (by omega)]
            exact go τ _ hq1 hg1 hA1 h64 h45
          · rw [if_neg (by omega)]
            (repeat (first | (refine TW.getf rfl rfl rfl (fun _ => ?_)) | (refine TW.pl rfl rfl ?_)))
            exact TW.iret rfl ⟨⟨hq1, hg1, h45⟩, rfl, by rw [h64]; exact hgo, hA1⟩
      · exact absurd q1 (by decide)
def OrdQ (σ : TS) (s : List Int) (os : List SOrd) (R : Nat ⊕ (Nat × Nat × St)) (r : Option Int) (τ : TS) : Prop := (OQ σ τ ∧ GS τ) ∧ match R with
  | .inl w => r = some (w : Int) ∧ 1 ≤ w ∧ w ≤ 7
  | .inr (j, c, A) => r = some 0 ∧ Place s os j (τ.1 64) ∧ (τ.1 45) = c ∧ TA A τ
theorem T_doOrder {x : Int} {k c : Nat} (hs : SgnIs σ s) (hg : GS σ) (hA : TA A σ) (hw : WF A) (hP : Place s os 0 0) (hPk : Place s os k x) (hk : os[k]? = some o) (hc : (σ.1 45) = c) (hcR : c ≤ 60) (hn : A.2.2.2.2.2.2.1 + 40 * (60 - (c : Int)) < 900000) : TM (d + 18) tk_doOrder [.inr 0, .inl x] σ (OrdQ σ s os (sOne os k o c A)) := by
  have hkl : k < os.length := (List.getElem?_eq_some_iff.mp hk).1
  obtain ⟨o', l, l2, hoi, hx, hpo, h48, hnx⟩ := hPk.get hkl
  have hoo : o' = o := by rw [hk] at hoi; exact (Option.some.inj hoi).symm
  subst hoo
  obtain ⟨l1, w, hwh, hw0, hl1, hcase⟩ := pOrder_out hpo h48
  have hw2 := pWhere_ok hwh
  have h60 := hs.2.1
  refine TM.of rfl rfl ?_
  (repeat (first | (refine TW.getf rfl rfl rfl (fun _ => ?_)) | (refine TW.pl rfl rfl ?_)))
  refine TW.cv2 rfl rfl rfl (Nat.le_of_ble_eq_true rfl) (T_endO hs hg hx hpo) ?_
  rintro _ τ1 ⟨⟨y, rfl, hy⟩, hr1⟩
  have hyl := hy.len
  have hn1 : τ1.1 22 = s.length := hr1.2.1.1
  -- behind the goal
  have main : ∀ v : Int, Place s os (k + 1) v → (0 ≤ v ∧ v ≤ 60) → TW (d + 17) tc_doOrder 16 [some (.inr 0), some (.inl x), some (.inl y), none, none, none] [.inl v, .inr 0] τ1 (OrdQ σ s os (sOne os k o' c A)) := by
    intro v hv hvR
    have hf2 : TFr [64] [] τ1 (ts1 τ1 64 v) := TFr.rf.ts1 (by decide)
    have h64 : (ts1 τ1 64 v).1 64 = v := ts1_eq
    have hs2 := hr1.2.1.fr hf2 (by decide) (by decide)
    have hg2 : GS (ts1 τ1 64 v) := hr1.2.2.fr hf2 (by decide) (by decide)
    have hA2 := (hr1.ta hA).fr hf2 (by decide) (by decide)
    have hq2 : OQ σ (ts1 τ1 64 v) := (hr1.of.e.q).trans (OQ.fr hf2 (by decide) (by decide) (by decide))
    have hc2 : (ts1 τ1 64 v).1 45 = c := by rw [hf2.1 45 (by decide), hr1.1.1 45 (by decide)]; exact hc
    refine TW.putf rfl rfl (by omega) ?_
    generalize ts1 τ1 64 v = σ2 at h64 hs2 hg2 hA2 hq2 hc2 ⊢
    (repeat (first | (refine TW.getf rfl rfl rfl (fun _ => ?_)) | (refine TW.pl rfl rfl ?_)))
    refine TW.cv1 rfl rfl rfl (Nat.le_of_ble_eq_true rfl) (T_readWhere hs2 hg2 hx hwh) ?_
    rintro _ τ3 ⟨rfl, hr3, hwk⟩
    have h643 : τ3.1 64 = v := (hr3.1.1 64 (by decide)).trans h64
    have hA3 := hr3.ta hA2
    have hq3 := hq2.trans hr3.of.e.q
    have hc3 : τ3.1 45 = c := (hr3.1.1 45 (by decide)).trans hc2
    have hsx := hwk.2.1
    have ha3 := hr3.2.1.at hsx hl1
    have hoa := hw0.2.2.2
    (repeat (first | (refine TW.getf rfl rfl rfl (fun _ => ?_)) | (refine TW.pl rfl rfl ?_)))
    refine TW.iald (n := 60) rfl rfl rfl (by omega) (fun _ => ?_)
    rw [ha3.1]
    (repeat (first | (refine TW.getf rfl rfl rfl (fun _ => ?_)) | (refine TW.pl rfl rfl ?_)))
    unfold sOne
    rw [hoa]
    refine TW.br rfl rfl (by first | omega | exact b2i_R _ | exact ⟨b2i_R _, by omega⟩) (fun q1 => ?_) (fun q1 => ?_)
    rotate_left
    · rw [if_pos q1]
      (repeat (first | (refine TW.getf rfl rfl rfl (fun _ => ?_)) | (refine TW.pl rfl rfl ?_)))
      exact TW.iret rfl ⟨⟨hq3, hr3.2.2⟩, rfl, by rw [h643]; exact hv, hc3, hA3⟩
    rw [if_neg q1]
    have steer : sSteers (hd l1) = true → TW (d + 17) tc_doOrder 45 [some (.inr 0), some (.inl x), some (.inl y), some (.inl (τ3.1 30)), some (.inl (hd l1)), none] [] τ3 (OrdQ σ s os (if sSteers (hd l1) = true then (match sSteer os k o'.1 A with | .inl w => .inl w | .inr (j, A1) => .inr (j, c, A1)) else match sOrd A o' c with | .inl w => .inl w | .inr (c1, A1) => .inr (k + 1, c1, A1))) := by
      intro hst
      rw [if_pos hst]
      have hact : hd l1 = 98 ∨ hd l1 = 84 ∨ hd l1 = 113 ∨ hd l1 = 78 := of_decide_eq_true hst
      have hpa : pAct false w l1 = .inr (l2, o'.1) := by
        rcases hcase with ⟨z, _⟩ | ⟨_, z⟩
        · have : hd l1 = 123 ∨ hd l1 = 103 ∨ hd l1 = 71 := of_decide_eq_true z
          omega
        · exact z
      obtain ⟨g1, g2, g3, g4, g5⟩ := pAct_out hpa
      (repeat (first | (refine TW.getf rfl rfl rfl (fun _ => ?_)) | (refine TW.pl rfl rfl ?_)))
      refine TW.cv1 rfl rfl rfl (Nat.le_of_ble_eq_true rfl) (T_steer (k := k) (os := os) hr3.2.1 hr3.2.2 hA3 hw hP (by omega) hwk hl1 hsx hw0 hw2 g5 hst (by rw [h643]; exact hv) (by omega)) ?_
      rintro r τ4 ⟨⟨e1, e2, e3⟩, e4⟩
      have hq4 := hq3.trans e1
      revert e4
      cases sSteer os k o'.1 A with
      | inl w1 =>
        rintro ⟨rfl, e5⟩
        exact TW.iret rfl ⟨⟨hq4, e2⟩, rfl, e5⟩
      | inr q =>
        obtain ⟨j, A1⟩ := q
        rintro ⟨rfl, e5, e6⟩
        exact TW.iret rfl ⟨⟨hq4, e2⟩, rfl, e5, e3.trans hc3, e6⟩
    have notst : ¬ hd l1 = 113 → ¬ hd l1 = 98 → ¬ hd l1 = 84 → ¬ hd l1 = 78 → TW (d + 17) tc_doOrder 49 [some (.inr 0), some (.inl x), some (.inl y), some (.inl (τ3.1 30)), some (.inl (hd l1)), none] [] τ3 (OrdQ σ s os (if sSteers (hd l1) = true then (match sSteer os k o'.1 A with | .inl w => .inl w | .inr (j, A1) => .inr (j, c, A1)) else match sOrd A o' c with | .inl w => .inl w | .inr (c1, A1) => .inr (k + 1, c1, A1))) := by
      intro n113 n98 n84 n78
      rw [if_neg (by unfold sSteers; rw [decide_eq_true_eq]; omega)]
      unfold sOrd
      rw [hoa]
      (repeat (first | (refine TW.getf rfl rfl rfl (fun _ => ?_)) | (refine TW.pl rfl rfl ?_)))
      refine TW.cv0 rfl rfl rfl (Nat.le_of_ble_eq_true rfl) (T_range (od := o'.1) hr3.2.1 hA3 hw hwk hl1 hw0 hw2 (by omega)) ?_
      rintro r τ4 ⟨hf4, hqr⟩
      have hA4 := hA3.fr hf4 (by decide) (by decide)
      have hs4 := hr3.2.1.fr hf4 (by decide) (by decide)
      have hg4 : GS τ4 := hr3.2.2.fr hf4 (by decide) (by decide)
      have hq4 : OQ σ τ4 := hq3.trans (OQ.fr hf4 (by decide) (by decide) (by decide))
      have h644 : τ4.1 64 = v := (hf4.1 64 (by decide)).trans h643
      have hc4 : τ4.1 45 = c := (hf4.1 45 (by decide)).trans hc3
      revert hqr
      cases hR : sRange A o'.1 with
      | inl w1 =>
        intro hqr
        have hqr : r = some (w1 : Int) := hqr
        subst hqr
        have hw1 := sRange_pos hR
        dsimp only
        (repeat (first | (refine TW.getf rfl rfl rfl (fun _ => ?_)) | (refine TW.pl rfl rfl ?_)))
        refine TW.br rfl rfl (by first | omega | exact b2i_R _ | exact ⟨b2i_R _, by omega⟩) (fun q5 => ?_) (fun q5 => ?_)
        · omega
        · (repeat (first | (refine TW.getf rfl rfl rfl (fun _ => ?_)) | (refine TW.pl rfl rfl ?_)))
          exact TW.iret rfl ⟨⟨hq4, hg4⟩, rfl, by omega, by omega⟩
      | inr q =>
        obtain ⟨f, e⟩ := q
        rintro ⟨rfl, hfv, hev⟩
        have hRR := sRange_R hw.1.1 hR
        dsimp only
        have each : GrpP l1 o' → sIsG (hd l1) = true → TW (d + 17) tc_doOrder 65 [some (.inr 0), some (.inl x), some (.inl y), some (.inl (τ3.1 30)), some (.inl (hd l1)), some (.inl 0)] [] τ4 (OrdQ σ s os (match (if sIsG (hd l1) = true then sEachL o'.2 (sMet o'.1 (seg A.1 f e)) c A else match sAct A o'.1 f e with | .inl w => .inl w | .inr A1 => .inr (c, A1)) with | .inl w => .inl w | .inr (c1, A1) => .inr (k + 1, c1, A1))) := by
          intro hG hiG
          have hiG2 : hd l1 = 123 ∨ hd l1 = 103 ∨ hd l1 = 71 := of_decide_eq_true hiG
          rw [if_pos hiG]
          have h1 := RanOk.one (A := A) (od := o'.1) hRR (by rw [hoa]; exact noAh (by omega) (by omega) (by omega))
          obtain ⟨pre, mid, post, ht, rfl, rfl⟩ := split3 (t := A.1) h1.1 h1.2.1 h1.2.2.1
          rw [show seg A.1 (pre.length + 1) (pre.length + mid.length) = mid by rw [ht, segz]]
          (repeat (first | (refine TW.getf rfl rfl rfl (fun _ => ?_)) | (refine TW.pl rfl rfl ?_)))
          refine TW.cv1 rfl rfl rfl (Nat.le_of_ble_eq_true rfl) (T_each (od := o') (A := A) (f := 0) (e := 0) hs4 hg4 hA4 hw hsx hG (by omega) (by omega) ht hc4 hcR hn) ?_
          rintro r τ5 ⟨e1, e2, e3⟩
          have hq5 := hq4.trans e1.q
          revert e3
          cases sEachL o'.2 (sMet o'.1 mid) c A with
          | inl w1 =>
            rintro ⟨rfl, e5⟩
            (repeat (first | (refine TW.getf rfl rfl rfl (fun _ => ?_)) | (refine TW.pl rfl rfl ?_)))
            exact TW.iret rfl ⟨⟨hq5, e2⟩, rfl, e5⟩
          | inr q =>
            obtain ⟨c1, A1⟩ := q
            rintro ⟨rfl, e5, e6⟩
            (repeat (first | (refine TW.getf rfl rfl rfl (fun _ => ?_)) | (refine TW.pl rfl rfl ?_)))
            exact TW.iret rfl ⟨⟨hq5, e2⟩, rfl, by rw [e1.1.1 64 (by decide), h644]; exact hv, e5, e6⟩
        (repeat (first | (refine TW.getf rfl rfl rfl (fun _ => ?_)) | (refine TW.pl rfl rfl ?_)))
        refine TW.br rfl rfl (by first | omega | exact b2i_R _ | exact ⟨b2i_R _, by omega⟩) (fun q5 => ?_) (fun q5 => ?_)
        · rcases hcase with ⟨z1, z2⟩ | ⟨z1, z2⟩
          · have hiG2 : hd l1 = 123 ∨ hd l1 = 103 ∨ hd l1 = 71 := of_decide_eq_true z1
            (repeat (first | (refine TW.getf rfl rfl rfl (fun _ => ?_)) | (refine TW.pl rfl rfl ?_)))
            refine TW.br rfl rfl (by first | omega | exact b2i_R _ | exact ⟨b2i_R _, by omega⟩) (fun q6 => ?_) (fun q6 => ?_)
            · exact each z2 z1
            (repeat (first | (refine TW.getf rfl rfl rfl (fun _ => ?_)) | (refine TW.pl rfl rfl ?_)))
            refine TW.br rfl rfl (by first | omega | exact b2i_R _ | exact ⟨b2i_R _, by omega⟩) (fun q7 => ?_) (fun q7 => ?_)
            · exact each z2 z1
            (repeat (first | (refine TW.getf rfl rfl rfl (fun _ => ?_)) | (refine TW.pl rfl rfl ?_)))
            refine TW.br rfl rfl (by first | omega | exact b2i_R _ | exact ⟨b2i_R _, by omega⟩) (fun q8 => ?_) (fun q8 => ?_)
            · omega
            · exact each z2 z1
          · have hiG2 : ¬ (hd l1 = 123 ∨ hd l1 = 103 ∨ hd l1 = 71) := of_decide_eq_false z1
            rw [if_neg (by rw [z1]; decide)]
            obtain ⟨g1, g2, g3, g4, g5⟩ := pAct_out z2
            have hout : isOut (hd l1) = false := by
              unfold isOut
              rw [← Bool.not_eq_true]
              intro z
              have := List.contains_iff_mem.mp z
              simp at this
              omega
            (repeat (first | (refine TW.getf rfl rfl rfl (fun _ => ?_)) | (refine TW.pl rfl rfl ?_)))
            refine TW.br rfl rfl (by first | omega | exact b2i_R _ | exact ⟨b2i_R _, by omega⟩) (fun q6 => ?_) (fun q6 => ?_)
            · omega
            (repeat (first | (refine TW.getf rfl rfl rfl (fun _ => ?_)) | (refine TW.pl rfl rfl ?_)))
            refine TW.br rfl rfl (by first | omega | exact b2i_R _ | exact ⟨b2i_R _, by omega⟩) (fun q7 => ?_) (fun q7 => ?_)
            · omega
            (repeat (first | (refine TW.getf rfl rfl rfl (fun _ => ?_)) | (refine TW.pl rfl rfl ?_)))
            refine TW.br rfl rfl (by first | omega | exact b2i_R _ | exact ⟨b2i_R _, by omega⟩) (fun q8 => ?_) (fun q8 => ?_)
            · (repeat (first | (refine TW.getf rfl rfl rfl (fun _ => ?_)) | (refine TW.pl rfl rfl ?_)))
              refine TW.cv1 rfl rfl rfl (Nat.le_of_ble_eq_true rfl) (T_act (od := o'.1) hs4 hA4 hw hsx g1 hoa hout g5 h48 hfv hev hRR (by omega)) ?_
              rintro r τ5 ⟨e1, e3⟩
              have hg5 : GS τ5 := hg4.fr e1.1 (by decide) (by decide)
              have hq5 := hq4.trans e1.o.e.q
              have hc5 : τ5.1 45 = c := (e1.1.1 45 (by decide)).trans hc4
              revert e3
              cases hS : sAct A o'.1 f e with
              | inl w1 =>
                intro e3
                have e3 : r = some (w1 : Int) := e3
                subst e3
                exact TW.iret rfl ⟨⟨hq5, hg5⟩, rfl, sAct_pos hS⟩
              | inr A1 =>
                rintro ⟨rfl, e6⟩
                exact TW.iret rfl ⟨⟨hq5, hg5⟩, rfl, by rw [e1.1.1 64 (by decide), h644]; exact hv, hc5, e6⟩
            · omega
        · exact absurd q5 (by decide)
    (repeat (first | (refine TW.getf rfl rfl rfl (fun _ => ?_)) | (refine TW.pl rfl rfl ?_)))
    refine TW.br rfl rfl (by first | omega | exact b2i_R _ | exact ⟨b2i_R _, by omega⟩) (fun q2 => ?_) (fun q2 => ?_)
    · exact steer (by rw [q2]; rfl)
    (repeat (first | (refine TW.getf rfl rfl rfl (fun _ => ?_)) | (refine TW.pl rfl rfl ?_)))
    refine TW.br rfl rfl (by first | omega | exact b2i_R _ | exact ⟨b2i_R _, by omega⟩) (fun q3 => ?_) (fun q3 => ?_)
    · exact steer (by rw [q3]; rfl)
    (repeat (first | (refine TW.getf rfl rfl rfl (fun _ => ?_)) | (refine TW.pl rfl rfl ?_)))
    refine TW.br rfl rfl (by first | omega | exact b2i_R _ | exact ⟨b2i_R _, by omega⟩) (fun q4 => ?_) (fun q4 => ?_)
    · exact steer (by rw [q4]; rfl)
    (repeat (first | (refine TW.getf rfl rfl rfl (fun _ => ?_)) | (refine TW.pl rfl rfl ?_)))
    refine TW.br rfl rfl (by first | omega | exact b2i_R _ | exact ⟨b2i_R _, by omega⟩) (fun q5 => ?_) (fun q5 => ?_)
    · exact notst q2 q3 q4 q5
    · exact steer (by rw [q5]; rfl)
  (repeat (first | (refine TW.getf rfl rfl rfl (fun _ => ?_)) | (refine TW.pl rfl rfl ?_)))
  rcases hnx with ⟨z, hl⟩ | ⟨z, hpl⟩
  · subst z
    simp at hyl
    refine TW.br rfl rfl (by first | omega | exact b2i_R _ | exact ⟨b2i_R _, by omega⟩) (fun q0 => ?_) (fun q0 => ?_)
    · (iterate 2 (first | (refine TW.getf rfl rfl rfl (fun _ => ?_)) | (refine TW.pl rfl rfl ?_)))
      exact main _ (Or.inr ⟨hl, hn1⟩) (by omega)
    · omega
  · have hne2 := hd_ne z (by decide)
    have : 0 < l2.length := List.length_pos_iff.mpr hne2
    refine TW.br rfl rfl (by first | omega | exact b2i_R _ | exact ⟨b2i_R _, by omega⟩) (fun q0 => ?_) (fun q0 => ?_)
    · omega
    · (iterate 4 (first | (refine TW.getf rfl rfl rfl (fun _ => ?_)) | (refine TW.pl rfl rfl ?_)))
      exact main _ (hpl y hy) (by omega)
theorem T_isDeed {x : Int} {k : Nat} (hs : SgnIs σ s) (hg : GS σ) (hPk : Place s os k x) (hk : os[k]? = some o) : TM (d + 12) tk_isDeed [.inr 0, .inl x] σ (fun r τ => r = some (b2i (isDeedA (oAct o.1))) ∧ RdO σ s τ) := by
  have hkl : k < os.length := (List.getElem?_eq_some_iff.mp hk).1
  obtain ⟨o', l, l2, hoi, hx, hpo, h48, hnx⟩ := hPk.get hkl
  have hoo : o' = o := by rw [hk] at hoi; exact (Option.some.inj hoi).symm
  subst hoo
  obtain ⟨l1, w, hwh, hw0, hl1, hcase⟩ := pOrder_out hpo h48
  refine TM.of rfl rfl ?_
  (repeat (first | (refine TW.getf rfl rfl rfl (fun _ => ?_)) | (refine TW.pl rfl rfl ?_)))
  refine TW.cv1 rfl rfl rfl (Nat.le_of_ble_eq_true rfl) (T_readWhere hs hg hx hwh) ?_
  rintro _ τ ⟨rfl, hr, hwk⟩
  have ha := hr.2.1.at hwk.2.1 hl1
  rw [hw0.2.2.2]
  have no : isDeedA (hd l1) = false → TW (d + 11) tc_isDeed 23 [some (.inr 0), some (.inl x), some (.inl (hd l1))] [] τ (fun r τ => r = some (b2i (isDeedA (hd l1))) ∧ RdO σ s τ) := by
    intro z
    rw [z]
    (repeat (first | (refine TW.getf rfl rfl rfl (fun _ => ?_)) | (refine TW.pl rfl rfl ?_)))
    exact TW.zret rfl (Or.inl rfl) ⟨rfl, hr⟩
  (repeat (first | (refine TW.getf rfl rfl rfl (fun _ => ?_)) | (refine TW.pl rfl rfl ?_)))
  refine TW.iald (n := 60) rfl rfl rfl (by omega) (fun _ => ?_)
  rw [ha.1]
  (repeat (first | (refine TW.getf rfl rfl rfl (fun _ => ?_)) | (refine TW.pl rfl rfl ?_)))
  refine TW.br rfl rfl (by first | omega | exact b2i_R _ | exact ⟨b2i_R _, by omega⟩) (fun q1 => ?_) (fun q1 => ?_)
  · exact no (by rw [q1]; rfl)
  (repeat (first | (refine TW.getf rfl rfl rfl (fun _ => ?_)) | (refine TW.pl rfl rfl ?_)))
  refine TW.br rfl rfl (by first | omega | exact b2i_R _ | exact ⟨b2i_R _, by omega⟩) (fun q2 => ?_) (fun q2 => ?_)
  · exact no (by rw [q2]; rfl)
  (repeat (first | (refine TW.getf rfl rfl rfl (fun _ => ?_)) | (refine TW.pl rfl rfl ?_)))
  refine TW.br rfl rfl (by first | omega | exact b2i_R _ | exact ⟨b2i_R _, by omega⟩) (fun q3 => ?_) (fun q3 => ?_)
  · exact no (by rw [q3]; rfl)
  (repeat (first | (refine TW.getf rfl rfl rfl (fun _ => ?_)) | (refine TW.pl rfl rfl ?_)))
  refine TW.br rfl rfl (by first | omega | exact b2i_R _ | exact ⟨b2i_R _, by omega⟩) (fun q4 => ?_) (fun q4 => ?_)
  · exact no (by rw [q4]; rfl)
  · rw [show isDeedA (hd l1) = true by unfold isDeedA; exact decide_eq_true ⟨q1, q2, q3, q4⟩]
    (repeat (first | (refine TW.getf rfl rfl rfl (fun _ => ?_)) | (refine TW.pl rfl rfl ?_)))
    exact TW.zret rfl (Or.inr rfl) ⟨rfl, hr⟩
end TAll
