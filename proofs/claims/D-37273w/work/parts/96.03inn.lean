set_option maxRecDepth 100000
/-! the twin's inner orders -/
abbrev fO : List Nat := [12, 14, 15, 16, 17, 20, 23, 24, 25, 26, 27, 28, 29, 30, 33, 34, 35, 36, 37, 40, 41, 42, 43, 44, 45]
abbrev aO : List Nat := [6, 7, 9, 10, 11, 19, 31, 32, 38, 39]
def OF (σ τ : TS) : Prop := TFr fO aO σ τ ∧ RSame (fun k => k < 480) σ τ
theorem AF.o {σ τ : TS} (h : AF σ τ) : OF σ τ := ⟨h.1.mono (by decide) (by decide), h.2⟩
theorem OF.rf {σ : TS} : OF σ σ := ⟨TFr.rf, fun _ _ => rfl⟩
theorem OF.trans {σ τ υ : TS} (h : OF σ τ) (h2 : OF τ υ) : OF σ υ := ⟨h.1.trans h2.1, fun j hj => (h2.2 j hj).trans (h.2 j hj)⟩
theorem OF.fr {σ τ : TS} {fs as : List Nat} (h : TFr fs as σ τ) (h1 : ∀ k ∈ fs, k ∈ fO) (h2 : ∀ k ∈ as, k ∈ aO) (h6 : 6 ∉ as) : OF σ τ := ⟨h.mono h1 h2, fun j _ => by rw [h.2 6 h6]⟩
theorem OF.sg {σ τ : TS} {s : List Int} (h : OF σ τ) (hs : SgnIs σ s) : SgnIs τ s := hs.fr h.1 (by decide) (by decide)
theorem GS.fr {σ τ : TS} {fs as : List Nat} (hg : GS σ) (h : TFr fs as σ τ) (h1 : 25 ∉ fs) (h2 : 26 ∉ fs) : GS τ := by
  unfold GS at hg ⊢
  rw [h.1 25 h1, h.1 26 h2]
  exact hg
theorem RdO.of {σ τ : TS} {s : List Int} (h : RdO σ s τ) : OF σ τ := OF.fr h.1 (by decide) (by decide) (by decide)
theorem RdO.ta {σ τ : TS} {s : List Int} {A : St} (h : RdO σ s τ) (hA : TA A σ) : TA A τ := hA.fr h.1 (by decide) (by decide)
/-- an act's answer, an order's answer -/
def InQ (σ : TS) (R : Nat ⊕ (Nat × St)) (r : Option Int) (τ : TS) : Prop := OF σ τ ∧ GS τ ∧ match R with
  | .inl w => r = some (w : Int) ∧ 1 ≤ w ∧ w ≤ 7
  | .inr (c, A) => r = some 0 ∧ (τ.1 45) = c ∧ TA A τ
theorem sIns_pos {A : St} {b w : Nat} {rs : List (List Int)} (h : sIns A b rs = .inl w) : 1 ≤ w ∧ w ≤ 7 := by
  obtain ⟨t, p, hh, o, fi, m, n, rp⟩ := A
  unfold sIns at h
  dsimp only at h
  split at h
  · cases h; omega
  · cases h
section TInn
variable {d : Nat} {σ τ : TS} {s l l1 l2 : List Int} {A : St} {od : SOrd0}
theorem sAct_pos {f e w : Nat} (h : sAct A od f e = .inl w) : 1 ≤ w ∧ w ≤ 7 := by
  by_cases c1 : oAct od = 97
  · rw [sAct_97 c1] at h; exact sIns_pos h
  by_cases c2 : oAct od = 105
  · rw [sAct_105 c2] at h; exact sIns_pos h
  by_cases c3 : oAct od = 99
  · rw [sAct_99 c3] at h; exact sIns_pos h
  by_cases c4 : oAct od = 100
  · rw [sAct_100 c4] at h
    obtain ⟨t, p, hh, o, fi, m, n, rp⟩ := A
    cases h
  by_cases c5 : oAct od = 106
  · rw [sAct_106 c5] at h
    obtain ⟨t, p, hh, o, fi, m, n, rp⟩ := A
    unfold sJoin at h
    dsimp only at h
    generalize (if f = e then f + 1 else e) = e2 at h
    split at h
    · cases h; omega
    · split at h
      · cases h; omega
      · cases h
  by_cases c6 : oAct od = 118
  · rw [sAct_118 c6] at h
    obtain ⟨t, p, hh, o, fi, m, n, rp⟩ := A
    unfold sPart at h
    dsimp only at h
    generalize sPartL (oNum od).toNat (40 - t.length) n (seg t f e) = R at h
    cases R with
    | none => cases h; omega
    | some q => cases h
  by_cases c7 : oAct od = 108
  · rw [sAct_108 c7] at h; cases h
  by_cases c8 : oAct od = 112 ∨ oAct od = 110
  · rw [sAct_p c8] at h
    obtain ⟨t, p, hh, o, fi, m, n, rp⟩ := A
    dsimp only at h
    generalize sPrint (decide (oAct od = 110)) f (rowsOfL (seg t f e)) o = R at h
    cases R with
    | none => cases h; omega
    | some q => cases h
  by_cases c9 : oAct od = 61
  · rw [sAct_61 c9] at h
    obtain ⟨t, p, hh, o, fi, m, n, rp⟩ := A
    dsimp only at h
    generalize sTell o (sNum e) = R at h
    cases R with
    | none => cases h; omega
    | some q => cases h
  have hold : ∀ k, sHold A k f e = .inl w → 1 ≤ w ∧ w ≤ 7 := by
    intro k h
    obtain ⟨t, p, hh, o, fi, m, n, rp⟩ := A
    unfold sHold at h
    dsimp only at h
    split at h
    · cases h; omega
    · cases h
  by_cases c10 : oAct od = 104
  · rw [sAct_104 c10] at h; exact hold _ h
  by_cases c11 : oAct od = 72
  · rw [sAct_72 c11] at h; exact hold _ h
  by_cases c12 : oAct od = 117
  · rw [sAct_117 c12] at h
    split at h
    · cases h; omega
    · exact sIns_pos h
  by_cases c13 : oAct od = 101
  · rw [sAct_101 c13] at h
    unfold sXch at h
    split at h
    · cases h; omega
    · cases h1 : sIns (sDel A f e) (f - 1) A.2.2.1 with
      | inl w1 => rw [h1] at h; cases h; exact sIns_pos h1
      | inr q => obtain ⟨t, p, hh, o, fi, m, n, rp⟩ := q; rw [h1] at h; cases h
  by_cases c14 : oAct od = 62 ∨ oAct od = 60 ∨ oAct od = 115 ∨ oAct od = 122
  · rw [sAct_ch c14] at h
    obtain ⟨t, p, hh, o, fi, m, n, rp⟩ := A
    unfold sChange at h
    dsimp only at h
    generalize sChgL od (seg t f e) rp = R at h
    cases R with
    | none => cases h; omega
    | some q => cases h
  by_cases c15 : oAct od = 111 ∨ oAct od = 79
  · rw [sAct_so c15] at h; cases h
  by_cases c16 : oAct od = 109
  · rw [sAct_109 c16] at h
    cases h1 : sAdr A ((oTgt od).getD (0, 0, noPat, 0, false)) with
    | inl w1 => rw [h1] at h; cases h; have := sAdr_pos h1; omega
    | inr to =>
      rw [h1] at h
      obtain ⟨t, p, hh, o, fi, m, n, rp⟩ := A
      dsimp only at h
      unfold sMove at h
      dsimp only at h
      split at h
      · cases h; omega
      · cases h
  by_cases c17 : oAct od = 116
  · rw [sAct_116 c17] at h
    cases h1 : sAdr A ((oTgt od).getD (0, 0, noPat, 0, false)) with
    | inl w1 => rw [h1] at h; cases h; have := sAdr_pos h1; omega
    | inr to => rw [h1] at h; exact sIns_pos h
  by_cases c18 : oAct od = 114
  · rw [sAct_114 c18] at h
    split at h
    · cases h
    · exact sIns_pos h
  by_cases c19 : oAct od = 119
  · rw [sAct_119 c19] at h
    obtain ⟨t, p, hh, o, fi, m, n, rp⟩ := A
    cases h
  obtain ⟨t, p, hh, o, fi, m, n, rp⟩ := A
  unfold sAct at h
  rw [if_neg c1, if_neg c2, if_neg c3, if_neg c4, if_neg c5, if_neg c6, if_neg c7, if_neg c8, if_neg c9, if_neg c10, if_neg c11, if_neg c12, if_neg c13, if_neg c14, if_neg c15, if_neg c16, if_neg c17, if_neg c18, if_neg c19] at h
  cases h
theorem pInner_out (h : pInner l = .inr (l2, od)) : ∃ l1 w, pWhere l = .inr (l1, w) ∧ pAct true w l1 = .inr (l2, od) := by
  unfold pInner at h
  cases hp : pWhere l with
  | inl f => rw [hp] at h; cases h
  | inr q => obtain ⟨l1, w⟩ := q; rw [hp] at h; exact ⟨l1, w, rfl, h⟩
def sStep (A : St) (od : SOrd0) (c : Nat) : Nat ⊕ (Nat × St) := if c = 60 then .inl 7 else match sPlain A od with
  | .inl w => .inl w
  | .inr A1 => .inr (c + 1, A1)
theorem wf_plain {A' : St} (hw : WF A) (hp : pInner l = .inr (l2, od)) (h48 : ¬ hd l2 = 48) (hs : sPlain A od = .inr A') : WFn A.2.2.2.2.2.2.1 A' := by
  obtain ⟨l1, w, h1, h2⟩ := pInner_out hp
  obtain ⟨g1, g2, g3, g4, g5⟩ := pAct_out h2
  unfold sPlain at hs
  cases hr : sRange A od with
  | inl w1 => rw [hr] at hs; cases hs
  | inr q =>
    obtain ⟨f, e⟩ := q
    rw [hr] at hs
    exact wf_act hw g2.2.2.2 (g3 rfl) g5 h48 (sRange_R hw.1.1 hr) hs
theorem T_doInner {x : Int} {c : Nat} (hs : SgnIs σ s) (hg : GS σ) (hA : TA A σ) (hw : WF A) (hx : Sfx s l x) (hp : pInner l = .inr (l2, od)) (h48 : ¬ hd l2 = 48) (hc : (σ.1 45) = c) (hcR : c ≤ 60) (hn : A.2.2.2.2.2.2.1 < 900000) : TM (d + 12) tk_doInner [.inr 0, .inl x] σ (InQ σ (sStep A od c)) := by
  obtain ⟨l1, w, h1, h2⟩ := pInner_out hp
  obtain ⟨g1, g2, g3, g4, g5⟩ := pAct_out h2
  unfold sStep
  refine TM.of rfl rfl ?_
  (repeat (first | (refine TW.getf rfl rfl rfl (fun _ => ?_)) | (refine TW.pl rfl rfl ?_)))
  refine TW.br rfl rfl (by first | omega | exact b2i_R _ | exact ⟨b2i_R _, by omega⟩) (fun q0 => ?_) (fun q0 => ?_)
  rotate_left
  · rw [if_pos (by omega)]
    (repeat (first | (refine TW.getf rfl rfl rfl (fun _ => ?_)) | (refine TW.pl rfl rfl ?_)))
    exact TW.iret rfl ⟨OF.rf, hg, rfl, by decide⟩
  rw [if_neg (by omega)]
  (repeat (first | (refine TW.getf rfl rfl rfl (fun _ => ?_)) | (refine TW.pl rfl rfl ?_)))
  refine TW.putf rfl rfl (by omega) ?_
  have f0 : TFr [45] [] σ (ts1 σ 45 (σ.1 45 + 1)) := TFr.rf.ts1 (by decide)
  have hc1 : (ts1 σ 45 (σ.1 45 + 1)).1 45 = ((c + 1 : Nat) : Int) := by rw [ts1_eq]; omega
  have hA0 := hA.fr f0 (by decide) (by decide)
  have hs0 := hs.fr f0 (by decide) (by decide)
  have hg0 : GS (ts1 σ 45 (σ.1 45 + 1)) := hg.fr f0 (by decide) (by decide)
  have ho0 : OF σ (ts1 σ 45 (σ.1 45 + 1)) := OF.fr f0 (by decide) (by decide) (by decide)
  generalize ts1 σ 45 (σ.1 45 + 1) = σ1 at f0 hc1 hA0 hs0 hg0 ho0 ⊢
  (repeat (first | (refine TW.getf rfl rfl rfl (fun _ => ?_)) | (refine TW.pl rfl rfl ?_)))
  refine TW.cv1 rfl rfl rfl (Nat.le_of_ble_eq_true rfl) (T_readWhere hs0 hg0 hx h1) ?_
  rintro _ τ1 ⟨rfl, hr1, hk⟩
  have hA1 := hr1.ta hA0
  have hs1 := hr1.2.1
  have hg1 := hr1.2.2
  have hc2 : τ1.1 45 = ((c + 1 : Nat) : Int) := (hr1.1.1 45 (by decide)).trans hc1
  have ho1 := ho0.trans hr1.of
  have hsx := hk.2.1
  (repeat (first | (refine TW.getf rfl rfl rfl (fun _ => ?_)) | (refine TW.pl rfl rfl ?_)))
  refine TW.cv0 rfl rfl rfl (Nat.le_of_ble_eq_true rfl) (T_range hs1 hA1 hw hk g1 g2 (pWhere_ok h1) (by omega)) ?_
  rintro r τ2 ⟨hf2, hq⟩
  have hA2 := hA1.fr hf2 (by decide) (by decide)
  have hs2 := hs1.fr hf2 (by decide) (by decide)
  have hg2 : GS τ2 := hg1.fr hf2 (by decide) (by decide)
  have hc3 : τ2.1 45 = ((c + 1 : Nat) : Int) := (hf2.1 45 (by decide)).trans hc2
  have ho2 := ho1.trans (OF.fr hf2 (by decide) (by decide) (by decide))
  unfold sPlain
  revert hq
  cases hR : sRange A od with
  | inl w1 =>
    intro hq
    have hq : r = some (w1 : Int) := hq
    subst hq
    have hw1 := sRange_pos hR
    dsimp only
    (repeat (first | (refine TW.getf rfl rfl rfl (fun _ => ?_)) | (refine TW.pl rfl rfl ?_)))
    refine TW.br rfl rfl (by first | omega | exact b2i_R _ | exact ⟨b2i_R _, by omega⟩) (fun q1 => ?_) (fun q1 => ?_)
    · omega
    · (repeat (first | (refine TW.getf rfl rfl rfl (fun _ => ?_)) | (refine TW.pl rfl rfl ?_)))
      exact TW.iret rfl ⟨ho2, hg2, rfl, by omega⟩
  | inr q =>
    obtain ⟨f, e⟩ := q
    rintro ⟨rfl, hf, he⟩
    dsimp only
    have hact : τ2.1 30 = τ1.1 30 := hf2.1 30 (by decide)
    (repeat (first | (refine TW.getf rfl rfl rfl (fun _ => ?_)) | (refine TW.pl rfl rfl ?_)))
    refine TW.br rfl rfl (by first | omega | exact b2i_R _ | exact ⟨b2i_R _, by omega⟩) (fun q1 => ?_) (fun q1 => ?_)
    · (repeat (first | (refine TW.getf rfl rfl rfl (fun _ => ?_)) | (refine TW.pl rfl rfl ?_)))
      refine TW.cv1 rfl rfl rfl (Nat.le_of_ble_eq_true rfl) (T_act hs2 hA2 hw hsx g1 g2.2.2.2 (g3 rfl) g5 h48 hf he (sRange_R hw.1.1 hR) hn) ?_
      rintro r τ3 ⟨hf3, hq3⟩
      have hc4 : τ3.1 45 = ((c + 1 : Nat) : Int) := (hf3.1.1 45 (by decide)).trans hc3
      have hg3 : GS τ3 := hg2.fr hf3.1 (by decide) (by decide)
      have ho3 := ho2.trans hf3.o
      revert hq3
      cases hS : sAct A od f e with
      | inl w2 =>
        intro hq3
        have hq3 : r = some (w2 : Int) := hq3
        subst hq3
        exact TW.iret rfl ⟨ho3, hg3, rfl, sAct_pos hS⟩
      | inr A1 =>
        rintro ⟨rfl, hA3⟩
        exact TW.iret rfl ⟨ho3, hg3, rfl, hc4, hA3⟩
    · exact absurd q1 (by decide)
theorem sInn_cons {os : List SOrd0} {c : Nat} : sInn (od :: os) c A = match sStep A od c with
  | .inl w => .inl w
  | .inr (c1, A1) => sInn os c1 A1 := by
  unfold sStep
  show (if c = 60 then (.inl 7 : Nat ⊕ (Nat × St)) else match sPlain A od with | .inl w => .inl w | .inr A1 => sInn os (c + 1) A1) = _
  by_cases hc : c = 60
  · rw [if_pos hc, if_pos hc]
  · rw [if_neg hc, if_neg hc]
    cases sPlain A od <;> rfl
/-- the orders of a block, or one order -/
def PartsP (l : List Int) (os : List SOrd0) : Prop := (hd l = 123 ∧ ∃ k lx, pInners k l.tail = .inr (lx, os) ∧ hd lx = 125) ∨ (¬ hd l = 123 ∧ l ≠ [] ∧ ∃ o l1, os = [o] ∧ pInner l = .inr (l1, o) ∧ ¬ hd l1 = 48)
theorem pInners_out {k : Nat} {os : List SOrd0} (h : pInners k l = .inr (l1, os)) : ∃ o l2, pInner l = .inr (l2, o) ∧ ((¬ hd l2 = 59 ∧ os = [o] ∧ l1 = l2) ∨ (hd l2 = 59 ∧ ∃ k' os', os = o :: os' ∧ pInners k' l2.tail = .inr (l1, os'))) := by
  unfold pInners at h
  cases hp : pInner l with
  | inl f => rw [hp] at h; cases h
  | inr q =>
    obtain ⟨l2, o⟩ := q
    rw [hp] at h
    dsimp only at h
    refine ⟨o, l2, rfl, ?_⟩
    split at h
    · rename_i h59
      cases k with
      | zero => cases h
      | succ k =>
        dsimp only at h
        cases hp2 : pInners k l2.tail with
        | inl f => rw [hp2] at h; cases h
        | inr q =>
          obtain ⟨l3, os'⟩ := q
          rw [hp2] at h
          cases h
          exact Or.inr ⟨h59, k, os', rfl, hp2⟩
    · rename_i h59
      cases h
      exact Or.inl ⟨h59, rfl, rfl⟩
theorem sStep_wf {A' : St} {c c1 : Nat} (hw : WF A) (hp : pInner l = .inr (l2, od)) (h48 : ¬ hd l2 = 48) (hs : sStep A od c = .inr (c1, A')) : WFn A.2.2.2.2.2.2.1 A' ∧ c1 = c + 1 ∧ c ≠ 60 := by
  unfold sStep at hs
  split at hs
  · cases hs
  · rename_i hc
    cases h1 : sPlain A od with
    | inl w => rw [h1] at hs; cases hs
    | inr A1 =>
      rw [h1] at hs
      cases hs
      exact ⟨wf_plain hw hp h48 h1, rfl, hc⟩
theorem T_doParts {x : Int} {c : Nat} {os : List SOrd0} (hs : SgnIs σ s) (hg : GS σ) (hA : TA A σ) (hw : WF A) (hx : Sfx s l x) (hp : PartsP l os) (hc : (σ.1 45) = c) (hcR : c ≤ 60) (hn : A.2.2.2.2.2.2.1 + 40 * (60 - (c : Int)) < 900000) : TM (d + 15) tk_doParts [.inr 0, .inl x] σ (InQ σ (sInn os c A)) := by
  have hl0 : l ≠ [] := by
    rcases hp with ⟨h, _⟩ | ⟨_, h, _⟩
    · exact hd_ne h (by decide)
    · exact h
  have ha := hs.at hx hl0
  refine TM.of rfl rfl ?_
  (repeat (first | (refine TW.getf rfl rfl rfl (fun _ => ?_)) | (refine TW.pl rfl rfl ?_)))
  refine TW.iald (n := 60) rfl rfl rfl (by omega) (fun _ => ?_)
  rw [ha.1]
  (repeat (first | (refine TW.getf rfl rfl rfl (fun _ => ?_)) | (refine TW.pl rfl rfl ?_)))
  refine TW.br rfl rfl (by first | omega | exact b2i_R _ | exact ⟨b2i_R _, by omega⟩) (fun q0 => ?_) (fun q0 => ?_)
  · have h123 : hd l = 123 := q0
    rcases hp with ⟨-, k, lx, hpp, hlx⟩ | ⟨h, _⟩
    rotate_left
    · exact absurd h123 h
    have hx1 : Sfx s l.tail (x + 1) := hx.step hl0 rfl
    (iterate 6 (first | (refine TW.getf rfl rfl rfl (fun _ => ?_)) | (refine TW.pl rfl rfl ?_)))
    have loop : ∀ (os : List SOrd0) (k : Nat) (l : List Int) (v : Int) (o4 : Option TV) (c : Nat) (A : St) (τ : TS), pInners k l = .inr (lx, os) → Sfx s l v → TA A τ → WF A → GS τ → (τ.1 45) = c → c ≤ 60 → A.2.2.2.2.2.2.1 + 40 * (60 - (c : Int)) < 900000 → OF σ τ → TW (d + 14) tc_doParts 16 [some (.inr 0), some (.inl x), some (.inl v), some (.inl 1), o4] [] τ (InQ σ (sInn os c A)) := by
      intro os
      induction os with
      | nil =>
        intro k l v o4 c A τ hpp
        obtain ⟨o, l2, h1, h2⟩ := pInners_out hpp
        rcases h2 with ⟨_, z, _⟩ | ⟨_, _, _, z, _⟩ <;> cases z
      | cons o os ih =>
        intro k l v o4 c A τ hpp hv hA' hw' hg' hc' hcR' hn' ho
        obtain ⟨o', l2, h1, h2⟩ := pInners_out hpp
        have ho' : o' = o := by
          rcases h2 with ⟨_, z, _⟩ | ⟨_, _, _, z, _⟩ <;> (cases z; rfl)
        subst ho'
        have h48 : ¬ hd l2 = 48 := by
          rcases h2 with ⟨_, _, z⟩ | ⟨z, _⟩
          · rw [← z, hlx]; decide
          · rw [z]; decide
        have hs' := ho.sg hs
        have hne2 : l2 ≠ [] := by
          rcases h2 with ⟨_, _, z⟩ | ⟨z, _⟩
          · rw [← z]; exact hd_ne hlx (by decide)
          · exact hd_ne z (by decide)
        rw [sInn_cons]
        (repeat (first | (refine TW.getf rfl rfl rfl (fun _ => ?_)) | (refine TW.pl rfl rfl ?_)))
        refine TW.br rfl rfl (by first | omega | exact b2i_R _ | exact ⟨b2i_R _, by omega⟩) (fun q1 => ?_) (fun q1 => ?_)
        · exact absurd q1 (by decide)
        (repeat (first | (refine TW.getf rfl rfl rfl (fun _ => ?_)) | (refine TW.pl rfl rfl ?_)))
        refine TW.cv1 rfl rfl rfl (Nat.le_of_ble_eq_true rfl) (T_doInner hs' hg' hA' hw' hv h1 h48 hc' hcR' (by omega)) ?_
        rintro r τ1 ⟨ho1, hg1, hq⟩
        have ho2 := ho.trans ho1
        revert hq
        cases hS : sStep A o' c with
        | inl w =>
          rintro ⟨rfl, hw1⟩
          (repeat (first | (refine TW.getf rfl rfl rfl (fun _ => ?_)) | (refine TW.pl rfl rfl ?_)))
          refine TW.br rfl rfl (by first | omega | exact b2i_R _ | exact ⟨b2i_R _, by omega⟩) (fun q2 => ?_) (fun q2 => ?_)
          · omega
          · (repeat (first | (refine TW.getf rfl rfl rfl (fun _ => ?_)) | (refine TW.pl rfl rfl ?_)))
            exact TW.iret rfl ⟨ho2, hg1, rfl, hw1⟩
        | inr q =>
          obtain ⟨c1, A1⟩ := q
          rintro ⟨rfl, hc1, hA1⟩
          obtain ⟨hwn, rfl, hc60⟩ := sStep_wf hw' h1 h48 hS
          have hs1 := ho2.sg hs
          (repeat (first | (refine TW.getf rfl rfl rfl (fun _ => ?_)) | (refine TW.pl rfl rfl ?_)))
          refine TW.br rfl rfl (by first | omega | exact b2i_R _ | exact ⟨b2i_R _, by omega⟩) (fun q2 => ?_) (fun q2 => ?_)
          · (repeat (first | (refine TW.getf rfl rfl rfl (fun _ => ?_)) | (refine TW.pl rfl rfl ?_)))
            refine TW.cv2 rfl rfl rfl (Nat.le_of_ble_eq_true rfl) (T_endI hs1 hg1 hv h1) ?_
            rintro _ τ2 ⟨⟨y, rfl, hy⟩, hr2⟩
            have ho3 := ho2.trans hr2.of
            have hb := hr2.2.1.at hy hne2
            have hA2 := hr2.ta hA1
            (repeat (first | (refine TW.getf rfl rfl rfl (fun _ => ?_)) | (refine TW.pl rfl rfl ?_)))
            refine TW.iald (n := 60) rfl rfl rfl (by omega) (fun _ => ?_)
            rw [hb.1]
            (repeat (first | (refine TW.getf rfl rfl rfl (fun _ => ?_)) | (refine TW.pl rfl rfl ?_)))
            refine TW.br rfl rfl (by first | omega | exact b2i_R _ | exact ⟨b2i_R _, by omega⟩) (fun q3 => ?_) (fun q3 => ?_)
            · rcases h2 with ⟨_, hos, hl2⟩ | ⟨z, _⟩
              · have hos2 : os = [] := by cases hos; rfl
                subst hos2
                (repeat (first | (refine TW.getf rfl rfl rfl (fun _ => ?_)) | (refine TW.pl rfl rfl ?_)))
                refine TW.br rfl rfl (by first | omega | exact b2i_R _ | exact ⟨b2i_R _, by omega⟩) (fun q4 => ?_) (fun q4 => ?_)
                · (repeat (first | (refine TW.getf rfl rfl rfl (fun _ => ?_)) | (refine TW.pl rfl rfl ?_)))
                  exact TW.iret rfl ⟨ho3, hr2.2.2, rfl, (hr2.1.1 45 (by decide)).trans hc1, hA2⟩
                · exact absurd rfl q4
              · exact absurd z q3
            · rcases h2 with ⟨z, _⟩ | ⟨z, k', os', hos, hpp'⟩
              · exact absurd q3 z
              · have hos2 : os' = os := by cases hos; rfl
                subst hos2
                (iterate 5 (first | (refine TW.getf rfl rfl rfl (fun _ => ?_)) | (refine TW.pl rfl rfl ?_)))
                exact ih k' l2.tail (y + 1) _ (c + 1) A1 τ2 hpp' (hy.step hne2 rfl) hA2 hwn.1 hr2.2.2 ((hr2.1.1 45 (by decide)).trans hc1) (by omega) (by have := hwn.2.2; omega) ho3
          · exact absurd q2 (by decide)
    exact loop os k l.tail (x + 1) none c A σ hpp hx1 hA hw hg hc hcR hn OF.rf
  · have h123 : ¬ hd l = 123 := q0
    rcases hp with ⟨h, _⟩ | ⟨-, -, o, l1, rfl, hpi, h48⟩
    · exact absurd h h123
    (repeat (first | (refine TW.getf rfl rfl rfl (fun _ => ?_)) | (refine TW.pl rfl rfl ?_)))
    refine TW.cv1 rfl rfl rfl (Nat.le_of_ble_eq_true rfl) (T_doInner hs hg hA hw hx hpi h48 hc hcR (by omega)) ?_
    rintro r τ1 ⟨ho1, hg1, hq⟩
    rw [sInn_cons]
    revert hq
    cases hS : sStep A o c with
    | inl w =>
      rintro ⟨rfl, hw1⟩
      exact TW.iret rfl ⟨ho1, hg1, rfl, hw1⟩
    | inr q =>
      obtain ⟨c1, A1⟩ := q
      rintro ⟨rfl, hc1, hA1⟩
      exact TW.iret rfl ⟨ho1, hg1, rfl, hc1, hA1⟩
end TInn
