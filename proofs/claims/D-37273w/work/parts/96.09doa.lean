set_option maxRecDepth 100000
/-! all orders: in order; the twin's doAll -/
def OrdOk (o : SOrd) : Prop := ∃ l l2, pOrder l = .inr (l2, o) ∧ ¬ hd l2 = 48
theorem WF.setR {A : St} (hw : WF A) (b : Bool) : WF (setR A b) := by obtain ⟨t, p, h, o, fi, m, n, rp⟩ := A; exact hw
theorem setR_nid {A : St} {b : Bool} : (setR A b).2.2.2.2.2.2.1 = A.2.2.2.2.2.2.1 := by obtain ⟨t, p, h, o, fi, m, n, rp⟩ := A; rfl
section SOneWf
variable {A : St} {os : List SOrd} {o : SOrd} {s : List Int}
theorem sSteer_wf {k j : Nat} {A1 : St} (hw : WF A) (h : sSteer os k o.1 A = .inr (j, A1)) : WF A1 ∧ A1.2.2.2.2.2.2.1 = A.2.2.2.2.2.2.1 := by
  rw [sSteer_def] at h
  have h1 : ∀ {j A1}, sOne1 os k o.1 A = .inr (j, A1) → WF A1 ∧ A1.2.2.2.2.2.2.1 = A.2.2.2.2.2.2.1 := by
    intro j A1 h
    unfold sOne1 at h
    split at h
    · cases h; exact ⟨hw, rfl⟩
    · split at h
      · split at h
        · cases h
        · rename_i hne
          cases h
          have := hw.1.1
          exact ⟨hw.setP ⟨by omega, by omega⟩, rfl⟩
      · split at h
        · cases hj : sJump os o.1 with
          | inl w => rw [hj] at h; cases h
          | inr j' => rw [hj] at h; cases h; exact ⟨hw, rfl⟩
        · split at h
          · cases hj : sJump os o.1 with
            | inl w => rw [hj] at h; cases h
            | inr j' => rw [hj] at h; cases h; exact ⟨hw.setR _, setR_nid⟩
          · cases h; exact ⟨hw, rfl⟩
  split at h
  · cases hr : sRange A o.1 with
    | inl w => rw [hr] at h; cases h
    | inr q =>
      obtain ⟨f, e⟩ := q
      rw [hr] at h
      dsimp only at h
      split at h
      · exact h1 h
      · cases h; exact ⟨hw, rfl⟩
  · exact h1 h
theorem sOne_wf {k c j c1 : Nat} {A1 : St} (ho : OrdOk o) (hw : WF A) (hc : c ≤ 60) (h : sOne os k o c A = .inr (j, c1, A1)) : WF A1 ∧ c ≤ c1 ∧ c1 ≤ 60 ∧ A.2.2.2.2.2.2.1 ≤ A1.2.2.2.2.2.2.1 ∧ A1.2.2.2.2.2.2.1 ≤ A.2.2.2.2.2.2.1 + 40 * ((c1 : Int) - c + 1) := by
  obtain ⟨l, l2, hp, h48⟩ := ho
  obtain ⟨l1, w, hwh, hw0, hl1, hcase⟩ := pOrder_out hp h48
  unfold sOne at h
  split at h
  · cases h; exact ⟨hw, Nat.le_refl _, hc, Int.le_refl _, by omega⟩
  · rename_i n58
    split at h
    · cases hs : sSteer os k o.1 A with
      | inl w1 => rw [hs] at h; cases h
      | inr q =>
        obtain ⟨j', A'⟩ := q
        rw [hs] at h
        cases h
        have := sSteer_wf hw hs
        exact ⟨this.1, Nat.le_refl _, hc, by omega, by omega⟩
    · rename_i nst
      cases hs : sOrd A o c with
      | inl w1 => rw [hs] at h; cases h
      | inr q =>
        obtain ⟨c', A'⟩ := q
        rw [hs] at h
        cases h
        unfold sOrd at hs
        cases hr : sRange A o.1 with
        | inl w1 => rw [hr] at hs; cases hs
        | inr q =>
          obtain ⟨f, e⟩ := q
          rw [hr] at hs
          dsimp only at hs
          rcases hcase with ⟨z1, z2⟩ | ⟨z1, z2⟩
          · rw [hw0.2.2.2, if_pos z1] at hs
            obtain ⟨v1, v2, v3, v4, v5⟩ := sEachL_wf o.2 z2.ok _ c A c1 A1 hw hc hs
            exact ⟨v1, v2, v3, v4, by omega⟩
          · rw [hw0.2.2.2, if_neg (by rw [z1]; decide)] at hs
            cases ha : sAct A o.1 f e with
            | inl w1 => rw [ha] at hs; cases hs
            | inr A' =>
              rw [ha] at hs
              cases hs
              obtain ⟨g1, g2, g3, g4, g5⟩ := pAct_out z2
              have nst2 : ¬ (hd l1 = 98 ∨ hd l1 = 84 ∨ hd l1 = 113 ∨ hd l1 = 78) := fun y => nst (by rw [hw0.2.2.2]; exact decide_eq_true y)
              rw [hw0.2.2.2] at n58
              have hout : isOut (hd l1) = false := by
                unfold isOut
                rw [← Bool.not_eq_true]
                intro z
                have := List.contains_iff_mem.mp z
                simp at this
                omega
              obtain ⟨v1, v2, v3⟩ := wf_act hw hw0.2.2.2 hout g5 h48 (sRange_R hw.1.1 hr) ha
              exact ⟨v1, Nat.le_refl _, hc, v2, by omega⟩
theorem Place.ok {k : Nat} {x : Int} (h : Place s os k x) (hk : os[k]? = some o) : OrdOk o := by
  have hkl : k < os.length := (List.getElem?_eq_some_iff.mp hk).1
  obtain ⟨o', l, l2, hoi, hx, hpo, h48, hnx⟩ := h.get hkl
  have hoo : o' = o := by rw [hk] at hoi; exact (Option.some.inj hoi).symm
  subst hoo
  exact ⟨l, l2, hpo, h48⟩
end SOneWf
theorem sOrders_place {s : List Int} {os : List SOrd} (h : sOrders s = .inr os) : Place s os 0 0 ∧ 0 < os.length := by
  unfold sOrders at h
  cases hp : pOrders s.length s with
  | inl f => rw [hp] at h; cases h
  | inr q =>
    obtain ⟨l, os'⟩ := q
    rw [hp] at h
    dsimp only at h
    split at h
    · rename_i hl
      cases h
      subst hl
      have hl : 0 < os.length := by
        obtain ⟨_, _, _, h8⟩ := pOrders_out hp
        rcases h8 with ⟨_, z, _⟩ | ⟨_, _, _, z, _⟩ <;> rw [z] <;> simp
      exact ⟨Or.inl ⟨hl, Sfx.all, s.length, hp⟩, hl⟩
    · cases h
abbrev fD : List Nat := [12, 14, 15, 16, 17, 18, 20, 23, 24, 25, 26, 27, 28, 29, 30, 33, 34, 35, 36, 37, 40, 41, 42, 43, 44, 45, 50, 51, 52, 53, 54, 61, 62, 63, 64]
abbrev aD : List Nat := [6, 7, 9, 10, 11, 19, 31, 32, 38, 39, 46, 47, 48, 49, 55, 56, 57, 58, 59, 60]
def AllQ (σ : TS) (s : List Int) (cl : Nat) (R : Nat × Nat × St × List SDeed) (r : Option Int) (τ : TS) : Prop := (TFr fD aD σ τ ∧ GS τ ∧ (τ.1 63) = cl) ∧ r = some (R.1 : Int) ∧ (τ.1 18) = R.2.1 ∧ TA0 R.2.2.1 τ ∧ DeedsIs τ R.2.2.2
section TDoa
variable {d : Nat} {σ τ : TS} {s : List Int} {A : St} {os : List SOrd} {ds : List SDeed}
theorem T_doAll {cl : Nat} (hs : SgnIs σ s) (hg : GS σ) (hA : TA0 A σ) (hw : WF A) (hos : sOrders s = .inr os) (hd : DeedsIs σ ds) (hcl : (σ.1 63) = cl) (hclR : cl < 1000000) (hn : A.2.2.2.2.2.2.1 < 890000) : TM (d + 19) tk_doAll [.inr 0] σ (AllQ σ s (cl + 1) (sAll os (cl + 1) A ds)) := by
  obtain ⟨hP, h0⟩ := sOrders_place hos
  have h60 := hs.2.1
  refine TM.of rfl rfl ?_
  (repeat (first | (refine TW.getf rfl rfl rfl (fun _ => ?_)) | (refine TW.pl rfl rfl ?_)))
  refine TW.putf rfl rfl (by omega) ?_
  (repeat (first | (refine TW.getf rfl rfl rfl (fun _ => ?_)) | (refine TW.pl rfl rfl ?_)))
  refine TW.putf rfl rfl (by omega) ?_
  (repeat (first | (refine TW.getf rfl rfl rfl (fun _ => ?_)) | (refine TW.pl rfl rfl ?_)))
  refine TW.putz rfl rfl (Or.inl rfl) ?_
  (repeat (first | (refine TW.getf rfl rfl rfl (fun _ => ?_)) | (refine TW.pl rfl rfl ?_)))
  refine TW.putf rfl rfl (by omega) ?_
  have f0 : TFr [18, 44, 45, 63] [] σ (ts1 (ts1 (ts1 (ts1 σ 63 (σ.1 63 + 1)) 45 0) 44 0) 18 0) := (((TFr.rf.ts1 (by decide)).ts1 (by decide)).ts1 (by decide)).ts1 (by decide)
  have h63 : (ts1 (ts1 (ts1 (ts1 σ 63 (σ.1 63 + 1)) 45 0) 44 0) 18 0).1 63 = ((cl + 1 : Nat) : Int) := by rw [ts1_ne (by decide), ts1_ne (by decide), ts1_ne (by decide), ts1_eq]; omega
  have h45 : (ts1 (ts1 (ts1 (ts1 σ 63 (σ.1 63 + 1)) 45 0) 44 0) 18 0).1 45 = ((0 : Nat) : Int) := by rw [ts1_ne (by decide), ts1_ne (by decide), ts1_eq]; rfl
  have h18 : (ts1 (ts1 (ts1 (ts1 σ 63 (σ.1 63 + 1)) 45 0) 44 0) 18 0).1 18 = 0 := ts1_eq
  have hA0 : TA (setR A false) (ts1 (ts1 (ts1 (ts1 σ 63 (σ.1 63 + 1)) 45 0) 44 0) 18 0) := by
    refine ((hA.fr f0 (by decide) (by decide)).setR false).ta ?_
    obtain ⟨t, p, h, o, fi, m, n, rp⟩ := A
    show (ts1 (ts1 (ts1 (ts1 σ 63 (σ.1 63 + 1)) 45 0) 44 0) 18 0).1 44 = 0
    rw [ts1_ne (by decide), ts1_eq]
  have hd0 := hd.same f0 (by decide) (by decide)
  have hg0 : GS (ts1 (ts1 (ts1 (ts1 σ 63 (σ.1 63 + 1)) 45 0) 44 0) 18 0) := hg.fr f0 (by decide) (by decide)
  have hfd0 : TFr fD aD σ (ts1 (ts1 (ts1 (ts1 σ 63 (σ.1 63 + 1)) 45 0) 44 0) 18 0) := f0.mono (by decide) (by decide)
  generalize ts1 (ts1 (ts1 (ts1 σ 63 (σ.1 63 + 1)) 45 0) 44 0) 18 0 = σ0 at h63 h45 h18 hA0 hd0 hg0 hfd0 ⊢
  have loop : ∀ (n k c done : Nat) (x cnt : Int) (o3 : Option TV) (A : St) (ds : List SDeed) (τ : TS), 61 ≤ n + c → c ≤ 60 → Place s os k x → cnt = done → done ≤ 61 - n → n ≤ 61 → TA A τ → WF A → A.2.2.2.2.2.2.1 + 40 * (60 - (c : Int)) < 900000 → DeedsIs τ ds → GS τ → (τ.1 45) = c → (τ.1 18) = 0 → (τ.1 63) = ((cl + 1 : Nat) : Int) → TFr fD aD σ τ → TW (d + 18) tc_doAll 19 [some (.inr 0), some (.inl x), some (.inl cnt), o3] [] τ (AllQ σ s (cl + 1) (sAllF os (cl + 1) n k c done A ds)) := by
    intro n
    induction n with
    | zero => intro k c done x cnt o3 A ds τ h1 h2; omega
    | succ n ih =>
      intro k c done x cnt o3 A ds τ hnc hcR hpk hcnt hdn hn61 hA hw hn hd hg hc hre hca hf
      have hsτ := hs.fr hf (by decide) (by decide)
      have hnn : τ.1 22 = s.length := hsτ.1
      have e0 : sAllF os (cl + 1) (n + 1) k c done A ds = match os[k]? with
        | none => (done, 0, A, ds)
        | some o => if c = 60 then (done, 7, A, ds) else match sOne os k o (c + 1) A with
          | .inl w => (done, w, A, ds)
          | .inr (k1, c1, A1) => sAllF os (cl + 1) n k1 c1 (done + 1) A1 (if isDeedA (oAct o.1) = true then keepD ds (cl + 1, A.1, A.2.1, A.2.2.2.2.2.1) else ds) := rfl
      rw [e0]
      (repeat (first | (refine TW.getf rfl rfl rfl (fun _ => ?_)) | (refine TW.pl rfl rfl ?_)))
      rcases hpk with ⟨hkl, hsf, kx, hpo⟩ | ⟨hkl, hxn⟩
      rotate_left
      · -- over
        rw [List.getElem?_eq_none (by omega)]
        refine TW.br rfl rfl (by first | omega | exact b2i_R _ | exact ⟨b2i_R _, by omega⟩) (fun q1 => ?_) (fun q1 => ?_)
        · (repeat (first | (refine TW.getf rfl rfl rfl (fun _ => ?_)) | (refine TW.pl rfl rfl ?_)))
          exact TW.iret rfl ⟨⟨hf, hg, hca⟩, congrArg some hcnt, hre, hA.t0, hd⟩
        · omega
      have hpk : Place s os k x := Or.inl ⟨hkl, hsf, kx, hpo⟩
      generalize suO s k = lx at hsf hpo
      have hlx : lx ≠ [] := by
        obtain ⟨o', l2, h3, h4⟩ := pOrders_out hpo
        exact (pOrder_58 h3 (by
          rcases h4 with ⟨_, _, z⟩ | ⟨z, _⟩
          · rw [← z]; decide
          · rw [z]; decide)).1
      have hxl := hsf.len
      have : 0 < lx.length := List.length_pos_iff.mpr hlx
      obtain ⟨o, hok⟩ : ∃ o, os[k]? = some o := ⟨_, List.getElem?_eq_getElem hkl⟩
      rw [hok]
      refine TW.br rfl rfl (by first | omega | exact b2i_R _ | exact ⟨b2i_R _, by omega⟩) (fun q1 => ?_) (fun q1 => ?_)
      · omega
      (repeat (first | (refine TW.getf rfl rfl rfl (fun _ => ?_)) | (refine TW.pl rfl rfl ?_)))
      refine TW.br rfl rfl (by first | omega | exact b2i_R _ | exact ⟨b2i_R _, by omega⟩) (fun q2 => ?_) (fun q2 => ?_)
      · exact absurd hre q2
      (repeat (first | (refine TW.getf rfl rfl rfl (fun _ => ?_)) | (refine TW.pl rfl rfl ?_)))
      refine TW.br rfl rfl (by first | omega | exact b2i_R _ | exact ⟨b2i_R _, by omega⟩) (fun q3 => ?_) (fun q3 => ?_)
      rotate_left
      · have hc60 : c = 60 := by omega
        dsimp only
        rw [if_pos hc60]
        (repeat (first | (refine TW.getf rfl rfl rfl (fun _ => ?_)) | (refine TW.pl rfl rfl ?_)))
        refine TW.putf rfl rfl (by omega) ?_
        (repeat (first | (refine TW.getf rfl rfl rfl (fun _ => ?_)) | (refine TW.pl rfl rfl ?_)))
        have hf2 : TFr [18] [] τ (ts1 τ 18 7) := TFr.rf.ts1 (by decide)
        refine TW.iret rfl ⟨⟨hf.trans (hf2.mono (by decide) (by decide)), hg.fr hf2 (by decide) (by decide), (hf2.1 63 (by decide)).trans hca⟩, congrArg some hcnt, ts1_eq, hA.t0.fr hf2 (by decide) (by decide), hd.same hf2 (by decide) (by decide)⟩
      have hc60 : ¬ c = 60 := by omega
      dsimp only
      rw [if_neg hc60]
      (repeat (first | (refine TW.getf rfl rfl rfl (fun _ => ?_)) | (refine TW.pl rfl rfl ?_)))
      refine TW.putf rfl rfl (by omega) ?_
      have f1 : TFr [45] [] τ (ts1 τ 45 (τ.1 45 + 1)) := TFr.rf.ts1 (by decide)
      have hc1 : (ts1 τ 45 (τ.1 45 + 1)).1 45 = ((c + 1 : Nat) : Int) := by rw [ts1_eq]; omega
      have hA1 := hA.fr f1 (by decide) (by decide)
      have hs1 := hsτ.fr f1 (by decide) (by decide)
      have hg1 : GS (ts1 τ 45 (τ.1 45 + 1)) := hg.fr f1 (by decide) (by decide)
      have hd1 := hd.same f1 (by decide) (by decide)
      have hca1 := (f1.1 63 (by decide)).trans hca
      have hfd1 : TFr fD aD σ (ts1 τ 45 (τ.1 45 + 1)) := hf.trans (f1.mono (by decide) (by decide))
      generalize ts1 τ 45 (τ.1 45 + 1) = τ1 at hc1 hA1 hs1 hg1 hd1 hca1 hfd1 ⊢
      (repeat (first | (refine TW.getf rfl rfl rfl (fun _ => ?_)) | (refine TW.pl rfl rfl ?_)))
      refine TW.cv0 rfl rfl rfl (Nat.le_of_ble_eq_true rfl) (T_save) ?_
      rintro _ τ2 ⟨rfl, hsv, hrs2, f2⟩
      have hS2 : SavA A τ2 := ⟨τ1, hA1.t0, hsv⟩
      have hA2 : TA A τ2 := by
        have r0 : RSame (fun k => 388 ≤ k) τ1 τ2 := fun j hj => hrs2 j (fun z => hj (by omega))
        exact hA1.rs f2 r0 (by decide) (by decide) (fun k z => z)
      have hs2 := hs1.fr f2 (by decide) (by decide)
      have hg2 : GS τ2 := hg1.fr f2 (by decide) (by decide)
      have hd2 := hd1.same f2 (by decide) (by decide)
      have hca2 := (f2.1 63 (by decide)).trans hca1
      have hc2 : τ2.1 45 = ((c + 1 : Nat) : Int) := (f2.1 45 (by decide)).trans hc1
      have hfd2 : TFr fD aD σ τ2 := hfd1.trans (f2.mono (by decide) (by decide))
      (repeat (first | (refine TW.getf rfl rfl rfl (fun _ => ?_)) | (refine TW.pl rfl rfl ?_)))
      refine TW.cv1 rfl rfl rfl (Nat.le_of_ble_eq_true rfl) (T_doOrder hs2 hg2 hA2 hw hP hpk hok hc2 (by omega) (by omega)) ?_
      rintro r τ3 ⟨⟨hq3, hg3⟩, hq⟩
      have hS3 := hS2.fr hq3.1 hq3.2 (by decide) (by decide)
      have hs3 := hq3.sg hs2
      have hd3 := hd2.same hq3.1 (by decide) (by decide)
      have hca3 := (hq3.1.1 63 (by decide)).trans hca2
      have hfd3 : TFr fD aD σ τ3 := hfd2.trans (hq3.1.mono (by decide) (by decide))
      revert hq
      cases hS : sOne os k o (c + 1) A with
      | inl w =>
        rintro ⟨rfl, hw1⟩
        (repeat (first | (refine TW.getf rfl rfl rfl (fun _ => ?_)) | (refine TW.pl rfl rfl ?_)))
        refine TW.putf rfl rfl (by omega) ?_
        have f4 : TFr [18] [] τ3 (ts1 τ3 18 w) := TFr.rf.ts1 (by decide)
        have h18' : (ts1 τ3 18 (w : Int)).1 18 = w := ts1_eq
        (repeat (first | (refine TW.getf rfl rfl rfl (fun _ => ?_)) | (refine TW.pl rfl rfl ?_)))
        refine TW.br rfl rfl (by first | omega | exact b2i_R _ | exact ⟨b2i_R _, by omega⟩) (fun q4 => ?_) (fun q4 => ?_)
        · omega
        (repeat (first | (refine TW.getf rfl rfl rfl (fun _ => ?_)) | (refine TW.pl rfl rfl ?_)))
        refine TW.cv0 rfl rfl rfl (Nat.le_of_ble_eq_true rfl) (T_comeBack (hS3.fr f4 (fun j _ => rfl) (by decide) (by decide))) ?_
        rintro _ τ5 ⟨rfl, hA5, _, f5⟩
        (repeat (first | (refine TW.getf rfl rfl rfl (fun _ => ?_)) | (refine TW.pl rfl rfl ?_)))
        refine TW.iret rfl ⟨⟨hfd3.trans ((f4.mono (by decide) (by decide)).trans (f5.mono (by decide) (by decide))), (hg3.fr f4 (by decide) (by decide)).fr f5 (by decide) (by decide), by rw [f5.1 63 (by decide), f4.1 63 (by decide)]; exact hca3⟩, congrArg some hcnt, ?_, hA5, (hd3.same f4 (by decide) (by decide)).same f5 (by decide) (by decide)⟩
        rw [f5.1 18 (by decide)]
        exact h18'
      | inr q =>
        obtain ⟨j, c1, A1⟩ := q
        rintro ⟨rfl, hpj, hc3, hA3⟩
        obtain ⟨v1, v2, v3, v4, v5⟩ := sOne_wf (hpk.ok hok) hw (by omega) hS
        (repeat (first | (refine TW.getf rfl rfl rfl (fun _ => ?_)) | (refine TW.pl rfl rfl ?_)))
        refine TW.putf rfl rfl (by omega) ?_
        have f4 : TFr [18] [] τ3 (ts1 τ3 18 0) := TFr.rf.ts1 (by decide)
        have h18' : (ts1 τ3 18 0).1 18 = 0 := ts1_eq
        have h64' : (ts1 τ3 18 0).1 64 = τ3.1 64 := f4.1 64 (by decide)
        have hA4 := hA3.fr f4 (by decide) (by decide)
        have hS4 : SavA A (ts1 τ3 18 0) := hS3.fr f4 (fun j _ => rfl) (by decide) (by decide)
        have hs4 := hs3.fr f4 (by decide) (by decide)
        have hg4 : GS (ts1 τ3 18 0) := hg3.fr f4 (by decide) (by decide)
        have hd4 := hd3.same f4 (by decide) (by decide)
        have hca4 := (f4.1 63 (by decide)).trans hca3
        have hc4 : (ts1 τ3 18 0).1 45 = c1 := (f4.1 45 (by decide)).trans hc3
        have hfd4 : TFr fD aD σ (ts1 τ3 18 0) := hfd3.trans (f4.mono (by decide) (by decide))
        generalize ts1 τ3 18 0 = τ4 at h18' h64' hA4 hS4 hs4 hg4 hd4 hca4 hc4 hfd4 ⊢
        rw [← h64'] at hpj
        (repeat (first | (refine TW.getf rfl rfl rfl (fun _ => ?_)) | (refine TW.pl rfl rfl ?_)))
        refine TW.br rfl rfl (by first | omega | exact b2i_R _ | exact ⟨b2i_R _, by omega⟩) (fun q4 => ?_) (fun q4 => ?_)
        · (repeat (first | (refine TW.getf rfl rfl rfl (fun _ => ?_)) | (refine TW.pl rfl rfl ?_)))
          refine TW.cv1 rfl rfl rfl (Nat.le_of_ble_eq_true rfl) (T_isDeed hs4 hg4 hpk hok) ?_
          rintro _ τ5 ⟨rfl, hr5⟩
          have hA5 := hr5.ta hA4
          have hS5 := hS4.fr hr5.1 (fun j _ => by rw [hr5.1.2 6 (by decide)]) (by decide) (by decide)
          have hd5 := hd4.same hr5.1 (by decide) (by decide)
          have hca5 := (hr5.1.1 63 (by decide)).trans hca4
          have hc5 : τ5.1 45 = c1 := (hr5.1.1 45 (by decide)).trans hc4
          have h185 : τ5.1 18 = 0 := (hr5.1.1 18 (by decide)).trans h18'
          have hfd5 : TFr fD aD σ τ5 := hfd4.trans (hr5.1.mono (by decide) (by decide))
          refine TW.br rfl rfl (by first | omega | exact b2i_R _ | exact ⟨b2i_R _, by omega⟩) (fun q5 => ?_) (fun q5 => ?_)
          · have hdf := b2i_0 q5
            rw [if_neg (by rw [hdf]; decide)]
            (iterate 4 (first | (refine TW.getf rfl rfl rfl (fun _ => ?_)) | (refine TW.pl rfl rfl ?_)))
            exact ih j c1 (done + 1) _ (cnt + 1) _ A1 ds τ5 (by omega) v3 hpj (by omega) (by omega) (by omega) hA5 v1 (by omega) hd5 hr5.2.2 hc5 h185 hca5 hfd5
          · have hdt := b2i_1 q5
            rw [if_pos hdt]
            (repeat (first | (refine TW.getf rfl rfl rfl (fun _ => ?_)) | (refine TW.pl rfl rfl ?_)))
            refine TW.cv0 rfl rfl rfl (Nat.le_of_ble_eq_true rfl) (T_noteDeed hS5 hd5 hca5) ?_
            rintro _ τ6 ⟨rfl, hd6, f6⟩
            (iterate 4 (first | (refine TW.getf rfl rfl rfl (fun _ => ?_)) | (refine TW.pl rfl rfl ?_)))
            exact ih j c1 (done + 1) _ (cnt + 1) _ A1 _ τ6 (by omega) v3 hpj (by omega) (by omega) (by omega) (hA5.fr f6 (by decide) (by decide)) v1 (by omega) hd6 (hr5.2.2.fr f6 (by decide) (by decide)) ((f6.1 45 (by decide)).trans hc5) ((f6.1 18 (by decide)).trans h185) ((f6.1 63 (by decide)).trans hca5) (hfd5.trans (f6.mono (by decide) (by decide)))
        · omega
  exact loop 61 0 0 0 0 0 none (setR A false) ds σ0 (by decide) (by decide) hP rfl (by decide) (by decide) hA0 (hw.setR false) (by rw [setR_nid]; omega) hd0 hg0 h45 h18 h63 hfd0
end TDoa
