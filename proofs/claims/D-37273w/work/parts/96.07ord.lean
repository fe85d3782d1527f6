set_option maxRecDepth 100000
/-! the twin's orders, one by one: labels, jumps -/
theorem pOrders_out {k : Nat} {l l1 : List Int} {os : List SOrd} (h : pOrders k l = .inr (l1, os)) : ∃ o l2, pOrder l = .inr (l2, o) ∧ ((¬ hd l2 = 59 ∧ os = [o] ∧ l1 = l2) ∨ (hd l2 = 59 ∧ ∃ k' os', os = o :: os' ∧ pOrders k' l2.tail = .inr (l1, os'))) := by
  unfold pOrders at h
  cases hp : pOrder l with
  | inl f => rw [hp] at h; cases h
  | inr q =>
    obtain ⟨l2, o⟩ := q
    rw [hp] at h
    dsimp only at h
    refine ⟨o, l2, rfl, ?_⟩
    split at h
    · rename_i h59
      cases k with
      | zero => cases h
      | succ k =>
        dsimp only at h
        cases hp2 : pOrders k l2.tail with
        | inl f => rw [hp2] at h; cases h
        | inr q =>
          obtain ⟨l3, os'⟩ := q
          rw [hp2] at h
          cases h
          exact Or.inr ⟨h59, k, os', rfl, hp2⟩
    · rename_i h59
      cases h
      exact Or.inl ⟨h59, rfl, rfl⟩
theorem pBlock_out {l l1 : List Int} {os : List SOrd0} (h : pBlock l = .inr (l1, os)) : hd l = 123 ∧ ∃ k lx, pInners k l.tail = .inr (lx, os) ∧ hd lx = 125 := by
  unfold pBlock at h
  split at h
  · rename_i h123
    cases hp : pInners l.length l.tail with
    | inl f => rw [hp] at h; cases h
    | inr q =>
      obtain ⟨lx, os'⟩ := q
      rw [hp] at h
      dsimp only at h
      split at h
      · rename_i h125
        cases h
        exact ⟨h123, _, lx, hp, h125⟩
      · cases h
  · cases h
theorem pInner_ne {l l2 : List Int} {o : SOrd0} (h : pInner l = .inr (l2, o)) : l ≠ [] := by
  intro z
  subst z
  obtain ⟨l1, w, h1, h2⟩ := pInner_out h
  have e : pWhere [] = .inr ([], false, none, none) := rfl
  rw [e] at h1
  cases h1
  exact (pAct_out h2).1 rfl
theorem pOrder_out {l l2 : List Int} {o : SOrd} (h : pOrder l = .inr (l2, o)) (h48 : ¬ hd l2 = 48) : ∃ l1 w, pWhere l = .inr (l1, w) ∧ (oAll o.1 = w.1 ∧ oFst o.1 = w.2.1 ∧ oSnd o.1 = w.2.2 ∧ oAct o.1 = hd l1) ∧ l1 ≠ [] ∧ ((sIsG (hd l1) = true ∧ GrpP l1 o) ∨ (sIsG (hd l1) = false ∧ pAct false w l1 = .inr (l2, o.1))) := by
  unfold pOrder at h
  cases hp : pWhere l with
  | inl f => rw [hp] at h; cases h
  | inr q =>
    obtain ⟨l1, w⟩ := q
    rw [hp] at h
    dsimp only at h
    by_cases h123 : hd l1 = 123
    · rw [if_pos h123] at h
      cases hb : pBlock l1 with
      | inl f => rw [hb] at h; cases h
      | inr q =>
        obtain ⟨l3, os⟩ := q
        rw [hb] at h
        cases h
        refine ⟨l1, w, rfl, ⟨rfl, rfl, rfl, h123.symm⟩, hd_ne h123 (by decide), Or.inl ⟨by rw [h123]; rfl, Or.inl ⟨h123, rfl, Or.inl (pBlock_out hb)⟩⟩⟩
    rw [if_neg h123] at h
    by_cases hg : hd l1 = 103 ∨ hd l1 = 71
    · rw [if_pos hg] at h
      have hl1 : l1 ≠ [] := by
        rcases hg with z | z
        · exact hd_ne z (by decide)
        · exact hd_ne z (by decide)
      have hG : sIsG (hd l1) = true := by unfold sIsG; exact decide_eq_true (by omega)
      split at h
      · rename_i h47
        cases hpt : pPat 47 l1.tail.tail with
        | inl f => rw [hpt] at h; cases h
        | inr q =>
          obtain ⟨la, g, pt⟩ := q
          rw [hpt] at h
          dsimp only at h
          split at h
          · rename_i hla
            split at h
            · rename_i h123'
              cases hb : pBlock la.tail with
              | inl f => rw [hb] at h; cases h
              | inr q =>
                obtain ⟨l3, os⟩ := q
                rw [hb] at h
                cases h
                exact ⟨l1, w, rfl, ⟨rfl, rfl, rfl, rfl⟩, hl1, Or.inl ⟨hG, Or.inr ⟨hg, rfl, h47, la, g, hpt, hla, Or.inl (pBlock_out hb)⟩⟩⟩
            · rename_i h123'
              cases hb : pInner la.tail with
              | inl f => rw [hb] at h; cases h
              | inr q =>
                obtain ⟨l3, o'⟩ := q
                rw [hb] at h
                cases h
                exact ⟨l1, w, rfl, ⟨rfl, rfl, rfl, rfl⟩, hl1, Or.inl ⟨hG, Or.inr ⟨hg, rfl, h47, la, g, hpt, hla, Or.inr ⟨h123', pInner_ne hb, o', l2, rfl, hb, h48⟩⟩⟩⟩
          · cases h
      · cases h
    rw [if_neg hg] at h
    cases ha : pAct false w l1 with
    | inl f => rw [ha] at h; cases h
    | inr q =>
      obtain ⟨l3, o'⟩ := q
      rw [ha] at h
      cases h
      obtain ⟨g1, g2, g3, g4, g5⟩ := pAct_out ha
      exact ⟨l1, w, rfl, g2, g1, Or.inr ⟨by unfold sIsG; exact decide_eq_false (by omega), ha⟩⟩
theorem pWhere_58 {l l1 : List Int} {w : Bool × Option SAdr × Option SAdr} (h : pWhere l = .inr (l1, w)) (hw : w.1 = false ∧ w.2.1 = none) : l1 = l := by
  unfold pWhere at h
  split at h
  · cases h; cases hw.1
  · split at h
    · cases hp : pAdr l with
      | inl f => rw [hp] at h; cases h
      | inr q =>
        obtain ⟨l2, a⟩ := q
        rw [hp] at h
        dsimp only at h
        split at h
        · cases hp2 : pAdr l2.tail with
          | inl f => rw [hp2] at h; cases h
          | inr q => obtain ⟨l3, b⟩ := q; rw [hp2] at h; cases h; cases hw.2
        · cases h; cases hw.2
    · cases h; rfl
/-- a label stands at the beginning of its order -/
theorem pOrder_58 {l l2 : List Int} {o : SOrd} (h : pOrder l = .inr (l2, o)) (h48 : ¬ hd l2 = 48) : l ≠ [] ∧ (hd l = 58 ↔ oAct o.1 = 58) ∧ (oAct o.1 = 58 → l.tail ≠ [] ∧ oNum o.1 = hd l.tail - 65 ∧ 65 ≤ hd l.tail ∧ hd l.tail ≤ 90) := by
  obtain ⟨l1, w, h1, h2, h3, h4⟩ := pOrder_out h h48
  have hl0 : l ≠ [] := by
    intro z
    subst z
    have e : pWhere [] = .inr ([], false, none, none) := rfl
    rw [e] at h1
    cases h1
    exact h3 rfl
  refine ⟨hl0, ⟨fun h58 => ?_, fun h58 => ?_⟩, fun h58 => ?_⟩
  · have e : pWhere l = .inr (l, false, none, none) := by
      unfold pWhere
      rw [if_neg (by omega), if_neg (by rw [h58]; decide)]
    rw [e] at h1
    cases h1
    rw [h2.2.2.2]
    exact h58
  · rw [h2.2.2.2] at h58
    rcases h4 with ⟨z, _⟩ | ⟨_, z⟩
    · rw [h58] at z; cases z
    · have := pWhere_58 h1 ((pAct_out z).2.2.2.1 h58)
      rw [← this]
      exact h58
  · rw [h2.2.2.2] at h58
    rcases h4 with ⟨z, _⟩ | ⟨_, z⟩
    · rw [h58] at z; cases z
    · obtain ⟨g1, g2, g3, g4, g5⟩ := pAct_out z
      have := pWhere_58 h1 (g4 h58)
      rw [← this]
      have h6 := g5.2.2.2.2.2.1 h58
      have hR : 65 ≤ hd l1.tail ∧ hd l1.tail ≤ 90 := of_decide_eq_true h6.1
      exact ⟨fun z => by rw [z] at hR; exact absurd hR.1 (by decide), h6.2, hR.1, hR.2⟩
/-- from where on the order at a place stands -/
def suO (s : List Int) : Nat → List Int
  | 0 => s
  | i + 1 => match pOrder (suO s i) with
    | .inr (l2, _) => l2.tail
    | .inl _ => []
/-- the order at a place begins there, or all orders are over -/
def Place (s : List Int) (os : List SOrd) (i : Nat) (x : Int) : Prop := (i < os.length ∧ Sfx s (suO s i) x ∧ ∃ k, pOrders k (suO s i) = .inr ([], os.drop i)) ∨ (i = os.length ∧ x = s.length)
section TOrd
variable {d : Nat} {σ τ : TS} {s l l1 l2 : List Int} {A : St} {os : List SOrd} {o : SOrd} {fs as : List Nat}
theorem RdO.trans {σ τ υ : TS} (h : RdO σ s τ) (h2 : RdO τ s υ) : RdO σ s υ := ⟨h.1.trans h2.1, h2.2.1, h2.2.2⟩
theorem RdO.rf (hs : SgnIs σ s) (hg : GS σ) : RdO σ s σ := ⟨TFr.rf, hs, hg⟩
/-- an order at a place, what stands behind it, and the next place -/
theorem Place.get2 {i : Nat} {x : Int} (h : Place s os i x) (hi : i < os.length) : ∃ o l l2, l = suO s i ∧ os[i]? = some o ∧ Sfx s l x ∧ pOrder l = .inr (l2, o) ∧ ¬ hd l2 = 48 ∧ ((l2 = [] ∧ i + 1 = os.length) ∨ (hd l2 = 59 ∧ ∀ y, Sfx s l2 y → Place s os (i + 1) (y + 1))) := by
  rcases h with ⟨-, h1, k, h2⟩ | ⟨h, _⟩
  · obtain ⟨o, l2, h3, h4⟩ := pOrders_out h2
    have hsu : suO s (i + 1) = l2.tail := by
      show (match pOrder (suO s i) with | .inr (l2, _) => l2.tail | .inl _ => []) = _
      rw [h3]
    generalize hl : suO s i = l at h1 h2 h3 ⊢
    have hdr : os[i]? = (os.drop i)[0]? := by rw [List.getElem?_drop]; rfl
    rcases h4 with ⟨_, h6, h7⟩ | ⟨h5, k', os', h6, h7⟩
    · refine ⟨o, l, l2, rfl, by rw [hdr, h6]; rfl, h1, h3, by rw [← h7]; decide, Or.inl ⟨h7.symm, ?_⟩⟩
      have := congrArg List.length h6
      simp at this
      omega
    · refine ⟨o, l, l2, rfl, by rw [hdr, h6]; rfl, h1, h3, by rw [h5]; decide, Or.inr ⟨h5, fun y hy => ?_⟩⟩
      have hd1 : os.drop (i + 1) = os' := by
        rw [← List.drop_drop, h6]; rfl
      have hl' : os' ≠ [] := by
        intro z
        rw [z] at h7
        obtain ⟨_, _, _, h8⟩ := pOrders_out h7
        rcases h8 with ⟨_, z, _⟩ | ⟨_, _, _, z, _⟩ <;> cases z
      have : i + 1 < os.length := Classical.byContradiction (fun z => hl' (by rw [← hd1]; exact List.drop_eq_nil_iff.mpr (by omega)))
      exact Or.inl ⟨this, by rw [hsu]; exact hy.step (hd_ne h5 (by decide)) rfl, k', by rw [hd1, hsu]; exact h7⟩
  · omega
theorem Place.get {i : Nat} {x : Int} (h : Place s os i x) (hi : i < os.length) : ∃ o l l2, os[i]? = some o ∧ Sfx s l x ∧ pOrder l = .inr (l2, o) ∧ ¬ hd l2 = 48 ∧ ((l2 = [] ∧ i + 1 = os.length) ∨ (hd l2 = 59 ∧ ∀ y, Sfx s l2 y → Place s os (i + 1) (y + 1))) := by
  obtain ⟨o, l, l2, -, h2⟩ := h.get2 hi
  exact ⟨o, l, l2, h2⟩
def LabQ (σ : TS) (s : List Int) (os : List SOrd) (i : Nat) (R : Option Nat) (r : Option Int) (τ : TS) : Prop := RdO σ s τ ∧ match R with
  | none => r = some (-1)
  | some k => ∃ y, r = some y ∧ 0 ≤ y ∧ Place s os (i + k + 1) y
theorem T_behindLabel {lb : Int} (hs : SgnIs σ s) (hg : GS σ) (hP : Place s os 0 0) (h0 : 0 < os.length) (hlb : 65 ≤ lb ∧ lb ≤ 90) : TM (d + 15) tk_behindLabel [.inr 0, .inl lb] σ (LabQ σ s os 0 (sLab os (lb - 65))) := by
  have h60 := hs.2.1
  refine TM.of rfl rfl ?_
  (iterate 2 (first | (refine TW.getf rfl rfl rfl (fun _ => ?_)) | (refine TW.pl rfl rfl ?_)))
  have loop : ∀ (q i : Nat) (x : Int) (o3 : Option TV) (τ : TS), i + q = os.length → Place s os i x → RdO σ s τ → TW (d + 14) tc_behindLabel 2 [some (.inr 0), some (.inl lb), some (.inl x), o3] [] τ (LabQ σ s os i ((os.drop i).findIdx? (fun o => oAct o.1 == 58 && oNum o.1 == lb - 65))) := by
    intro q
    induction q with
    | zero =>
      intro i x o3 τ hi hp hr
      rcases hp with ⟨z, _⟩ | ⟨_, hx⟩
      · omega
      rw [List.drop_eq_nil_iff.mpr (by omega)]
      have hn : τ.1 22 = s.length := hr.2.1.1
      (repeat (first | (refine TW.getf rfl rfl rfl (fun _ => ?_)) | (refine TW.pl rfl rfl ?_)))
      refine TW.br rfl rfl (by first | omega | exact b2i_R _ | exact ⟨b2i_R _, by omega⟩) (fun q1 => ?_) (fun q1 => ?_)
      · (repeat (first | (refine TW.getf rfl rfl rfl (fun _ => ?_)) | (refine TW.pl rfl rfl ?_)))
        exact TW.iret rfl ⟨hr, rfl⟩
      · omega
    | succ q ih =>
      intro i x o3 τ hi hp hr
      obtain ⟨o, l, l2, hoi, hx, hpo, h48, hnx⟩ := hp.get (by omega)
      obtain ⟨hl0, h58, hnum⟩ := pOrder_58 hpo h48
      have hn : τ.1 22 = s.length := hr.2.1.1
      have ha := hr.2.1.at hx hl0
      have hdr : os.drop i = o :: os.drop (i + 1) := by
        rw [List.drop_eq_getElem_cons (by omega)]
        congr 1
        rw [List.getElem?_eq_getElem (by omega)] at hoi
        exact Option.some.inj hoi
      rw [hdr, List.findIdx?_cons]
      (repeat (first | (refine TW.getf rfl rfl rfl (fun _ => ?_)) | (refine TW.pl rfl rfl ?_)))
      refine TW.br rfl rfl (by first | omega | exact b2i_R _ | exact ⟨b2i_R _, by omega⟩) (fun q1 => ?_) (fun q1 => ?_)
      · omega
      (repeat (first | (refine TW.getf rfl rfl rfl (fun _ => ?_)) | (refine TW.pl rfl rfl ?_)))
      refine TW.cv2 rfl rfl rfl (Nat.le_of_ble_eq_true rfl) (T_endO hr.2.1 hr.2.2 hx hpo) ?_
      rintro _ τ1 ⟨⟨y, rfl, hy⟩, hr1⟩
      have hr2 := hr.trans hr1
      have hyl := hy.len
      have hn1 : τ1.1 22 = s.length := hr2.2.1.1
      have ha1 := hr2.2.1.at hx hl0
      have next : (oAct o.1 == 58 && oNum o.1 == lb - 65) = false → TW (d + 14) tc_behindLabel 36 [some (.inr 0), some (.inl lb), some (.inl x), some (.inl y)] [] τ1 (LabQ σ s os i (if (oAct o.1 == 58 && oNum o.1 == lb - 65) = true then some 0 else ((os.drop (i + 1)).findIdx? (fun o => oAct o.1 == 58 && oNum o.1 == lb - 65)).map (fun i => i + 1))) := by
        intro hb
        rw [hb, if_neg (by decide)]
        have conv : ∀ x', Place s os (i + 1) x' → TW (d + 14) tc_behindLabel 2 [some (.inr 0), some (.inl lb), some (.inl x'), some (.inl y)] [] τ1 (LabQ σ s os i (((os.drop (i + 1)).findIdx? (fun o => oAct o.1 == 58 && oNum o.1 == lb - 65)).map (fun i => i + 1))) := by
          intro x' hp'
          have := ih (i + 1) x' (some (.inl y)) τ1 (by omega) hp' hr2
          revert this
          cases (os.drop (i + 1)).findIdx? (fun o => oAct o.1 == 58 && oNum o.1 == lb - 65) with
          | none => exact id
          | some k =>
            intro this hR
            obtain ⟨N, r, σ', e1, e2, y', e3, e4, e5⟩ := this hR
            refine ⟨N, r, σ', e1, e2, y', e3, e4, ?_⟩
            rw [show i + (k + 1) + 1 = i + 1 + k + 1 by omega]
            exact e5
        (iterate 5 (first | (refine TW.getf rfl rfl rfl (fun _ => ?_)) | (refine TW.pl rfl rfl ?_)))
        rcases hnx with ⟨z, hl⟩ | ⟨z, hpl⟩
        · -- the end
          rw [List.drop_eq_nil_iff.mpr (by omega)]
          subst z
          simp at hyl
          (repeat (first | (refine TW.getf rfl rfl rfl (fun _ => ?_)) | (refine TW.pl rfl rfl ?_)))
          refine TW.br rfl rfl (by first | omega | exact b2i_R _ | exact ⟨b2i_R _, by omega⟩) (fun q4 => ?_) (fun q4 => ?_)
          · (repeat (first | (refine TW.getf rfl rfl rfl (fun _ => ?_)) | (refine TW.pl rfl rfl ?_)))
            exact TW.iret rfl ⟨hr2, rfl⟩
          · omega
        · exact conv (y + 1) (hpl y hy)
      (repeat (first | (refine TW.getf rfl rfl rfl (fun _ => ?_)) | (refine TW.pl rfl rfl ?_)))
      refine TW.iald (n := 60) rfl rfl rfl (by omega) (fun _ => ?_)
      rw [ha1.1]
      (repeat (first | (refine TW.getf rfl rfl rfl (fun _ => ?_)) | (refine TW.pl rfl rfl ?_)))
      refine TW.br rfl rfl (by first | omega | exact b2i_R _ | exact ⟨b2i_R _, by omega⟩) (fun q2 => ?_) (fun q2 => ?_)
      · have hne : ¬ oAct o.1 = 58 := fun z => q2 (h58.mpr z)
        exact next (by rw [beq_false_of_ne hne]; rfl)
      have hA58 := h58.mp q2
      obtain ⟨ht0, hnm, hR1, hR2⟩ := hnum hA58
      have hb1 := hr2.2.1.at (hx.step hl0 rfl) ht0
      (repeat (first | (refine TW.getf rfl rfl rfl (fun _ => ?_)) | (refine TW.pl rfl rfl ?_)))
      refine TW.iald (n := 60) rfl rfl rfl (by omega) (fun _ => ?_)
      rw [hb1.1]
      (repeat (first | (refine TW.getf rfl rfl rfl (fun _ => ?_)) | (refine TW.pl rfl rfl ?_)))
      refine TW.br rfl rfl (by first | omega | exact b2i_R _ | exact ⟨b2i_R _, by omega⟩) (fun q3 => ?_) (fun q3 => ?_)
      · have hne : ¬ oNum o.1 = lb - 65 := by omega
        exact next (by rw [beq_false_of_ne hne, Bool.and_false])
      · rw [if_pos (by rw [hA58, show oNum o.1 = lb - 65 by omega, beq_self_eq_true, beq_self_eq_true]; rfl)]
        (repeat (first | (refine TW.getf rfl rfl rfl (fun _ => ?_)) | (refine TW.pl rfl rfl ?_)))
        rcases hnx with ⟨z, hl⟩ | ⟨z, hpl⟩
        · subst z
          simp at hyl
          refine TW.br rfl rfl (by first | omega | exact b2i_R _ | exact ⟨b2i_R _, by omega⟩) (fun q4 => ?_) (fun q4 => ?_)
          · (repeat (first | (refine TW.getf rfl rfl rfl (fun _ => ?_)) | (refine TW.pl rfl rfl ?_)))
            exact TW.iret rfl ⟨hr2, _, rfl, by omega, Or.inr ⟨by omega, hn1⟩⟩
          · omega
        · have hne2 := hd_ne z (by decide)
          have : 0 < l2.length := List.length_pos_iff.mpr hne2
          refine TW.br rfl rfl (by first | omega | exact b2i_R _ | exact ⟨b2i_R _, by omega⟩) (fun q4 => ?_) (fun q4 => ?_)
          · omega
          · (repeat (first | (refine TW.getf rfl rfl rfl (fun _ => ?_)) | (refine TW.pl rfl rfl ?_)))
            exact TW.iret rfl ⟨hr2, _, rfl, by omega, hpl y hy⟩
  exact loop os.length 0 0 none σ (by omega) hP (RdO.rf hs hg)
abbrev fJ : List Nat := [23, 24, 25, 26, 27, 28, 29, 30, 64]
def JmpQ (σ : TS) (s : List Int) (os : List SOrd) (R : Nat ⊕ Nat) (r : Option Int) (τ : TS) : Prop := (TFr fJ [] σ τ ∧ SgnIs τ s ∧ GS τ) ∧ match R with
  | .inl w => r = some (w : Int) ∧ 1 ≤ w ∧ w ≤ 7
  | .inr j => r = some 0 ∧ Place s os j (τ.1 64)
theorem T_jump {x : Int} {o : SOrd0} (hs : SgnIs σ s) (hg : GS σ) (hP : Place s os 0 0) (h0 : 0 < os.length) (hx : Sfx s l x) (hl0 : l ≠ []) (ho : (isLab (hd l.tail) = true ∧ oNum o = hd l.tail - 65) ∨ (isLab (hd l.tail) = false ∧ oNum o = -1)) : TM (d + 16) tk_jump [.inr 0, .inl x] σ (JmpQ σ s os (sJump os o)) := by
  have h60 := hs.2.1
  have hn : σ.1 22 = s.length := hs.1
  have hx1 : Sfx s l.tail (x + 1) := hx.step hl0 rfl
  have hxl := hx1.len
  refine TM.of rfl rfl ?_
  have no : isLab (hd l.tail) = false → TW (d + 15) tc_jump 16 [some (.inr 0), some (.inl x), none] [] σ (JmpQ σ s os (sJump os o)) := by
    intro hlab
    have hnum : oNum o = -1 := by
      rcases ho with ⟨z, _⟩ | ⟨_, z⟩
      · rw [hlab] at z; cases z
      · exact z
    unfold sJump
    rw [if_pos hnum]
    (repeat (first | (refine TW.getf rfl rfl rfl (fun _ => ?_)) | (refine TW.pl rfl rfl ?_)))
    refine TW.br rfl rfl (by first | omega | exact b2i_R _ | exact ⟨b2i_R _, by omega⟩) (fun q1 => ?_) (fun q1 => ?_)
    · (repeat (first | (refine TW.getf rfl rfl rfl (fun _ => ?_)) | (refine TW.pl rfl rfl ?_)))
      refine TW.putf rfl rfl (by omega) ?_
      have h64 : (ts1 σ 64 (σ.1 22)).1 64 = s.length := by rw [ts1_eq]; exact hn
      have hfr : TFr fJ [] σ (ts1 σ 64 (σ.1 22)) := TFr.rf.ts1 (by decide)
      (repeat (first | (refine TW.getf rfl rfl rfl (fun _ => ?_)) | (refine TW.pl rfl rfl ?_)))
      refine TW.br rfl rfl (by first | omega | exact b2i_R _ | exact ⟨b2i_R _, by omega⟩) (fun q2 => ?_) (fun q2 => ?_)
      · (repeat (first | (refine TW.getf rfl rfl rfl (fun _ => ?_)) | (refine TW.pl rfl rfl ?_)))
        exact TW.iret rfl ⟨⟨hfr, hs.fr hfr (by decide) (by decide), hg.fr (fs := [64]) (as := []) (TFr.rf.ts1 (by decide)) (by decide) (by decide)⟩, rfl, Or.inr ⟨rfl, h64⟩⟩
      · omega
    · exact absurd rfl q1
  (repeat (first | (refine TW.getf rfl rfl rfl (fun _ => ?_)) | (refine TW.pl rfl rfl ?_)))
  refine TW.br rfl rfl (by first | omega | exact b2i_R _ | exact ⟨b2i_R _, by omega⟩) (fun q1 => ?_) (fun q1 => ?_)
  · exact no (by rw [hx1.nil_iff.mpr (by omega)]; decide)
  have hne : l.tail ≠ [] := fun z => by have := hx1.nil_iff.mp z; omega
  have hb := hs.at hx1 hne
  (repeat (first | (refine TW.getf rfl rfl rfl (fun _ => ?_)) | (refine TW.pl rfl rfl ?_)))
  refine TW.iald (n := 60) rfl rfl rfl (by omega) (fun _ => ?_)
  rw [hb.1]
  refine TW.cs1 rfl rfl rfl (Nat.le_of_ble_eq_true rfl) (T_isLabel (by omega)) ?_; rintro _ _ ⟨rfl, rfl⟩
  refine TW.br rfl rfl (by first | omega | exact b2i_R _ | exact ⟨b2i_R _, by omega⟩) (fun q2 => ?_) (fun q2 => ?_)
  · exact no (b2i_0 q2)
  have hlab := b2i_1 q2
  have hR : 65 ≤ hd l.tail ∧ hd l.tail ≤ 90 := of_decide_eq_true hlab
  have hnum : oNum o = hd l.tail - 65 := by
    rcases ho with ⟨_, z⟩ | ⟨z, _⟩
    · exact z
    · rw [hlab] at z; cases z
  (repeat (first | (refine TW.getf rfl rfl rfl (fun _ => ?_)) | (refine TW.pl rfl rfl ?_)))
  refine TW.br rfl rfl (by first | omega | exact b2i_R _ | exact ⟨b2i_R _, by omega⟩) (fun q3 => ?_) (fun q3 => ?_)
  · exact absurd q3 (by decide)
  (repeat (first | (refine TW.getf rfl rfl rfl (fun _ => ?_)) | (refine TW.pl rfl rfl ?_)))
  refine TW.iald (n := 60) rfl rfl rfl (by omega) (fun _ => ?_)
  rw [hb.1]
  refine TW.cv1 rfl rfl rfl (Nat.le_of_ble_eq_true rfl) (T_behindLabel hs hg hP h0 hR) ?_
  rintro r τ ⟨hr, hq⟩
  unfold sJump
  rw [if_neg (by omega), hnum]
  revert hq
  cases sLab os (hd l.tail - 65) with
  | none =>
    intro hq
    have hq : r = some (-1) := hq
    subst hq
    (repeat (first | (refine TW.getf rfl rfl rfl (fun _ => ?_)) | (refine TW.pl rfl rfl ?_)))
    refine TW.putf rfl rfl (by omega) ?_
    have hfr : TFr fJ [] σ (ts1 τ 64 (-1)) := (hr.1.mono (by decide) (by decide)).ts1 (by decide)
    have h64 : (ts1 τ 64 (-1)).1 64 = -1 := ts1_eq
    (repeat (first | (refine TW.getf rfl rfl rfl (fun _ => ?_)) | (refine TW.pl rfl rfl ?_)))
    refine TW.br rfl rfl (by first | omega | exact b2i_R _ | exact ⟨b2i_R _, by omega⟩) (fun q4 => ?_) (fun q4 => ?_)
    · omega
    · (repeat (first | (refine TW.getf rfl rfl rfl (fun _ => ?_)) | (refine TW.pl rfl rfl ?_)))
      exact TW.iret rfl ⟨⟨hfr, hs.fr hfr (by decide) (by decide), hr.2.2.fr (fs := [64]) (as := []) (TFr.rf.ts1 (by decide)) (by decide) (by decide)⟩, rfl, by decide, by decide⟩
  | some k =>
    rintro ⟨y, rfl, hy0, hpl⟩
    have hyR : y ≤ 60 := by
      rcases hpl with ⟨_, hsf, _⟩ | ⟨_, z⟩
      · have := hsf.len; omega
      · omega
    (repeat (first | (refine TW.getf rfl rfl rfl (fun _ => ?_)) | (refine TW.pl rfl rfl ?_)))
    refine TW.putf rfl rfl (by omega) ?_
    have hfr : TFr fJ [] σ (ts1 τ 64 y) := (hr.1.mono (by decide) (by decide)).ts1 (by decide)
    have h64 : (ts1 τ 64 y).1 64 = y := ts1_eq
    (repeat (first | (refine TW.getf rfl rfl rfl (fun _ => ?_)) | (refine TW.pl rfl rfl ?_)))
    refine TW.br rfl rfl (by first | omega | exact b2i_R _ | exact ⟨b2i_R _, by omega⟩) (fun q4 => ?_) (fun q4 => ?_)
    · (repeat (first | (refine TW.getf rfl rfl rfl (fun _ => ?_)) | (refine TW.pl rfl rfl ?_)))
      refine TW.iret rfl ⟨⟨hfr, hs.fr hfr (by decide) (by decide), hr.2.2.fr (fs := [64]) (as := []) (TFr.rf.ts1 (by decide)) (by decide) (by decide)⟩, rfl, ?_⟩
      rw [h64]
      rw [Nat.zero_add] at hpl
      exact hpl
    · omega
end TOrd
