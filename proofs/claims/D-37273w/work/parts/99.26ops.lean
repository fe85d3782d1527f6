set_option maxRecDepth 100000
/-! BOTH SIDES OF A CALL -/
def cst (n : Nat) : Nat := if n = 0 then 110000 else 300000 + 2800 * n
def bud (i n : Nat) : Nat := 2000 + 300 * i + (i - n) * cst n
theorem cst_ge {n : Nat} : 110000 + 2800 * n ≤ cst n ∧ cRun n ≤ cst n := by
  unfold cst cRun
  by_cases h : n = 0
  · rw [if_pos h, if_pos h]; omega
  · rw [if_neg h, if_neg h]; omega
theorem cst_up {n : Nat} : cst n ≤ cst (n + 1) := by
  unfold cst
  rw [if_neg (Nat.succ_ne_zero n)]
  split <;> omega
theorem bud_s {i n : Nat} (h : n ≤ i) : bud (i + 1) n = bud i n + 300 + cst n := by
  unfold bud
  rw [show i + 1 - n = (i - n) + 1 by omega, Nat.add_mul, Nat.one_mul]
  omega
theorem bud_t {i n : Nat} (h : n ≤ i) : bud i n + 300 ≤ bud (i + 1) (n + 1) := by
  unfold bud
  rw [show i + 1 - (n + 1) = i - n by omega]
  have := Nat.mul_le_mul_left (i - n) (cst_up (n := n))
  omega
theorem cst_max : ∀ n, n < 25 → (24 - n) * cst n ≤ 6980000 := by decide +kernel
theorem bud_le {i n : Nat} (h : n ≤ i) (hi : i ≤ 24) : bud i n ≤ 7000000 := by
  unfold bud
  have h1 := cst_max n (by omega)
  have h2 : (i - n) * cst n ≤ (24 - n) * cst n := Nat.mul_le_mul_right _ (by omega)
  omega
def LInv (i n : Nat) (w : PW) (g : GH) (σ : TS) (K : Nat → Nat) : Prop := (GWf g ∧ ∃ S la, Rep g S ∧ PwI S K la w.1 w.2.1 w.2.2.1 w.2.2.2.1 w.2.2.2.2.1 w.2.2.2.2.2 (bud i n)) ∧ (TwI w σ ∧ InR σ ∧ ZR σ) ∧ LK i n w
def OpR (i n : Nat) (K : Nat → Nat) (mid : Nat) (as : List GV) (tid : Nat) (ts : List TV) (g : GH) (σ : TS) (cs : List Nat) (P : PA) : Prop := ∃ (N : Nat) (rg : GO) (g' : GH) (N2 : Nat) (r : Option Int) (σ' : TS), grun 200 N mid as g = some (rg, g') ∧ trun 30 N2 tid ts σ = some (r, σ') ∧ LInv (i + 1) n P.2 g' σ' K ∧ match P.1 with
  | .inl k => rg = .inr (cs.getD (k - 1) 0, none) ∧ (σ'.1 0) = (k : Int) ∧ ∃ v, r = some v
  | .inr v => rg = .inl (vI v) ∧ (σ'.1 0) = 0 ∧ r = some v
section OPS
variable {i n n' : Nat} {w : PW} {g : GH} {σ : TS} {K : Nat → Nat} {mid tid c B B' : Nat} {as : List GV} {ts : List TV} {cs : List Nat} {P : PA} {S S' : BS} {la : Int → Nat} {tp : List Int} {sc : Nat → Option (List Int)} {A : St} {ds : List SDeed} {cl re : Nat} {R : Nat ⊕ Int} {rg : GO} {x z u : Int} {bk en : Bool} {rows : List (List Int)}
theorem OpR.mk (hI : LInv i n w g σ K) (hG : ∀ S la, PwI S K la w.1 w.2.1 w.2.2.1 w.2.2.2.1 w.2.2.2.2.1 w.2.2.2.2.2 (bud i n) → BM 200 mid as S (PuX K P.2 (bud (i + 1) n') cs P.1)) (hT : TM 30 tid ts σ (fun r τ => TwQ P r τ ∧ LK (i + 1) n' P.2)) : OpR i n' K mid as tid ts g σ cs P := by
  obtain ⟨⟨hW, S, la, hR, hP⟩, ⟨hT1, hIn, hZ⟩, hK⟩ := hI
  obtain ⟨N, rg, g', e1, hW', S', hR', ⟨la', hP'⟩, hr⟩ := hG S la hP g hR hW
  obtain ⟨N2, r, σ', e2, ⟨hT2, hr2⟩, hK2⟩ := hT hIn
  refine ⟨N, rg, g', N2, r, σ', e1, e2, ⟨⟨hW', S', la', hR', hP'⟩, ⟨hT2, trun_InR e2 hIn, trun_ZR e2 hZ⟩, hK2⟩, ?_⟩
  cases hP1 : P.1 with
  | inl k =>
    rw [hP1] at hr hr2
    exact ⟨hr, hr2⟩
  | inr v =>
    rw [hP1] at hr hr2
    exact ⟨hr, hr2⟩
theorem TM.k9 {Q : Option Int → TS → Prop} {d d' : Nat} {hk : Prop} (h : TM d tid ts σ Q) (hd : d ≤ d') (k : hk) : TM d' tid ts σ (fun r τ => Q r τ ∧ hk) := TM.mono h hd (fun _ _ q => ⟨q, k⟩)
theorem PuX.rd (h : PwI S K la tp sc A ds cl re B) (e : P.2 = (tp, sc, A, ds, cl, re)) (hX : PrX S c cs R rg S') (e1 : R = P.1) (hB : B + c ≤ B') (hB2 : B' + 600 ≤ 20000000) : PuX K P.2 B' cs P.1 rg S' := by
  rw [e, ← e1]
  exact PrX.pu h hX hB hB2
theorem PuX.le9 (h : PuX K w B cs R rg S') (hB : B ≤ B') (hB2 : B' + 600 ≤ 20000000) : PuX K w B' cs R rg S' := by
  obtain ⟨⟨la', h1⟩, h2⟩ := h
  exact ⟨⟨la', h1.le hB hB2⟩, h2⟩
theorem rLen_e : rLen rows x w = (lenR rows x, w) := by
  unfold rLen lenR
  by_cases z : isNr x rows.length = false
  · rw [if_pos z, if_pos z]
  · rw [if_neg z, if_neg z]
theorem sgnAt_e {s : List Int} : sgnAt s x w = (sgnR s x, w) := by
  unfold sgnAt sgnR
  by_cases z : 0 ≤ x ∧ x < (s.length : Int)
  · rw [if_pos z, if_pos z]
  · rw [if_neg z, if_neg z]
theorem rAt_e : rAt rows x z w = (atR rows x z, w) := by
  unfold rAt atR
  by_cases y : isNr x rows.length = false
  · rw [if_pos y, if_pos y]
  · rw [if_neg y, if_neg y, sgnAt_e]
theorem pLength_e : pLength x w = (if isNr x w.2.2.1.1.length = false then .inl 1 else .inr ((rowAt w.2.2.1.1 (x - 1).toNat).length : Int), w) := by
  unfold pLength
  by_cases q : isNr x w.2.2.1.1.length = false
  · rw [if_pos q, if_pos q]
  · rw [if_neg q, if_neg q]
theorem pAt_e : pAt x z w = (if isNr x w.2.2.1.1.length = false then .inl 1 else sgnR (rowAt w.2.2.1.1 (x - 1).toNat) z, w) := by
  unfold pAt
  by_cases q : isNr x w.2.2.1.1.length = false
  · rw [if_pos q, if_pos q]
  · rw [if_neg q, if_neg q, sgnAt_e]
theorem pId_e : pId x w = (if isNr x w.2.2.1.1.length = false then .inl 1 else .inr (idAt w.2.2.1.1 (x - 1).toNat), w) := by
  unfold pId
  by_cases q : isNr x w.2.2.1.1.length = false
  · rw [if_pos q, if_pos q]
  · rw [if_neg q, if_neg q]
theorem pSLen_e : pSLen x w = (if isFo x = false then .inl 1 else match w.2.1 x.toNat with
    | none => .inr (-1)
    | some s => .inr (s.length : Int), w) := by
  unfold pSLen
  by_cases q : isFo x = false
  · rw [if_pos q, if_pos q]
  · rw [if_neg q, if_neg q]
    cases w.2.1 x.toNat <;> rfl
theorem pSAt_e : pSAt x z w = (if isFo x = false then .inl 1 else match w.2.1 x.toNat with
    | none => .inl 1
    | some s => sgnR s z, w) := by
  unfold pSAt
  by_cases q : isFo x = false
  · rw [if_pos q, if_pos q]
  · rw [if_neg q, if_neg q]
    cases w.2.1 x.toNat with
    | none => rfl
    | some s => exact sgnAt_e
theorem pFRows_e : pFRows x w = (if isFo x = false then .inl 1 else .inr ((w.2.2.1.2.2.2.2.1 x.toNat).length : Int), w) := by
  unfold pFRows
  by_cases q : isFo x = false
  · rw [if_pos q, if_pos q]
  · rw [if_neg q, if_neg q]
theorem pFLen_e : pFLen x z w = (if isFo x = false then .inl 1 else lenR (w.2.2.1.2.2.2.2.1 x.toNat) z, w) := by
  unfold pFLen
  by_cases q : isFo x = false
  · rw [if_pos q, if_pos q]
  · rw [if_neg q, if_neg q, rLen_e]
theorem pFAt_e : pFAt x z u w = (if isFo x = false then .inl 1 else atR (w.2.2.1.2.2.2.2.1 x.toNat) z u, w) := by
  unfold pFAt
  by_cases q : isFo x = false
  · rw [if_pos q, if_pos q]
  · rw [if_neg q, if_neg q, rAt_e]
theorem pDiffer_e : pDiffer x w = (if isFo x = false then .inl 1 else .inr ((w.2.2.1.1.length : Int) + (w.2.2.1.2.2.2.2.1 x.toNat).length - 2 * (prs (rowsOfL w.2.2.1.1) (w.2.2.1.2.2.2.2.1 x.toNat)).length), w) := by
  unfold pDiffer
  by_cases q : isFo x = false
  · rw [if_pos q, if_pos q]
  · rw [if_neg q, if_neg q]
theorem pPairOf_e : pPairOf x z w = (if isFo x = false ∨ isNr z w.2.2.1.1.length = false then .inl 1 else .inr (if prOf (prs (rowsOfL w.2.2.1.1) (w.2.2.1.2.2.2.2.1 x.toNat)) (z - 1).toNat = 0 then -1 else (prOf (prs (rowsOfL w.2.2.1.1) (w.2.2.1.2.2.2.2.1 x.toNat)) (z - 1).toNat : Int)), w) := by
  unfold pPairOf
  by_cases q : isFo x = false ∨ isNr z w.2.2.1.1.length = false
  · rw [if_pos q, if_pos q]
  · rw [if_neg q, if_neg q]
theorem O_type (hI : LInv i n w g σ K) (hi : i < 24) (hx : inR x) : OpR i (n + 1) K gk_X1_type [aR (K 1), aI x] tk_type [.inr 0, .inl x] g σ [200, 201] (pType x w) := by
  obtain ⟨tp, sc, A, ds, cl, re⟩ := w
  have hK := hI.2.2
  have hw : WF A := hK.2.2.1
  have htp : SgO tp := hK.1.1
  have hni : n ≤ i := hK.2.2.2.2.2.1
  have htl : tp.length ≤ n := hK.2.1.1
  have hsc : ∀ k s, sc k = some s → SgO s := fun k s e => (hK.1.2 k s e).1
  have hdl : ds.length ≤ 40 := hK.2.2.2.1.2
  have hnid : A.2.2.2.2.2.2.1 < 100000 := hK.nid
  have hcl : cl ≤ i := hK.2.2.2.2.1.1
  have hb := bud_s hni
  have hc1 := (cst_ge (n := n)).1
  have hc2 := (cst_ge (n := n)).2
  have hbl := bud_le (n := n) (i := i + 1) (by omega) (by omega)
  have hbt := bud_t hni
  have hbl2 := bud_le (n := n + 1) (i := i + 1) (by omega) (by omega)
  refine OpR.mk hI (fun S la h => ?_) (TM.k9 (T_type (d := 29) hI.2.1.1 hx (by show tp.length ≤ 60; exact htp.1)) (Nat.le_of_ble_eq_true rfl) (hK.type hi))
  exact BM.mono (L_type (d := 194) h hx htp (by omega)) (fun r S' hX => PuX.le9 hX (by first | omega | (dsimp only; omega)) (by first | omega | (dsimp only; omega)))
theorem O_wipe (hI : LInv i n w g σ K) (hi : i < 24) : OpR i n K gk_X1_wipe [aR (K 1)] tk_wipe [.inr 0] g σ [] (pWipe w) := by
  obtain ⟨tp, sc, A, ds, cl, re⟩ := w
  have hK := hI.2.2
  have hw : WF A := hK.2.2.1
  have htp : SgO tp := hK.1.1
  have hni : n ≤ i := hK.2.2.2.2.2.1
  have htl : tp.length ≤ n := hK.2.1.1
  have hsc : ∀ k s, sc k = some s → SgO s := fun k s e => (hK.1.2 k s e).1
  have hdl : ds.length ≤ 40 := hK.2.2.2.1.2
  have hnid : A.2.2.2.2.2.2.1 < 100000 := hK.nid
  have hcl : cl ≤ i := hK.2.2.2.2.1.1
  have hb := bud_s hni
  have hc1 := (cst_ge (n := n)).1
  have hc2 := (cst_ge (n := n)).2
  have hbl := bud_le (n := n) (i := i + 1) (by omega) (by omega)
  refine OpR.mk hI (fun S la h => ?_) (TM.k9 (T_wipe (d := 29) hI.2.1.1) (Nat.le_of_ble_eq_true rfl) (hK.wipe hi))
  exact BM.mono (L_wipe (d := 194) h (by omega)) (fun r S' hX => PuX.le9 hX (by first | omega | (dsimp only; omega)) (by first | omega | (dsimp only; omega)))
theorem O_fault (hI : LInv i n w g σ K) (hi : i < 24) : OpR i n K gk_X1_fault [aR (K 1)] tk_fault [.inr 0] g σ [] (pFault w) := by
  obtain ⟨tp, sc, A, ds, cl, re⟩ := w
  have hK := hI.2.2
  have hw : WF A := hK.2.2.1
  have htp : SgO tp := hK.1.1
  have hni : n ≤ i := hK.2.2.2.2.2.1
  have htl : tp.length ≤ n := hK.2.1.1
  have hsc : ∀ k s, sc k = some s → SgO s := fun k s e => (hK.1.2 k s e).1
  have hdl : ds.length ≤ 40 := hK.2.2.2.1.2
  have hnid : A.2.2.2.2.2.2.1 < 100000 := hK.nid
  have hcl : cl ≤ i := hK.2.2.2.2.1.1
  have hb := bud_s hni
  have hc1 := (cst_ge (n := n)).1
  have hc2 := (cst_ge (n := n)).2
  have hbl := bud_le (n := n) (i := i + 1) (by omega) (by omega)
  have e : (pFault (tp, sc, A, ds, cl, re)).2 = (tp, sc, A, ds, cl, re) := rfl
  refine OpR.mk hI (fun S la h => ?_) (TM.k9 (T_fault (d := 15) hI.2.1.1 htp) (Nat.le_of_ble_eq_true rfl) (by rw [e]; exact hK.same hi))
  obtain ⟨cap, hcap, hL, hD, hR, h11, h12⟩ := id h
  exact BM.mono (L_fault (d := 178) hL hR htp (by omega)) (fun r S' hX => PuX.rd h e hX (rfl) (by first | omega | (dsimp only; omega)) (by omega))
theorem O_patternFault (hI : LInv i n w g σ K) (hi : i < 24) : OpR i n K gk_X1_patternFault [aR (K 1)] tk_patternFault [.inr 0] g σ [] (pPFault w) := by
  obtain ⟨tp, sc, A, ds, cl, re⟩ := w
  have hK := hI.2.2
  have hw : WF A := hK.2.2.1
  have htp : SgO tp := hK.1.1
  have hni : n ≤ i := hK.2.2.2.2.2.1
  have htl : tp.length ≤ n := hK.2.1.1
  have hsc : ∀ k s, sc k = some s → SgO s := fun k s e => (hK.1.2 k s e).1
  have hdl : ds.length ≤ 40 := hK.2.2.2.1.2
  have hnid : A.2.2.2.2.2.2.1 < 100000 := hK.nid
  have hcl : cl ≤ i := hK.2.2.2.2.1.1
  have hb := bud_s hni
  have hc1 := (cst_ge (n := n)).1
  have hc2 := (cst_ge (n := n)).2
  have hbl := bud_le (n := n) (i := i + 1) (by omega) (by omega)
  have e : (pPFault (tp, sc, A, ds, cl, re)).2 = (tp, sc, A, ds, cl, re) := rfl
  refine OpR.mk hI (fun S la h => ?_) (TM.k9 (T_patternFault (d := 15) hI.2.1.1 htp) (Nat.le_of_ble_eq_true rfl) (by rw [e]; exact hK.same hi))
  obtain ⟨cap, hcap, hL, hD, hR, h11, h12⟩ := id h
  exact BM.mono (L_patternFault (d := 178) hL hR htp (by omega)) (fun r S' hX => PuX.rd h e hX (rfl) (by first | omega | (dsimp only; omega)) (by omega))
theorem O_run (hI : LInv i n w g σ K) (hi : i < 24) : OpR i n K gk_X1_run [aR (K 1)] tk_run [.inr 0] g σ [201] (pRun w) := by
  obtain ⟨tp, sc, A, ds, cl, re⟩ := w
  have hK := hI.2.2
  have hw : WF A := hK.2.2.1
  have htp : SgO tp := hK.1.1
  have hni : n ≤ i := hK.2.2.2.2.2.1
  have htl : tp.length ≤ n := hK.2.1.1
  have hsc : ∀ k s, sc k = some s → SgO s := fun k s e => (hK.1.2 k s e).1
  have hdl : ds.length ≤ 40 := hK.2.2.2.1.2
  have hnid : A.2.2.2.2.2.2.1 < 100000 := hK.nid
  have hcl : cl ≤ i := hK.2.2.2.2.1.1
  have hb := bud_s hni
  have hc1 := (cst_ge (n := n)).1
  have hc2 := (cst_ge (n := n)).2
  have hbl := bud_le (n := n) (i := i + 1) (by omega) (by omega)
  refine OpR.mk hI (fun S la h => ?_) (TM.k9 (T_run (d := 10) hI.2.1.1 hK.pk (by show A.2.2.2.2.2.2.1 < 890000; omega)) (Nat.le_of_ble_eq_true rfl) (hK.run hi))
  exact BM.mono (L_run (d := 6) (N := n) h hK.pk hK.2.1 (by omega) (by omega)) (fun r S' hX => PuX.le9 hX (by first | omega | (dsimp only; omega)) (by first | omega | (dsimp only; omega)))
theorem O_keep (hI : LInv i n w g σ K) (hi : i < 24) (hx : inR x) : OpR i n K gk_X1_keep [aR (K 1), aI x] tk_keep [.inr 0, .inl x] g σ [202, 201] (pKeep x w) := by
  obtain ⟨tp, sc, A, ds, cl, re⟩ := w
  have hK := hI.2.2
  have hw : WF A := hK.2.2.1
  have htp : SgO tp := hK.1.1
  have hni : n ≤ i := hK.2.2.2.2.2.1
  have htl : tp.length ≤ n := hK.2.1.1
  have hsc : ∀ k s, sc k = some s → SgO s := fun k s e => (hK.1.2 k s e).1
  have hdl : ds.length ≤ 40 := hK.2.2.2.1.2
  have hnid : A.2.2.2.2.2.2.1 < 100000 := hK.nid
  have hcl : cl ≤ i := hK.2.2.2.2.1.1
  have hb := bud_s hni
  have hc1 := (cst_ge (n := n)).1
  have hc2 := (cst_ge (n := n)).2
  have hbl := bud_le (n := n) (i := i + 1) (by omega) (by omega)
  refine OpR.mk hI (fun S la h => ?_) (TM.k9 (T_keep (d := 15) hI.2.1.1 hx htp hsc) (Nat.le_of_ble_eq_true rfl) (hK.keep hi))
  exact BM.mono (L_keep (d := 176) h hx htp (by omega)) (fun r S' hX => PuX.le9 hX (by first | omega | (dsimp only; omega)) (by first | omega | (dsimp only; omega)))
theorem O_play (hI : LInv i n w g σ K) (hi : i < 24) (hx : inR x) : OpR i n K gk_X1_play [aR (K 1), aI x] tk_play [.inr 0, .inl x] g σ [202, 201] (pPlay x w) := by
  obtain ⟨tp, sc, A, ds, cl, re⟩ := w
  have hK := hI.2.2
  have hw : WF A := hK.2.2.1
  have htp : SgO tp := hK.1.1
  have hni : n ≤ i := hK.2.2.2.2.2.1
  have htl : tp.length ≤ n := hK.2.1.1
  have hsc : ∀ k s, sc k = some s → SgO s := fun k s e => (hK.1.2 k s e).1
  have hdl : ds.length ≤ 40 := hK.2.2.2.1.2
  have hnid : A.2.2.2.2.2.2.1 < 100000 := hK.nid
  have hcl : cl ≤ i := hK.2.2.2.2.1.1
  have hb := bud_s hni
  have hc1 := (cst_ge (n := n)).1
  have hc2 := (cst_ge (n := n)).2
  have hbl := bud_le (n := n) (i := i + 1) (by omega) (by omega)
  refine OpR.mk hI (fun S la h => ?_) (TM.k9 (T_play (d := 10) hI.2.1.1 hx hK.pk (by show A.2.2.2.2.2.2.1 < 890000; omega)) (Nat.le_of_ble_eq_true rfl) (hK.play hi))
  exact BM.mono (L_play1 (d := 6) (N := n) h hK.pk hK.2.1 (by omega) hx (by omega)) (fun r S' hX => PuX.le9 hX (by first | omega | (dsimp only; omega)) (by first | omega | (dsimp only; omega)))
theorem O_stream (hI : LInv i n w g σ K) (hi : i < 24) (hx : inR x) : OpR i n K gk_X1_stream [aR (K 1), aI x] tk_stream [.inr 0, .inl x] g σ [202, 201] (pStream x w) := by
  obtain ⟨tp, sc, A, ds, cl, re⟩ := w
  have hK := hI.2.2
  have hw : WF A := hK.2.2.1
  have htp : SgO tp := hK.1.1
  have hni : n ≤ i := hK.2.2.2.2.2.1
  have htl : tp.length ≤ n := hK.2.1.1
  have hsc : ∀ k s, sc k = some s → SgO s := fun k s e => (hK.1.2 k s e).1
  have hdl : ds.length ≤ 40 := hK.2.2.2.1.2
  have hnid : A.2.2.2.2.2.2.1 < 100000 := hK.nid
  have hcl : cl ≤ i := hK.2.2.2.2.1.1
  have hb := bud_s hni
  have hc1 := (cst_ge (n := n)).1
  have hc2 := (cst_ge (n := n)).2
  have hbl := bud_le (n := n) (i := i + 1) (by omega) (by omega)
  refine OpR.mk hI (fun S la h => ?_) (TM.mono (T_stream (d := 6) hI.2.1.1 hx hI.2.1.2.2 hK.pk (by show A.2.2.2.2.2.2.1 < 890000; omega)) (Nat.le_of_ble_eq_true rfl) (fun r τ q => ⟨q.1, hK.stream hi q.2⟩))
  exact BM.mono (L_stream (d := 9) (N := n) h hK.pk hK.2.1 (by omega) hx (by omega)) (fun r S' hX => PuX.le9 hX (by first | omega | (dsimp only; omega)) (by first | omega | (dsimp only; omega)))
theorem O_reason (hI : LInv i n w g σ K) (hi : i < 24) : OpR i n K gk_X1_reason [aR (K 1)] tk_reason [.inr 0] g σ [] (pReason w) := by
  obtain ⟨tp, sc, A, ds, cl, re⟩ := w
  have hK := hI.2.2
  have hw : WF A := hK.2.2.1
  have htp : SgO tp := hK.1.1
  have hni : n ≤ i := hK.2.2.2.2.2.1
  have htl : tp.length ≤ n := hK.2.1.1
  have hsc : ∀ k s, sc k = some s → SgO s := fun k s e => (hK.1.2 k s e).1
  have hdl : ds.length ≤ 40 := hK.2.2.2.1.2
  have hnid : A.2.2.2.2.2.2.1 < 100000 := hK.nid
  have hcl : cl ≤ i := hK.2.2.2.2.1.1
  have hb := bud_s hni
  have hc1 := (cst_ge (n := n)).1
  have hc2 := (cst_ge (n := n)).2
  have hbl := bud_le (n := n) (i := i + 1) (by omega) (by omega)
  have e : (pReason (tp, sc, A, ds, cl, re)).2 = (tp, sc, A, ds, cl, re) := rfl
  refine OpR.mk hI (fun S la h => ?_) (TM.k9 (T_reason (d := 29) hI.2.1.1) (Nat.le_of_ble_eq_true rfl) (by rw [e]; exact hK.same hi))
  obtain ⟨cap, hcap, hL, hD, hR, h11, h12⟩ := id h
  exact BM.mono (L_reason (d := 194) hL.1.obx h12) (fun r S' hX => PuX.rd h e hX (rfl) (by first | omega | (dsimp only; omega)) (by omega))
theorem O_scriptLength (hI : LInv i n w g σ K) (hi : i < 24) (hx : inR x) : OpR i n K gk_X1_scriptLength [aR (K 1), aI x] tk_scriptLength [.inr 0, .inl x] g σ [202] (pSLen x w) := by
  obtain ⟨tp, sc, A, ds, cl, re⟩ := w
  have hK := hI.2.2
  have hw : WF A := hK.2.2.1
  have htp : SgO tp := hK.1.1
  have hni : n ≤ i := hK.2.2.2.2.2.1
  have htl : tp.length ≤ n := hK.2.1.1
  have hsc : ∀ k s, sc k = some s → SgO s := fun k s e => (hK.1.2 k s e).1
  have hdl : ds.length ≤ 40 := hK.2.2.2.1.2
  have hnid : A.2.2.2.2.2.2.1 < 100000 := hK.nid
  have hcl : cl ≤ i := hK.2.2.2.2.1.1
  have hb := bud_s hni
  have hc1 := (cst_ge (n := n)).1
  have hc2 := (cst_ge (n := n)).2
  have hbl := bud_le (n := n) (i := i + 1) (by omega) (by omega)
  have e : (pSLen x (tp, sc, A, ds, cl, re)).2 = (tp, sc, A, ds, cl, re) := congrArg Prod.snd pSLen_e
  refine OpR.mk hI (fun S la h => ?_) (TM.k9 (T_scriptLength (d := 28) hI.2.1.1 hx) (Nat.le_of_ble_eq_true rfl) (by rw [e]; exact hK.same hi))
  obtain ⟨cap, hcap, hL, hD, hR, h11, h12⟩ := id h
  exact BM.mono (L_scriptLength (d := 194) hL hR hsc hx) (fun r S' hX => PuX.rd h e hX ((congrArg Prod.fst pSLen_e).symm) (by first | omega | (dsimp only; omega)) (by omega))
theorem O_scriptAt (hI : LInv i n w g σ K) (hi : i < 24) (hx : inR x) (hz : inR z) : OpR i n K gk_X1_scriptAt [aR (K 1), aI x, aI z] tk_scriptAt [.inr 0, .inl x, .inl z] g σ [202] (pSAt x z w) := by
  obtain ⟨tp, sc, A, ds, cl, re⟩ := w
  have hK := hI.2.2
  have hw : WF A := hK.2.2.1
  have htp : SgO tp := hK.1.1
  have hni : n ≤ i := hK.2.2.2.2.2.1
  have htl : tp.length ≤ n := hK.2.1.1
  have hsc : ∀ k s, sc k = some s → SgO s := fun k s e => (hK.1.2 k s e).1
  have hdl : ds.length ≤ 40 := hK.2.2.2.1.2
  have hnid : A.2.2.2.2.2.2.1 < 100000 := hK.nid
  have hcl : cl ≤ i := hK.2.2.2.2.1.1
  have hb := bud_s hni
  have hc1 := (cst_ge (n := n)).1
  have hc2 := (cst_ge (n := n)).2
  have hbl := bud_le (n := n) (i := i + 1) (by omega) (by omega)
  have e : (pSAt x z (tp, sc, A, ds, cl, re)).2 = (tp, sc, A, ds, cl, re) := congrArg Prod.snd pSAt_e
  refine OpR.mk hI (fun S la h => ?_) (TM.k9 (T_scriptAt (d := 28) hI.2.1.1 hx hz hsc) (Nat.le_of_ble_eq_true rfl) (by rw [e]; exact hK.same hi))
  obtain ⟨cap, hcap, hL, hD, hR, h11, h12⟩ := id h
  exact BM.mono (L_scriptAt (d := 194) hL hR hsc hx hz) (fun r S' hX => PuX.rd h e hX ((congrArg Prod.fst pSAt_e).symm) (by first | omega | (dsimp only; omega)) (by omega))
theorem O_undo (hI : LInv i n w g σ K) (hi : i < 24) : OpR i n K gk_X1_undo [aR (K 1)] tk_undo [.inr 0] g σ [201] (pUndo w) := by
  obtain ⟨tp, sc, A, ds, cl, re⟩ := w
  have hK := hI.2.2
  have hw : WF A := hK.2.2.1
  have htp : SgO tp := hK.1.1
  have hni : n ≤ i := hK.2.2.2.2.2.1
  have htl : tp.length ≤ n := hK.2.1.1
  have hsc : ∀ k s, sc k = some s → SgO s := fun k s e => (hK.1.2 k s e).1
  have hdl : ds.length ≤ 40 := hK.2.2.2.1.2
  have hnid : A.2.2.2.2.2.2.1 < 100000 := hK.nid
  have hcl : cl ≤ i := hK.2.2.2.2.1.1
  have hb := bud_s hni
  have hc1 := (cst_ge (n := n)).1
  have hc2 := (cst_ge (n := n)).2
  have hbl := bud_le (n := n) (i := i + 1) (by omega) (by omega)
  refine OpR.mk hI (fun S la h => ?_) (TM.k9 (T_undo (d := 27) hI.2.1.1) (Nat.le_of_ble_eq_true rfl) (hK.undo hi))
  exact BM.mono (L_undo (d := 186) h hK.pk (by omega)) (fun r S' hX => PuX.le9 hX (by first | omega | (dsimp only; omega)) (by first | omega | (dsimp only; omega)))
theorem O_undoRun (hI : LInv i n w g σ K) (hi : i < 24) : OpR i n K gk_X1_undoRun [aR (K 1)] tk_undoRun [.inr 0] g σ [201] (pUndoRun w) := by
  obtain ⟨tp, sc, A, ds, cl, re⟩ := w
  have hK := hI.2.2
  have hw : WF A := hK.2.2.1
  have htp : SgO tp := hK.1.1
  have hni : n ≤ i := hK.2.2.2.2.2.1
  have htl : tp.length ≤ n := hK.2.1.1
  have hsc : ∀ k s, sc k = some s → SgO s := fun k s e => (hK.1.2 k s e).1
  have hdl : ds.length ≤ 40 := hK.2.2.2.1.2
  have hnid : A.2.2.2.2.2.2.1 < 100000 := hK.nid
  have hcl : cl ≤ i := hK.2.2.2.2.1.1
  have hb := bud_s hni
  have hc1 := (cst_ge (n := n)).1
  have hc2 := (cst_ge (n := n)).2
  have hbl := bud_le (n := n) (i := i + 1) (by omega) (by omega)
  refine OpR.mk hI (fun S la h => ?_) (TM.k9 (T_undoRun (d := 27) hI.2.1.1 (fun q hq => (hK.2.2.2.1.1 q hq).1)) (Nat.le_of_ble_eq_true rfl) (hK.undoRun hi))
  exact BM.mono (L_undoRun (d := 186) h hK.pk (by omega)) (fun r S' hX => PuX.le9 hX (by first | omega | (dsimp only; omega)) (by first | omega | (dsimp only; omega)))
theorem O_deeds (hI : LInv i n w g σ K) (hi : i < 24) : OpR i n K gk_X1_deeds [aR (K 1)] tk_deeds [.inr 0] g σ [] (pDeeds w) := by
  obtain ⟨tp, sc, A, ds, cl, re⟩ := w
  have hK := hI.2.2
  have hw : WF A := hK.2.2.1
  have htp : SgO tp := hK.1.1
  have hni : n ≤ i := hK.2.2.2.2.2.1
  have htl : tp.length ≤ n := hK.2.1.1
  have hsc : ∀ k s, sc k = some s → SgO s := fun k s e => (hK.1.2 k s e).1
  have hdl : ds.length ≤ 40 := hK.2.2.2.1.2
  have hnid : A.2.2.2.2.2.2.1 < 100000 := hK.nid
  have hcl : cl ≤ i := hK.2.2.2.2.1.1
  have hb := bud_s hni
  have hc1 := (cst_ge (n := n)).1
  have hc2 := (cst_ge (n := n)).2
  have hbl := bud_le (n := n) (i := i + 1) (by omega) (by omega)
  have e : (pDeeds (tp, sc, A, ds, cl, re)).2 = (tp, sc, A, ds, cl, re) := rfl
  refine OpR.mk hI (fun S la h => ?_) (TM.k9 (T_deeds (d := 29) hI.2.1.1) (Nat.le_of_ble_eq_true rfl) (by rw [e]; exact hK.same hi))
  obtain ⟨cap, hcap, hL, hD, hR, h11, h12⟩ := id h
  exact BM.mono (L_deeds (d := 194) hL hD hdl) (fun r S' hX => PuX.rd h e hX (rfl) (by first | omega | (dsimp only; omega)) (by omega))
theorem O_lines (hI : LInv i n w g σ K) (hi : i < 24) : OpR i n K gk_X1_lines [aR (K 1)] tk_lines [.inr 0] g σ [] (pLines w) := by
  obtain ⟨tp, sc, A, ds, cl, re⟩ := w
  have hK := hI.2.2
  have hw : WF A := hK.2.2.1
  have htp : SgO tp := hK.1.1
  have hni : n ≤ i := hK.2.2.2.2.2.1
  have htl : tp.length ≤ n := hK.2.1.1
  have hsc : ∀ k s, sc k = some s → SgO s := fun k s e => (hK.1.2 k s e).1
  have hdl : ds.length ≤ 40 := hK.2.2.2.1.2
  have hnid : A.2.2.2.2.2.2.1 < 100000 := hK.nid
  have hcl : cl ≤ i := hK.2.2.2.2.1.1
  have hb := bud_s hni
  have hc1 := (cst_ge (n := n)).1
  have hc2 := (cst_ge (n := n)).2
  have hbl := bud_le (n := n) (i := i + 1) (by omega) (by omega)
  have e : (pLines (tp, sc, A, ds, cl, re)).2 = (tp, sc, A, ds, cl, re) := rfl
  refine OpR.mk hI (fun S la h => ?_) (TM.k9 (T_lines (d := 29) hI.2.1.1) (Nat.le_of_ble_eq_true rfl) (by rw [e]; exact hK.same hi))
  obtain ⟨cap, hcap, hL, hD, hR, h11, h12⟩ := id h
  exact BM.mono (L_lines (d := 194) hL hw) (fun r S' hX => PuX.rd h e hX (rfl) (by first | omega | (dsimp only; omega)) (by omega))
theorem O_length (hI : LInv i n w g σ K) (hi : i < 24) (hx : inR x) : OpR i n K gk_X1_length [aR (K 1), aI x] tk_length [.inr 0, .inl x] g σ [202] (pLength x w) := by
  obtain ⟨tp, sc, A, ds, cl, re⟩ := w
  have hK := hI.2.2
  have hw : WF A := hK.2.2.1
  have htp : SgO tp := hK.1.1
  have hni : n ≤ i := hK.2.2.2.2.2.1
  have htl : tp.length ≤ n := hK.2.1.1
  have hsc : ∀ k s, sc k = some s → SgO s := fun k s e => (hK.1.2 k s e).1
  have hdl : ds.length ≤ 40 := hK.2.2.2.1.2
  have hnid : A.2.2.2.2.2.2.1 < 100000 := hK.nid
  have hcl : cl ≤ i := hK.2.2.2.2.1.1
  have hb := bud_s hni
  have hc1 := (cst_ge (n := n)).1
  have hc2 := (cst_ge (n := n)).2
  have hbl := bud_le (n := n) (i := i + 1) (by omega) (by omega)
  have e : (pLength x (tp, sc, A, ds, cl, re)).2 = (tp, sc, A, ds, cl, re) := congrArg Prod.snd pLength_e
  refine OpR.mk hI (fun S la h => ?_) (TM.k9 (T_length (d := 28) hI.2.1.1 hx) (Nat.le_of_ble_eq_true rfl) (by rw [e]; exact hK.same hi))
  obtain ⟨cap, hcap, hL, hD, hR, h11, h12⟩ := id h
  exact BM.mono (L_length (d := 194) hL hw hx) (fun r S' hX => PuX.rd h e hX ((congrArg Prod.fst pLength_e).symm) (by first | omega | (dsimp only; omega)) (by omega))
theorem O_at (hI : LInv i n w g σ K) (hi : i < 24) (hx : inR x) (hz : inR z) : OpR i n K gk_X1_at [aR (K 1), aI x, aI z] tk_at [.inr 0, .inl x, .inl z] g σ [202] (pAt x z w) := by
  obtain ⟨tp, sc, A, ds, cl, re⟩ := w
  have hK := hI.2.2
  have hw : WF A := hK.2.2.1
  have htp : SgO tp := hK.1.1
  have hni : n ≤ i := hK.2.2.2.2.2.1
  have htl : tp.length ≤ n := hK.2.1.1
  have hsc : ∀ k s, sc k = some s → SgO s := fun k s e => (hK.1.2 k s e).1
  have hdl : ds.length ≤ 40 := hK.2.2.2.1.2
  have hnid : A.2.2.2.2.2.2.1 < 100000 := hK.nid
  have hcl : cl ≤ i := hK.2.2.2.2.1.1
  have hb := bud_s hni
  have hc1 := (cst_ge (n := n)).1
  have hc2 := (cst_ge (n := n)).2
  have hbl := bud_le (n := n) (i := i + 1) (by omega) (by omega)
  have e : (pAt x z (tp, sc, A, ds, cl, re)).2 = (tp, sc, A, ds, cl, re) := congrArg Prod.snd pAt_e
  refine OpR.mk hI (fun S la h => ?_) (TM.k9 (T_at (d := 27) hI.2.1.1 hx hz) (Nat.le_of_ble_eq_true rfl) (by rw [e]; exact hK.same hi))
  obtain ⟨cap, hcap, hL, hD, hR, h11, h12⟩ := id h
  exact BM.mono (L_at (d := 194) hL hw hx hz) (fun r S' hX => PuX.rd h e hX ((congrArg Prod.fst pAt_e).symm) (by first | omega | (dsimp only; omega)) (by omega))
theorem O_id (hI : LInv i n w g σ K) (hi : i < 24) (hx : inR x) : OpR i n K gk_X1_id [aR (K 1), aI x] tk_id [.inr 0, .inl x] g σ [202] (pId x w) := by
  obtain ⟨tp, sc, A, ds, cl, re⟩ := w
  have hK := hI.2.2
  have hw : WF A := hK.2.2.1
  have htp : SgO tp := hK.1.1
  have hni : n ≤ i := hK.2.2.2.2.2.1
  have htl : tp.length ≤ n := hK.2.1.1
  have hsc : ∀ k s, sc k = some s → SgO s := fun k s e => (hK.1.2 k s e).1
  have hdl : ds.length ≤ 40 := hK.2.2.2.1.2
  have hnid : A.2.2.2.2.2.2.1 < 100000 := hK.nid
  have hcl : cl ≤ i := hK.2.2.2.2.1.1
  have hb := bud_s hni
  have hc1 := (cst_ge (n := n)).1
  have hc2 := (cst_ge (n := n)).2
  have hbl := bud_le (n := n) (i := i + 1) (by omega) (by omega)
  have e : (pId x (tp, sc, A, ds, cl, re)).2 = (tp, sc, A, ds, cl, re) := congrArg Prod.snd pId_e
  refine OpR.mk hI (fun S la h => ?_) (TM.k9 (T_id (d := 28) hI.2.1.1 hx) (Nat.le_of_ble_eq_true rfl) (by rw [e]; exact hK.same hi))
  obtain ⟨cap, hcap, hL, hD, hR, h11, h12⟩ := id h
  exact BM.mono (L_id (d := 194) hL hw hx) (fun r S' hX => PuX.rd h e hX ((congrArg Prod.fst pId_e).symm) (by first | omega | (dsimp only; omega)) (by omega))
theorem O_lineOf (hI : LInv i n w g σ K) (hi : i < 24) (hx : inR x) : OpR i n K gk_X1_lineOf [aR (K 1), aI x] tk_lineOf [.inr 0, .inl x] g σ [] (pLineOf x w) := by
  obtain ⟨tp, sc, A, ds, cl, re⟩ := w
  have hK := hI.2.2
  have hw : WF A := hK.2.2.1
  have htp : SgO tp := hK.1.1
  have hni : n ≤ i := hK.2.2.2.2.2.1
  have htl : tp.length ≤ n := hK.2.1.1
  have hsc : ∀ k s, sc k = some s → SgO s := fun k s e => (hK.1.2 k s e).1
  have hdl : ds.length ≤ 40 := hK.2.2.2.1.2
  have hnid : A.2.2.2.2.2.2.1 < 100000 := hK.nid
  have hcl : cl ≤ i := hK.2.2.2.2.1.1
  have hb := bud_s hni
  have hc1 := (cst_ge (n := n)).1
  have hc2 := (cst_ge (n := n)).2
  have hbl := bud_le (n := n) (i := i + 1) (by omega) (by omega)
  have e : (pLineOf x (tp, sc, A, ds, cl, re)).2 = (tp, sc, A, ds, cl, re) := rfl
  refine OpR.mk hI (fun S la h => ?_) (TM.k9 (T_lineOf (d := 28) hI.2.1.1 hx) (Nat.le_of_ble_eq_true rfl) (by rw [e]; exact hK.same hi))
  obtain ⟨cap, hcap, hL, hD, hR, h11, h12⟩ := id h
  exact BM.mono (L_lineOf (d := 194) hL hw hx) (fun r S' hX => PuX.rd h e hX (rfl) (by first | omega | (dsimp only; omega)) (by omega))
theorem O_present (hI : LInv i n w g σ K) (hi : i < 24) : OpR i n K gk_X1_present [aR (K 1)] tk_present [.inr 0] g σ [] (pPresent w) := by
  obtain ⟨tp, sc, A, ds, cl, re⟩ := w
  have hK := hI.2.2
  have hw : WF A := hK.2.2.1
  have htp : SgO tp := hK.1.1
  have hni : n ≤ i := hK.2.2.2.2.2.1
  have htl : tp.length ≤ n := hK.2.1.1
  have hsc : ∀ k s, sc k = some s → SgO s := fun k s e => (hK.1.2 k s e).1
  have hdl : ds.length ≤ 40 := hK.2.2.2.1.2
  have hnid : A.2.2.2.2.2.2.1 < 100000 := hK.nid
  have hcl : cl ≤ i := hK.2.2.2.2.1.1
  have hb := bud_s hni
  have hc1 := (cst_ge (n := n)).1
  have hc2 := (cst_ge (n := n)).2
  have hbl := bud_le (n := n) (i := i + 1) (by omega) (by omega)
  have e : (pPresent (tp, sc, A, ds, cl, re)).2 = (tp, sc, A, ds, cl, re) := rfl
  refine OpR.mk hI (fun S la h => ?_) (TM.k9 (T_present (d := 29) hI.2.1.1) (Nat.le_of_ble_eq_true rfl) (by rw [e]; exact hK.same hi))
  obtain ⟨cap, hcap, hL, hD, hR, h11, h12⟩ := id h
  exact BM.mono (L_present (d := 194) hL hw) (fun r S' hX => PuX.rd h e hX (rfl) (by first | omega | (dsimp only; omega)) (by omega))
theorem O_mark (hI : LInv i n w g σ K) (hi : i < 24) (hx : inR x) : OpR i n K gk_X1_mark [aR (K 1), aI x] tk_mark [.inr 0, .inl x] g σ [202] (pMark x w) := by
  obtain ⟨tp, sc, A, ds, cl, re⟩ := w
  have hK := hI.2.2
  have hw : WF A := hK.2.2.1
  have htp : SgO tp := hK.1.1
  have hni : n ≤ i := hK.2.2.2.2.2.1
  have htl : tp.length ≤ n := hK.2.1.1
  have hsc : ∀ k s, sc k = some s → SgO s := fun k s e => (hK.1.2 k s e).1
  have hdl : ds.length ≤ 40 := hK.2.2.2.1.2
  have hnid : A.2.2.2.2.2.2.1 < 100000 := hK.nid
  have hcl : cl ≤ i := hK.2.2.2.2.1.1
  have hb := bud_s hni
  have hc1 := (cst_ge (n := n)).1
  have hc2 := (cst_ge (n := n)).2
  have hbl := bud_le (n := n) (i := i + 1) (by omega) (by omega)
  have e : (pMark x (tp, sc, A, ds, cl, re)).2 = (tp, sc, A, ds, cl, re) := by
    unfold pMark
    split
    · dsimp only
      cases A.2.2.2.2.2.1 x.toNat <;> rfl
    · rfl
  refine OpR.mk hI (fun S la h => ?_) (TM.k9 (T_mark (d := 28) hI.2.1.1 hx hw (by show A.2.2.2.2.2.2.1 < 2000000; omega)) (Nat.le_of_ble_eq_true rfl) (by rw [e]; exact hK.same hi))
  obtain ⟨cap, hcap, hL, hD, hR, h11, h12⟩ := id h
  exact BM.mono (L_mark (d := 194) (tp := tp) (sc := sc) (ds := ds) (cl := cl) (re := re) hL hw (by omega) hx) (fun r S' hX => PuX.rd h e hX (rfl) (by first | omega | (dsimp only; omega)) (by omega))
theorem O_sample (hI : LInv i n w g σ K) (hi : i < 24) (hx : inR x) (hz : inR z) : OpR i n K gk_X1_sample [aR (K 1), aI x, aI z] tk_sample [.inr 0, .inl x, .inl z] g σ [200, 201] (pSample x z w) := by
  obtain ⟨tp, sc, A, ds, cl, re⟩ := w
  have hK := hI.2.2
  have hw : WF A := hK.2.2.1
  have htp : SgO tp := hK.1.1
  have hni : n ≤ i := hK.2.2.2.2.2.1
  have htl : tp.length ≤ n := hK.2.1.1
  have hsc : ∀ k s, sc k = some s → SgO s := fun k s e => (hK.1.2 k s e).1
  have hdl : ds.length ≤ 40 := hK.2.2.2.1.2
  have hnid : A.2.2.2.2.2.2.1 < 100000 := hK.nid
  have hcl : cl ≤ i := hK.2.2.2.2.1.1
  have hb := bud_s hni
  have hc1 := (cst_ge (n := n)).1
  have hc2 := (cst_ge (n := n)).2
  have hbl := bud_le (n := n) (i := i + 1) (by omega) (by omega)
  refine OpR.mk hI (fun S la h => ?_) (TM.k9 (T_sample (d := 24) hI.2.1.1 hx hz hw (by show A.2.2.2.2.2.2.1 < 890000; omega) (by show cl < 1000; omega)) (Nat.le_of_ble_eq_true rfl) (hK.sample hi))
  exact BM.mono (L_sample (d := 179) h hK.pk hx hz (by omega)) (fun r S' hX => PuX.le9 hX (by first | omega | (dsimp only; omega)) (by first | omega | (dsimp only; omega)))
theorem O_held (hI : LInv i n w g σ K) (hi : i < 24) : OpR i n K gk_X1_held [aR (K 1)] tk_held [.inr 0] g σ [] (pHeld w) := by
  obtain ⟨tp, sc, A, ds, cl, re⟩ := w
  have hK := hI.2.2
  have hw : WF A := hK.2.2.1
  have htp : SgO tp := hK.1.1
  have hni : n ≤ i := hK.2.2.2.2.2.1
  have htl : tp.length ≤ n := hK.2.1.1
  have hsc : ∀ k s, sc k = some s → SgO s := fun k s e => (hK.1.2 k s e).1
  have hdl : ds.length ≤ 40 := hK.2.2.2.1.2
  have hnid : A.2.2.2.2.2.2.1 < 100000 := hK.nid
  have hcl : cl ≤ i := hK.2.2.2.2.1.1
  have hb := bud_s hni
  have hc1 := (cst_ge (n := n)).1
  have hc2 := (cst_ge (n := n)).2
  have hbl := bud_le (n := n) (i := i + 1) (by omega) (by omega)
  have e : (pHeld (tp, sc, A, ds, cl, re)).2 = (tp, sc, A, ds, cl, re) := rfl
  refine OpR.mk hI (fun S la h => ?_) (TM.k9 (T_held (d := 29) hI.2.1.1) (Nat.le_of_ble_eq_true rfl) (by rw [e]; exact hK.same hi))
  obtain ⟨cap, hcap, hL, hD, hR, h11, h12⟩ := id h
  exact BM.mono (L_held (d := 194) hL hw) (fun r S' hX => PuX.rd h e hX (rfl) (by first | omega | (dsimp only; omega)) (by omega))
theorem O_heldLength (hI : LInv i n w g σ K) (hi : i < 24) (hx : inR x) : OpR i n K gk_X1_heldLength [aR (K 1), aI x] tk_heldLength [.inr 0, .inl x] g σ [202] (rLen w.2.2.1.2.2.1 x w) := by
  obtain ⟨tp, sc, A, ds, cl, re⟩ := w
  have hK := hI.2.2
  have hw : WF A := hK.2.2.1
  have htp : SgO tp := hK.1.1
  have hni : n ≤ i := hK.2.2.2.2.2.1
  have htl : tp.length ≤ n := hK.2.1.1
  have hsc : ∀ k s, sc k = some s → SgO s := fun k s e => (hK.1.2 k s e).1
  have hdl : ds.length ≤ 40 := hK.2.2.2.1.2
  have hnid : A.2.2.2.2.2.2.1 < 100000 := hK.nid
  have hcl : cl ≤ i := hK.2.2.2.2.1.1
  have hb := bud_s hni
  have hc1 := (cst_ge (n := n)).1
  have hc2 := (cst_ge (n := n)).2
  have hbl := bud_le (n := n) (i := i + 1) (by omega) (by omega)
  have e : (rLen A.2.2.1 x (tp, sc, A, ds, cl, re)).2 = (tp, sc, A, ds, cl, re) := congrArg Prod.snd rLen_e
  refine OpR.mk hI (fun S la h => ?_) (TM.k9 (T_heldLength (d := 27) hI.2.1.1 hx) (Nat.le_of_ble_eq_true rfl) (by rw [e]; exact hK.same hi))
  obtain ⟨cap, hcap, hL, hD, hR, h11, h12⟩ := id h
  exact BM.mono (L_heldLength (d := 194) hL hw hx) (fun r S' hX => PuX.rd h e hX ((congrArg Prod.fst rLen_e).symm) (by first | omega | (dsimp only; omega)) (by omega))
theorem O_heldAt (hI : LInv i n w g σ K) (hi : i < 24) (hx : inR x) (hz : inR z) : OpR i n K gk_X1_heldAt [aR (K 1), aI x, aI z] tk_heldAt [.inr 0, .inl x, .inl z] g σ [202] (rAt w.2.2.1.2.2.1 x z w) := by
  obtain ⟨tp, sc, A, ds, cl, re⟩ := w
  have hK := hI.2.2
  have hw : WF A := hK.2.2.1
  have htp : SgO tp := hK.1.1
  have hni : n ≤ i := hK.2.2.2.2.2.1
  have htl : tp.length ≤ n := hK.2.1.1
  have hsc : ∀ k s, sc k = some s → SgO s := fun k s e => (hK.1.2 k s e).1
  have hdl : ds.length ≤ 40 := hK.2.2.2.1.2
  have hnid : A.2.2.2.2.2.2.1 < 100000 := hK.nid
  have hcl : cl ≤ i := hK.2.2.2.2.1.1
  have hb := bud_s hni
  have hc1 := (cst_ge (n := n)).1
  have hc2 := (cst_ge (n := n)).2
  have hbl := bud_le (n := n) (i := i + 1) (by omega) (by omega)
  have e : (rAt A.2.2.1 x z (tp, sc, A, ds, cl, re)).2 = (tp, sc, A, ds, cl, re) := congrArg Prod.snd rAt_e
  refine OpR.mk hI (fun S la h => ?_) (TM.k9 (T_heldAt (d := 27) hI.2.1.1 hx hz) (Nat.le_of_ble_eq_true rfl) (by rw [e]; exact hK.same hi))
  obtain ⟨cap, hcap, hL, hD, hR, h11, h12⟩ := id h
  exact BM.mono (L_heldAt (d := 194) hL hw hx hz) (fun r S' hX => PuX.rd h e hX ((congrArg Prod.fst rAt_e).symm) (by first | omega | (dsimp only; omega)) (by omega))
theorem O_outs (hI : LInv i n w g σ K) (hi : i < 24) : OpR i n K gk_X1_outs [aR (K 1)] tk_outs [.inr 0] g σ [] (pOuts w) := by
  obtain ⟨tp, sc, A, ds, cl, re⟩ := w
  have hK := hI.2.2
  have hw : WF A := hK.2.2.1
  have htp : SgO tp := hK.1.1
  have hni : n ≤ i := hK.2.2.2.2.2.1
  have htl : tp.length ≤ n := hK.2.1.1
  have hsc : ∀ k s, sc k = some s → SgO s := fun k s e => (hK.1.2 k s e).1
  have hdl : ds.length ≤ 40 := hK.2.2.2.1.2
  have hnid : A.2.2.2.2.2.2.1 < 100000 := hK.nid
  have hcl : cl ≤ i := hK.2.2.2.2.1.1
  have hb := bud_s hni
  have hc1 := (cst_ge (n := n)).1
  have hc2 := (cst_ge (n := n)).2
  have hbl := bud_le (n := n) (i := i + 1) (by omega) (by omega)
  have e : (pOuts (tp, sc, A, ds, cl, re)).2 = (tp, sc, A, ds, cl, re) := rfl
  refine OpR.mk hI (fun S la h => ?_) (TM.k9 (T_outs (d := 29) hI.2.1.1) (Nat.le_of_ble_eq_true rfl) (by rw [e]; exact hK.same hi))
  obtain ⟨cap, hcap, hL, hD, hR, h11, h12⟩ := id h
  exact BM.mono (L_outs (d := 194) hL hw) (fun r S' hX => PuX.rd h e hX (rfl) (by first | omega | (dsimp only; omega)) (by omega))
theorem O_outLength (hI : LInv i n w g σ K) (hi : i < 24) (hx : inR x) : OpR i n K gk_X1_outLength [aR (K 1), aI x] tk_outLength [.inr 0, .inl x] g σ [202] (rLen w.2.2.1.2.2.2.1 x w) := by
  obtain ⟨tp, sc, A, ds, cl, re⟩ := w
  have hK := hI.2.2
  have hw : WF A := hK.2.2.1
  have htp : SgO tp := hK.1.1
  have hni : n ≤ i := hK.2.2.2.2.2.1
  have htl : tp.length ≤ n := hK.2.1.1
  have hsc : ∀ k s, sc k = some s → SgO s := fun k s e => (hK.1.2 k s e).1
  have hdl : ds.length ≤ 40 := hK.2.2.2.1.2
  have hnid : A.2.2.2.2.2.2.1 < 100000 := hK.nid
  have hcl : cl ≤ i := hK.2.2.2.2.1.1
  have hb := bud_s hni
  have hc1 := (cst_ge (n := n)).1
  have hc2 := (cst_ge (n := n)).2
  have hbl := bud_le (n := n) (i := i + 1) (by omega) (by omega)
  have e : (rLen A.2.2.2.1 x (tp, sc, A, ds, cl, re)).2 = (tp, sc, A, ds, cl, re) := congrArg Prod.snd rLen_e
  refine OpR.mk hI (fun S la h => ?_) (TM.k9 (T_outLength (d := 27) hI.2.1.1 hx) (Nat.le_of_ble_eq_true rfl) (by rw [e]; exact hK.same hi))
  obtain ⟨cap, hcap, hL, hD, hR, h11, h12⟩ := id h
  exact BM.mono (L_outLength (d := 194) hL hw hx) (fun r S' hX => PuX.rd h e hX ((congrArg Prod.fst rLen_e).symm) (by first | omega | (dsimp only; omega)) (by omega))
theorem O_outAt (hI : LInv i n w g σ K) (hi : i < 24) (hx : inR x) (hz : inR z) : OpR i n K gk_X1_outAt [aR (K 1), aI x, aI z] tk_outAt [.inr 0, .inl x, .inl z] g σ [202] (rAt w.2.2.1.2.2.2.1 x z w) := by
  obtain ⟨tp, sc, A, ds, cl, re⟩ := w
  have hK := hI.2.2
  have hw : WF A := hK.2.2.1
  have htp : SgO tp := hK.1.1
  have hni : n ≤ i := hK.2.2.2.2.2.1
  have htl : tp.length ≤ n := hK.2.1.1
  have hsc : ∀ k s, sc k = some s → SgO s := fun k s e => (hK.1.2 k s e).1
  have hdl : ds.length ≤ 40 := hK.2.2.2.1.2
  have hnid : A.2.2.2.2.2.2.1 < 100000 := hK.nid
  have hcl : cl ≤ i := hK.2.2.2.2.1.1
  have hb := bud_s hni
  have hc1 := (cst_ge (n := n)).1
  have hc2 := (cst_ge (n := n)).2
  have hbl := bud_le (n := n) (i := i + 1) (by omega) (by omega)
  have e : (rAt A.2.2.2.1 x z (tp, sc, A, ds, cl, re)).2 = (tp, sc, A, ds, cl, re) := congrArg Prod.snd rAt_e
  refine OpR.mk hI (fun S la h => ?_) (TM.k9 (T_outAt (d := 27) hI.2.1.1 hx hz) (Nat.le_of_ble_eq_true rfl) (by rw [e]; exact hK.same hi))
  obtain ⟨cap, hcap, hL, hD, hR, h11, h12⟩ := id h
  exact BM.mono (L_outAt (d := 194) hL hw hx hz) (fun r S' hX => PuX.rd h e hX ((congrArg Prod.fst rAt_e).symm) (by first | omega | (dsimp only; omega)) (by omega))
theorem O_clearOut (hI : LInv i n w g σ K) (hi : i < 24) : OpR i n K gk_X1_clearOut [aR (K 1)] tk_clearOut [.inr 0] g σ [] (pClearOut w) := by
  obtain ⟨tp, sc, A, ds, cl, re⟩ := w
  have hK := hI.2.2
  have hw : WF A := hK.2.2.1
  have htp : SgO tp := hK.1.1
  have hni : n ≤ i := hK.2.2.2.2.2.1
  have htl : tp.length ≤ n := hK.2.1.1
  have hsc : ∀ k s, sc k = some s → SgO s := fun k s e => (hK.1.2 k s e).1
  have hdl : ds.length ≤ 40 := hK.2.2.2.1.2
  have hnid : A.2.2.2.2.2.2.1 < 100000 := hK.nid
  have hcl : cl ≤ i := hK.2.2.2.2.1.1
  have hb := bud_s hni
  have hc1 := (cst_ge (n := n)).1
  have hc2 := (cst_ge (n := n)).2
  have hbl := bud_le (n := n) (i := i + 1) (by omega) (by omega)
  refine OpR.mk hI (fun S la h => ?_) (TM.k9 (T_clearOut (d := 29) hI.2.1.1) (Nat.le_of_ble_eq_true rfl) (hK.clearOut hi))
  exact BM.mono (L_clearOut (d := 194) h hw (by omega)) (fun r S' hX => PuX.le9 hX (by first | omega | (dsimp only; omega)) (by first | omega | (dsimp only; omega)))
theorem O_fileRows (hI : LInv i n w g σ K) (hi : i < 24) (hx : inR x) : OpR i n K gk_X1_fileRows [aR (K 1), aI x] tk_fileRows [.inr 0, .inl x] g σ [202] (pFRows x w) := by
  obtain ⟨tp, sc, A, ds, cl, re⟩ := w
  have hK := hI.2.2
  have hw : WF A := hK.2.2.1
  have htp : SgO tp := hK.1.1
  have hni : n ≤ i := hK.2.2.2.2.2.1
  have htl : tp.length ≤ n := hK.2.1.1
  have hsc : ∀ k s, sc k = some s → SgO s := fun k s e => (hK.1.2 k s e).1
  have hdl : ds.length ≤ 40 := hK.2.2.2.1.2
  have hnid : A.2.2.2.2.2.2.1 < 100000 := hK.nid
  have hcl : cl ≤ i := hK.2.2.2.2.1.1
  have hb := bud_s hni
  have hc1 := (cst_ge (n := n)).1
  have hc2 := (cst_ge (n := n)).2
  have hbl := bud_le (n := n) (i := i + 1) (by omega) (by omega)
  have e : (pFRows x (tp, sc, A, ds, cl, re)).2 = (tp, sc, A, ds, cl, re) := congrArg Prod.snd pFRows_e
  refine OpR.mk hI (fun S la h => ?_) (TM.k9 (T_fileRows (d := 28) hI.2.1.1 hx) (Nat.le_of_ble_eq_true rfl) (by rw [e]; exact hK.same hi))
  obtain ⟨cap, hcap, hL, hD, hR, h11, h12⟩ := id h
  exact BM.mono (L_fileRows (d := 194) hL hw hx) (fun r S' hX => PuX.rd h e hX ((congrArg Prod.fst pFRows_e).symm) (by first | omega | (dsimp only; omega)) (by omega))
theorem O_fileLength (hI : LInv i n w g σ K) (hi : i < 24) (hx : inR x) (hz : inR z) : OpR i n K gk_X1_fileLength [aR (K 1), aI x, aI z] tk_fileLength [.inr 0, .inl x, .inl z] g σ [202] (pFLen x z w) := by
  obtain ⟨tp, sc, A, ds, cl, re⟩ := w
  have hK := hI.2.2
  have hw : WF A := hK.2.2.1
  have htp : SgO tp := hK.1.1
  have hni : n ≤ i := hK.2.2.2.2.2.1
  have htl : tp.length ≤ n := hK.2.1.1
  have hsc : ∀ k s, sc k = some s → SgO s := fun k s e => (hK.1.2 k s e).1
  have hdl : ds.length ≤ 40 := hK.2.2.2.1.2
  have hnid : A.2.2.2.2.2.2.1 < 100000 := hK.nid
  have hcl : cl ≤ i := hK.2.2.2.2.1.1
  have hb := bud_s hni
  have hc1 := (cst_ge (n := n)).1
  have hc2 := (cst_ge (n := n)).2
  have hbl := bud_le (n := n) (i := i + 1) (by omega) (by omega)
  have e : (pFLen x z (tp, sc, A, ds, cl, re)).2 = (tp, sc, A, ds, cl, re) := congrArg Prod.snd pFLen_e
  refine OpR.mk hI (fun S la h => ?_) (TM.k9 (T_fileLength (d := 27) hI.2.1.1 hx hz) (Nat.le_of_ble_eq_true rfl) (by rw [e]; exact hK.same hi))
  obtain ⟨cap, hcap, hL, hD, hR, h11, h12⟩ := id h
  exact BM.mono (L_fileLength (d := 194) hL hw hx hz) (fun r S' hX => PuX.rd h e hX ((congrArg Prod.fst pFLen_e).symm) (by first | omega | (dsimp only; omega)) (by omega))
theorem O_fileAt (hI : LInv i n w g σ K) (hi : i < 24) (hx : inR x) (hz : inR z) (hu : inR u) : OpR i n K gk_X1_fileAt [aR (K 1), aI x, aI z, aI u] tk_fileAt [.inr 0, .inl x, .inl z, .inl u] g σ [202] (pFAt x z u w) := by
  obtain ⟨tp, sc, A, ds, cl, re⟩ := w
  have hK := hI.2.2
  have hw : WF A := hK.2.2.1
  have htp : SgO tp := hK.1.1
  have hni : n ≤ i := hK.2.2.2.2.2.1
  have htl : tp.length ≤ n := hK.2.1.1
  have hsc : ∀ k s, sc k = some s → SgO s := fun k s e => (hK.1.2 k s e).1
  have hdl : ds.length ≤ 40 := hK.2.2.2.1.2
  have hnid : A.2.2.2.2.2.2.1 < 100000 := hK.nid
  have hcl : cl ≤ i := hK.2.2.2.2.1.1
  have hb := bud_s hni
  have hc1 := (cst_ge (n := n)).1
  have hc2 := (cst_ge (n := n)).2
  have hbl := bud_le (n := n) (i := i + 1) (by omega) (by omega)
  have e : (pFAt x z u (tp, sc, A, ds, cl, re)).2 = (tp, sc, A, ds, cl, re) := congrArg Prod.snd pFAt_e
  refine OpR.mk hI (fun S la h => ?_) (TM.k9 (T_fileAt (d := 27) hI.2.1.1 hx hz hu) (Nat.le_of_ble_eq_true rfl) (by rw [e]; exact hK.same hi))
  obtain ⟨cap, hcap, hL, hD, hR, h11, h12⟩ := id h
  exact BM.mono (L_fileAt (d := 194) hL hw hx hz hu) (fun r S' hX => PuX.rd h e hX ((congrArg Prod.fst pFAt_e).symm) (by first | omega | (dsimp only; omega)) (by omega))
theorem O_find (hI : LInv i n w g σ K) (hi : i < 24) : OpR i n K gk_X1_find [aR (K 1), aI (b2i bk)] tk_find [.inr 0, .inl (b2i bk)] g σ [201] (pFind bk w) := by
  obtain ⟨tp, sc, A, ds, cl, re⟩ := w
  have hK := hI.2.2
  have hw : WF A := hK.2.2.1
  have htp : SgO tp := hK.1.1
  have hni : n ≤ i := hK.2.2.2.2.2.1
  have htl : tp.length ≤ n := hK.2.1.1
  have hsc : ∀ k s, sc k = some s → SgO s := fun k s e => (hK.1.2 k s e).1
  have hdl : ds.length ≤ 40 := hK.2.2.2.1.2
  have hnid : A.2.2.2.2.2.2.1 < 100000 := hK.nid
  have hcl : cl ≤ i := hK.2.2.2.2.1.1
  have hb := bud_s hni
  have hc1 := (cst_ge (n := n)).1
  have hc2 := (cst_ge (n := n)).2
  have hbl := bud_le (n := n) (i := i + 1) (by omega) (by omega)
  have e : (pFind bk (tp, sc, A, ds, cl, re)).2 = (tp, sc, A, ds, cl, re) := by
    unfold pFind
    dsimp only
    cases sPattern tp <;> rfl
  refine OpR.mk hI (fun S la h => ?_) (TM.k9 (T_find (d := 14) (bk := bk) hI.2.1.1 htp hw) (Nat.le_of_ble_eq_true rfl) (by rw [e]; exact hK.same hi))
  exact BM.mono (L_find (d := 6) (bk := bk) h hK.pk rfl (by omega)) (fun r S' hX => PuX.le9 hX (by first | omega | (dsimp only; omega)) (by first | omega | (dsimp only; omega)))
theorem O_findSE (hI : LInv i n w g σ K) (hi : i < 24) (hx : inR x) : OpR i n K (if en = true then gk_X1_findEnd else gk_X1_findStart) [aR (K 1), aI x] (if en = true then tk_findEnd else tk_findStart) [.inr 0, .inl x] g σ [202, 201] (pFSE en x w) := by
  obtain ⟨tp, sc, A, ds, cl, re⟩ := w
  have hK := hI.2.2
  have hw : WF A := hK.2.2.1
  have htp : SgO tp := hK.1.1
  have hni : n ≤ i := hK.2.2.2.2.2.1
  have htl : tp.length ≤ n := hK.2.1.1
  have hsc : ∀ k s, sc k = some s → SgO s := fun k s e => (hK.1.2 k s e).1
  have hdl : ds.length ≤ 40 := hK.2.2.2.1.2
  have hnid : A.2.2.2.2.2.2.1 < 100000 := hK.nid
  have hcl : cl ≤ i := hK.2.2.2.2.1.1
  have hb := bud_s hni
  have hc1 := (cst_ge (n := n)).1
  have hc2 := (cst_ge (n := n)).2
  have hbl := bud_le (n := n) (i := i + 1) (by omega) (by omega)
  have e : (pFSE en x (tp, sc, A, ds, cl, re)).2 = (tp, sc, A, ds, cl, re) := by
    unfold pFSE
    split
    · rfl
    · dsimp only
      cases sPattern tp <;> rfl
  refine OpR.mk hI (fun S la h => ?_) (TM.k9 (T_findSE (d := 13) (en := en) hI.2.1.1 hx htp hw) (Nat.le_of_ble_eq_true rfl) (by rw [e]; exact hK.same hi))
  obtain ⟨cap, hcap, hL, hD, hR, h11, h12⟩ := id h
  exact BM.mono (L_findSE (d := 16) (en := en) (ds := ds) (cl := cl) (re := re) hL hR hw htp hx (by omega)) (fun r S' hX => PuX.rd h e hX (rfl) (by first | omega | (dsimp only; omega)) (by omega))
theorem O_differ (hI : LInv i n w g σ K) (hi : i < 24) (hx : inR x) : OpR i n K gk_X1_differ [aR (K 1), aI x] tk_differ [.inr 0, .inl x] g σ [202] (pDiffer x w) := by
  obtain ⟨tp, sc, A, ds, cl, re⟩ := w
  have hK := hI.2.2
  have hw : WF A := hK.2.2.1
  have htp : SgO tp := hK.1.1
  have hni : n ≤ i := hK.2.2.2.2.2.1
  have htl : tp.length ≤ n := hK.2.1.1
  have hsc : ∀ k s, sc k = some s → SgO s := fun k s e => (hK.1.2 k s e).1
  have hdl : ds.length ≤ 40 := hK.2.2.2.1.2
  have hnid : A.2.2.2.2.2.2.1 < 100000 := hK.nid
  have hcl : cl ≤ i := hK.2.2.2.2.1.1
  have hb := bud_s hni
  have hc1 := (cst_ge (n := n)).1
  have hc2 := (cst_ge (n := n)).2
  have hbl := bud_le (n := n) (i := i + 1) (by omega) (by omega)
  have e : (pDiffer x (tp, sc, A, ds, cl, re)).2 = (tp, sc, A, ds, cl, re) := congrArg Prod.snd pDiffer_e
  refine OpR.mk hI (fun S la h => ?_) (TM.k9 (T_differ (d := 24) hI.2.1.1 hx) (Nat.le_of_ble_eq_true rfl) (by rw [e]; exact hK.same hi))
  obtain ⟨cap, hcap, hL, hD, hR, h11, h12⟩ := id h
  exact BM.mono (L_differ (d := 193) hL hw hx (by omega)) (fun r S' hX => PuX.rd h e hX ((congrArg Prod.fst pDiffer_e).symm) (by first | omega | (dsimp only; omega)) (by omega))
theorem O_pairOf (hI : LInv i n w g σ K) (hi : i < 24) (hx : inR x) (hz : inR z) : OpR i n K gk_X1_pairOf [aR (K 1), aI x, aI z] tk_pairOf [.inr 0, .inl x, .inl z] g σ [202] (pPairOf x z w) := by
  obtain ⟨tp, sc, A, ds, cl, re⟩ := w
  have hK := hI.2.2
  have hw : WF A := hK.2.2.1
  have htp : SgO tp := hK.1.1
  have hni : n ≤ i := hK.2.2.2.2.2.1
  have htl : tp.length ≤ n := hK.2.1.1
  have hsc : ∀ k s, sc k = some s → SgO s := fun k s e => (hK.1.2 k s e).1
  have hdl : ds.length ≤ 40 := hK.2.2.2.1.2
  have hnid : A.2.2.2.2.2.2.1 < 100000 := hK.nid
  have hcl : cl ≤ i := hK.2.2.2.2.1.1
  have hb := bud_s hni
  have hc1 := (cst_ge (n := n)).1
  have hc2 := (cst_ge (n := n)).2
  have hbl := bud_le (n := n) (i := i + 1) (by omega) (by omega)
  have e : (pPairOf x z (tp, sc, A, ds, cl, re)).2 = (tp, sc, A, ds, cl, re) := congrArg Prod.snd pPairOf_e
  refine OpR.mk hI (fun S la h => ?_) (TM.k9 (T_pairOf (d := 24) hI.2.1.1 hx hz) (Nat.le_of_ble_eq_true rfl) (by rw [e]; exact hK.same hi))
  obtain ⟨cap, hcap, hL, hD, hR, h11, h12⟩ := id h
  exact BM.mono (L_pairOf (d := 193) hL hw hx hz (by omega)) (fun r S' hX => PuX.rd h e hX ((congrArg Prod.fst pPairOf_e).symm) (by first | omega | (dsimp only; omega)) (by omega))
theorem O_isSound (hI : LInv i n w g σ K) (hi : i < 24) : OpR i n K gk_X1_isSound [aR (K 1)] tk_isSound [.inr 0] g σ [] (pSound w) := by
  obtain ⟨tp, sc, A, ds, cl, re⟩ := w
  have hK := hI.2.2
  have hw : WF A := hK.2.2.1
  have htp : SgO tp := hK.1.1
  have hni : n ≤ i := hK.2.2.2.2.2.1
  have htl : tp.length ≤ n := hK.2.1.1
  have hsc : ∀ k s, sc k = some s → SgO s := fun k s e => (hK.1.2 k s e).1
  have hdl : ds.length ≤ 40 := hK.2.2.2.1.2
  have hnid : A.2.2.2.2.2.2.1 < 100000 := hK.nid
  have hcl : cl ≤ i := hK.2.2.2.2.1.1
  have hb := bud_s hni
  have hc1 := (cst_ge (n := n)).1
  have hc2 := (cst_ge (n := n)).2
  have hbl := bud_le (n := n) (i := i + 1) (by omega) (by omega)
  have e : (pSound (tp, sc, A, ds, cl, re)).2 = (tp, sc, A, ds, cl, re) := rfl
  refine OpR.mk hI (fun S la h => ?_) (TM.k9 (T_isSound (d := 28) hI.2.1.1 hw (by show A.2.2.2.2.2.2.1 < 2000000; omega)) (Nat.le_of_ble_eq_true rfl) (by rw [e]; exact hK.same hi))
  obtain ⟨cap, hcap, hL, hD, hR, h11, h12⟩ := id h
  exact BM.mono (L_isSound (d := 192) hL hw (by omega)) (fun r S' hX => PuX.rd h e hX (rfl) (by first | omega | (dsimp only; omega)) (by omega))
end OPS
