-- C
set_option maxRecDepth 100000
/-! LINEORDERS: public methods that change the state -/
/-- a call's answer and the state behind it -/
def PuX (K : Nat → Nat) (w : PW) (B : Nat) (cs : List Nat) (R : Nat ⊕ Int) (rg : GO) (S' : BS) : Prop := (∃ la', PwI S' K la' w.1 w.2.1 w.2.2.1 w.2.2.2.1 w.2.2.2.2.1 w.2.2.2.2.2 B) ∧ match R with
  | .inl k => rg = .inr (cs.getD (k - 1) 0, none)
  | .inr v => rg = .inl (vI v)
/-- what holds of a state between calls -/
def PwK (w : PW) : Prop := (SgO w.1 ∧ w.1.length ≤ 24) ∧ (∀ k s, w.2.1 k = some s → (SgO s ∧ s.length ≤ 24) ∧ ∃ os, sOrders s = .inr os) ∧ WF w.2.2.1 ∧ (∀ q ∈ w.2.2.2.1, DqK w.2.2.1.2.2.2.2.2.2.1 q) ∧ w.2.2.2.1.length ≤ 40 ∧ w.2.2.2.2.1 < 1000 ∧ w.2.2.1.2.2.2.2.2.2.1 < 1800000
/-- no text that was typed is longer than N signs -/
def PwN (N : Nat) (w : PW) : Prop := w.1.length ≤ N ∧ ∀ k s, w.2.1 k = some s → s.length ≤ N
/-- what a run costs; without a sign nothing runs -/
def cRun (N : Nat) : Nat := if N = 0 then 40000 else 300000 + 2800 * N
theorem cRun_f {N l : Nat} (h : l ≤ N) : 2800 * l + 33000 ≤ cRun N := by
  unfold cRun
  split
  · omega
  · omega
theorem sOrders_nil9 : (match sOrders [] with | .inl _ => true | .inr _ => false) = true := by decide +kernel
theorem sOrders_ne {s : List Int} {os : List SOrd} (h : sOrders s = .inr os) : 0 < s.length := by
  cases s with
  | nil =>
    have h9 := sOrders_nil9
    rw [h] at h9
    cases h9
  | cons c s => exact Nat.succ_pos _
theorem cRun_le {N : Nat} (h : N ≤ 24) : cRun N ≤ 370000 := by
  unfold cRun
  by_cases z : N = 0
  · rw [if_pos z]; omega
  · rw [if_neg z]; omega
theorem cRun_s {N : Nat} {s : List Int} {os : List SOrd} (h : sOrders s = .inr os) (hl : s.length ≤ N) : cRun N = 300000 + 2800 * N := by
  have := sOrders_ne h
  unfold cRun
  rw [if_neg (by omega)]
section PU
variable {d n m q i a b e y cap c k j pl B B' p F0 cl re l : Nat} {S S' S0 S1 S2 : BS} {K : Nat → Nat} {la la' : Int → Nat} {A A1 : St} {F V : Nat → Prop} {v nn x1 x z : Int} {r : Option Nat} {t : List SLine} {xs ws : List (Option Nat)} {ds : List SDeed} {tp s : List Int} {sc : Nat → Option (List Int)} {rows : List (List Int)} {w : PW} {cs : List Nat} {R : Nat ⊕ Int} {rg : GO}
theorem PwI.le (h : PwI S K la tp sc A ds cl re B) (hB : B ≤ B') (hB2 : B' + 600 ≤ 20000000) : PwI S K la tp sc A ds cl re B' := by
  obtain ⟨cap, hc, hL, h⟩ := h
  exact ⟨cap, hc, hL.le (by omega) (by omega), h⟩
theorem PwI.f0 (h : PwI S K la tp sc A ds cl re B) (hF : Fr0 S S' c) (hB : B + c + 600 ≤ 20000000) : PwI S' K la tp sc A ds cl re (B + c) := by
  obtain ⟨cap, hc, hL, hD, hR, h11, h12⟩ := h
  have hL' := hL.fr hF LoW.no (by omega)
  have hX : XF K (fun _ => True) S S' := XF.rf.f0 hF
  exact ⟨cap, hc, hL'.le (by omega) (by omega), hD.xg (XG.of hX) hL.1, hR.xg (XG.of hX) hL.1 hL'.1, hX.fK hL.1 h11 (by decide), hX.fK hL.1 h12 (by decide)⟩
theorem PrX.pu (h : PwI S K la tp sc A ds cl re B) (hX : PrX S c cs R rg S') (hB : B + c ≤ B') (hB2 : B' + 600 ≤ 20000000) : PuX K (tp, sc, A, ds, cl, re) B' cs R rg S' := by
  refine ⟨⟨la, (h.f0 hX.1 (by omega)).le hB hB2⟩, ?_⟩
  have h2 := hX.2
  cases R with
  | inl k => exact h2
  | inr v => exact h2.1
theorem PuX.no {e : Nat} (h : PwI S K la w.1 w.2.1 w.2.2.1 w.2.2.2.1 w.2.2.2.2.1 w.2.2.2.2.2 B) (hF : Fr0 S S' c) (hB : B + c ≤ B') (hB2 : B' + 600 ≤ 20000000) (hR : R = .inl k) (he : cs.getD (k - 1) 0 = e) : PuX K w B' cs R (.inr (e, none)) S' := by
  subst hR he
  exact ⟨⟨la, (h.f0 hF (by omega)).le hB hB2⟩, rfl⟩
theorem PuX.ok (h : PwI S' K la w.1 w.2.1 w.2.2.1 w.2.2.2.1 w.2.2.2.2.1 w.2.2.2.2.2 B) (hB : B ≤ B') (hB2 : B' + 600 ≤ 20000000) (hR : R = .inr v) : PuX K w B' cs R (.inl (vI v)) S' := by
  subst hR
  exact ⟨⟨la, h.le hB hB2⟩, rfl⟩
/-- the tape or the scripts change -/
theorem DsI.fI (h : DsI S K la ds cap) (hF : Fr1 S S' (K i) c) (hi : i ∈ kIx) (h10 : K 10 ≠ K i) (hn : NoS S (fun k => k = K i)) : DsI S' K la ds cap := by
  obtain ⟨xs, h1, h2, h3⟩ := h
  exact ⟨xs, h1.fr hF ⟨oNe rfl, h10⟩, h2, fun j hj => by
    obtain ⟨m, g1, g2⟩ := h3 j hj
    exact ⟨m, g1, g2.fr hF (fun z hz => hz i hi) hn⟩⟩
theorem L_type (h : PwI S K la tp sc A ds cl re B) (hx : inR x) (htp : SgO tp) (hB : B + 700 ≤ 20000000) : BM (d + 6) gk_X1_type [aR (K 1), aI x] S (PuX K (pType x (tp, sc, A, ds, cl, re)).2 (B + 18) [200, 201] (pType x (tp, sc, A, ds, cl, re)).1) := by
  have h0 := h
  obtain ⟨cap, hcap, hL, hD, hR, h11, h12⟩ := h
  have hxb := hL.1.obx
  obtain ⟨e0, ⟨us, hus, hul, htl, hug, h1⟩, ys, hys, hyl, hyk⟩ := hR
  refine BM.of rfl rfl rfl ?_
  (repeat (refine BW.pl rfl rfl ?_))
  refine BW.i2l rfl hx ?_
  (repeat (refine BW.pl rfl rfl ?_))
  refine CW.e3 rfl rfl (by first | exact Or.inl rfl | exact Or.inr (tagO (by assumption) (by rfl) (by rfl)) | exact Or.inr (tagO (AdrIs.ox (by assumption)) (by rfl) (by rfl)) | exact Or.inr (tagO (PatIs.ox (by assumption)) (by rfl) (by rfl)) | exact Or.inr (tagO (Or0.ox (by assumption)) (by rfl) (by rfl))) (by first | exact Or.inl (by decide) | exact Or.inr ⟨_, rfl, by assumption⟩) rfl (B_in hx (by decide) (by decide)) ?_
  by_cases z1 : x < 32 ∨ 126 < x
  · have e : pType x (tp, sc, A, ds, cl, re) = (.inl 1, tp, sc, A, ds, cl, re) := by unfold pType; rw [if_pos z1]
    rw [e, if_neg (by omega)]
    refine CW.tst rfl rfl (by decide) rfl (Or.inr (Or.inr ⟨rfl, rfl⟩)) (Or.inl rfl) rfl (fun w => absurd w (by decide)) (fun _ S1 hF1 => ?_)
    exact PuX.no h0 hF1 (Nat.le_refl _) (by omega) rfl rfl
  rw [if_pos (by omega)]
  refine CW.tst rfl rfl (by decide) rfl (Or.inr (Or.inr ⟨rfl, rfl⟩)) (Or.inr rfl) rfl (fun _ => ?_) (fun w _ _ => absurd w (by decide))
  (repeat (first | (refine BW.pl rfl rfl ?_) | (refine CW.geti rfl rfl (by assumption) rfl rfl (by assumption) (fun _ => ?_)) | (refine CW.getr rfl rfl (by assumption) rfl rfl (by assumption) ?_)))
  by_cases z2 : tp.length = 60
  · have e : pType x (tp, sc, A, ds, cl, re) = (.inl 2, tp, sc, A, ds, cl, re) := by unfold pType; rw [if_neg z1, if_pos z2]
    rw [e]
    refine BW.br rfl rfl (by first | omega | decide | (constructor <;> first | omega | decide)) (fun w => ?_) (fun w => by first | (exfalso; omega) | exact absurd w (by decide))
    (repeat (refine BW.pl rfl rfl ?_))
    refine CW.tst rfl rfl (by decide) rfl (Or.inr (Or.inl ⟨rfl, rfl⟩)) (Or.inl rfl) rfl (fun w => absurd w (by decide)) (fun _ S1 hF1 => ?_)
    exact PuX.no h0 hF1 (Nat.le_refl _) (by omega) rfl rfl
  have e : pType x (tp, sc, A, ds, cl, re) = (.inr ((tp.length + 1 : Nat) : Int), tp ++ [x], sc, A, ds, cl, re) := by unfold pType; rw [if_neg z1, if_neg z2]
  rw [e]
  refine BW.br rfl rfl (by first | omega | decide | (constructor <;> first | omega | decide)) (fun w => by first | (exfalso; omega) | exact absurd w (by decide)) (fun w => ?_)
  (repeat (refine BW.pl rfl rfl ?_))
  refine CW.tst rfl rfl (by decide) rfl (Or.inr (Or.inl ⟨rfl, rfl⟩)) (Or.inr rfl) rfl (fun _ => ?_) (fun w _ _ => absurd w (by decide))
  (repeat (first | (refine BW.pl rfl rfl ?_) | (refine CW.geti rfl rfl (by assumption) rfl rfl (by assumption) (fun _ => ?_)) | (refine CW.getr rfl rfl (by assumption) rfl rfl (by assumption) ?_)))
  refine CW.iast rfl hus ⟨by omega, by omega⟩ hx (fun S1 hus1 hF1 => ?_)
  have ej : ((tp.length : Nat) : Int).toNat = tp.length := by omega
  rw [ej] at hus1
  have k01 : K 1 ≠ K 0 := hL.1.inj (by decide) (by decide) (by decide)
  have k02 : K 2 ≠ K 0 := hL.1.inj (by decide) (by decide) (by decide)
  have k010 : K 10 ≠ K 0 := hL.1.inj (by decide) (by decide) (by decide)
  have nos : NoS S (fun k => k = K 0) := NoS.one hus rfl
  have hxo := hxb.old (oNe rfl)
  have hx1 := hxb.fr hF1 ⟨oNe rfl, k01⟩
  have h1' := h1.fr hF1 ⟨⟨hxo, by decide⟩, k01⟩
  have hL1 := hL.frK hF1 hus (oNe rfl) rfl hL.1.ne0 (by omega)
  have hD1 := hD.fI hF1 (by decide) k010 nos
  (repeat (first | (refine BW.pl rfl rfl ?_) | (refine CW.geti rfl rfl (by assumption) rfl rfl (by assumption) (fun _ => ?_)) | (refine CW.getr rfl rfl (by assumption) rfl rfl (by assumption) ?_)))
  first | (refine CW.putr rfl rfl (by assumption) rfl (by decide) (fun S2 hP2 hv12 => ?_)) | (refine CW.puti rfl (by assumption) rfl (by decide) (by first | exact Or.inl ⟨rfl, by first | omega | decide | (constructor <;> first | omega | decide)⟩ | exact Or.inr (Or.inl ⟨rfl, by first | omega | decide | (constructor <;> first | omega | decide)⟩) | exact Or.inr (Or.inr (Or.inl ⟨rfl, by first | omega | decide | (constructor <;> first | omega | decide)⟩)) | exact Or.inr (Or.inr (Or.inr ⟨rfl, by first | omega | decide | (constructor <;> first | omega | decide)⟩))) (fun S2 hP2 hv12 => ?_))
  have hL2 := hL1.puO hP2 (by decide)
  have hx2 := hx1.pu hP2 trivial
  (repeat (first | (refine BW.pl rfl rfl ?_) | (refine CW.geti rfl rfl (by assumption) rfl rfl (by assumption) (fun _ => ?_)) | (refine CW.getr rfl rfl (by assumption) rfl rfl (by assumption) ?_)))
  have ev : (tp.length : Int) + 1 = ((tp.length + 1 : Nat) : Int) := by omega
  rw [ev] at hv12 ⊢
  refine BW.irx rfl (Or.inl ⟨rfl, by constructor <;> omega⟩) (PuX.ok (la := la) (B := B) ⟨cap, hcap, hL2, hD1.pu hP2, ⟨hL2.1.e0, ⟨_, hus1.pu hP2 trivial, by rw [List.length_set]; exact hul, by rw [List.length_append, List.length_singleton]; omega, fun j hj => ?_, ?_⟩, ys, (hys.fr hF1 ⟨oNe rfl, k02⟩).pu hP2 trivial, hyl, fun k hk => ⟨(hyk k hk).1, fun s hs => (((hyk k hk).2 s hs).fr hF1 nos).pu hP2 trivial⟩⟩, (h11.fr hF1 ⟨⟨hxo, by decide⟩, k01⟩).pu hP2 (Or.inl (by decide)), (h12.fr hF1 ⟨⟨hxo, by decide⟩, k01⟩).pu hP2 (Or.inl (by decide))⟩ (by omega) (by omega) rfl)
  · have hj : j < (tp ++ [x]).length := hj
    rw [List.length_append, List.length_singleton] at hj
    show (us.set tp.length x).getD j 0 = (tp ++ [x]).getD j 0
    rw [getD_app tp x 0 j (by omega)]
    by_cases zj : j = tp.length
    · rw [if_pos zj, zj, List.getD_eq_getElem?_getD, List.getElem?_set_self (by omega)]
      rfl
    · rw [if_neg zj, List.getD_eq_getElem?_getD, List.getElem?_set_ne (Ne.symm zj), ← List.getD_eq_getElem?_getD]
      exact hug j (by omega)
  · show Fi S2 1 (K 1) ((tp ++ [x]).length : Int)
    rw [List.length_append, List.length_singleton]
    exact hv12
theorem L_wipe (h : PwI S K la tp sc A ds cl re B) (hB : B + 700 ≤ 20000000) : BM (d + 6) gk_X1_wipe [aR (K 1)] S (PuX K (pWipe (tp, sc, A, ds, cl, re)).2 (B + 18) [] (pWipe (tp, sc, A, ds, cl, re)).1) := by
  obtain ⟨cap, hcap, hL, hD, hR, h11, h12⟩ := h
  have hxb := hL.1.obx
  obtain ⟨e0, ⟨us, hus, hul, htl, hug, h1⟩, ys, hys, hyl, hyk⟩ := hR
  refine BM.of rfl rfl rfl ?_
  (repeat (first | (refine BW.pl rfl rfl ?_) | (refine CW.geti rfl rfl (by assumption) rfl rfl (by assumption) (fun _ => ?_)) | (refine CW.getr rfl rfl (by assumption) rfl rfl (by assumption) ?_)))
  first | (refine CW.putr rfl rfl (by assumption) rfl (by decide) (fun S2 hP2 hv12 => ?_)) | (refine CW.puti rfl (by assumption) rfl (by decide) (by first | exact Or.inl ⟨rfl, by first | omega | decide | (constructor <;> first | omega | decide)⟩ | exact Or.inr (Or.inl ⟨rfl, by first | omega | decide | (constructor <;> first | omega | decide)⟩) | exact Or.inr (Or.inr (Or.inl ⟨rfl, by first | omega | decide | (constructor <;> first | omega | decide)⟩)) | exact Or.inr (Or.inr (Or.inr ⟨rfl, by first | omega | decide | (constructor <;> first | omega | decide)⟩))) (fun S2 hP2 hv12 => ?_))
  have hL2 := hL.puO hP2 (by decide)
  (repeat (refine BW.pl rfl rfl ?_))
  exact BW.irx rfl (Or.inl ⟨rfl, by constructor <;> omega⟩) (PuX.ok (la := la) (B := B) ⟨cap, hcap, hL2, hD.pu hP2, ⟨hL2.1.e0, ⟨us, hus.pu hP2 trivial, hul, Nat.zero_le _, fun j hj => absurd hj (Nat.not_lt_zero _), hv12⟩, ys, hys.pu hP2 trivial, hyl, fun k hk => ⟨(hyk k hk).1, fun s hs => ((hyk k hk).2 s hs).pu hP2 trivial⟩⟩, h11.pu hP2 (Or.inl (by decide)), h12.pu hP2 (Or.inl (by decide))⟩ (by omega) (by omega) rfl)
theorem L_clearOut (h : PwI S K la tp sc A ds cl re B) (hw : WF A) (hB : B + 700 ≤ 20000000) : BM (d + 6) gk_X1_clearOut [aR (K 1)] S (PuX K (pClearOut (tp, sc, A, ds, cl, re)).2 (B + 18) [] (pClearOut (tp, sc, A, ds, cl, re)).1) := by
  obtain ⟨cap, hcap, hL, hD, hR, h11, h12⟩ := h
  obtain ⟨t, p, hh, oo, fi, mk, nn, rp⟩ := A
  have h100 : oo.length ≤ 100 := hw.ou.1
  obtain ⟨htt, _⟩ := hL.1.tt
  have hxb := hL.1.obx
  have e8 := hL.1.e8
  obtain ⟨cap8, xs8, hl8, hs8, hc8⟩ := hL.1.list (i := 8) (by decide)
  have hs8 : StrsIs S xs8 oo := hs8
  have hxl := hs8.1
  refine BM.of rfl rfl rfl ?_
  (repeat (first | (refine BW.pl rfl rfl ?_) | (refine CW.geti rfl rfl (by assumption) rfl rfl (by assumption) (fun _ => ?_)) | (refine CW.getr rfl rfl (by assumption) rfl rfl (by assumption) ?_)))
  refine CW.e1 rfl rfl (by first | exact Or.inl rfl | exact Or.inr (tagO (by assumption) (by rfl) (by rfl)) | exact Or.inr (tagO (AdrIs.ox (by assumption)) (by rfl) (by rfl)) | exact Or.inr (tagO (PatIs.ox (by assumption)) (by rfl) (by rfl)) | exact Or.inr (tagO (Or0.ox (by assumption)) (by rfl) (by rfl))) (by first | exact Or.inl (by decide) | exact Or.inr ⟨_, rfl, by assumption⟩) rfl (B_alSize hl8) ?_
  rw [hxl]
  (repeat (first | (refine BW.pl rfl rfl ?_) | (refine CW.geti rfl rfl (by assumption) rfl rfl (by assumption) (fun _ => ?_)) | (refine CW.getr rfl rfl (by assumption) rfl rfl (by assumption) ?_)))
  refine CW.c1 rfl rfl (by first | exact Or.inl rfl | exact Or.inr (tagO (by assumption) (by rfl) (by rfl)) | exact Or.inr (tagO (AdrIs.ox (by assumption)) (by rfl) (by rfl)) | exact Or.inr (tagO (PatIs.ox (by assumption)) (by rfl) (by rfl)) | exact Or.inr (tagO (Or0.ox (by assumption)) (by rfl) (by rfl))) (by first | exact Or.inl (by decide) | exact Or.inr ⟨_, rfl, by assumption⟩) rfl (C_alClr hl8 (by omega)) ?_
  rintro r S1 ⟨rfl, hl1, hF1⟩
  have hX : XF K (fun _ => True) S S1 := XF.rf.f1 hF1 (fun _ => hL.1.wk (by decide))
  have hF1' : Fr S S1 (fun k => k = K 8) (1 + 6 * (cap8 - cap8)) := hF1.w (fun _ _ z => z) (by omega)
  have hL1 : LB S1 K la (idsOfL t) p (hh, [], fi, mk, nn, rp) (B + 6 * cap + 1) := hL.1.setList (rows := []) (by decide) hl8 hF1' LoX.k ⟨[], hl1, ⟨rfl, fun j hj => absurd hj (Nat.not_lt_zero _)⟩, hc8⟩ (Nat.le_refl _) (by omega)
  have hL2 : LO S1 K la (t, p, hh, [], fi, mk, nn, rp) (B + 18 + 6 * cap) := ⟨hL1.le (by omega) (by omega), hL.2.f6 hF1 (W6.one hl8 (oNe rfl) rfl)⟩
  (repeat (refine BW.pl rfl rfl ?_))
  exact BW.irx rfl (Or.inl ⟨rfl, by constructor <;> omega⟩) (PuX.ok (la := la) (B := B + 18) ⟨cap, hcap, hL2, hD.xg (XG.of hX) hL.1, hR.xg (XG.of hX) hL.1 hL2.1, hX.fK hL.1 h11 (by decide), hX.fK hL.1 h12 (by decide)⟩ (Nat.le_refl _) (by omega) rfl)
/-! orders -/
theorem C_ordersOf1 (hy : Ob S y (oStr s)) (hs : SgO s) (hT : S.2.2.2 < 90000000) : BMr (d + 22) gk_X1_ordersOf [aR y] S (fun r S' => Fr0 S S' (2800 * s.length + rdC s) ∧ match sOrders s with
    | .inl _ => r = vR none
    | .inr os => ∃ q, r = vR (some q) ∧ OrsD S' (Nu S) True q os) := by
  have hl := hs.1
  refine BMr.mono (C_ordersOf (d := d) hy (fun c hc => by have := hs.2 c hc; omega) (by omega) hT) (fun r S' ⟨h1, h2⟩ => ⟨h1, ?_⟩)
  cases e : sOrders s with
  | inl k => rw [e] at h2; exact h2
  | inr os => rw [e] at h2; exact h2
theorem L_keep (h : PwI S K la tp sc A ds cl re B) (hx : inR x) (htp : SgO tp) (hB : B + 300000 ≤ 20000000) : BM (d + 24) gk_X1_keep [aR (K 1), aI x] S (PuX K (pKeep x (tp, sc, A, ds, cl, re)).2 (B + 2800 * tp.length + 33000) [202, 201] (pKeep x (tp, sc, A, ds, cl, re)).1) := by
  have h0 := h
  obtain ⟨cap, hcap, hL, hD, hR, h11, h12⟩ := h
  have hl60 := htp.1
  obtain ⟨htt, _⟩ := hL.1.tt
  have hxb := hL.1.obx
  refine BM.of rfl rfl rfl ?_
  (repeat (refine BW.pl rfl rfl ?_))
  refine CW.e1 rfl rfl (by first | exact Or.inl rfl | exact Or.inr (tagO (by assumption) (by rfl) (by rfl)) | exact Or.inr (tagO (AdrIs.ox (by assumption)) (by rfl) (by rfl)) | exact Or.inr (tagO (PatIs.ox (by assumption)) (by rfl) (by rfl)) | exact Or.inr (tagO (Or0.ox (by assumption)) (by rfl) (by rfl))) (by first | exact Or.inl (by decide) | exact Or.inr ⟨_, rfl, by assumption⟩) rfl (L_isScript (d := d + 21) hx) ?_
  by_cases z1 : isFo x = true
  rotate_left
  · have e : pKeep x (tp, sc, A, ds, cl, re) = (.inl 1, tp, sc, A, ds, cl, re) := by unfold pKeep; rw [if_pos (Bool.eq_false_iff.mpr z1)]
    rw [e, if_neg z1]
    refine CW.tst rfl rfl (by decide) rfl (Or.inl ⟨rfl, rfl⟩) (Or.inl rfl) rfl (fun w => absurd w (by decide)) (fun _ S1 hF1 => ?_)
    exact PuX.no h0 hF1 (by omega) (by omega) rfl rfl
  have z1' := isFo_t.mp z1
  have z1n : ¬ isFo x = false := by rw [z1]; decide
  rw [if_pos z1]
  refine CW.tst rfl rfl (by decide) rfl (Or.inl ⟨rfl, rfl⟩) (Or.inr rfl) rfl (fun _ => ?_) (fun w _ _ => absurd w (by decide))
  (repeat (refine BW.pl rfl rfl ?_))
  refine CW.c1 rfl rfl (by first | exact Or.inl rfl | exact Or.inr (tagO (by assumption) (by rfl) (by rfl)) | exact Or.inr (tagO (AdrIs.ox (by assumption)) (by rfl) (by rfl)) | exact Or.inr (tagO (PatIs.ox (by assumption)) (by rfl) (by rfl)) | exact Or.inr (tagO (Or0.ox (by assumption)) (by rfl) (by rfl))) (by first | exact Or.inl (by decide) | exact Or.inr ⟨_, rfl, by assumption⟩) rfl (L_tapeText (d := d + 15) hxb hR htp) ?_
  rintro r S1 ⟨y, rfl, hy0, hyk, hy, hF1⟩
  have hF1t := hF1.2.2
  (repeat (refine BW.pl rfl rfl ?_))
  refine CW.c1 rfl rfl (by first | exact Or.inl rfl | exact Or.inr (tagO (by assumption) (by rfl) (by rfl)) | exact Or.inr (tagO (AdrIs.ox (by assumption)) (by rfl) (by rfl)) | exact Or.inr (tagO (PatIs.ox (by assumption)) (by rfl) (by rfl)) | exact Or.inr (tagO (Or0.ox (by assumption)) (by rfl) (by rfl))) (by first | exact Or.inl (by decide) | exact Or.inr ⟨_, rfl, by assumption⟩) rfl (C_ordersOf1 (d := d + 1) hy htp (by omega)) ?_
  rintro r S2 ⟨hF2, h2⟩
  have hrc := rdC_le (s := tp)
  have hF02 : Fr0 S S2 (2800 * tp.length + 32500) := hF1.tr0 hF2 (by omega)
  have hy2 := hy.fr hF2 ⟨oNe rfl, Sep.no⟩
  cases hs : sOrders tp with
  | inl k9 =>
    have e : pKeep x (tp, sc, A, ds, cl, re) = (.inl 2, tp, sc, A, ds, cl, re) := by unfold pKeep; rw [if_neg z1n]; dsimp only; rw [hs]
    rw [e]
    rw [hs] at h2
    subst h2
    refine CW.nul rfl rfl (fun n h => by cases h) ?_
    (repeat (refine BW.pl rfl rfl ?_))
    refine CW.tst rfl rfl (by decide) rfl (Or.inr (Or.inl ⟨rfl, rfl⟩)) (Or.inl rfl) rfl (fun w => absurd w (by decide)) (fun _ S3 hF3 => ?_)
    exact PuX.no h0 (hF02.tr0 hF3 (Nat.le_refl _)) (by omega) (by omega) rfl rfl
  | inr os =>
    have e : pKeep x (tp, sc, A, ds, cl, re) = (.inr (tp.length : Int), tp, fup sc x.toNat (some tp), A, ds, cl, re) := by unfold pKeep; rw [if_neg z1n]; dsimp only; rw [hs]
    rw [e]
    rw [hs] at h2
    obtain ⟨q, rfl, hq⟩ := h2
    obtain ⟨xs9, cap9, hq9⟩ : ∃ xs cap, Ob S2 q (oAl xs cap) := by obtain ⟨_, xs, cap, z, _⟩ := hq; exact ⟨xs, cap, z⟩
    obtain ⟨cap2, hcap2, hL2, hD2, hR2, h112, h122⟩ := h0.f0 hF02 (by omega)
    have hx2 := hL2.1.obx
    have e22 := hL2.1.e2
    obtain ⟨e02, ⟨us, hus, hul, htl, hug, h1⟩, ys, hys, hyl, hyk9⟩ := hR2
    refine CW.nul rfl rfl (fun n h => by cases h; rw [show S2.1 q = _ from hq9]; rfl) ?_
    (repeat (refine BW.pl rfl rfl ?_))
    refine CW.tst rfl rfl (by decide) rfl (Or.inr (Or.inl ⟨rfl, rfl⟩)) (Or.inr rfl) rfl (fun _ => ?_) (fun w _ _ => absurd w (by decide))
    (repeat (first | (refine BW.pl rfl rfl ?_) | (refine CW.geti rfl rfl (by assumption) rfl rfl (by assumption) (fun _ => ?_)) | (refine CW.getr rfl rfl (by assumption) rfl rfl (by assumption) ?_)))
    refine CW.aast rfl hys ⟨by omega, by omega⟩ (Or.inr ⟨y, rfl, by rw [show S2.1 y = _ from hy2]; rfl, Or.inl (by rw [show S2.1 y = _ from hy2]; rfl)⟩) (fun S3 hys3 hF3 => ?_)
    have k21 : K 1 ≠ K 2 := hL2.1.inj (by decide) (by decide) (by decide)
    have k20 : K 0 ≠ K 2 := hL2.1.inj (by decide) (by decide) (by decide)
    have k210 : K 10 ≠ K 2 := hL2.1.inj (by decide) (by decide) (by decide)
    have nos : NoS S2 (fun k => k = K 2) := NoS.one hys rfl
    have hxo := hx2.old (oNe rfl)
    have hL3 := hL2.frK hF3 hys (oNe rfl) rfl hL2.1.ne2 (by omega)
    have hD3 := hD2.fI hF3 (by decide) k210 nos
    have hy3 := hy2.fr hF3 ⟨oNe rfl, hy2.ne hys (oNe rfl)⟩
    (repeat (refine BW.pl rfl rfl ?_))
    refine CW.e1 rfl rfl (by first | exact Or.inl rfl | exact Or.inr (tagO (by assumption) (by rfl) (by rfl)) | exact Or.inr (tagO (AdrIs.ox (by assumption)) (by rfl) (by rfl)) | exact Or.inr (tagO (PatIs.ox (by assumption)) (by rfl) (by rfl)) | exact Or.inr (tagO (Or0.ox (by assumption)) (by rfl) (by rfl))) (by first | exact Or.inl (by decide) | exact Or.inr ⟨_, rfl, by assumption⟩) rfl (B_slen hy3) ?_
    refine BW.irx rfl (Or.inl ⟨rfl, by constructor <;> omega⟩) (PuX.ok (la := la) (B := B + (2800 * tp.length + 32500)) ⟨cap2, hcap2, hL3.le (by omega) (by omega), hD3, ⟨hL3.1.e0, ⟨us, hus.fr hF3 ⟨oNe rfl, k20⟩, hul, htl, hug, h1.fr hF3 ⟨⟨hxo, by decide⟩, k21⟩⟩, _, hys3, by rw [List.length_set]; exact hyl, fun k hk => ?_⟩, h112.fr hF3 ⟨⟨hxo, by decide⟩, k21⟩, h122.fr hF3 ⟨⟨hxo, by decide⟩, k21⟩⟩ (by omega) (by omega) rfl)
    show (fup sc x.toNat (some tp) k = none → _) ∧ ∀ s, fup sc x.toNat (some tp) k = some s → _
    unfold fup
    by_cases zk : k = x.toNat
    · rw [if_pos zk, zk, List.getD_eq_getElem?_getD, List.getElem?_set_self (by omega)]
      exact ⟨(fun z => by cases z), (fun s z => by cases z; exact ⟨⟨y, rfl, hy3⟩, (fun y' z => by cases z; exact Or.inl hyk)⟩)⟩
    · rw [if_neg zk, List.getD_eq_getElem?_getD, List.getElem?_set_ne (Ne.symm zk), ← List.getD_eq_getElem?_getD]
      exact ⟨(hyk9 k hk).1, fun s hs => ((hyk9 k hk).2 s hs).fr hF3 nos⟩
theorem sAllF_le {os : List SOrd} : ∀ (N k c done : Nat) (A : St) (ds : List SDeed), (sAllF os pl N k c done A ds).1 ≤ done + N := by
  intro N
  induction N with
  | zero => intro k c done A ds; exact Nat.le_refl _
  | succ N ih =>
    intro k c done A ds
    have e0 : sAllF os pl (N + 1) k c done A ds = match os[k]? with
      | none => (done, 0, A, ds)
      | some o => if c = 60 then (done, 7, A, ds) else match sOne os k o (c + 1) A with
        | .inl w => (done, w, A, ds)
        | .inr (k1, c1, A1) => sAllF os pl N k1 c1 (done + 1) A1 (if isDeedA (oAct o.1) = true then keepD ds (pl, A.1, A.2.1, A.2.2.2.2.2.1) else ds) := rfl
    rw [e0]
    cases os[k]? with
    | none => exact Nat.le_add_right _ _
    | some o =>
      dsimp only
      split
      · exact Nat.le_add_right _ _
      · cases sOne os k o (c + 1) A with
        | inl w => exact Nat.le_add_right _ _
        | inr q =>
          obtain ⟨k1, c1, A1⟩ := q
          exact Nat.le_trans (ih _ _ _ _ _) (by omega)
theorem sAll_le {os : List SOrd} : (sAll os pl A ds).1 ≤ 61 := by
  have := sAllF_le (os := os) (pl := pl) 61 0 0 0 (setR A false) ds
  unfold sAll
  omega
/-- doAll, from its call on: orders that were read -/
theorem L_doAllD {os : List SOrd} (h : PwI S K la tp sc A ds cl re B) (hw : PwK (tp, sc, A, ds, cl, re)) (hF : ∀ m, F m → KoM K m) (hOs : OrsD S F True q os) (hs : sOrders s = .inr os) (hsl : s.length ≤ 24) (hB : B + 3000000 ≤ 20000000) : BMr (d + 193) gk_X1_doAll [aR (K 1), aR q] S (fun r S' => ∃ la', r = vI (sAll os (cl + 1) A ds).1 ∧ PwI S' K la' tp sc (sAll os (cl + 1) A ds).2.2.1 (sAll os (cl + 1) A ds).2.2.2 (cl + 1) (sAll os (cl + 1) A ds).2.1 (B + 296000)) := by
  obtain ⟨-, -, h3, h4, h5, h6, h7⟩ := hw
  obtain ⟨g1, g2, -⟩ := sOrders_K hs hsl
  exact L_doAll (d := d) h hF hOs.ors g1 g2 h3 h4 h5 h6 h7 hB
theorem L_run {N : Nat} (h : PwI S K la tp sc A ds cl re B) (hw : PwK (tp, sc, A, ds, cl, re)) (hN : PwN N (tp, sc, A, ds, cl, re)) (hN24 : N ≤ 24) (hB : B + 3200000 ≤ 20000000) : BM (d + 194) gk_X1_run [aR (K 1)] S (PuX K (pRun (tp, sc, A, ds, cl, re)).2 (B + cRun N) [201] (pRun (tp, sc, A, ds, cl, re)).1) := by
  have h0 := h
  have htp : SgO tp := hw.1.1
  have h24 : tp.length ≤ 24 := hw.1.2
  obtain ⟨cap, hcap, hL, hD, hR, h11, h12⟩ := h
  obtain ⟨htt, _⟩ := hL.1.tt
  have hxb := hL.1.obx
  refine BM.of rfl rfl rfl ?_
  (repeat (refine BW.pl rfl rfl ?_))
  refine CW.c1 rfl rfl (by first | exact Or.inl rfl | exact Or.inr (tagO (by assumption) (by rfl) (by rfl)) | exact Or.inr (tagO (AdrIs.ox (by assumption)) (by rfl) (by rfl)) | exact Or.inr (tagO (PatIs.ox (by assumption)) (by rfl) (by rfl)) | exact Or.inr (tagO (Or0.ox (by assumption)) (by rfl) (by rfl))) (by first | exact Or.inl (by decide) | exact Or.inr ⟨_, rfl, by assumption⟩) rfl (L_tapeText (d := d + 185) hxb hR htp) ?_
  rintro r S1 ⟨y, rfl, hy0, hyk, hy, hF1⟩
  have hF1t := hF1.2.2
  refine CW.c1 rfl rfl (by first | exact Or.inl rfl | exact Or.inr (tagO (by assumption) (by rfl) (by rfl)) | exact Or.inr (tagO (AdrIs.ox (by assumption)) (by rfl) (by rfl)) | exact Or.inr (tagO (PatIs.ox (by assumption)) (by rfl) (by rfl)) | exact Or.inr (tagO (Or0.ox (by assumption)) (by rfl) (by rfl))) (by first | exact Or.inl (by decide) | exact Or.inr ⟨_, rfl, by assumption⟩) rfl (C_ordersOf1 (d := d + 171) hy htp (by omega)) ?_
  rintro r S2 ⟨hF2, h2⟩
  have hrc := rdC_le (s := tp)
  have hNl : tp.length ≤ N := hN.1
  have hcf := cRun_f hNl
  have hcm := cRun_le hN24
  have hF02 : Fr0 S S2 (2800 * tp.length + 500 + rdC tp) := hF1.tr0 hF2 (by omega)
  cases hs : sOrders tp with
  | inl k9 =>
    have e : pRun (tp, sc, A, ds, cl, re) = (.inl 1, tp, sc, A, ds, cl, re) := by unfold pRun; dsimp only; rw [hs]
    rw [e]
    rw [hs] at h2
    subst h2
    (repeat (refine BW.pl rfl rfl ?_))
    refine CW.nul rfl rfl (fun n h => by cases h) ?_
    (repeat (refine BW.pl rfl rfl ?_))
    refine CW.tst rfl rfl (by decide) rfl (Or.inr (Or.inl ⟨rfl, rfl⟩)) (Or.inl rfl) rfl (fun w => absurd w (by decide)) (fun _ S3 hF3 => ?_)
    exact PuX.no h0 (hF02.tr0 hF3 (Nat.le_refl _)) (by omega) (by omega) rfl rfl
  | inr os =>
    have e : pRun (tp, sc, A, ds, cl, re) = doAllW os (tp, sc, A, ds, cl, re) := by unfold pRun; dsimp only; rw [hs]
    rw [e]
    rw [hs] at h2
    obtain ⟨q, rfl, hq⟩ := h2
    obtain ⟨xs9, cap9, hq9⟩ : ∃ xs cap, Ob S2 q (oAl xs cap) := by obtain ⟨_, xs, cap, z, _⟩ := hq; exact ⟨xs, cap, z⟩
    have hrc1 : rdC tp = 1000 := by unfold rdC; rw [hs]
    have hcs := cRun_s hs hNl
    have h02 := h0.f0 hF02 (by omega)
    have hx2 : Ob S2 (K 1) (oOwn 1) := hxb.fr hF02 ⟨oNe rfl, Sep.no⟩
    (repeat (refine BW.pl rfl rfl ?_))
    refine CW.nul rfl rfl (fun n h => by cases h; rw [show S2.1 q = _ from hq9]; rfl) ?_
    (repeat (refine BW.pl rfl rfl ?_))
    refine CW.tst rfl rfl (by decide) rfl (Or.inr (Or.inl ⟨rfl, rfl⟩)) (Or.inr rfl) rfl (fun _ => ?_) (fun w _ _ => absurd w (by decide))
    (repeat (refine BW.pl rfl rfl ?_))
    refine CW.c2 rfl rfl (by first | exact Or.inl rfl | exact Or.inr (tagO (by assumption) (by rfl) (by rfl)) | exact Or.inr (tagO (AdrIs.ox (by assumption)) (by rfl) (by rfl)) | exact Or.inr (tagO (PatIs.ox (by assumption)) (by rfl) (by rfl)) | exact Or.inr (tagO (Or0.ox (by assumption)) (by rfl) (by rfl))) (by first | exact Or.inl (by decide) | exact Or.inr ⟨_, rfl, by assumption⟩) rfl (L_doAllD (d := d) (F := Nu S) h02 hw (fun m hm => hL.ko hm) (hq.mono (F' := Nu S) (fun m hm => Nu.sub hF1 m hm)) hs h24 (by omega)) ?_
    rintro r S3 ⟨la3, rfl, h3⟩
    have := sAll_le (os := os) (pl := cl + 1) (A := A) (ds := ds)
    exact BW.irx rfl (Or.inl ⟨rfl, by constructor <;> omega⟩) (PuX.ok (la := la3) (w := (doAllW os (tp, sc, A, ds, cl, re)).2) h3 (by omega) (by omega) rfl)
def ScX (N : Nat) (S : BS) (sc : Nat → Option (List Int)) (x : Int) (rg : GO) (S' : BS) : Prop := Fr0 S S' (2800 * N + 1000) ∧ if isFo x = false then rg = .inr (202, none) else match sc x.toNat with
  | none => rg = .inr (201, none)
  | some s => ∃ q os, sOrders s = .inr os ∧ s.length ≤ 24 ∧ rg = .inl (vR (some q)) ∧ OrsD S' (Nu S) True q os
theorem L_scriptOf {N : Nat} (h : PwI S K la tp sc A ds cl re B) (hw : PwK (tp, sc, A, ds, cl, re)) (hN : PwN N (tp, sc, A, ds, cl, re)) (hx : inR x) (hB : B + 300000 ≤ 20000000) : BM (d + 24) gk_X1_scriptOf [aR (K 1), aI x] S (ScX N S sc x) := by
  have hsc : ∀ k s, sc k = some s → (SgO s ∧ s.length ≤ 24) ∧ ∃ os, sOrders s = .inr os := hw.2.1
  obtain ⟨cap, hcap, hL, hD, hR, h11, h12⟩ := h
  obtain ⟨htt, _⟩ := hL.1.tt
  have hxb := hL.1.obx
  have e2 := hL.1.e2
  obtain ⟨-, -, ys, hys, hyl, hyk⟩ := hR
  unfold ScX
  refine BM.of rfl rfl rfl ?_
  (repeat (refine BW.pl rfl rfl ?_))
  refine CW.e1 rfl rfl (by first | exact Or.inl rfl | exact Or.inr (tagO (by assumption) (by rfl) (by rfl)) | exact Or.inr (tagO (AdrIs.ox (by assumption)) (by rfl) (by rfl)) | exact Or.inr (tagO (PatIs.ox (by assumption)) (by rfl) (by rfl)) | exact Or.inr (tagO (Or0.ox (by assumption)) (by rfl) (by rfl))) (by first | exact Or.inl (by decide) | exact Or.inr ⟨_, rfl, by assumption⟩) rfl (L_isScript (d := d + 21) hx) ?_
  by_cases z1 : isFo x = true
  rotate_left
  · rw [if_neg z1]
    refine CW.tst rfl rfl (by decide) rfl (Or.inl ⟨rfl, rfl⟩) (Or.inl rfl) rfl (fun w => absurd w (by decide)) (fun _ S1 hF1 => ?_)
    refine ⟨hF1.w (fun _ _ z => z) (by omega), ?_⟩
    rw [if_pos (Bool.eq_false_iff.mpr z1)]
  have z1' := isFo_t.mp z1
  have z1n : ¬ isFo x = false := by rw [z1]; decide
  rw [if_pos z1]
  refine CW.tst rfl rfl (by decide) rfl (Or.inl ⟨rfl, rfl⟩) (Or.inr rfl) rfl (fun _ => ?_) (fun w _ _ => absurd w (by decide))
  (repeat (first | (refine BW.pl rfl rfl ?_) | (refine CW.geti rfl rfl (by assumption) rfl rfl (by assumption) (fun _ => ?_)) | (refine CW.getr rfl rfl (by assumption) rfl rfl (by assumption) ?_)))
  refine CW.aald rfl hys ⟨by omega, by omega⟩ ?_
  obtain ⟨g1, g2⟩ := hyk x.toNat (by omega)
  cases hz : sc x.toNat with
  | none =>
    rw [g1 hz]
    refine CW.nul rfl rfl (fun n h => by cases h) ?_
    (repeat (refine BW.pl rfl rfl ?_))
    refine CW.tst rfl rfl (by decide) rfl (Or.inr (Or.inl ⟨rfl, rfl⟩)) (Or.inl rfl) rfl (fun w => absurd w (by decide)) (fun _ S1 hF1 => ?_)
    refine ⟨hF1.w (fun _ _ z => z) (by omega), ?_⟩
    rw [if_neg z1n]
  | some s =>
    obtain ⟨⟨y, hy1, hy⟩, -⟩ := g2 s hz
    obtain ⟨⟨hso, h24⟩, os, hos⟩ := hsc _ _ hz
    rw [hy1]
    refine CW.nul rfl rfl (fun n h => by cases h; rw [show S.1 y = _ from hy]; rfl) ?_
    (repeat (refine BW.pl rfl rfl ?_))
    refine CW.tst rfl rfl (by decide) rfl (Or.inr (Or.inl ⟨rfl, rfl⟩)) (Or.inr rfl) rfl (fun _ => ?_) (fun w _ _ => absurd w (by decide))
    (repeat (first | (refine BW.pl rfl rfl ?_) | (refine CW.geti rfl rfl (by assumption) rfl rfl (by assumption) (fun _ => ?_)) | (refine CW.getr rfl rfl (by assumption) rfl rfl (by assumption) ?_)))
    refine CW.aald rfl hys ⟨by omega, by omega⟩ ?_
    rw [hy1]
    refine CW.c1 rfl rfl (by first | exact Or.inl rfl | exact Or.inr (tagO (by assumption) (by rfl) (by rfl)) | exact Or.inr (tagO (AdrIs.ox (by assumption)) (by rfl) (by rfl)) | exact Or.inr (tagO (PatIs.ox (by assumption)) (by rfl) (by rfl)) | exact Or.inr (tagO (Or0.ox (by assumption)) (by rfl) (by rfl))) (by first | exact Or.inl (by decide) | exact Or.inr ⟨_, rfl, by assumption⟩) rfl (C_ordersOf1 (d := d + 1) hy hso (by omega)) ?_
    rintro r S2 ⟨hF2, h2⟩
    rw [hos] at h2
    obtain ⟨q, rfl, hq⟩ := h2
    have hrc1 : rdC s = 1000 := by unfold rdC; rw [hos]
    have hNl : s.length ≤ N := hN.2 _ _ hz
    refine BW.aret rfl rfl ⟨hF2.w (fun _ _ z => z) (by omega), ?_⟩
    rw [if_neg z1n]
    exact ⟨q, os, hos, h24, rfl, hq⟩
theorem L_play1 {N : Nat} (h : PwI S K la tp sc A ds cl re B) (hw : PwK (tp, sc, A, ds, cl, re)) (hN : PwN N (tp, sc, A, ds, cl, re)) (hN24 : N ≤ 24) (hx : inR x) (hB : B + 3200000 ≤ 20000000) : BM (d + 194) gk_X1_play [aR (K 1), aI x] S (PuX K (pPlay x (tp, sc, A, ds, cl, re)).2 (B + cRun N) [202, 201] (pPlay x (tp, sc, A, ds, cl, re)).1) := by
  have h0 := h
  have hcf := cRun_f (Nat.le_refl N)
  have hcm := cRun_le hN24
  obtain ⟨cap, hcap, hL, hD, hR, h11, h12⟩ := h
  have hxb := hL.1.obx
  refine BM.of rfl rfl rfl ?_
  (repeat (refine BW.pl rfl rfl ?_))
  refine CW.call (as := [aR (K 1), aI x]) (rest := [aR (K 1)]) rfl rfl rfl rfl rfl (by first | exact Or.inl rfl | exact Or.inr (tagO hxb rfl rfl)) (Or.inl (by decide)) (L_scriptOf (d := d + 169) h0 hw hN hx (by omega)) (fun r S1 hX => ?_) (fun E q9 S1 hX => ?_)
  · obtain ⟨hF, hX⟩ := hX
    by_cases z1 : isFo x = false
    · rw [if_pos z1] at hX
      cases hX
    · rw [if_neg z1] at hX
      cases hz : sc x.toNat with
      | none => rw [hz] at hX; cases hX
      | some s =>
        rw [hz] at hX
        obtain ⟨q, os, hos, h24, e9, hq⟩ := hX
        cases e9
        have hcs := cRun_s hos (hN.2 _ _ hz)
        have e : pPlay x (tp, sc, A, ds, cl, re) = doAllW os (tp, sc, A, ds, cl, re) := by unfold pPlay; rw [if_neg z1]; dsimp only; rw [hz]; dsimp only; rw [hos]
        rw [e]
        have h02 := h0.f0 hF (by omega)
        have hx2 : Ob S1 (K 1) (oOwn 1) := hxb.fr hF ⟨oNe rfl, Sep.no⟩
        refine CW.c2 rfl rfl (by first | exact Or.inl rfl | exact Or.inr (tagO (by assumption) (by rfl) (by rfl)) | exact Or.inr (tagO (AdrIs.ox (by assumption)) (by rfl) (by rfl)) | exact Or.inr (tagO (PatIs.ox (by assumption)) (by rfl) (by rfl)) | exact Or.inr (tagO (Or0.ox (by assumption)) (by rfl) (by rfl))) (by first | exact Or.inl (by decide) | exact Or.inr ⟨_, rfl, by assumption⟩) rfl (L_doAllD (d := d) (F := Nu S) h02 hw (fun m hm => hL.ko hm) hq hos h24 (by omega)) ?_
        rintro r S3 ⟨la3, rfl, h3⟩
        have := sAll_le (os := os) (pl := cl + 1) (A := A) (ds := ds)
        exact BW.irx rfl (Or.inl ⟨rfl, by constructor <;> omega⟩) (PuX.ok (la := la3) (w := (doAllW os (tp, sc, A, ds, cl, re)).2) h3 (by omega) (by omega) rfl)
  · obtain ⟨hF, hX⟩ := hX
    refine Or.inl ⟨rfl, ?_⟩
    by_cases z1 : isFo x = false
    · rw [if_pos z1] at hX
      cases hX
      have e : pPlay x (tp, sc, A, ds, cl, re) = (.inl 1, tp, sc, A, ds, cl, re) := by unfold pPlay; rw [if_pos z1]
      rw [e]
      exact PuX.no h0 hF (by omega) (by omega) rfl rfl
    · rw [if_neg z1] at hX
      cases hz : sc x.toNat with
      | some s =>
        rw [hz] at hX
        obtain ⟨q, os, hos, h24, e9, hq⟩ := hX
        cases e9
      | none =>
        rw [hz] at hX
        cases hX
        have e : pPlay x (tp, sc, A, ds, cl, re) = (.inl 2, tp, sc, A, ds, cl, re) := by unfold pPlay; rw [if_neg z1]; dsimp only; rw [hz]
        rw [e]
        exact PuX.no h0 hF (by omega) (by omega) rfl rfl
theorem L_stream {N : Nat} (h : PwI S K la tp sc A ds cl re B) (hw : PwK (tp, sc, A, ds, cl, re)) (hN : PwN N (tp, sc, A, ds, cl, re)) (hN24 : N ≤ 24) (hx : inR x) (hB : B + 3200000 ≤ 20000000) : BM (d + 191) gk_X1_stream [aR (K 1), aI x] S (PuX K (pStream x (tp, sc, A, ds, cl, re)).2 (B + cRun N) [202, 201] (pStream x (tp, sc, A, ds, cl, re)).1) := by
  have h0 := h
  have hcf := cRun_f (Nat.le_refl N)
  have hcm := cRun_le hN24
  obtain ⟨cap, hcap, hL, hD, hR, h11, h12⟩ := h
  have hxb := hL.1.obx
  refine BM.of rfl rfl rfl ?_
  (repeat (refine BW.pl rfl rfl ?_))
  refine CW.call (as := [aR (K 1), aI x]) (rest := []) rfl rfl rfl rfl rfl (by first | exact Or.inl rfl | exact Or.inr (tagO hxb rfl rfl)) (Or.inl (by decide)) (L_scriptOf (d := d + 166) h0 hw hN hx (by omega)) (fun r S1 hX => ?_) (fun E q9 S1 hX => ?_)
  · obtain ⟨hF, hX⟩ := hX
    by_cases z1 : isFo x = false
    · rw [if_pos z1] at hX
      cases hX
    · rw [if_neg z1] at hX
      cases hz : sc x.toNat with
      | none => rw [hz] at hX; cases hX
      | some s =>
        rw [hz] at hX
        obtain ⟨q, os, hos, h24, e9, hq⟩ := hX
        cases e9
        have hcs := cRun_s hos (hN.2 _ _ hz)
        have e : pStream x (tp, sc, A, ds, cl, re) = strW os (tp, sc, A, ds, cl, re) := by unfold pStream; rw [if_neg z1]; dsimp only; rw [hz]; dsimp only; rw [hos]
        rw [e]
        have h02 := h0.f0 hF (by omega)
        obtain ⟨-, -, k3, k4, k5, k6, k7⟩ := hw
        obtain ⟨g1, g2, -⟩ := sOrders_K hos h24
        (iterate 1 (refine BW.pl rfl rfl ?_))
        refine BW.mono2 (fun r S' ⟨v9, e9, la3, e3, h3⟩ => ?_) (L_streamAt (d := d) (F := Nu S) h02 hq (fun m hm => hL.ko hm) g1 g2 (sOrders_in hos h24) k3 k4 k5 k6 k7 (by omega))
        subst e9 e3
        exact PuX.ok (la := la3) (w := (strW os (tp, sc, A, ds, cl, re)).2) h3 (by omega) (by omega) rfl
  · obtain ⟨hF, hX⟩ := hX
    refine Or.inl ⟨rfl, ?_⟩
    by_cases z1 : isFo x = false
    · rw [if_pos z1] at hX
      cases hX
      have e : pStream x (tp, sc, A, ds, cl, re) = (.inl 1, tp, sc, A, ds, cl, re) := by unfold pStream; rw [if_pos z1]
      rw [e]
      exact PuX.no h0 hF (by omega) (by omega) rfl rfl
    · rw [if_neg z1] at hX
      cases hz : sc x.toNat with
      | some s =>
        rw [hz] at hX
        obtain ⟨q, os, hos, h24, e9, hq⟩ := hX
        cases e9
      | none =>
        rw [hz] at hX
        cases hX
        have e : pStream x (tp, sc, A, ds, cl, re) = (.inl 2, tp, sc, A, ds, cl, re) := by unfold pStream; rw [if_neg z1]; dsimp only; rw [hz]
        rw [e]
        exact PuX.no h0 hF (by omega) (by omega) rfl rfl
end PU
