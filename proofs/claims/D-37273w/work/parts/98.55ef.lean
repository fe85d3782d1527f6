-- C
set_option maxRecDepth 100000
/-! LINEORDERS: a stream: files that are written begin empty -/
section EF
variable {d n m q oq ar pq dq a b f y cap cap' cap1 c i k B B' B2 st tu p Bm : Nat} {S S' S1 S2 : BS} {K : Nat → Nat} {V F : Nat → Prop} {o : SOrd} {la la1 : Int → Nat} {t pu re pu1 re1 rs : List SLine} {x z x1 : SLine} {g g1 ov rp run bb : Bool} {du rows du1 du' : List (List Int)} {W W1 : WG} {G G1 : BG} {ru : Nat → Nat → RG} {r : Option Nat} {v nn n0 : Int} {h9 o9 : List (List Int)} {fi : Nat → List (List Int)} {mk : Nat → Option Int} {od : SOrd0} {w : Nat} {rg : GO} {xs ys : List (Option Nat)} {os : List SOrd} {ods : List SOrd0} {OA : Nat → Nat → Nat} {qi : Nat → Nat} {yz : Nat → List (Option Nat)} {Q : GO → BS → Prop}
def wrOk (od : SOrd0) : Prop := oAct od = 119 → 0 ≤ oNum od ∧ oNum od < 4
/-- one order's file -/
theorem ef_one (h : StS S K la q oq ar pq dq t ((x, g, du, pu, re), (h9, o9, fi, mk, nn, rp), st, tu, ov, ru) rs cap B) (hk : StK K F q ar pq dq) (hO : Or0 S F False m od) (hn : wrOk od) (hB : B + 1 + 6 * cap ≤ 20000000)
    (kk : ∀ S1, StS S1 K la q oq ar pq dq t ((x, g, du, pu, re), (h9, o9, stEmpty1 fi od, mk, nn, rp), st, tu, ov, ru) rs cap (B + 1) → XF K (fun _ => False) S S1 → BW (d + 3) gm_X13_emptyFiles 23 [some (aR q), some (aR a), some (aI i), some (aR m)] [] S1 Q) : BW (d + 3) gm_X13_emptyFiles 11 [some (aR q), some (aR a), some (aI i), some (aR m)] [] S Q := by
  obtain ⟨hm, h48, h49⟩ := hO.nm
  obtain ⟨hq, h79, h80, h81, h82, h90, har⟩ := id h.1
  obtain ⟨p, hL⟩ := h.2.1
  have hL : LB S K la (idsOfL t) p (h9, o9, fi, mk, nn, rp) (B + 6 * cap) := hL
  have hx := hL.obx
  have htt := hL.tt
  unfold stEmpty1 at kk
  by_cases z : oAct od = 119
  · rw [if_pos z] at kk
    obtain ⟨n1, n2⟩ := hn z
    obtain ⟨j, hj⟩ : ∃ j : Nat, oNum od = j := ⟨(oNum od).toNat, by omega⟩
    have ej : (oNum od).toNat = j := by omega
    rw [ej] at kk
    rw [hj] at h49
    have hj4 : j < 4 := by omega
    obtain ⟨e9, cf, hfs⟩ := hL.files
    obtain ⟨cap0, xs, hob, hss, hcap0⟩ := hL.file hj4
    (repeat (first | (refine BW.pl rfl rfl ?_) | (refine CW.geti rfl rfl (by assumption) rfl rfl (by assumption) (fun _ => ?_)) | (refine CW.getr rfl rfl (by assumption) rfl rfl (by assumption) ?_)))
    refine BW.br rfl rfl (by first | omega | decide | (constructor <;> first | omega | decide)) (fun w => by first | (exfalso; omega) | exact absurd w (by decide)) (fun w => ?_)
    (repeat (first | (refine BW.pl rfl rfl ?_) | (refine CW.geti rfl rfl (by assumption) rfl rfl (by assumption) (fun _ => ?_)) | (refine CW.getr rfl rfl (by assumption) rfl rfl (by assumption) ?_)))
    refine CW.e2 rfl rfl (by first | exact Or.inl rfl | exact Or.inr (tagO (by assumption) (by rfl) (by rfl)) | exact Or.inr (tagO (AdrIs.ox (by assumption)) (by rfl) (by rfl)) | exact Or.inr (tagO (PatIs.ox (by assumption)) (by rfl) (by rfl)) | exact Or.inr (tagO (Or0.ox (by assumption)) (by rfl) (by rfl))) (by first | exact Or.inl (by decide) | exact Or.inr ⟨_, rfl, by assumption⟩) rfl (C_alGet (d := d) hfs (show j < 4 from hj4) (fil_get hj4) rfl) ?_
    refine CW.castS rfl hob rfl rfl rfl ?_
    refine CW.c1 rfl rfl (by first | exact Or.inl rfl | exact Or.inr (tagO (by assumption) (by rfl) (by rfl)) | exact Or.inr (tagO (AdrIs.ox (by assumption)) (by rfl) (by rfl)) | exact Or.inr (tagO (PatIs.ox (by assumption)) (by rfl) (by rfl)) | exact Or.inr (tagO (Or0.ox (by assumption)) (by rfl) (by rfl))) (by first | exact Or.inl (by decide) | exact Or.inr ⟨_, rfl, by assumption⟩) rfl (C_alClr (d := d + 2) hob (by omega)) ?_
    rintro r S1 ⟨rfl, hob1, hF1⟩
    have hss1 : StrsIs S1 [] [] := ⟨rfl, fun j hj => by cases hj⟩
    have hL1 := hL.setList (c := 1) (i := 20 + j) (fil_ix hj4) hob (hF1.w (fun _ _ z => z) (by omega)) LoX.k ⟨_, hob1, hss1, hcap0⟩ (Nat.le_refl _) (by omega)
    rw [fil_set hj4] at hL1
    have hX1 : XF K (fun _ => False) S S1 := XF.rf.f1 hF1 (fun _ => hL.wk (by have := fil_ix hj4; revert this; unfold lIx kCh; simp; omega))
    have h1 := StS.xf (G' := (h9, o9, fup fi j [], mk, nn, rp)) (B' := B + 1) h hk hX1 ⟨p, hL1.le (by omega) (by omega)⟩ rfl (fun _ _ z => z)
    exact kk S1 h1 hX1
  · rw [if_neg z] at kk
    (repeat (first | (refine BW.pl rfl rfl ?_) | (refine CW.geti rfl rfl (by assumption) rfl rfl (by assumption) (fun _ => ?_)) | (refine CW.getr rfl rfl (by assumption) rfl rfl (by assumption) ?_)))
    refine BW.br rfl rfl (by first | omega | decide | (constructor <;> first | omega | decide)) (fun w => ?_) (fun w => by first | (exfalso; omega) | exact absurd w (by decide))
    exact kk S (h.le (Nat.le_succ _) hB) XF.rf
/-- a list of inner orders -/
theorem L_emptyInner (h : StS S K la q oq ar pq dq t ((x, g, du, pu, re), (h9, o9, fi, mk, nn, rp), st, tu, ov, ru) rs cap B) (hk : StK K F q ar pq dq) (ha : Ob S a (oAl ys c)) (ka : KoM K a) (hl : ys.length = ods.length) (hg : ∀ i, i < ods.length → ∃ m, ys.getD i none = some m ∧ F m ∧ Or0 S F False m (ods.getD i noOrd0) ∧ Fe S 56 m none) (hn : ∀ od ∈ ods, wrOk od) (hB : B + ods.length + 6 * cap ≤ 20000000) : BMr (d + 4) gk_X13_emptyFiles [aR q, aR a] S (fun r S' => r = none ∧ StS S' K la q oq ar pq dq t ((x, g, du, pu, re), (h9, o9, ods.foldl stEmpty1 fi, mk, nn, rp), st, tu, ov, ru) rs cap (B + ods.length) ∧ XF K (fun _ => False) S S') := by
  have loop : ∀ (ds : List SOrd0) (i : Nat) (S2 : BS) (fi2 : Nat → List (List Int)) (v3 : Option GV), gn1 v3 = true → (∃ pre, ods = pre ++ ds ∧ pre.length = i) → StS S2 K la q oq ar pq dq t ((x, g, du, pu, re), (h9, o9, fi2, mk, nn, rp), st, tu, ov, ru) rs cap (B + i) → XF K (fun _ => False) S S2 → BW (d + 3) gm_X13_emptyFiles 2 [some (aR q), some (aR a), some (aI i), v3] [] S2 (fun rg S' => ∃ v, rg = .inl v ∧ v = none ∧ StS S' K la q oq ar pq dq t ((x, g, du, pu, re), (h9, o9, ds.foldl stEmpty1 fi2, mk, nn, rp), st, tu, ov, ru) rs cap (B + ods.length) ∧ XF K (fun _ => False) S S') := by
    intro ds
    induction ds with
    | nil =>
      rintro i S2 fi2 v3 g3 ⟨pre, hpre, hi⟩ h2 hX2
      have ha2 := (hX2.ob ha ka (oNe rfl) rfl).1
      have hil : i = ys.length := by rw [hl, hpre, List.append_nil]; exact hi.symm
      have hil2 : i = ods.length := by rw [hil, hl]
      refine BW.alB ha2 (fun hcb => ?_)
      (repeat (refine BW.pl rfl rfl ?_))
      refine CW.e1 rfl rfl (by first | exact Or.inl rfl | exact Or.inr (tagO (by assumption) (by rfl) (by rfl)) | exact Or.inr (tagO (AdrIs.ox (by assumption)) (by rfl) (by rfl)) | exact Or.inr (tagO (PatIs.ox (by assumption)) (by rfl) (by rfl)) | exact Or.inr (tagO (Or0.ox (by assumption)) (by rfl) (by rfl))) (by first | exact Or.inl (by decide) | exact Or.inr ⟨_, rfl, by assumption⟩) rfl (B_alSize ha2) ?_
      refine BW.br rfl rfl (by first | omega | decide | (constructor <;> first | omega | decide)) (fun w => ?_) (fun w => by first | (exfalso; omega) | exact absurd w (by decide))
      rw [hil2] at h2
      exact BW.ret rfl rfl ⟨none, rfl, rfl, h2, hX2⟩
    | cons od ds ih =>
      rintro i S2 fi2 v3 g3 ⟨pre, hpre, hi⟩ h2 hX2
      have ha2 := (hX2.ob ha ka (oNe rfl) rfl).1
      have hio : i < ods.length := by rw [hpre, List.length_append, List.length_cons]; omega
      have hil : i < ys.length := by omega
      have hod : ods.getD i noOrd0 = od := by rw [hpre, List.getD_eq_getElem?_getD, List.getElem?_append_right (by omega), hi, Nat.sub_self]; rfl
      obtain ⟨m, hm, fm, hO, h56⟩ := hg i hio
      rw [hod] at hO
      have hO2 := hO.xS (XS.of (W := WSt q pq dq) hX2) hk.wo
      have h562 := hX2.fe hO.2.1 (hk.1 _ fm) (oNe rfl) rfl h56 (by decide)
      refine BW.alB ha2 (fun hcb => ?_)
      (repeat (refine BW.pl rfl rfl ?_))
      refine CW.e1 rfl rfl (by first | exact Or.inl rfl | exact Or.inr (tagO (by assumption) (by rfl) (by rfl)) | exact Or.inr (tagO (AdrIs.ox (by assumption)) (by rfl) (by rfl)) | exact Or.inr (tagO (PatIs.ox (by assumption)) (by rfl) (by rfl)) | exact Or.inr (tagO (Or0.ox (by assumption)) (by rfl) (by rfl))) (by first | exact Or.inl (by decide) | exact Or.inr ⟨_, rfl, by assumption⟩) rfl (B_alSize ha2) ?_
      refine BW.br rfl rfl (by first | omega | decide | (constructor <;> first | omega | decide)) (fun w => by first | (exfalso; omega) | exact absurd w (by decide)) (fun w => ?_)
      (repeat (refine BW.pl rfl rfl ?_))
      refine CW.e2 rfl rfl (by first | exact Or.inl rfl | exact Or.inr (tagO (by assumption) (by rfl) (by rfl)) | exact Or.inr (tagO (AdrIs.ox (by assumption)) (by rfl) (by rfl)) | exact Or.inr (tagO (PatIs.ox (by assumption)) (by rfl) (by rfl)) | exact Or.inr (tagO (Or0.ox (by assumption)) (by rfl) (by rfl))) (by first | exact Or.inl (by decide) | exact Or.inr ⟨_, rfl, by assumption⟩) rfl (C_alGet (d := d) ha2 hil hm rfl) ?_
      refine CW.castS rfl hO2.2.1 rfl rfl rfl ?_
      refine BW.strV rfl rfl (by simp only [List.all_cons, List.all_nil, g3]; rfl) ?_
      refine ef_one h2 hk hO2 (hn od (by rw [hpre]; exact List.mem_append_right _ List.mem_cons_self)) (by omega) (fun S3 h3 hX3 => ?_)
      have hm3 := (hX3.ob hO2.2.1 (hk.1 _ fm) (oNe rfl) rfl).1
      have h563 := hX3.fe hO2.2.1 (hk.1 _ fm) (oNe rfl) rfl h562 (by decide)
      (repeat (first | (refine BW.pl rfl rfl ?_) | (refine CW.geti rfl rfl (by assumption) rfl rfl (by assumption) (fun _ => ?_)) | (refine CW.getr rfl rfl (by assumption) rfl rfl (by assumption) ?_)))
      refine CW.nul rfl rfl (fun n h => by cases h) ?_
      (iterate 2 (refine BW.pl rfl rfl ?_))
      have e1 : (i : Int) + 1 = ((i + 1 : Nat) : Int) := by omega
      rw [e1]
      exact ih (i + 1) S3 (stEmpty1 fi2 od) _ rfl ⟨pre ++ [od], by rw [hpre, List.append_assoc]; rfl, by simp [hi]⟩ h3 (hX2.tr hX3)
  refine BM.of rfl rfl rfl ?_
  (iterate 2 (refine BW.pl rfl rfl ?_))
  exact loop ods 0 S fi none rfl ⟨[], rfl, rfl⟩ h XF.rf
/-- all orders -/
theorem L_emptyFiles (h : StS S K la q oq ar pq dq t ((x, g, du, pu, re), (h9, o9, fi, mk, nn, rp), st, tu, ov, ru) rs cap B) (hk : StK K F q ar pq dq) (hI : OsI S F t.length os ru OA xs qi yz oq) (hS : OsS F oq os OA xs qi yz) (hE : OsE S os OA) (hn : ∀ o ∈ os, wrOk o.1 ∧ ∀ od ∈ o.2, wrOk od) (hnl : ∀ o ∈ os, o.2.length ≤ 40) (hB : B + 41 * os.length + 6 * cap ≤ 20000000) : BMr (d + 5) gk_X13_emptyFiles [aR q, aR oq] S (fun r S' => r = none ∧ StS S' K la q oq ar pq dq t ((x, g, du, pu, re), (h9, o9, stEmpty os fi, mk, nn, rp), st, tu, ov, ru) rs cap (B + 41 * os.length) ∧ XF K (fun _ => False) S S') := by
  obtain ⟨cx, hxs⟩ := hI.1
  obtain ⟨Foq, ⟨hxl, hgx⟩, -⟩ := id hS
  have koq := hk.1 _ Foq
  unfold stEmpty
  have loop : ∀ (ds : List SOrd) (i : Nat) (S2 : BS) (fi2 : Nat → List (List Int)) (v3 : Option GV), gn1 v3 = true → (∃ pre, os = pre ++ ds ∧ pre.length = i) → StS S2 K la q oq ar pq dq t ((x, g, du, pu, re), (h9, o9, fi2, mk, nn, rp), st, tu, ov, ru) rs cap (B + 41 * i) → XF K (fun _ => False) S S2 → BW (d + 4) gm_X13_emptyFiles 2 [some (aR q), some (aR oq), some (aI i), v3] [] S2 (fun rg S' => ∃ v, rg = .inl v ∧ v = none ∧ StS S' K la q oq ar pq dq t ((x, g, du, pu, re), (h9, o9, ds.foldl (fun f o => o.2.foldl stEmpty1 (stEmpty1 f o.1)) fi2, mk, nn, rp), st, tu, ov, ru) rs cap (B + 41 * os.length) ∧ XF K (fun _ => False) S S') := by
    intro ds
    induction ds with
    | nil =>
      rintro i S2 fi2 v3 g3 ⟨pre, hpre, hi⟩ h2 hX2
      have ha2 := (hX2.ob hxs koq (oNe rfl) rfl).1
      have hil : i = os.length := by rw [hpre, List.append_nil]; exact hi.symm
      refine BW.alB ha2 (fun hcb => ?_)
      (repeat (refine BW.pl rfl rfl ?_))
      refine CW.e1 rfl rfl (by first | exact Or.inl rfl | exact Or.inr (tagO (by assumption) (by rfl) (by rfl)) | exact Or.inr (tagO (AdrIs.ox (by assumption)) (by rfl) (by rfl)) | exact Or.inr (tagO (PatIs.ox (by assumption)) (by rfl) (by rfl)) | exact Or.inr (tagO (Or0.ox (by assumption)) (by rfl) (by rfl))) (by first | exact Or.inl (by decide) | exact Or.inr ⟨_, rfl, by assumption⟩) rfl (B_alSize ha2) ?_
      rw [hxl]
      refine BW.br rfl rfl (by first | omega | decide | (constructor <;> first | omega | decide)) (fun w => ?_) (fun w => by first | (exfalso; omega) | exact absurd w (by decide))
      rw [hil] at h2
      exact BW.ret rfl rfl ⟨none, rfl, rfl, h2, hX2⟩
    | cons o ds ih =>
      rintro i S2 fi2 v3 g3 ⟨pre, hpre, hi⟩ h2 hX2
      have ha2 := (hX2.ob hxs koq (oNe rfl) rfl).1
      have hio : i < os.length := by rw [hpre, List.length_append, List.length_cons]; omega
      have hod : os.getD i noOrd = o := by rw [hpre, List.getD_eq_getElem?_getD, List.getElem?_append_right (by omega), hi, Nat.sub_self]; rfl
      have hom : o ∈ os := by rw [hpre]; exact List.mem_append_right _ List.mem_cons_self
      have hv0 : kyG os i 0 := ⟨hio, Nat.zero_le _⟩
      have hI2 := hI.xa hS hk (XS.of hX2)
      have hE2 := hE.xa hI hS hk (XS.of hX2)
      have hO2 := (hI2.2.2 i 0 hv0).1
      rw [ord9_0, hod] at hO2
      have fm := hS.2.2.2.1 i 0 hv0
      obtain ⟨hn1, hn2⟩ := hn o hom
      have hol := hnl o hom
      refine BW.alB ha2 (fun hcb => ?_)
      (repeat (refine BW.pl rfl rfl ?_))
      refine CW.e1 rfl rfl (by first | exact Or.inl rfl | exact Or.inr (tagO (by assumption) (by rfl) (by rfl)) | exact Or.inr (tagO (AdrIs.ox (by assumption)) (by rfl) (by rfl)) | exact Or.inr (tagO (PatIs.ox (by assumption)) (by rfl) (by rfl)) | exact Or.inr (tagO (Or0.ox (by assumption)) (by rfl) (by rfl))) (by first | exact Or.inl (by decide) | exact Or.inr ⟨_, rfl, by assumption⟩) rfl (B_alSize ha2) ?_
      rw [hxl]
      refine BW.br rfl rfl (by first | omega | decide | (constructor <;> first | omega | decide)) (fun w => by first | (exfalso; omega) | exact absurd w (by decide)) (fun w => ?_)
      (repeat (refine BW.pl rfl rfl ?_))
      refine CW.e2 rfl rfl (by first | exact Or.inl rfl | exact Or.inr (tagO (by assumption) (by rfl) (by rfl)) | exact Or.inr (tagO (AdrIs.ox (by assumption)) (by rfl) (by rfl)) | exact Or.inr (tagO (PatIs.ox (by assumption)) (by rfl) (by rfl)) | exact Or.inr (tagO (Or0.ox (by assumption)) (by rfl) (by rfl))) (by first | exact Or.inl (by decide) | exact Or.inr ⟨_, rfl, by assumption⟩) rfl (C_alGet (d := d + 1) ha2 (by omega) (hgx i hio) rfl) ?_
      refine CW.castS rfl hO2.2.1 rfl rfl rfl ?_
      refine BW.strV rfl rfl (by simp only [List.all_cons, List.all_nil, g3]; rfl) ?_
      refine ef_one (d := d + 1) h2 hk hO2 hn1 (by omega) (fun S3 h3 hX3 => ?_)
      have hX3' : XF K (fun _ => False) S S3 := hX2.tr hX3
      have hI3 := hI2.xa hS hk (XS.of hX3)
      have hE3 := hE2.xa hI2 hS hk (XS.of hX3)
      have hO3 := (hI3.2.2 i 0 hv0).1
      rw [ord9_0, hod] at hO3
      have hm3 := hO3.2.1
      have fin : ∀ (S4 : BS) (v3 : Option GV), gn1 v3 = true → StS S4 K la q oq ar pq dq t ((x, g, du, pu, re), (h9, o9, o.2.foldl stEmpty1 (stEmpty1 fi2 o.1), mk, nn, rp), st, tu, ov, ru) rs cap (B + 41 * i + 1 + o.2.length) → XF K (fun _ => False) S S4 → BW (d + 4) gm_X13_emptyFiles 30 [some (aR q), some (aR oq), some (aI i), v3] [] S4 (fun rg S' => ∃ v, rg = .inl v ∧ v = none ∧ StS S' K la q oq ar pq dq t ((x, g, du, pu, re), (h9, o9, (o :: ds).foldl (fun f o => o.2.foldl stEmpty1 (stEmpty1 f o.1)) fi2, mk, nn, rp), st, tu, ov, ru) rs cap (B + 41 * os.length) ∧ XF K (fun _ => False) S S') := by
        intro S4 v3 gg3 h4 hX4
        refine BW.incV rfl rfl rfl (by simp only [List.all_cons, List.all_nil, gg3]; rfl) ?_
        refine BW.pl rfl rfl ?_
        have e1 : (i : Int) + 1 = ((i + 1 : Nat) : Int) := by omega
        show BW (d + 4) gm_X13_emptyFiles 2 [some (aR q), some (aR oq), some (aI ((i : Int) + 1)), v3] [] S4 _
        rw [e1]
        exact ih (i + 1) S4 _ v3 gg3 ⟨pre ++ [o], by rw [hpre, List.append_assoc]; rfl, by simp [hi]⟩ (h4.le (by omega) (by omega)) hX4
      cases hgc : isGc (oAct o.1) with
      | false =>
        have h563 := hE3.2 i 0 hv0 (Or.inr (by rw [hod]; exact hgc))
        have ho2 : o.2 = [] := by have := hE3.1 i hio (by rw [hod]; exact hgc); rw [hod] at this; exact this
        (repeat (first | (refine BW.pl rfl rfl ?_) | (refine CW.geti rfl rfl (by assumption) rfl rfl (by assumption) (fun _ => ?_)) | (refine CW.getr rfl rfl (by assumption) rfl rfl (by assumption) ?_)))
        refine CW.nul rfl rfl (fun n h => by cases h) ?_
        refine fin S3 _ rfl ?_ hX3'
        rw [ho2]
        exact h3
      | true =>
        have hgo : isGc (oAct (os.getD i noOrd).1) = true := by rw [hod]; exact hgc
        obtain ⟨h563, c9, hqi⟩ := hI3.2.1 i hio hgo
        obtain ⟨hFq, hyl, hyg⟩ := hS.2.2.1 i hio hgo
        rw [hod] at hyl hyg
        (repeat (first | (refine BW.pl rfl rfl ?_) | (refine CW.geti rfl rfl (by assumption) rfl rfl (by assumption) (fun _ => ?_)) | (refine CW.getr rfl rfl (by assumption) rfl rfl (by assumption) ?_)))
        refine CW.nul rfl rfl (fun n h => by cases h; rw [show S3.1 (qi i) = _ from hqi]; rfl) ?_
        (repeat (first | (refine BW.pl rfl rfl ?_) | (refine CW.geti rfl rfl (by assumption) rfl rfl (by assumption) (fun _ => ?_)) | (refine CW.getr rfl rfl (by assumption) rfl rfl (by assumption) ?_)))
        have hq39 := h3.1.1
        have hh9 : ∀ j, j < o.2.length → Or0 S3 F False (OA i (j + 1)) (o.2.getD j noOrd0) := fun j hj => by
          have := (hI3.2.2 i (j + 1) ⟨hio, by rw [hod]; exact hj⟩).1
          rw [ord9_i, hod] at this
          exact this
        refine CW.c2 rfl rfl (by first | exact Or.inl rfl | exact Or.inr (tagO (by assumption) (by rfl) (by rfl)) | exact Or.inr (tagO (AdrIs.ox (by assumption)) (by rfl) (by rfl)) | exact Or.inr (tagO (PatIs.ox (by assumption)) (by rfl) (by rfl)) | exact Or.inr (tagO (Or0.ox (by assumption)) (by rfl) (by rfl))) (by first | exact Or.inl (by decide) | exact Or.inr ⟨_, rfl, by assumption⟩) rfl (L_emptyInner (d := d) h3 hk hqi (hk.1 _ hFq) hyl (fun j hj => ⟨OA i (j + 1), hyg j hj, hS.2.2.2.1 i (j + 1) ⟨hio, by rw [hod]; exact hj⟩, hh9 j hj, hE3.2 i (j + 1) ⟨hio, by rw [hod]; exact hj⟩ (Or.inl (Nat.succ_ne_zero j))⟩) hn2 (by omega)) ?_
        rintro r S4 ⟨rfl, h4, hX4⟩
        exact fin S4 _ rfl (h4.le (by omega) (by omega)) (hX3'.tr hX4)
  refine BM.of rfl rfl rfl ?_
  (iterate 2 (refine BW.pl rfl rfl ?_))
  exact loop os 0 S fi none rfl ⟨[], rfl, rfl⟩ h XF.rf
end EF
