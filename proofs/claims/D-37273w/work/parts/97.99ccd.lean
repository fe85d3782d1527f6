-- C
set_option maxRecDepth 100000
/-! LINEORDERS: changed -/
section CD
variable {d n m q i a y cap c1 c2 cap' p B c k f e l u w yp pp it lr : Nat} {S S' S0 S1 S2 : BS} {K : Nat → Nat} {la : Int → Nat} {G : BG} {F V : Nat → Prop} {s s2 z z2 row : List Int} {v nn : Int} {dn rs : List SLine} {r : Option Nat} {Q : GO → BS → Prop} {od : SOrd0} {pt : SPat} {b g : MG} {o : Obj} {zz : Prop}
/-- what is known of an order that changes lines -/
def ChOk (od : SOrd0) : Prop := (oAct od = 115 → PatK (oPat od) ∧ clo 0 (oPat od).1 ≤ 2 ∧ putOk (clo 0 (oPat od).1) (oPut od) ∧ 1 ≤ oNum od ∧ (oPut od).length ≤ 21) ∧ (oAct od = 122 → (oLet od).length ≤ (oPut od).length) ∧ (0 ≤ oNum od ∧ oNum od ≤ 99)
def ChQ (S0 S : BS) (K : Nat → Nat) (la : Int → Nat) (p : Nat) (G : BG) (B it lr : Nat) (dn rs : List SLine) (V : Nat → Prop) (R : Option (List Int × Bool)) (r : GO) (S' : BS) : Prop := match R with
  | none => ∃ S1 rp, LC S0 S1 K la p (setRG G rp) B it lr dn rs V ∧ XF K V S S1 ∧ Thr9 11 78 4 S1 r S'
  | some (row2, b) => ∃ y2, r = .inl (vR (some y2)) ∧ Ob S' y2 (oStr row2) ∧ okS (some y2) ∧ LC S0 S' K la p (setRG G (G.2.2.2.2.2 || b)) (B + 58) it lr dn rs V ∧ XF K V S S'
theorem L_changed (hC : LC S0 S K la p G B it lr dn rs V) (hK : ∀ m, F m → KoM K m) (hO : Or0 S F zz q od) (hch : ChOk od) (hact : oAct od = 115 ∨ oAct od = 122 ∨ oAct od = 62 ∨ oAct od = 60) (hy : Ob S y (oStr row)) (hyk : okS (some y)) (hrl : row.length ≤ 30) (hB : B + 58 ≤ 20000000) : BM (d + 182) gk_X1_changed [aR (K 1), aR q, aR y] S (ChQ S0 S K la p G B it lr dn rs V (sChg od row)) := by
  obtain ⟨f0, hq, -, -, -, h48, ⟨q2, h8, h9, ⟨h49, -, -, ⟨r52, h52, h52p⟩, ⟨r53, h53, h53p⟩, ⟨r54, h54, h54p⟩, h55⟩⟩, -⟩ := hO
  have kq := hK _ f0
  have hx := hC.lb.obx
  have h15 : Fe S 15 (K 1) (some (K 15)) := hC.lb.fe (by decide)
  obtain ⟨z0, cap, hm, hcap⟩ := hC.lb.made
  have hf48 : Fi S 48 q (oAct od) := h48
  refine BM.of rfl rfl rfl ?_
  (repeat (first | (refine BW.pl rfl rfl ?_) | (refine CW.geti rfl rfl (by assumption) rfl rfl (by assumption) (fun _ => ?_)) | (refine CW.getr rfl rfl (by assumption) rfl rfl (by assumption) ?_)))
  refine CW.c2 rfl rfl (by first | exact Or.inl rfl | exact Or.inr (tagO (by assumption) (by rfl) (by rfl))) (by first | exact Or.inl (by decide) | exact Or.inr ⟨_, rfl, by assumption⟩) rfl (C_sbSetL hm) ?_
  rintro r S1 ⟨rfl, hm1, hF1⟩
  have hF1' : Fr1 S S1 (K 15) (3 * (cap - cap)) := by rw [Nat.sub_self]; exact hF1
  obtain ⟨hC1, hX1⟩ := hC.mdC hm hF1' hm1 (Nat.le_refl _) (Or.inl rfl) (Nat.lt_of_lt_of_le (by decide) (Nat.le_refl 29990))
  have hq1 := (hX1.ob hq kq (oNe rfl) rfl).1
  have h481 : Fi S1 48 q (oAct od) := hX1.fi hq kq (oNe rfl) rfl hf48 (by decide)
  have h491 : Fi S1 49 q (oNum od) := hX1.fi hq kq (oNe rfl) rfl h49 (by decide)
  have h521 := hX1.fe hq kq (oNe rfl) rfl h52 (by decide)
  have h531 := hX1.fe hq kq (oNe rfl) rfl h53 (by decide)
  have h541 := hX1.fe hq kq (oNe rfl) rfl h54 (by decide)
  have h551 : Fi S1 55 q (b2i (oEac od)) := hX1.fi hq kq (oNe rfl) rfl h55 (by decide)
  have hy1 := hX1.2.2 _ _ hy
  have hx1 := hC1.lb.obx
  have h151 : Fe S1 15 (K 1) (some (K 15)) := hC1.lb.fe (by decide)
  -- what was made is taken
  have tail : ∀ (S2 : BS) (z : List Int) (bb : Bool) (c1 : Nat), LC S0 S2 K la p (setRG G (G.2.2.2.2.2 || bb)) B it lr dn rs V → XF K V S S2 → Ob S2 (K 15) (oSb z c1) → z.length < 60000 → (sChg od row = if 30 < z.length then none else some (z, bb)) → BW (d + 181) gm_X1_changed 24 [some (aR (K 1)), some (aR q), some (aR y)] [] S2 (ChQ S0 S K la p G B it lr dn rs V (sChg od row)) := by
    intro S2 z bb c1 hC2 hX2 hm2 hzl he
    have hx2 := hC2.lb.obx
    have h152 : Fe S2 15 (K 1) (some (K 15)) := hC2.lb.fe (by decide)
    have hy2 := hX2.2.2 _ _ hy
    rw [he]
    (repeat (refine BW.pl rfl rfl ?_))
    refine CW.x2 rfl rfl (by first | exact Or.inl rfl | exact Or.inr (tagO (by assumption) (by rfl) (by rfl))) (by first | exact Or.inl (by decide) | exact Or.inr ⟨_, rfl, by assumption⟩) rfl rfl (L_madeOf hx2 h152 hm2 hy2 hyk hzl) ?_ ?_
    · rintro r S3 h3
      by_cases z3 : 30 < z.length
      · rw [if_pos z3] at h3
        obtain ⟨q9, e9, _⟩ := h3
        cases e9
      · rw [if_neg z3] at h3
        obtain ⟨y3, e3, hy3, hyk3, hF3⟩ := h3
        cases e3
        rw [if_neg z3]
        exact BW.aret rfl rfl ⟨y3, rfl, hy3, hyk3, hC2.f0 hF3 hB, hX2.f0 hF3⟩
    · rintro E q9 S3 h3
      by_cases z3 : 30 < z.length
      · rw [if_pos z3] at h3
        rw [if_pos z3]
        exact ⟨S2, _, hC2, hX2, h3⟩
      · rw [if_neg z3] at h3
        obtain ⟨y3, e3, _⟩ := h3
        cases e3
  have eG : ∀ {S2 : BS}, LC S0 S2 K la p G B it lr dn rs V → LC S0 S2 K la p (setRG G (G.2.2.2.2.2 || false)) B it lr dn rs V := fun h => by rw [Bool.or_false]; exact h
  have tail2 : ∀ (S2 : BS) (z : List Int), MdT S1 S2 (K 15) cap z → z.length < 29000 → (sChg od row = if 30 < z.length then none else some (z, false)) → BW (d + 181) gm_X1_changed 24 [some (aR (K 1)), some (aR q), some (aR y)] [] S2 (ChQ S0 S K la p G B it lr dn rs V (sChg od row)) := by
    rintro S2 z ⟨c2, hm2, hF2, k1, k2⟩ hzl he
    obtain ⟨hC2, hX2⟩ := hC1.mdC hm1 hF2 hm2 k1 k2 (by omega)
    exact tail S2 z false c2 (eG hC2) (hX1.tr hX2) hm2 (by omega) he
  obtain ⟨ch1, ch2, ch3⟩ := hch
  rcases hact with ha | ha | ha | ha
  · obtain ⟨pp, rfl, hP⟩ := h52p (Or.inl ha)
    obtain ⟨yp, rfl, hyp⟩ := h53p (Or.inl ha)
    obtain ⟨k1, k2, k3, k4, k5⟩ := ch1 ha
    have hP1 := PatIs.xf hP hX1 hK
    have hyp1 : Ob S1 yp (oStr (oPut od)) := hX1.2.2 _ _ hyp
    rw [ha] at h481
    (repeat (first | (refine BW.pl rfl rfl ?_) | (refine CW.geti rfl rfl (by assumption) rfl rfl (by assumption) (fun _ => ?_)) | (refine CW.getr rfl rfl (by assumption) rfl rfl (by assumption) ?_)))
    refine BW.sw (i' := 7) rfl rfl (by constructor <;> omega) rfl ?_
    (repeat (refine BW.pl rfl rfl ?_))
    refine CW.c3 rfl rfl (by first | exact Or.inl rfl | exact Or.inr (tagO (by assumption) (by rfl) (by rfl))) (by first | exact Or.inl (by decide) | exact Or.inr ⟨_, rfl, by assumption⟩) rfl (L_replace (c := clo 0 (oPat od).1) hC1 hK hq1 kq h491 h521 hP1 h531 hyp1 h551 k1 k3 rfl k2 ⟨k4, ch3.2⟩ k5 hm1 hy1 hrl) ?_
    rintro r S2 ⟨rfl, hC2, hX2, hl2, c2, hm2⟩
    (iterate 1 (refine BW.pl rfl rfl ?_))
    refine tail S2 _ _ c2 hC2 (hX1.tr hX2) hm2 (by omega) ?_
    unfold sChg
    rw [if_pos ha]
  · obtain ⟨yp, rfl, hyp⟩ := h53p (Or.inr ha)
    obtain ⟨yl, rfl, hyl⟩ := h54p ha
    have hyp1 : Ob S1 yp (oStr (oPut od)) := hX1.2.2 _ _ hyp
    have hyl1 : Ob S1 yl (oStr (oLet od)) := hX1.2.2 _ _ hyl
    rw [ha] at h481
    (repeat (first | (refine BW.pl rfl rfl ?_) | (refine CW.geti rfl rfl (by assumption) rfl rfl (by assumption) (fun _ => ?_)) | (refine CW.getr rfl rfl (by assumption) rfl rfl (by assumption) ?_)))
    refine BW.sw (i' := 12) rfl rfl (by constructor <;> omega) rfl ?_
    (repeat (refine BW.pl rfl rfl ?_))
    refine CW.c3 rfl rfl (by first | exact Or.inl rfl | exact Or.inr (tagO (by assumption) (by rfl) (by rfl))) (by first | exact Or.inl (by decide) | exact Or.inr ⟨_, rfl, by assumption⟩) rfl (L_changeSigns hx1 h151 hm1 hy1 hq1 h531 hyp1 h541 hyl1 (ch2 ha) (by omega)) ?_
    rintro r S2 ⟨rfl, hM⟩
    have hl : (sTrn (oLet od) (oPut od) row).length = row.length := by unfold sTrn; rw [List.length_map]
    (iterate 1 (refine BW.pl rfl rfl ?_))
    refine tail2 S2 _ hM (by omega) ?_
    unfold sChg
    rw [if_neg (by omega), if_pos ha, if_neg (by omega)]
  · have h481' : Fi S1 48 q 62 := by rw [← ha]; exact h481
    (repeat (first | (refine BW.pl rfl rfl ?_) | (refine CW.geti rfl rfl (by assumption) rfl rfl (by assumption) (fun _ => ?_)) | (refine CW.getr rfl rfl (by assumption) rfl rfl (by assumption) ?_)))
    refine BW.sw (i' := 17) rfl rfl (by constructor <;> omega) rfl ?_
    (repeat (refine BW.pl rfl rfl ?_))
    refine CW.c3 rfl rfl (by first | exact Or.inl rfl | exact Or.inr (tagO (by assumption) (by rfl) (by rfl))) (by first | exact Or.inl (by decide) | exact Or.inr ⟨_, rfl, by assumption⟩) rfl (L_shift hx1 h151 hm1 hy1 hq1 h481 h491 (Or.inl ha) ch3 (by omega)) ?_
    rintro r S2 ⟨rfl, hM⟩
    rw [if_pos ha] at hM
    have hl : (List.replicate (oNum od).toNat 32 ++ row).length = (oNum od).toNat + row.length := by rw [List.length_append, List.length_replicate]
    (iterate 1 (refine BW.pl rfl rfl ?_))
    refine tail2 S2 _ hM (by omega) ?_
    unfold sChg
    rw [if_neg (by omega), if_neg (by omega), if_pos ha, hl]
  · have h481' : Fi S1 48 q 60 := by rw [← ha]; exact h481
    (repeat (first | (refine BW.pl rfl rfl ?_) | (refine CW.geti rfl rfl (by assumption) rfl rfl (by assumption) (fun _ => ?_)) | (refine CW.getr rfl rfl (by assumption) rfl rfl (by assumption) ?_)))
    refine BW.sw (i' := 17) rfl rfl (by constructor <;> omega) rfl ?_
    (repeat (refine BW.pl rfl rfl ?_))
    refine CW.c3 rfl rfl (by first | exact Or.inl rfl | exact Or.inr (tagO (by assumption) (by rfl) (by rfl))) (by first | exact Or.inl (by decide) | exact Or.inr ⟨_, rfl, by assumption⟩) rfl (L_shift hx1 h151 hm1 hy1 hq1 h481 h491 (Or.inr ha) ch3 (by omega)) ?_
    rintro r S2 ⟨rfl, hM⟩
    rw [if_neg (by omega)] at hM
    have hl : (row.drop (sBlanks (oNum od).toNat row)).length ≤ row.length := by rw [List.length_drop]; omega
    (iterate 1 (refine BW.pl rfl rfl ?_))
    refine tail2 S2 _ hM (by omega) ?_
    unfold sChg
    rw [if_neg (by omega), if_neg (by omega), if_neg (by omega), if_neg (by omega)]
end CD
