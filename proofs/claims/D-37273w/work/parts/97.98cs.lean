-- C
set_option maxRecDepth 100000
/-! LINEORDERS: what is made of a row: shift, changeSigns, put -/
section CS
variable {d n m q i a y cap c1 c2 p B c k f e l u yp yl : Nat} {S S' S0 S1 S2 : BS} {K : Nat → Nat} {s s2 z z2 le pu row : List Int} {v w nn : Int} {r : Option Nat} {Q : GO → BS → Prop} {od : SOrd0} {pt : SPat} {b g : MG}
/-- the builder holds z now -/
def MdT (S S' : BS) (m cap : Nat) (z : List Int) : Prop := ∃ cap', Ob S' m (oSb z cap') ∧ Fr1 S S' m (3 * (cap' - cap)) ∧ cap ≤ cap' ∧ (cap' = cap ∨ cap' ≤ 2 * z.length)
theorem MdT.mk2 (hF1 : Fr1 S S1 m (3 * (c1 - cap))) (k1 : cap ≤ c1) (k2 : c1 = cap ∨ c1 ≤ 2 * z.length) (hm2 : Ob S2 m (oSb z2 c2)) (hF2 : Fr1 S1 S2 m (3 * (c2 - c1))) (k3 : c1 ≤ c2) (k4 : c2 = c1 ∨ c2 ≤ 2 * z2.length) (hz : z.length ≤ z2.length) : MdT S S2 m cap z2 := ⟨c2, hm2, (hF1.tr hF2 (fun _ _ z => z)).w (fun _ _ z => z) (by omega), by omega, by omega⟩
theorem MdT.rf (h : Ob S m (oSb z cap)) : MdT S S m cap z := ⟨cap, h, Fr.rf.w (fun _ _ z => z) (Nat.zero_le _), Nat.le_refl _, Or.inl rfl⟩
theorem L_shift (hx : Ob S n (oOwn 1)) (h15 : Fe S 15 n (some m)) (hm : Ob S m (oSb [] cap)) (hy : Ob S y (oStr s)) (hq : Ob S q (oOwn 7)) (h48 : Fi S 48 q (oAct od)) (h49 : Fi S 49 q (oNum od)) (hac : oAct od = 62 ∨ oAct od = 60) (hnm : 0 ≤ oNum od ∧ oNum od ≤ 99) (hsl : s.length ≤ 1000) : BMr (d + 7) gk_X1_shift [aR n, aR q, aR y] S (fun r S' => r = none ∧ MdT S S' m cap (if oAct od = 62 then List.replicate (oNum od).toNat 32 ++ s else s.drop (sBlanks (oNum od).toNat s))) := by
  obtain ⟨N, hN⟩ : ∃ N : Nat, oNum od = N := ⟨(oNum od).toNat, by omega⟩
  rw [hN] at h49 hnm
  have eN : (oNum od).toNat = N := by omega
  rw [eN]
  generalize hR : (if oAct od = 62 then List.replicate N 32 ++ s else s.drop (sBlanks N s)) = R
  refine BM.of rfl rfl rfl ?_
  refine BW.strL hy (fun hs => ?_)
  have at74 : ∀ (k : Nat) (z : List Int) (c1 : Nat) (S2 : BS) (v4 : Option GV), k ≤ s.length → z.length ≤ 1000 → Ob S2 m (oSb z c1) → Fr1 S S2 m (3 * (c1 - cap)) → cap ≤ c1 → (c1 = cap ∨ c1 ≤ 2 * z.length) → z ++ s.drop k = R → BW (d + 6) gm_X1_shift 35 [some (aR n), some (aR q), some (aR y), some (aI k), v4] [] S2 (fun r S' => ∃ v, r = .inl v ∧ (v = none ∧ MdT S S' m cap R)) := by
    intro k z c1 S2 v4 hk hz hm2 hF k1 k2 he
    have hx2 := hx.fr hF ⟨oNe rfl, hx.ne hm (oNe rfl)⟩
    have h152 := h15.fr hF ⟨⟨hx.old (oNe rfl), by decide⟩, hx.ne hm (oNe rfl)⟩
    have hy2 := hy.fr hF ⟨oNe rfl, hy.ne hm (oNe rfl)⟩
    (repeat (refine BW.pl rfl rfl ?_))
    refine CW.e1 rfl rfl (by first | exact Or.inl rfl | exact Or.inr (tagO (by assumption) (by rfl) (by rfl))) (by first | exact Or.inl (by decide) | exact Or.inr ⟨_, rfl, by assumption⟩) rfl (B_slen hy2) ?_
    refine CW.c4 rfl rfl (by first | exact Or.inl rfl | exact Or.inr (tagO (by assumption) (by rfl) (by rfl))) (by first | exact Or.inl (by decide) | exact Or.inr ⟨_, rfl, by assumption⟩) rfl (L_makeSigns (f := k) (e := s.length) hx2 h152 hm2 hy2 hk (Nat.le_refl _) (by omega) rfl rfl) ?_
    rintro r S3 ⟨rfl, c2, hm3, hF3, k3, k4⟩
    rw [List.take_of_length_le (by rw [List.length_drop]; omega), he] at hm3
    have hRl : R.length = z.length + (s.length - k) := by rw [← he, List.length_append, List.length_drop]
    exact BW.ret rfl rfl ⟨_, rfl, rfl, MdT.mk2 hF k1 k2 hm3 hF3 k3 (by omega) (by omega)⟩
  rcases hac with ha | ha
  · rw [if_pos ha] at hR
    rw [ha] at h48
    have loop : ∀ (n2 j : Nat) (S2 : BS) (c1 : Nat), j + n2 = N → Ob S2 m (oSb (List.replicate j 32) c1) → Fr1 S S2 m (3 * (c1 - cap)) → cap ≤ c1 → (c1 = cap ∨ c1 ≤ 2 * j) → BW (d + 6) gm_X1_shift 8 [some (aR n), some (aR q), some (aR y), some (aI 0), some (aI j)] [] S2 (fun r S' => ∃ v, r = .inl v ∧ (v = none ∧ MdT S S' m cap R)) := by
      intro n2
      induction n2 with
      | zero =>
        intro j S2 c1 hj hm2 hF k1 k2
        have hq2 := hq.fr hF ⟨oNe rfl, hq.ne hm (oNe rfl)⟩
        have h492 := h49.fr hF ⟨⟨hq.old (oNe rfl), by decide⟩, hq.ne hm (oNe rfl)⟩
        (repeat (first | (refine BW.pl rfl rfl ?_) | (refine CW.geti rfl rfl (by assumption) rfl rfl (by assumption) (fun _ => ?_)) | (refine CW.getr rfl rfl (by assumption) rfl rfl (by assumption) ?_)))
        refine BW.br rfl rfl (by first | omega | decide | (constructor <;> first | omega | decide)) (fun w => ?_) (fun w => by first | (exfalso; omega) | exact absurd w (by decide))
        (iterate 1 (refine BW.pl rfl rfl ?_))
        obtain rfl : j = N := by omega
        exact at74 0 _ c1 S2 _ (Nat.zero_le _) (by rw [List.length_replicate]; omega) hm2 hF k1 (by rw [List.length_replicate]; exact k2) (by rw [List.drop_zero]; exact hR)
      | succ n2 ih =>
        intro j S2 c1 hj hm2 hF k1 k2
        have hx2 := hx.fr hF ⟨oNe rfl, hx.ne hm (oNe rfl)⟩
        have h152 := h15.fr hF ⟨⟨hx.old (oNe rfl), by decide⟩, hx.ne hm (oNe rfl)⟩
        have hq2 := hq.fr hF ⟨oNe rfl, hq.ne hm (oNe rfl)⟩
        have h492 := h49.fr hF ⟨⟨hq.old (oNe rfl), by decide⟩, hq.ne hm (oNe rfl)⟩
        (repeat (first | (refine BW.pl rfl rfl ?_) | (refine CW.geti rfl rfl (by assumption) rfl rfl (by assumption) (fun _ => ?_)) | (refine CW.getr rfl rfl (by assumption) rfl rfl (by assumption) ?_)))
        refine BW.br rfl rfl (by first | omega | decide | (constructor <;> first | omega | decide)) (fun w => by first | (exfalso; omega) | exact absurd w (by decide)) (fun w => ?_)
        (repeat (first | (refine BW.pl rfl rfl ?_) | (refine CW.geti rfl rfl (by assumption) rfl rfl (by assumption) (fun _ => ?_)) | (refine CW.getr rfl rfl (by assumption) rfl rfl (by assumption) ?_)))
        refine CW.c2 rfl rfl (by first | exact Or.inl rfl | exact Or.inr (tagO (by assumption) (by rfl) (by rfl))) (by first | exact Or.inl (by decide) | exact Or.inr ⟨_, rfl, by assumption⟩) rfl (C_sbAppC hm2 ⟨by decide, by decide⟩ (by rw [List.length_replicate]; omega)) ?_
        rintro r S3 ⟨rfl, c2, hm3, hF3, k3, k4⟩
        rw [List.length_append, List.length_replicate] at k4
        rw [← List.replicate_succ'] at hm3
        have k4 : c2 = c1 ∨ c2 ≤ 2 * (j + 1) := k4
        (iterate 3 (refine BW.pl rfl rfl ?_))
        exact ih (j + 1) S3 c2 (by omega) hm3 ((hF.tr hF3 (fun _ _ z => z)).w (fun _ _ z => z) (by omega)) (by omega) (by omega)
    (repeat (first | (refine BW.pl rfl rfl ?_) | (refine CW.geti rfl rfl (by assumption) rfl rfl (by assumption) (fun _ => ?_)) | (refine CW.getr rfl rfl (by assumption) rfl rfl (by assumption) ?_)))
    refine BW.br rfl rfl (by first | omega | decide | (constructor <;> first | omega | decide)) (fun w => by first | (exfalso; omega) | exact absurd w (by decide)) (fun w => ?_)
    (iterate 2 (refine BW.pl rfl rfl ?_))
    exact loop N 0 S cap (Nat.zero_add _) hm (Fr.rf.w (fun _ _ z => z) (Nat.zero_le _)) (Nat.le_refl _) (Or.inl rfl)
  · rw [if_neg (by omega)] at hR
    rw [ha] at h48
    have fin : ∀ k, k ≤ s.length → k = sBlanks N s → BW (d + 6) gm_X1_shift 35 [some (aR n), some (aR q), some (aR y), some (aI k), none] [] S (fun r S' => ∃ v, r = .inl v ∧ (v = none ∧ MdT S S' m cap R)) := fun k hk e => at74 k [] cap S none hk (Nat.zero_le _) hm (Fr.rf.w (fun _ _ z => z) (Nat.zero_le _)) (Nat.le_refl _) (Or.inl rfl) (by rw [← hR, ← e]; rfl)
    have loop : ∀ (n2 k : Nat), k + n2 = N → k ≤ s.length → k + sBlanks n2 (s.drop k) = sBlanks N s → BW (d + 6) gm_X1_shift 20 [some (aR n), some (aR q), some (aR y), some (aI k), none] [] S (fun r S' => ∃ v, r = .inl v ∧ (v = none ∧ MdT S S' m cap R)) := by
      intro n2
      induction n2 with
      | zero =>
        intro k hk hkl he
        have he : k + 0 = sBlanks N s := by rw [← he]; unfold sBlanks; rfl
        (repeat (first | (refine BW.pl rfl rfl ?_) | (refine CW.geti rfl rfl (by assumption) rfl rfl (by assumption) (fun _ => ?_)) | (refine CW.getr rfl rfl (by assumption) rfl rfl (by assumption) ?_)))
        refine BW.br rfl rfl (by first | omega | decide | (constructor <;> first | omega | decide)) (fun w => ?_) (fun w => by first | (exfalso; omega) | exact absurd w (by decide))
        exact fin k hkl he
      | succ n2 ih =>
        intro k hk hkl he
        (repeat (first | (refine BW.pl rfl rfl ?_) | (refine CW.geti rfl rfl (by assumption) rfl rfl (by assumption) (fun _ => ?_)) | (refine CW.getr rfl rfl (by assumption) rfl rfl (by assumption) ?_)))
        refine BW.br rfl rfl (by first | omega | decide | (constructor <;> first | omega | decide)) (fun w => by first | (exfalso; omega) | exact absurd w (by decide)) (fun w => ?_)
        (repeat (refine BW.pl rfl rfl ?_))
        refine CW.e1 rfl rfl (by first | exact Or.inl rfl | exact Or.inr (tagO (by assumption) (by rfl) (by rfl))) (by first | exact Or.inl (by decide) | exact Or.inr ⟨_, rfl, by assumption⟩) rfl (B_slen hy) ?_
        by_cases z1 : k < s.length
        · refine BW.br rfl rfl (by first | omega | decide | (constructor <;> first | omega | decide)) (fun w2 => by first | (exfalso; omega) | exact absurd w2 (by decide)) (fun w2 => ?_)
          (repeat (refine BW.pl rfl rfl ?_))
          refine CW.e2 rfl rfl (by first | exact Or.inl rfl | exact Or.inr (tagO (by assumption) (by rfl) (by rfl))) (by first | exact Or.inl (by decide) | exact Or.inr ⟨_, rfl, by assumption⟩) rfl (B_schar hy ⟨by omega, by omega⟩) ?_
          have ek : ((k : Nat) : Int).toNat = k := by omega
          rw [ek]
          have ds : s.drop k = s.getD k 0 :: s.drop (k + 1) := by
            rw [List.drop_eq_getElem_cons z1, List.getD_eq_getElem?_getD, List.getElem?_eq_getElem z1]; rfl
          have gR := strG hs.2 k
          rw [ds] at he
          (iterate 1 (refine BW.pl rfl rfl ?_))
          by_cases z2 : s.getD k 0 = 32
          · refine BW.br rfl rfl (by first | omega | decide | (constructor <;> first | omega | decide)) (fun w3 => by first | (exfalso; omega) | exact absurd w3 (by decide)) (fun w3 => ?_)
            (iterate 2 (refine BW.pl rfl rfl ?_))
            refine ih (k + 1) (by omega) (by omega) ?_
            rw [← he]
            conv => rhs; unfold sBlanks
            rw [if_pos z2]
            omega
          · refine BW.br rfl rfl (by first | omega | decide | (constructor <;> first | omega | decide)) (fun w3 => ?_) (fun w3 => by first | (exfalso; omega) | exact absurd w3 (by decide))
            refine fin k hkl ?_
            rw [← he]
            unfold sBlanks
            rw [if_neg z2]
            rfl
        · refine BW.br rfl rfl (by first | omega | decide | (constructor <;> first | omega | decide)) (fun w2 => ?_) (fun w2 => by first | (exfalso; omega) | exact absurd w2 (by decide))
          refine fin k hkl ?_
          have d1 : s.drop k = [] := List.drop_of_length_le (by omega)
          rw [d1] at he
          rw [← he]
          unfold sBlanks
          rfl
    (repeat (first | (refine BW.pl rfl rfl ?_) | (refine CW.geti rfl rfl (by assumption) rfl rfl (by assumption) (fun _ => ?_)) | (refine CW.getr rfl rfl (by assumption) rfl rfl (by assumption) ?_)))
    refine BW.br rfl rfl (by first | omega | decide | (constructor <;> first | omega | decide)) (fun w => ?_) (fun w => by first | (exfalso; omega) | exact absurd w (by decide))
    exact loop N 0 (Nat.zero_add _) (Nat.zero_le _) (by rw [Nat.zero_add, List.drop_zero])
theorem L_changeSigns (hx : Ob S n (oOwn 1)) (h15 : Fe S 15 n (some m)) (hm : Ob S m (oSb [] cap)) (hy : Ob S y (oStr s)) (hq : Ob S q (oOwn 7)) (h53 : Fe S 53 q (some yp)) (hyp : Ob S yp (oStr pu)) (h54 : Fe S 54 q (some yl)) (hyl : Ob S yl (oStr le)) (hlp : le.length ≤ pu.length) (hsl : s.length ≤ 1000) : BMr (d + 6) gk_X1_changeSigns [aR n, aR q, aR y] S (fun r S' => r = none ∧ MdT S S' m cap (sTrn le pu s)) := by
  refine BM.of rfl rfl rfl ?_
  refine BW.strL hy (fun hs => ?_)
  refine BW.strL hyp (fun hps => ?_)
  refine BW.strL hyl (fun hls => ?_)
  have loop : ∀ (n2 k : Nat) (S2 : BS) (c1 : Nat) (v4 : Option GV), gn1 v4 = true → k + n2 = s.length → Ob S2 m (oSb (sTrn le pu (s.take k)) c1) → Fr1 S S2 m (3 * (c1 - cap)) → cap ≤ c1 → (c1 = cap ∨ c1 ≤ 2 * k) → BW (d + 5) gm_X1_changeSigns 2 [some (aR n), some (aR q), some (aR y), some (aI k), v4] [] S2 (fun r S' => ∃ v, r = .inl v ∧ (v = none ∧ MdT S S' m cap (sTrn le pu s))) := by
    intro n2
    induction n2 with
    | zero =>
      intro k S2 c1 v4 g4 hk hm2 hF k1 k2
      have hy2 := hy.fr hF ⟨oNe rfl, hy.ne hm (oNe rfl)⟩
      have hk : k = s.length := hk
      (repeat (refine BW.pl rfl rfl ?_))
      refine CW.e1 rfl rfl (by first | exact Or.inl rfl | exact Or.inr (tagO (by assumption) (by rfl) (by rfl))) (by first | exact Or.inl (by decide) | exact Or.inr ⟨_, rfl, by assumption⟩) rfl (B_slen hy2) ?_
      refine BW.br rfl rfl (by first | omega | decide | (constructor <;> first | omega | decide)) (fun w => ?_) (fun w => by first | (exfalso; omega) | exact absurd w (by decide))
      rw [List.take_of_length_le (by omega)] at hm2
      have hl : (sTrn le pu s).length = s.length := by unfold sTrn; rw [List.length_map]
      exact BW.ret rfl rfl ⟨_, rfl, rfl, c1, hm2, hF, k1, by omega⟩
    | succ n2 ih =>
      intro k S2 c1 v4 g4 hk hm2 hF k1 k2
      have hkl : k < s.length := by omega
      have hx2 := hx.fr hF ⟨oNe rfl, hx.ne hm (oNe rfl)⟩
      have h152 := h15.fr hF ⟨⟨hx.old (oNe rfl), by decide⟩, hx.ne hm (oNe rfl)⟩
      have hy2 := hy.fr hF ⟨oNe rfl, hy.ne hm (oNe rfl)⟩
      have hyp2 := hyp.fr hF ⟨oNe rfl, hyp.ne hm (oNe rfl)⟩
      have hyl2 := hyl.fr hF ⟨oNe rfl, hyl.ne hm (oNe rfl)⟩
      have hq2 := hq.fr hF ⟨oNe rfl, hq.ne hm (oNe rfl)⟩
      have h532 := h53.fr hF ⟨⟨hq.old (oNe rfl), by decide⟩, hq.ne hm (oNe rfl)⟩
      have h542 := h54.fr hF ⟨⟨hq.old (oNe rfl), by decide⟩, hq.ne hm (oNe rfl)⟩
      have ek : ((k : Nat) : Int).toNat = k := by omega
      have gR := strG hs.2 k
      have etl : (sTrn le pu (s.take k)).length = k := by unfold sTrn; rw [List.length_map, List.length_take]; omega
      let ch : Int := match le.findIdx? (fun x => x == s.getD k 0) with
        | some k => pu.getD k 0
        | none => s.getD k 0
      have et : sTrn le pu (s.take k) ++ [ch] = sTrn le pu (s.take (k + 1)) := by
        have e1 : s.take (k + 1) = s.take k ++ [s.getD k 0] := by
          rw [List.take_succ_eq_append_getElem hkl, List.getD_eq_getElem?_getD, List.getElem?_eq_getElem hkl]; rfl
        rw [e1]
        unfold sTrn
        rw [List.map_append]
        rfl
      have at50 : ∀ (pv : Int), 0 ≤ ch ∧ ch < 128 → BW (d + 5) gm_X1_changeSigns 25 [some (aR n), some (aR q), some (aR y), some (aI k), some (aI pv)] [aI ch, aR m] S2 (fun r S' => ∃ v, r = .inl v ∧ (v = none ∧ MdT S S' m cap (sTrn le pu s))) := by
        intro pv hch
        refine CW.c2 rfl rfl (by first | exact Or.inl rfl | exact Or.inr (tagO (by assumption) (by rfl) (by rfl))) (by first | exact Or.inl (by decide) | exact Or.inr ⟨_, rfl, by assumption⟩) rfl (C_sbAppC hm2 hch (by rw [etl]; omega)) ?_
        rintro r S3 ⟨rfl, c2, hm3, hF3, k3, k4⟩
        rw [List.length_append, etl] at k4
        have k4 : c2 = c1 ∨ c2 ≤ 2 * (k + 1) := k4
        rw [et] at hm3
        (iterate 3 (refine BW.pl rfl rfl ?_))
        exact ih (k + 1) S3 c2 _ rfl (by omega) hm3 ((hF.tr hF3 (fun _ _ z => z)).w (fun _ _ z => z) (by omega)) (by omega) (by omega)
      (repeat (refine BW.pl rfl rfl ?_))
      refine CW.e1 rfl rfl (by first | exact Or.inl rfl | exact Or.inr (tagO (by assumption) (by rfl) (by rfl))) (by first | exact Or.inl (by decide) | exact Or.inr ⟨_, rfl, by assumption⟩) rfl (B_slen hy2) ?_
      refine BW.br rfl rfl (by first | omega | decide | (constructor <;> first | omega | decide)) (fun w => by first | (exfalso; omega) | exact absurd w (by decide)) (fun w => ?_)
      (repeat (first | (refine BW.pl rfl rfl ?_) | (refine CW.geti rfl rfl (by assumption) rfl rfl (by assumption) (fun _ => ?_)) | (refine CW.getr rfl rfl (by assumption) rfl rfl (by assumption) ?_)))
      refine CW.e2 rfl rfl (by first | exact Or.inl rfl | exact Or.inr (tagO (by assumption) (by rfl) (by rfl))) (by first | exact Or.inl (by decide) | exact Or.inr ⟨_, rfl, by assumption⟩) rfl (B_schar hy2 ⟨by omega, by omega⟩) ?_
      rw [ek]
      refine CW.e2 rfl rfl (by first | exact Or.inl rfl | exact Or.inr (tagO (by assumption) (by rfl) (by rfl))) (by first | exact Or.inl (by decide) | exact Or.inr ⟨_, rfl, by assumption⟩) rfl (B_sidx hyl2 gR) ?_
      obtain ⟨pv, hpv⟩ : ∃ pv, sidx (s.getD k 0) le 0 = pv := ⟨_, rfl⟩
      rw [hpv]
      rw [sidx_find le 0 (by decide)] at hpv
      refine BW.stiV rfl rfl (by simp only [List.all_cons, List.all_nil, g4]; rfl) ?_
      cases hfi : le.findIdx? (fun x => x == s.getD k 0) with
      | none =>
        rw [hfi] at hpv
        have hpv : (-1 : Int) = pv := hpv
        have ech : ch = s.getD k 0 := by show (match le.findIdx? (fun x => x == s.getD k 0) with | some k => pu.getD k 0 | none => s.getD k 0) = _; rw [hfi]
        (repeat (first | (refine BW.pl rfl rfl ?_) | (refine CW.geti rfl rfl (by assumption) rfl rfl (by assumption) (fun _ => ?_)) | (refine CW.getr rfl rfl (by assumption) rfl rfl (by assumption) ?_)))
        refine BW.br rfl rfl (by first | omega | decide | (constructor <;> first | omega | decide)) (fun w2 => ?_) (fun w2 => by first | (exfalso; omega) | exact absurd w2 (by decide))
        (repeat (refine BW.pl rfl rfl ?_))
        refine CW.e2 rfl rfl (by first | exact Or.inl rfl | exact Or.inr (tagO (by assumption) (by rfl) (by rfl))) (by first | exact Or.inl (by decide) | exact Or.inr ⟨_, rfl, by assumption⟩) rfl (B_schar hy2 ⟨by omega, by omega⟩) ?_
        rw [ek, ← ech]
        exact at50 _ (by rw [ech]; exact gR)
      | some j =>
        rw [hfi] at hpv
        have hpv : (0 : Int) + (j : Nat) = pv := hpv
        obtain rfl : pv = (j : Int) := by omega
        have ech : ch = pu.getD j 0 := by show (match le.findIdx? (fun x => x == s.getD k 0) with | some k => pu.getD k 0 | none => s.getD k 0) = _; rw [hfi]
        have hjl : j < le.length := (List.findIdx?_eq_some_iff_getElem.mp hfi).1
        have ej2 : ((j : Nat) : Int).toNat = j := by omega
        (repeat (first | (refine BW.pl rfl rfl ?_) | (refine CW.geti rfl rfl (by assumption) rfl rfl (by assumption) (fun _ => ?_)) | (refine CW.getr rfl rfl (by assumption) rfl rfl (by assumption) ?_)))
        refine BW.br rfl rfl (by first | omega | decide | (constructor <;> first | omega | decide)) (fun w2 => by first | (exfalso; omega) | exact absurd w2 (by decide)) (fun w2 => ?_)
        (repeat (first | (refine BW.pl rfl rfl ?_) | (refine CW.geti rfl rfl (by assumption) rfl rfl (by assumption) (fun _ => ?_)) | (refine CW.getr rfl rfl (by assumption) rfl rfl (by assumption) ?_)))
        refine CW.e2 rfl rfl (by first | exact Or.inl rfl | exact Or.inr (tagO (by assumption) (by rfl) (by rfl))) (by first | exact Or.inl (by decide) | exact Or.inr ⟨_, rfl, by assumption⟩) rfl (B_schar hyp2 ⟨by omega, by omega⟩) ?_
        rw [ej2, ← ech]
        (iterate 1 (refine BW.pl rfl rfl ?_))
        exact at50 _ (by rw [ech]; exact strG hps.2 j)
  (iterate 2 (refine BW.pl rfl rfl ?_))
  exact loop s.length 0 S cap none rfl (Nat.zero_add _) hm (Fr.rf.w (fun _ _ z => z) (Nat.zero_le _)) (Nat.le_refl _) (Or.inl rfl)
end CS
