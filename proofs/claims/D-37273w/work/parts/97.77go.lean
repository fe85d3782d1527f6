-- C
set_option maxRecDepth 100000
/-! PATTERNS: goesOn, whole -/
section GO
variable {d i a n q b m c cap p u w y at' C k : Nat} {b1 : Int} {M : GMeth} {ls : GL} {st : List GV} {xs : List (Option Nat)} {row us ws us1 ws1 : List Int} {S S0 S1 S2 S' : BS} {F W : Nat → Prop} {Q : GO → BS → Prop} {o : Obj} {v : Option GV} {pt : SPat} {pa : SPart} {ps : List SPart} {op : Bool} {R R' : Option (Nat × MG × MG)}
theorem GsQ.cons (h : GsQ S p u w C op ps us ws R v S') (hR : R' = R) (hc : clo C (pa :: ps) = clo C ps) : GsQ S p u w C op (pa :: ps) us ws R' v S' := by
  subst hR
  obtain ⟨h1, us', ws', h2, h3, h4⟩ := h
  refine ⟨h1, us', ws', h2, h3, ?_⟩
  cases R' with
  | none => exact h4
  | some z => obtain ⟨a, b, e⟩ := z; rw [hc]; exact h4
theorem GsQ.ag {x : Nat} {lst : Bool} (h : GsQ S1 p u w C op ps us1 ws1 (sGo row lst ps x (arr us1) (arr ws1)) v S') (hw : wfp C op ps) (ha : Agr C op (arr us1) (arr us) (arr ws1) (arr ws)) (hG : Gch S S1 p u w) : GsQ S p u w C op ps us ws (sGo row lst ps x (arr us) (arr ws)) v S' := by
  obtain ⟨h1, us', ws', h2, h3, h4⟩ := h
  refine ⟨hG.tr h1, us', ws', h2, h3.tr ha, ?_⟩
  have hk := sGo_agr (row := row) (lst := lst) ps C op x _ _ _ _ hw ha
  cases e1 : sGo row lst ps x (arr us1) (arr ws1) with
  | none =>
    rw [e1] at h4 hk
    cases e2 : sGo row lst ps x (arr us) (arr ws) with
    | none => exact h4
    | some z => obtain ⟨z1, z2, z3⟩ := z; rw [e2] at hk; exact hk.elim
  | some y =>
    obtain ⟨y1, y2, y3⟩ := y
    rw [e1] at h4 hk
    cases e2 : sGo row lst ps x (arr us) (arr ws) with
    | none => rw [e2] at hk; exact hk.elim
    | some z =>
      obtain ⟨z1, z2, z3⟩ := z
      rw [e2] at hk
      obtain ⟨rfl, hk⟩ := hk
      exact ⟨h4.1, h4.2.1, h4.2.2.tr hk⟩
theorem ArS.pu (h : ArS S u w us ws) (hP : Pu S S' a n) : ArS S' u w us ws := ⟨h.1.pu hP trivial, h.2.1, h.2.2.1.pu hP trivial, h.2.2.2⟩
theorem GOk.mn (h : GOk C op (arr us) (arr ws) at') {x : Nat} (hx : at' ≤ x) : GOk C op (arr us) (arr ws) x := h.le hx
theorem gsw3 {x : Int} (h2 : x ≠ 2) (h4 : x ≠ 4) (h5 : x ≠ 5) (h6 : x ≠ 6) : gswt (gsws.getD 3 (0, 0, [])) x = 143 := by
  by_cases h3 : x = 3
  · subst h3; rfl
  · show ((List.find? (fun q => q.1 == x) [((2 : Int), 29), (3, 143), (4, 49), (5, 62), (6, 75)]).map (fun q => q.2)).getD 143 = 143
    simp only [List.find?]
    rw [beq_false_of_ne (Ne.symm h2), beq_false_of_ne (Ne.symm h3), beq_false_of_ne (Ne.symm h4), beq_false_of_ne (Ne.symm h5), beq_false_of_ne (Ne.symm h6)]
    rfl
theorem P_goesOn : ∀ (ps : List SPart) (d k C at' : Nat) (op : Bool) (us ws : List Int) (S : BS) (ki ai : Int), ki = k → ai = at' → k ≤ pt.1.length → pt.1.drop k = ps → wfp C op ps → C ≤ 2 → GOk C op (arr us) (arr ws) at' → at' ≤ row.length → GpS S F p q u w y xs cap pt row → ArS S u w us ws → (∀ pp ∈ pt.1, pp.1 < 100 ∧ pp.2.1 < 100) → BMr (d + ps.length + 7) gk_X7_goesOn [aR p, aI ki, aI ai] S (GsQ S p u w C op ps us ws (sGo row pt.2.2 ps at' (arr us) (arr ws))) := by
  intro ps
  induction ps with
  | nil =>
    intro d k C at' op us ws S ki ai hki hai hk hdr hw hC hok hat hP hA hkd
    subst hki hai
    have hlen : pt.1.length ≤ k := List.drop_eq_nil_iff.mp hdr
    refine BM.of rfl rfl rfl ?_
    have hP0 := hP
    obtain ⟨h0, h1, h2, h3, h4, h5, h6, h7, h8, h9, h10⟩ := hP
    have hxl := h4.1
    have hr := h0.2.2.1
    (repeat (first | (refine BW.pl rfl rfl ?_) | (refine CW.geti rfl rfl (by assumption) rfl rfl (by assumption) (fun _ => ?_)) | (refine CW.getr rfl rfl (by assumption) rfl rfl (by assumption) ?_)))
    refine CW.e1 rfl rfl (by first | exact Or.inl rfl | exact Or.inr (tagO (by assumption) (by rfl) (by rfl))) (by first | exact Or.inl (by decide) | exact Or.inr ⟨_, rfl, by assumption⟩) rfl (B_alSize h3) ?_
    refine BW.br rfl rfl (by first | omega | decide | (constructor <;> first | omega | decide)) (fun w1 => by first | (exfalso; omega) | exact absurd w1 (by decide)) (fun w1 => ?_)
    (repeat (refine BW.pl rfl rfl ?_))
    first | (refine CW.putr rfl rfl (by assumption) rfl (by decide) (fun S1 hP1 h73 => ?_)) | (refine CW.puti rfl (by assumption) rfl (by decide) (by first | exact Or.inl ⟨rfl, by first | omega | decide | (constructor <;> first | omega | decide)⟩ | exact Or.inr (Or.inl ⟨rfl, by first | omega | decide | (constructor <;> first | omega | decide)⟩) | exact Or.inr (Or.inr (Or.inl ⟨rfl, by first | omega | decide | (constructor <;> first | omega | decide)⟩)) | exact Or.inr (Or.inr (Or.inr ⟨rfl, by first | omega | decide | (constructor <;> first | omega | decide)⟩))) (fun S1 hP1 h73 => ?_))
    have hG1 := (Gch.rf (S := S) (p := p) (u := u) (w := w)).pu hP1
    have hA1 := hA.pu hP1
    obtain ⟨h0, h1, h2, h3, h4, h5, h6, h7, h8, h9, h10⟩ := hP0.ch hA hG1
    cases hl : pt.2.2 with
    | false =>
      rw [hl] at h6
      have h6 : Fi S1 68 p 0 := h6
      have eR : sGo row false [] at' (arr us) (arr ws) = some (at', arr us, arr ws) := if_pos (Or.inl rfl)
      (repeat (first | (refine BW.pl rfl rfl ?_) | (refine CW.geti rfl rfl (by assumption) rfl rfl (by assumption) (fun _ => ?_)) | (refine CW.getr rfl rfl (by assumption) rfl rfl (by assumption) ?_)))
      refine BW.br rfl rfl (by first | omega | decide | (constructor <;> first | omega | decide)) (fun w2 => ?_) (fun w2 => by first | (exfalso; omega) | exact absurd w2 (by decide))
      (repeat (refine BW.pl rfl rfl ?_))
      exact BW.irx rfl (Or.inr (Or.inl ⟨rfl, Or.inr rfl⟩)) ⟨_, rfl, hG1, us, ws, hA1, Agr.rf, by rw [eR]; exact ⟨rfl, h73, Agr.rf⟩⟩
    | true =>
      rw [hl] at h6
      have h6 : Fi S1 68 p 1 := h6
      (repeat (first | (refine BW.pl rfl rfl ?_) | (refine CW.geti rfl rfl (by assumption) rfl rfl (by assumption) (fun _ => ?_)) | (refine CW.getr rfl rfl (by assumption) rfl rfl (by assumption) ?_)))
      refine BW.br rfl rfl (by first | omega | decide | (constructor <;> first | omega | decide)) (fun w2 => by first | (exfalso; omega) | exact absurd w2 (by decide)) (fun w2 => ?_)
      (repeat (first | (refine BW.pl rfl rfl ?_) | (refine CW.geti rfl rfl (by assumption) rfl rfl (by assumption) (fun _ => ?_)) | (refine CW.getr rfl rfl (by assumption) rfl rfl (by assumption) ?_)))
      refine CW.e1 rfl rfl (by first | exact Or.inl rfl | exact Or.inr (tagO (by assumption) (by rfl) (by rfl))) (by first | exact Or.inl (by decide) | exact Or.inr ⟨_, rfl, by assumption⟩) rfl (B_slen h10) ?_
      by_cases z : at' = row.length
      · have eR : sGo row true [] at' (arr us) (arr ws) = some (at', arr us, arr ws) := if_pos (Or.inr z)
        refine BW.br rfl rfl (by first | omega | decide | (constructor <;> first | omega | decide)) (fun w3 => by first | (exfalso; omega) | exact absurd w3 (by decide)) (fun w3 => ?_)
        (repeat (refine BW.pl rfl rfl ?_))
        exact BW.irx rfl (Or.inr (Or.inl ⟨rfl, Or.inr rfl⟩)) ⟨_, rfl, hG1, us, ws, hA1, Agr.rf, by rw [eR]; exact ⟨rfl, h73, Agr.rf⟩⟩
      · have eR : sGo row true [] at' (arr us) (arr ws) = none := if_neg (fun zz => zz.elim (fun z => by cases z) z)
        refine BW.br rfl rfl (by first | omega | decide | (constructor <;> first | omega | decide)) (fun w3 => ?_) (fun w3 => by first | (exfalso; omega) | exact absurd w3 (by decide))
        (repeat (refine BW.pl rfl rfl ?_))
        exact BW.irx rfl (Or.inr (Or.inl ⟨rfl, Or.inl rfl⟩)) ⟨_, rfl, hG1, us, ws, hA1, Agr.rf, by rw [eR]⟩
  | cons pa ps ih =>
    intro d k C at' op us ws S ki ai hki hai hk hdr hw hC hok hat hP hA hkd
    subst hki hai
    obtain ⟨hkl, hget, hdr1⟩ := drop_consP (z := noPart) hdr
    have hP0 := hP
    obtain ⟨h0, h1, h2, h3, h4, h5, h6, h7, h8, h9, h10⟩ := hP
    have hxl := h4.1
    have hr := h0.2.2.1
    have hxs := h0.2.1
    have hrow : ∀ j : Nat, 0 ≤ row.getD j 0 ∧ row.getD j 0 < 128 := fun j => by
      rw [List.getD_eq_getElem?_getD]
      cases e : row[j]? with
      | none => exact ⟨by decide, by decide⟩
      | some v => exact h0.2.2.2 v (List.mem_of_getElem? e)
    have hm0 := h4.2 k hkl
    rw [hget] at hm0
    obtain ⟨m, sx, em, g1, g2, g3, g4, g5, g6, g7⟩ := hm0
    have hm : PartF S F (some m) pa := ⟨m, sx, rfl, g1, g2, g3, g4, g5, g6, g7⟩
    have hpa := hkd pa (by rw [← hget, List.getD_eq_getElem?_getD, List.getElem?_eq_getElem hkl]; exact List.getElem_mem hkl)
    have el : d + (pa :: ps).length + 7 = (d + ps.length + 7) + 1 := by rw [List.length_cons]; omega
    rw [el]
    refine BM.of rfl rfl rfl ?_
    (repeat (first | (refine BW.pl rfl rfl ?_) | (refine CW.geti rfl rfl (by assumption) rfl rfl (by assumption) (fun _ => ?_)) | (refine CW.getr rfl rfl (by assumption) rfl rfl (by assumption) ?_)))
    refine CW.e1 rfl rfl (by first | exact Or.inl rfl | exact Or.inr (tagO (by assumption) (by rfl) (by rfl))) (by first | exact Or.inl (by decide) | exact Or.inr ⟨_, rfl, by assumption⟩) rfl (B_alSize h3) ?_
    refine BW.br rfl rfl (by first | omega | decide | (constructor <;> first | omega | decide)) (fun w1 => ?_) (fun w1 => by first | (exfalso; omega) | exact absurd w1 (by decide))
    (repeat (first | (refine BW.pl rfl rfl ?_) | (refine CW.geti rfl rfl (by assumption) rfl rfl (by assumption) (fun _ => ?_)) | (refine CW.getr rfl rfl (by assumption) rfl rfl (by assumption) ?_)))
    refine CW.e2 rfl rfl (by first | exact Or.inl rfl | exact Or.inr (tagO (by assumption) (by rfl) (by rfl))) (by first | exact Or.inl (by decide) | exact Or.inr ⟨_, rfl, by assumption⟩) rfl (C_alGet h3 (by omega) em rfl) ?_
    refine CW.castS rfl g2 rfl rfl rfl ?_
    (repeat (first | (refine BW.pl rfl rfl ?_) | (refine CW.geti rfl rfl (by assumption) rfl rfl (by assumption) (fun _ => ?_)) | (refine CW.getr rfl rfl (by assumption) rfl rfl (by assumption) ?_)))
    have next : ∀ (C2 x : Nat) (op2 : Bool) (us2 ws2 : List Int) (S2 : BS) (xi : Int), xi = x → wfp C2 op2 ps → C2 ≤ 2 → GOk C2 op2 (arr us2) (arr ws2) x → x ≤ row.length → GpS S2 F p q u w y xs cap pt row → ArS S2 u w us2 ws2 → BMr (d + ps.length + 7) gk_X7_goesOn [aR p, aI ((k : Int) + 1), aI xi] S2 (GsQ S2 p u w C2 op2 ps us2 ws2 (sGo row pt.2.2 ps x (arr us2) (arr ws2))) := fun C2 x op2 us2 ws2 S2 xi e1 e2 e3 e4 e5 e6 e7 => ih d (k + 1) C2 x op2 us2 ws2 S2 _ _ rfl e1 hkl hdr1 e2 e3 e4 e5 e6 e7 hkd
    obtain ⟨kd, nr, sg, neg⟩ := pa
    have g3 : Fi S 62 m kd := g3
    have g4 : Fi S 63 m nr := g4
    have hkd1 : kd < 100 := hpa.1
    have hnr1 : nr < 100 := hpa.2
    unfold wfp at hw
    by_cases z4 : kd = 4
    · rw [if_pos z4] at hw
      obtain ⟨⟨w2, w3, w4⟩, hw⟩ := hw
      subst w2
      have hcl : clo C ((kd, nr, sg, neg) :: ps) = clo C ps := by
        conv => lhs; unfold clo
        rw [if_neg (by omega)]
      refine BW.sw (i' := 49) rfl rfl (by constructor <;> omega) (by subst z4; rfl) ?_
      have ea : arr (us.set nr (at' : Int)) = gst (arr us) nr at' := arrM_set (by rw [hA.2.1]; omega)
      have eR : sGo row pt.2.2 ((kd, nr, sg, neg) :: ps) at' (arr us) (arr ws) = sGo row pt.2.2 ps at' (arr (us.set nr (at' : Int))) (arr ws) := by
        conv => lhs; unfold sGo
        rw [if_pos z4, ea]
      (repeat (first | (refine BW.pl rfl rfl ?_) | (refine CW.geti rfl rfl (by assumption) rfl rfl (by assumption) (fun _ => ?_)) | (refine CW.getr rfl rfl (by assumption) rfl rfl (by assumption) ?_)))
      refine CW.iastV (k := nr) rfl hA.1 (by rw [hA.2.1]; omega) rfl ⟨by omega, by omega⟩ (fun S1 hu hF1 => ?_)
      have hpu : p ≠ u := h1.ne hA.1 (oNe rfl)
      have hG1 := (Gch.rf (S := S) (p := p) (u := u) (w := w)).ar hF1 (Or.inl rfl) h1 (oNe rfl) hpu
      have hA1 : ArS S1 u w (us.set nr (at' : Int)) ws := ⟨hu, by rw [List.length_set]; exact hA.2.1, hA.2.2.1.fr hF1 ⟨oNe rfl, Ne.symm h0.1⟩, hA.2.2.2⟩
      have hP1 := hP0.ch hA hG1
      have hok1 : GOk C true (arr (us.set nr (at' : Int))) (arr ws) at' := by
        rw [ea, w3]
        exact hok.opn
      have h1 := hP1.2.1
      (repeat (refine BW.pl rfl rfl ?_))
      refine CW.c3 rfl rfl (by first | exact Or.inl rfl | exact Or.inr (tagO (by assumption) (by rfl) (by rfl))) (by first | exact Or.inl (by decide) | exact Or.inr ⟨_, rfl, by assumption⟩) rfl (next C at' true _ _ S1 _ rfl hw hC hok1 hat hP1 hA1) ?_
      rintro v S2 ⟨hG2, us2, ws2, hA2, hag, hR⟩
      have fin : GsQ S p u w C false ((kd, nr, sg, neg) :: ps) us ws (sGo row pt.2.2 ((kd, nr, sg, neg) :: ps) at' (arr us) (arr ws)) v S2 := by
        refine GsQ.cons (R := sGo row pt.2.2 ps at' (arr (us.set nr (at' : Int))) (arr ws)) ⟨hG1.tr hG2, us2, ws2, hA2, ⟨fun n n1 n2 => ?_, fun z => by cases z⟩, hR⟩ eR hcl
        have := hag.1 n n1 n2
        rw [ea] at this
        unfold gst at this
        rw [if_neg (by omega)] at this
        exact this
      cases e : sGo row pt.2.2 ps at' (arr (us.set nr (at' : Int))) (arr ws) with
      | none =>
        rw [e] at hR
        subst hR
        exact BW.irx rfl (Or.inr (Or.inl ⟨rfl, Or.inl rfl⟩)) ⟨_, rfl, fin⟩
      | some z =>
        obtain ⟨z1, z2, z3⟩ := z
        rw [e] at hR
        obtain ⟨rfl, _⟩ := hR
        exact BW.irx rfl (Or.inr (Or.inl ⟨rfl, Or.inr rfl⟩)) ⟨_, rfl, fin⟩
    rw [if_neg z4] at hw
    by_cases z5 : kd = 5
    · rw [if_pos z5] at hw
      obtain ⟨⟨w2, w3, w4⟩, hw⟩ := hw
      subst w2
      have hcl : clo C ((kd, nr, sg, neg) :: ps) = clo (C + 1) ps := by
        conv => lhs; unfold clo
        rw [if_pos z5]
      refine BW.sw (i' := 62) rfl rfl (by constructor <;> omega) (by subst z5; rfl) ?_
      have ea : arr (ws.set nr (at' : Int)) = gst (arr ws) nr at' := arrM_set (by rw [hA.2.2.2]; omega)
      have eR : sGo row pt.2.2 ((kd, nr, sg, neg) :: ps) at' (arr us) (arr ws) = sGo row pt.2.2 ps at' (arr us) (arr (ws.set nr (at' : Int))) := by
        conv => lhs; unfold sGo
        rw [if_neg z4, if_pos z5, ea]
      (repeat (first | (refine BW.pl rfl rfl ?_) | (refine CW.geti rfl rfl (by assumption) rfl rfl (by assumption) (fun _ => ?_)) | (refine CW.getr rfl rfl (by assumption) rfl rfl (by assumption) ?_)))
      refine CW.iastV (k := nr) rfl hA.2.2.1 (by rw [hA.2.2.2]; omega) rfl ⟨by omega, by omega⟩ (fun S1 hu hF1 => ?_)
      have hpw : p ≠ w := h1.ne hA.2.2.1 (oNe rfl)
      have hG1 := (Gch.rf (S := S) (p := p) (u := u) (w := w)).ar hF1 (Or.inr rfl) h1 (oNe rfl) hpw
      have hA1 : ArS S1 u w us (ws.set nr (at' : Int)) := ⟨hA.1.fr hF1 ⟨oNe rfl, h0.1⟩, hA.2.1, hu, by rw [List.length_set]; exact hA.2.2.2⟩
      have hP1 := hP0.ch hA hG1
      have hok1 : GOk (C + 1) false (arr us) (arr (ws.set nr (at' : Int))) at' := by
        rw [ea, w3]
        exact hok.cls
      have h1 := hP1.2.1
      (repeat (refine BW.pl rfl rfl ?_))
      refine CW.c3 rfl rfl (by first | exact Or.inl rfl | exact Or.inr (tagO (by assumption) (by rfl) (by rfl))) (by first | exact Or.inl (by decide) | exact Or.inr ⟨_, rfl, by assumption⟩) rfl (next (C + 1) at' false _ _ S1 _ rfl hw (by omega) hok1 hat hP1 hA1) ?_
      rintro v S2 ⟨hG2, us2, ws2, hA2, hag, hR⟩
      have fin : GsQ S p u w C true ((kd, nr, sg, neg) :: ps) us ws (sGo row pt.2.2 ((kd, nr, sg, neg) :: ps) at' (arr us) (arr ws)) v S2 := by
        rw [eR]
        refine ⟨hG1.tr hG2, us2, ws2, hA2, ⟨fun n n1 n2 => ?_, fun _ => ?_⟩, ?_⟩
        · have := hag.1 n n1 (by omega)
          rw [ea] at this
          unfold gst at this
          rw [if_neg (by omega)] at this
          exact this
        · exact (hag.1 (C + 1) (by omega) (Nat.le_refl _)).1
        · cases e : sGo row pt.2.2 ps at' (arr us) (arr (ws.set nr (at' : Int))) with
          | none => rw [e] at hR; exact hR
          | some z =>
            obtain ⟨z1, z2, z3⟩ := z
            rw [e] at hR
            rw [hcl]
            exact hR
      cases e : sGo row pt.2.2 ps at' (arr us) (arr (ws.set nr (at' : Int))) with
      | none =>
        rw [e] at hR
        subst hR
        exact BW.irx rfl (Or.inr (Or.inl ⟨rfl, Or.inl rfl⟩)) ⟨_, rfl, fin⟩
      | some z =>
        obtain ⟨z1, z2, z3⟩ := z
        rw [e] at hR
        obtain ⟨rfl, _⟩ := hR
        exact BW.irx rfl (Or.inr (Or.inl ⟨rfl, Or.inr rfl⟩)) ⟨_, rfl, fin⟩
    rw [if_neg z5] at hw
    have hcl : clo C ((kd, nr, sg, neg) :: ps) = clo C ps := by
      conv => lhs; unfold clo
      rw [if_neg z5]
    by_cases z6 : kd = 6
    · rw [if_pos z6] at hw
      obtain ⟨⟨w2, w3, w4⟩, hw⟩ := hw
      subst w2
      have hb := hok.1 nr w3 w4
      refine BW.sw (i' := 75) rfl rfl (by constructor <;> omega) (by subst z6; rfl) ?_
      have eR : sGo row pt.2.2 ((kd, nr, sg, neg) :: ps) at' (arr us) (arr ws) = if mTold row at' (arr us nr) (arr ws nr) = true then sGo row pt.2.2 ps (at' + (arr ws nr - arr us nr).toNat) (arr us) (arr ws) else none := by
        conv => lhs; unfold sGo
        rw [if_neg z4, if_neg z5, if_neg (by omega), if_pos z6]
      (repeat (first | (refine BW.pl rfl rfl ?_) | (refine CW.geti rfl rfl (by assumption) rfl rfl (by assumption) (fun _ => ?_)) | (refine CW.getr rfl rfl (by assumption) rfl rfl (by assumption) ?_)))
      refine CW.ialdV (k := nr) rfl hA.2.2.1 (by rw [hA.2.2.2]; omega) rfl rfl (fun _ => ?_)
      (repeat (first | (refine BW.pl rfl rfl ?_) | (refine CW.geti rfl rfl (by assumption) rfl rfl (by assumption) (fun _ => ?_)) | (refine CW.getr rfl rfl (by assumption) rfl rfl (by assumption) ?_)))
      refine CW.ialdV (k := nr) rfl hA.1 (by rw [hA.2.1]; omega) rfl rfl (fun _ => ?_)
      generalize ex : arr us nr = bx at hb eR
      generalize ez : arr ws nr = ey at hb eR
      obtain ⟨X, rfl⟩ : ∃ X : Nat, bx = X := ⟨bx.toNat, by omega⟩
      obtain ⟨Mn, hMn⟩ : ∃ Mn : Nat, ey - X = Mn := ⟨(ey - X).toNat, by omega⟩
      have hXM : X + Mn ≤ at' := by omega
      have told : mTold row at' X ey = true ↔ at' + Mn ≤ row.length ∧ ∀ j : Nat, j < Mn → row.getD (at' + j) 0 = row.getD (X + j) 0 := by
        unfold mTold
        rw [Bool.and_eq_true, decide_eq_true_eq, decide_eq_true_eq, hMn]
        constructor
        · intro h; exact ⟨by omega, fun j hj => h.2 j hj⟩
        · intro h; exact ⟨by omega, fun j hj => h.2 j hj⟩
      rw [hMn] at eR
      have eR : sGo row pt.2.2 ((kd, nr, sg, neg) :: ps) at' (arr us) (arr ws) = if mTold row at' X ey = true then sGo row pt.2.2 ps (at' + Mn) (arr us) (arr ws) else none := eR
      (repeat (refine BW.pl rfl rfl ?_))
      rw [hMn]
      have at128 : ∀ (fl : Int) (jj : Int), (fl = 1 ∧ mTold row at' X ey = true) ∨ (fl = 0 ∧ ¬ mTold row at' X ey = true) → BW (d + ps.length + 7) gm_X7_goesOn 128 [some (aR p), some (aI k), some (aI at'), some (aR m), some (aI Mn), some (aI fl), some (aI jj)] [] S (fun r S' => ∃ v, r = .inl v ∧ GsQ S p u w C false ((kd, nr, sg, neg) :: ps) us ws (sGo row pt.2.2 ((kd, nr, sg, neg) :: ps) at' (arr us) (arr ws)) v S') := by
        intro fl jj hfl
        rcases hfl with ⟨rfl, ht⟩ | ⟨rfl, ht⟩
        · rw [if_pos ht] at eR
          have htl := (told.mp ht).1
          (repeat (refine BW.pl rfl rfl ?_))
          refine BW.br rfl rfl (by first | omega | decide | (constructor <;> first | omega | decide)) (fun w5 => by first | (exfalso; omega) | exact absurd w5 (by decide)) (fun w5 => ?_)
          (repeat (refine BW.pl rfl rfl ?_))
          refine CW.c3 rfl rfl (by first | exact Or.inl rfl | exact Or.inr (tagO (by assumption) (by rfl) (by rfl))) (by first | exact Or.inl (by decide) | exact Or.inr ⟨_, rfl, by assumption⟩) rfl (next C (at' + Mn) false _ _ S _ (by omega) hw hC (hok.le (by omega)) htl hP0 hA) ?_
          rintro v S2 ⟨hG2, us2, ws2, hA2, hag, hR⟩
          have fin : GsQ S p u w C false ((kd, nr, sg, neg) :: ps) us ws (sGo row pt.2.2 ((kd, nr, sg, neg) :: ps) at' (arr us) (arr ws)) v S2 := GsQ.cons ⟨hG2, us2, ws2, hA2, hag, hR⟩ eR hcl
          cases e : sGo row pt.2.2 ps (at' + Mn) (arr us) (arr ws) with
          | none =>
            rw [e] at hR
            subst hR
            refine BW.br rfl rfl (by first | omega | decide | (constructor <;> first | omega | decide)) (fun w6 => ?_) (fun w6 => by first | (exfalso; omega) | exact absurd w6 (by decide))
            (repeat (refine BW.pl rfl rfl ?_))
            exact BW.irx rfl (Or.inr (Or.inl ⟨rfl, Or.inl rfl⟩)) ⟨_, rfl, fin⟩
          | some z =>
            obtain ⟨z1, z2, z3⟩ := z
            rw [e] at hR
            obtain ⟨rfl, _⟩ := hR
            refine BW.br rfl rfl (by first | omega | decide | (constructor <;> first | omega | decide)) (fun w6 => by first | (exfalso; omega) | exact absurd w6 (by decide)) (fun w6 => ?_)
            (repeat (refine BW.pl rfl rfl ?_))
            exact BW.irx rfl (Or.inr (Or.inl ⟨rfl, Or.inr rfl⟩)) ⟨_, rfl, fin⟩
        · rw [if_neg ht] at eR
          (repeat (refine BW.pl rfl rfl ?_))
          refine BW.br rfl rfl (by first | omega | decide | (constructor <;> first | omega | decide)) (fun w5 => ?_) (fun w5 => by first | (exfalso; omega) | exact absurd w5 (by decide))
          (repeat (refine BW.pl rfl rfl ?_))
          exact BW.irx rfl (Or.inr (Or.inl ⟨rfl, Or.inl rfl⟩)) ⟨_, rfl, by rw [eR]; exact ⟨Gch.rf, us, ws, hA, Agr.rf, rfl⟩⟩
      have lp : ∀ (n j : Nat), j + n = Mn → at' + Mn ≤ row.length → (∀ j' : Nat, j' < j → row.getD (at' + j') 0 = row.getD (X + j') 0) → BW (d + ps.length + 7) gm_X7_goesOn 100 [some (aR p), some (aI k), some (aI at'), some (aR m), some (aI Mn), some (aI 1), some (aI j)] [] S (fun r S' => ∃ v, r = .inl v ∧ GsQ S p u w C false ((kd, nr, sg, neg) :: ps) us ws (sGo row pt.2.2 ((kd, nr, sg, neg) :: ps) at' (arr us) (arr ws)) v S') := by
        intro n
        induction n with
        | zero =>
          intro j hj hl hall
          (repeat (refine BW.pl rfl rfl ?_))
          refine BW.br rfl rfl (by first | omega | decide | (constructor <;> first | omega | decide)) (fun w5 => ?_) (fun w5 => by first | (exfalso; omega) | exact absurd w5 (by decide))
          exact at128 1 j (Or.inl ⟨rfl, told.mpr ⟨hl, fun j' hj' => hall j' (by omega)⟩⟩)
        | succ n ihn =>
          intro j hj hl hall
          (repeat (refine BW.pl rfl rfl ?_))
          refine BW.br rfl rfl (by first | omega | decide | (constructor <;> first | omega | decide)) (fun w5 => by first | (exfalso; omega) | exact absurd w5 (by decide)) (fun w5 => ?_)
          (repeat (refine BW.pl rfl rfl ?_))
          refine BW.br rfl rfl (by first | omega | decide | (constructor <;> first | omega | decide)) (fun w6 => by first | (exfalso; omega) | exact absurd w6 (by decide)) (fun w6 => ?_)
          (repeat (first | (refine BW.pl rfl rfl ?_) | (refine CW.geti rfl rfl (by assumption) rfl rfl (by assumption) (fun _ => ?_)) | (refine CW.getr rfl rfl (by assumption) rfl rfl (by assumption) ?_)))
          refine CW.e2 rfl rfl (by first | exact Or.inl rfl | exact Or.inr (tagO (by assumption) (by rfl) (by rfl))) (by first | exact Or.inl (by decide) | exact Or.inr ⟨_, rfl, by assumption⟩) rfl (B_schar h10 ⟨by omega, by omega⟩) ?_
          (repeat (first | (refine BW.pl rfl rfl ?_) | (refine CW.geti rfl rfl (by assumption) rfl rfl (by assumption) (fun _ => ?_)) | (refine CW.getr rfl rfl (by assumption) rfl rfl (by assumption) ?_)))
          refine CW.ialdV (k := nr) rfl hA.1 (by rw [hA.2.1]; omega) rfl ex (fun _ => ?_)
          (repeat (refine BW.pl rfl rfl ?_))
          refine CW.e2 rfl rfl (by first | exact Or.inl rfl | exact Or.inr (tagO (by assumption) (by rfl) (by rfl))) (by first | exact Or.inl (by decide) | exact Or.inr ⟨_, rfl, by assumption⟩) rfl (B_schar h10 ⟨by omega, by omega⟩) ?_
          have e1 : ((at' : Int) + j).toNat = at' + j := by omega
          have e2 : ((X : Int) + j).toNat = X + j := by omega
          rw [e1, e2]
          have r1 := hrow (at' + j)
          have r2 := hrow (X + j)
          by_cases ze : row.getD (at' + j) 0 = row.getD (X + j) 0
          · refine BW.br rfl rfl (by first | omega | decide | (constructor <;> first | omega | decide)) (fun w7 => by first | (exfalso; omega) | exact absurd w7 (by decide)) (fun w7 => ?_)
            (iterate 5 (refine BW.pl rfl rfl ?_))
            exact ihn (j + 1) (by omega) hl (fun j' hj' => by
              rcases Nat.lt_or_ge j' j with z | z
              · exact hall j' z
              · rw [show j' = j by omega]; exact ze)
          · refine BW.br rfl rfl (by first | omega | decide | (constructor <;> first | omega | decide)) (fun w7 => ?_) (fun w7 => by first | (exfalso; omega) | exact absurd w7 (by decide))
            (repeat (refine BW.pl rfl rfl ?_))
            by_cases zj : (j : Int) + 1 < Mn
            · refine BW.br rfl rfl (by first | omega | decide | (constructor <;> first | omega | decide)) (fun w8 => by first | (exfalso; omega) | exact absurd w8 (by decide)) (fun w8 => ?_)
              (repeat (refine BW.pl rfl rfl ?_))
              refine BW.br rfl rfl (by first | omega | decide | (constructor <;> first | omega | decide)) (fun w9 => ?_) (fun w9 => by first | (exfalso; omega) | exact absurd w9 (by decide))
              exact at128 0 _ (Or.inr ⟨rfl, fun z => ze ((told.mp z).2 j (by omega))⟩)
            · refine BW.br rfl rfl (by first | omega | decide | (constructor <;> first | omega | decide)) (fun w8 => ?_) (fun w8 => by first | (exfalso; omega) | exact absurd w8 (by decide))
              exact at128 0 _ (Or.inr ⟨rfl, fun z => ze ((told.mp z).2 j (by omega))⟩)
      (repeat (first | (refine BW.pl rfl rfl ?_) | (refine CW.geti rfl rfl (by assumption) rfl rfl (by assumption) (fun _ => ?_)) | (refine CW.getr rfl rfl (by assumption) rfl rfl (by assumption) ?_)))
      refine CW.e1 rfl rfl (by first | exact Or.inl rfl | exact Or.inr (tagO (by assumption) (by rfl) (by rfl))) (by first | exact Or.inl (by decide) | exact Or.inr ⟨_, rfl, by assumption⟩) rfl (B_slen h10) ?_
      by_cases zl : at' + Mn ≤ row.length
      · refine BW.br rfl rfl (by first | omega | decide | (constructor <;> first | omega | decide)) (fun w4 => by first | (exfalso; omega) | exact absurd w4 (by decide)) (fun w4 => ?_)
        (iterate 5 (refine BW.pl rfl rfl ?_))
        exact lp Mn 0 (by omega) zl (fun j' hj' => absurd hj' (Nat.not_lt_zero _))
      · refine BW.br rfl rfl (by first | omega | decide | (constructor <;> first | omega | decide)) (fun w4 => ?_) (fun w4 => by first | (exfalso; omega) | exact absurd w4 (by decide))
        (repeat (refine BW.pl rfl rfl ?_))
        by_cases zj : 0 < Mn
        · refine BW.br rfl rfl (by first | omega | decide | (constructor <;> first | omega | decide)) (fun w5 => by first | (exfalso; omega) | exact absurd w5 (by decide)) (fun w5 => ?_)
          (repeat (refine BW.pl rfl rfl ?_))
          refine BW.br rfl rfl (by first | omega | decide | (constructor <;> first | omega | decide)) (fun w6 => ?_) (fun w6 => by first | (exfalso; omega) | exact absurd w6 (by decide))
          exact at128 0 _ (Or.inr ⟨rfl, fun z => zl (told.mp z).1⟩)
        · refine BW.br rfl rfl (by first | omega | decide | (constructor <;> first | omega | decide)) (fun w5 => ?_) (fun w5 => by first | (exfalso; omega) | exact absurd w5 (by decide))
          exact at128 0 _ (Or.inr ⟨rfl, fun z => zl (told.mp z).1⟩)
    rw [if_neg z6] at hw
    by_cases z2 : kd = 2
    · refine BW.sw (i' := 29) rfl rfl (by constructor <;> omega) (by subst z2; rfl) ?_
      have eR : sGo row pt.2.2 ((kd, nr, sg, neg) :: ps) at' (arr us) (arr ws) = fd (fun j => sGo row pt.2.2 ps (at' + j) (arr us) (arr ws)) (row.length - at') := by
        conv => lhs; unfold sGo
        rw [if_neg z4, if_neg z5, if_pos z2]
      have lp : ∀ (n : Nat) (us2 ws2 : List Int) (S2 : BS), n ≤ row.length - at' → Gch S S2 p u w → GpS S2 F p q u w y xs cap pt row → ArS S2 u w us2 ws2 → Agr C op (arr us2) (arr us) (arr ws2) (arr ws) → (fd (fun j => sGo row pt.2.2 ps (at' + j) (arr us) (arr ws)) (row.length - at') = fd (fun j => sGo row pt.2.2 ps (at' + j) (arr us) (arr ws)) n) → BW (d + ps.length + 7) gm_X7_goesOn 33 [some (aR p), some (aI k), some (aI at'), some (aR m), some (aI ((at' : Int) + n)), none, none] [] S2 (fun r S' => ∃ v, r = .inl v ∧ GsQ S p u w C op ((kd, nr, sg, neg) :: ps) us ws (sGo row pt.2.2 ((kd, nr, sg, neg) :: ps) at' (arr us) (arr ws)) v S') := by
        have one : ∀ (n : Nat) (us2 ws2 : List Int) (S2 : BS), n ≤ row.length - at' → Gch S S2 p u w → GpS S2 F p q u w y xs cap pt row → ArS S2 u w us2 ws2 → Agr C op (arr us2) (arr us) (arr ws2) (arr ws) → (∀ x, sGo row pt.2.2 ps (at' + n) (arr us) (arr ws) = some x → fd (fun j => sGo row pt.2.2 ps (at' + j) (arr us) (arr ws)) (row.length - at') = some x) → (∀ us3 ws3 S3, sGo row pt.2.2 ps (at' + n) (arr us) (arr ws) = none → Gch S S3 p u w → GpS S3 F p q u w y xs cap pt row → ArS S3 u w us3 ws3 → Agr C op (arr us3) (arr us) (arr ws3) (arr ws) → BW (d + ps.length + 7) gm_X7_goesOn 33 [some (aR p), some (aI k), some (aI at'), some (aR m), some (aI ((at' : Int) + n + -1)), none, none] [] S3 (fun r S' => ∃ v, r = .inl v ∧ GsQ S p u w C op ((kd, nr, sg, neg) :: ps) us ws (sGo row pt.2.2 ((kd, nr, sg, neg) :: ps) at' (arr us) (arr ws)) v S')) → BW (d + ps.length + 7) gm_X7_goesOn 33 [some (aR p), some (aI k), some (aI at'), some (aR m), some (aI ((at' : Int) + n)), none, none] [] S2 (fun r S' => ∃ v, r = .inl v ∧ GsQ S p u w C op ((kd, nr, sg, neg) :: ps) us ws (sGo row pt.2.2 ((kd, nr, sg, neg) :: ps) at' (arr us) (arr ws)) v S') := by
          intro n us2 ws2 S2 hn hG2 hP2 hA2 hag hsome hnone
          have h1 := hP2.2.1
          (repeat (refine BW.pl rfl rfl ?_))
          refine BW.br rfl rfl (by first | omega | decide | (constructor <;> first | omega | decide)) (fun w5 => by first | (exfalso; omega) | exact absurd w5 (by decide)) (fun w5 => ?_)
          (repeat (refine BW.pl rfl rfl ?_))
          refine CW.c3 rfl rfl (by first | exact Or.inl rfl | exact Or.inr (tagO (by assumption) (by rfl) (by rfl))) (by first | exact Or.inl (by decide) | exact Or.inr ⟨_, rfl, by assumption⟩) rfl (next C (at' + n) op us2 ws2 S2 _ (by omega) hw hC ((hok.ag hag).le (by omega)) (by omega) hP2 hA2) ?_
          intro v S3 hq
          have hq2 := hq.ag hw hag hG2
          obtain ⟨hG3, us3, ws3, hA3, hag3, hR⟩ := hq2
          have hP3 := hP0.ch hA hG3
          cases e : sGo row pt.2.2 ps (at' + n) (arr us) (arr ws) with
          | none =>
            rw [e] at hR
            subst hR
            refine BW.br rfl rfl (by first | omega | decide | (constructor <;> first | omega | decide)) (fun w6 => ?_) (fun w6 => by first | (exfalso; omega) | exact absurd w6 (by decide))
            (iterate 2 (refine BW.pl rfl rfl ?_))
            exact hnone us3 ws3 S3 e hG3 hP3 hA3 hag3
          | some x =>
            obtain ⟨x1, x2, x3⟩ := x
            rw [e] at hR
            obtain ⟨rfl, h73, hag4⟩ := hR
            refine BW.br rfl rfl (by first | omega | decide | (constructor <;> first | omega | decide)) (fun w6 => by first | (exfalso; omega) | exact absurd w6 (by decide)) (fun w6 => ?_)
            (repeat (refine BW.pl rfl rfl ?_))
            refine BW.irx rfl (Or.inr (Or.inl ⟨rfl, Or.inr rfl⟩)) ⟨_, rfl, ?_⟩
            rw [eR, hsome _ e]
            exact ⟨hG3, us3, ws3, hA3, hag3, rfl, h73, by rw [hcl]; exact hag4⟩
        intro n
        induction n with
        | zero =>
          intro us2 ws2 S2 hn hG2 hP2 hA2 hag hfd
          refine one 0 us2 ws2 S2 hn hG2 hP2 hA2 hag (fun x hx => by rw [hfd, fd_zero]; exact hx) (fun us3 ws3 S3 e hG3 hP3 hA3 hag3 => ?_)
          (repeat (refine BW.pl rfl rfl ?_))
          refine BW.br rfl rfl (by first | omega | decide | (constructor <;> first | omega | decide)) (fun w5 => ?_) (fun w5 => by first | (exfalso; omega) | exact absurd w5 (by decide))
          (repeat (refine BW.pl rfl rfl ?_))
          refine BW.irx rfl (Or.inr (Or.inl ⟨rfl, Or.inl rfl⟩)) ⟨_, rfl, ?_⟩
          rw [eR, hfd, fd_zero, e]
          exact ⟨hG3, us3, ws3, hA3, hag3, rfl⟩
        | succ n ihn =>
          intro us2 ws2 S2 hn hG2 hP2 hA2 hag hfd
          refine one (n + 1) us2 ws2 S2 hn hG2 hP2 hA2 hag (fun x hx => by rw [hfd, fd_succ, hx]) (fun us3 ws3 S3 e hG3 hP3 hA3 hag3 => ?_)
          have e1 : (at' : Int) + ((n + 1 : Nat) : Int) + -1 = (at' : Int) + n := by omega
          rw [e1]
          exact ihn us3 ws3 S3 (by omega) hG3 hP3 hA3 hag3 (by rw [hfd, fd_succ, e])
      (repeat (first | (refine BW.pl rfl rfl ?_) | (refine CW.geti rfl rfl (by assumption) rfl rfl (by assumption) (fun _ => ?_)) | (refine CW.getr rfl rfl (by assumption) rfl rfl (by assumption) ?_)))
      refine CW.e1 rfl rfl (by first | exact Or.inl rfl | exact Or.inr (tagO (by assumption) (by rfl) (by rfl))) (by first | exact Or.inl (by decide) | exact Or.inr ⟨_, rfl, by assumption⟩) rfl (B_slen h10) ?_
      (iterate 1 (refine BW.pl rfl rfl ?_))
      have e1 : (row.length : Int) = (at' : Int) + ((row.length - at' : Nat) : Int) := by omega
      rw [e1]
      exact lp (row.length - at') us ws S (Nat.le_refl _) Gch.rf hP0 hA Agr.rf rfl
    · refine BW.sw (i' := 143) rfl rfl (by constructor <;> omega) (gsw3 (x := (kd : Int)) (by omega) (by omega) (by omega) (by omega)) ?_
      have eR : sGo row pt.2.2 ((kd, nr, sg, neg) :: ps) at' (arr us) (arr ws) = if at' < row.length ∧ mFit kd sg neg (row.getD at' 0) = true then sGo row pt.2.2 ps (at' + 1) (arr us) (arr ws) else none := by
        conv => lhs; unfold sGo
        rw [if_neg z4, if_neg z5, if_neg z2, if_neg z6]
      (repeat (refine BW.pl rfl rfl ?_))
      refine CW.e3 rfl rfl (by first | exact Or.inl rfl | exact Or.inr (tagO (by assumption) (by rfl) (by rfl))) (by first | exact Or.inl (by decide) | exact Or.inr ⟨_, rfl, by assumption⟩) rfl (P_fits hP0 hm hat rfl) ?_
      by_cases zf : at' < row.length ∧ mFit kd sg neg (row.getD at' 0) = true
      · rw [if_pos zf] at eR
        rw [if_pos (show at' < row.length ∧ mFit (kd, nr, sg, neg).1 (kd, nr, sg, neg).2.2.1 (kd, nr, sg, neg).2.2.2 (row.getD at' 0) = true from zf)]
        refine BW.br rfl rfl (by first | omega | decide | (constructor <;> first | omega | decide)) (fun w4 => by first | (exfalso; omega) | exact absurd w4 (by decide)) (fun w4 => ?_)
        (repeat (refine BW.pl rfl rfl ?_))
        refine CW.c3 rfl rfl (by first | exact Or.inl rfl | exact Or.inr (tagO (by assumption) (by rfl) (by rfl))) (by first | exact Or.inl (by decide) | exact Or.inr ⟨_, rfl, by assumption⟩) rfl (next C (at' + 1) op _ _ S _ (by omega) hw hC (hok.le (by omega)) (by omega) hP0 hA) ?_
        rintro v S2 ⟨hG2, us2, ws2, hA2, hag, hR⟩
        have fin : GsQ S p u w C op ((kd, nr, sg, neg) :: ps) us ws (sGo row pt.2.2 ((kd, nr, sg, neg) :: ps) at' (arr us) (arr ws)) v S2 := GsQ.cons ⟨hG2, us2, ws2, hA2, hag, hR⟩ eR hcl
        cases e : sGo row pt.2.2 ps (at' + 1) (arr us) (arr ws) with
        | none =>
          rw [e] at hR
          subst hR
          refine BW.br rfl rfl (by first | omega | decide | (constructor <;> first | omega | decide)) (fun w6 => ?_) (fun w6 => by first | (exfalso; omega) | exact absurd w6 (by decide))
          (repeat (refine BW.pl rfl rfl ?_))
          exact BW.irx rfl (Or.inr (Or.inl ⟨rfl, Or.inl rfl⟩)) ⟨_, rfl, fin⟩
        | some z =>
          obtain ⟨z1, z2, z3⟩ := z
          rw [e] at hR
          obtain ⟨rfl, _⟩ := hR
          refine BW.br rfl rfl (by first | omega | decide | (constructor <;> first | omega | decide)) (fun w6 => by first | (exfalso; omega) | exact absurd w6 (by decide)) (fun w6 => ?_)
          (repeat (refine BW.pl rfl rfl ?_))
          exact BW.irx rfl (Or.inr (Or.inl ⟨rfl, Or.inr rfl⟩)) ⟨_, rfl, fin⟩
      · rw [if_neg zf] at eR
        rw [if_neg (show ¬ (at' < row.length ∧ mFit (kd, nr, sg, neg).1 (kd, nr, sg, neg).2.2.1 (kd, nr, sg, neg).2.2.2 (row.getD at' 0) = true) from zf)]
        refine BW.br rfl rfl (by first | omega | decide | (constructor <;> first | omega | decide)) (fun w4 => ?_) (fun w4 => by first | (exfalso; omega) | exact absurd w4 (by decide))
        (repeat (refine BW.pl rfl rfl ?_))
        exact BW.irx rfl (Or.inr (Or.inl ⟨rfl, Or.inl rfl⟩)) ⟨_, rfl, by rw [eR]; exact ⟨Gch.rf, us, ws, hA, Agr.rf, rfl⟩⟩
end GO
