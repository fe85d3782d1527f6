-- C
set_option maxRecDepth 100000
/-! LINEORDERS: doOne -/
section ON
variable {d n m q i a y cap c c1 B k k' f l b0 tm mk : Nat} {S S' S0 S1 S2 : BS} {K : Nat → Nat} {la : Int → Nat} {A A1 : St} {F V : Nat → Prop} {v nn b1 x1 : Int} {r : GO} {o : SOrd} {zz : Prop} {os : List SOrd} {xs : List (Option Nat)} {Mm : Int → Option Nat}
def OnX (S : BS) (K : Nat → Nat) (la : Int → Nat) (A : St) (c B : Nat) (R : Nat ⊕ (Nat × Nat × St)) (r : GO) (S' : BS) : Prop := match R with
  | .inl w => InX S K la A c B 3200 (.inl w) r S'
  | .inr (j, c1, A1) => r = .inl (vI j) ∧ InX S K la A c B 3200 (.inr (c1, A1)) (.inl none) S'
theorem bT_mem (x : Int) : x ∈ kstr.getD 3 [] ↔ sSteers x = true := by
  unfold sSteers
  rw [decide_eq_true_iff]
  show x ∈ [98, 84, 113, 78] ↔ _
  simp only [List.mem_cons, List.not_mem_nil, or_false]
theorem sJump_jm : sJump os o.1 = jmR (sLab os (oNum o.1)) (oNum o.1) os.length := by
  unfold sJump jmR
  by_cases z : oNum o.1 = -1
  · rw [if_pos z, if_pos z]
  · rw [if_neg z, if_neg z]
    cases sLab os (oNum o.1) <;> rfl
theorem sLab_lt {nr : Int} (h : sLab os nr = some k) : k < os.length := (List.findIdx?_eq_some_iff_getElem.mp h).1
theorem InX.same (hL : LO S' K la A1 (B + c)) (hX : XG K (fun _ => True) S S') (h13 : Fi S' 13 (K 1) (c1 : Int)) (hA : A1.2.2.2.1 = A.2.2.2.1) (hc : c ≤ k) (hB : B + k ≤ 20000000) : InX S K la A c1 B k (.inr (c1, A1)) (.inl none) S' := ⟨rfl, la, ⟨hL.1.le (by rw [hA]; omega) (by rw [hA]; omega), hL.2⟩, hX, LaE.rf, h13, Nat.le_refl _, [], by rw [hA]; simp⟩
theorem LO.puR {b : Bool} (hL : LO S K la A B) (hP : Pu S S' 14 (K 1)) (hv : Fi S' 14 (K 1) v) (hb : v = b2i b) : LO S' K la (setR A b) B := by
  obtain ⟨t, p, h, ou, fi, mks, n, rp⟩ := A
  exact ⟨hL.1.puR hP hv hb, hL.2.f6 hP.fr (W6.one hL.1.obx (ownNe rfl) rfl)⟩
theorem setR_self : setR A A.2.2.2.2.2.2.2 = A := by obtain ⟨t, p, h, ou, fi, mks, n, rp⟩ := A; rfl
theorem setR_out {b : Bool} : (setR A b).2.2.2.1 = A.2.2.2.1 := by obtain ⟨t, p, h, ou, fi, mks, n, rp⟩ := A; rfl
theorem L_doOne (hL : LO S K la A B) (hK : ∀ m, F m → KoM K m) (hq : Ob S q (oAl xs cap)) (hxl : xs.length = os.length) (hmk : xs.getD k none = some mk) (hO : OrdIs S F zz mk o) (ho : OgK o) (hok : OrdOk o) (hw : WF A) (hkl : k < os.length) (hol : os.length ≤ 25) (hT : Ob S tm (oTm Mm)) (hM : ∀ nr, 0 ≤ nr → nr < 100 → Mm nr = (sLab os nr).map (fun k => k + 128)) (h13 : Fi S 13 (K 1) c) (hc : c ≤ 60) (hn : A.2.2.2.2.2.2.1 + 40 * (61 - (c : Int)) < 1900000) (hB : B + 1100000 ≤ 20000000) (hkq : KoM K q) (hkt : KoM K tm) (hv : v = k) : BM (d + 191) gk_X1_doOne [aR (K 1), aR q, aI v, aR tm] S (OnX S K la A c B (sOne os k o c A)) := by
  subst hv
  have hx := hL.1.obx
  have hm := hO.1.2.1
  have h48 : Fi S 48 mk (oAct o.1) := hO.1.2.2.2.2.2.1
  obtain ⟨⟨had1, had2⟩, hnr, hac, hcase⟩ := ho
  have hog : OgK o := ⟨⟨had1, had2⟩, hnr, hac, hcase⟩
  have h40 := hw.2.1
  have kmk : KoM K mk := hK _ hO.1.1
  refine BM.of rfl rfl rfl ?_
  refine BW.kst (fun hKs => ?_)
  have k3 : Ob S 259 (oStr (kstr.getD 3 [])) := hKs 259 (by decide)
  have kl3 : (kstr.getD 3 []).length = 4 := rfl
  (repeat (refine BW.pl rfl rfl ?_))
  refine CW.e2 rfl rfl (by first | exact Or.inl rfl | exact Or.inr (tagO (by assumption) (by rfl) (by rfl))) (by first | exact Or.inl (by decide) | exact Or.inr ⟨_, rfl, by assumption⟩) rfl (C_alGet (k := k) hq (by omega) hmk rfl) ?_
  refine CW.castS rfl hm rfl rfl rfl ?_
  (repeat (first | (refine BW.pl rfl rfl ?_) | (refine CW.geti rfl rfl (by assumption) rfl rfl (by assumption) (fun _ => ?_)) | (refine CW.getr rfl rfl (by assumption) rfl rfl (by assumption) ?_)))
  by_cases z58 : oAct o.1 = 58
  · have e : sOne os k o c A = .inr (k + 1, c, A) := by unfold sOne; rw [if_pos z58]
    rw [e]
    refine BW.br rfl rfl (by first | omega | decide | (constructor <;> first | omega | decide)) (fun w => by first | (exfalso; omega) | exact absurd w (by decide)) (fun w => ?_)
    (repeat (refine BW.pl rfl rfl ?_))
    exact BW.irx rfl (Or.inl ⟨rfl, by constructor <;> omega⟩) ⟨rfl, InX.same (c := 0) hL XG.rf h13 rfl (by omega) (by omega)⟩
  refine BW.br rfl rfl (by first | omega | decide | (constructor <;> first | omega | decide)) (fun w => ?_) (fun w => by first | (exfalso; omega) | exact absurd w (by decide))
  (repeat (first | (refine BW.pl rfl rfl ?_) | (refine CW.geti rfl rfl (by assumption) rfl rfl (by assumption) (fun _ => ?_)) | (refine CW.getr rfl rfl (by assumption) rfl rfl (by assumption) ?_)))
  refine CW.e2 rfl rfl (by first | exact Or.inl rfl | exact Or.inr (tagO (by assumption) (by rfl) (by rfl))) (by first | exact Or.inl (by decide) | exact Or.inr ⟨_, rfl, by assumption⟩) rfl (B_sidx (d := d + 186) k3 ⟨hac.1, hac.2⟩) ?_
  have hsr := sidx_R (oAct o.1) (kstr.getD 3 []) 0 (by decide)
  by_cases zst : sSteers (oAct o.1) = true
  rotate_left
  · -- an order that is no jump
    have zs : ¬ 0 ≤ sidx (oAct o.1) (kstr.getD 3 []) 0 := fun z => zst ((bT_mem _).mp ((sidx_mem _ _ 0 (Int.le_refl _)).mp z))
    have hout : isOut (oAct o.1) = false := by
      rcases hcase with ⟨z, _⟩ | ⟨_, z⟩ | ⟨_, z, _⟩
      · have z : oAct o.1 = 123 ∨ oAct o.1 = 103 ∨ oAct o.1 = 71 := of_decide_eq_true z
        rcases z with z | z | z <;> rw [z] <;> decide
      · have := List.contains_iff_mem.mp z
        have y : ¬ (oAct o.1 = 98 ∨ oAct o.1 = 84 ∨ oAct o.1 = 113 ∨ oAct o.1 = 78) := fun y => zst (decide_eq_true y)
        simp at this
        exact absurd this (by omega)
      · exact z
    have e : sOne os k o c A = match sOrd A o c with | .inl w => .inl w | .inr (c1, A1) => .inr (k + 1, c1, A1) := by
      unfold sOne
      rw [if_neg z58, if_neg zst]
      cases sOrd A o c <;> rfl
    rw [e]
    refine BW.br rfl rfl (by first | omega | decide | (constructor <;> first | omega | decide)) (fun w2 => by first | (exfalso; omega) | exact absurd w2 (by decide)) (fun w2 => ?_)
    (repeat (refine BW.pl rfl rfl ?_))
    refine CW.x2 rfl rfl (by first | exact Or.inl rfl | exact Or.inr (tagO (by assumption) (by rfl) (by rfl))) (by first | exact Or.inl (by decide) | exact Or.inr ⟨_, rfl, by assumption⟩) rfl rfl (L_doOrd (d := d) hL hK hO hw hog hout hok hn hB h13 hc) ?_ ?_
    · intro r S2 h2
      cases hs : sOrd A o c with
      | inl w9 =>
        rw [hs] at h2
        obtain ⟨S4, _, _, _, _, _, _, _, q9, e9, _⟩ := h2
        cases e9
      | inr z =>
        obtain ⟨c9, A9⟩ := z
        rw [hs] at h2
        have h3 := h2
        obtain ⟨e9, _⟩ := h3
        cases e9
        obtain ⟨w1, w2⟩ := sOrd_wf hok hout hw hc hs
        have := w1.2.2.2.2.2.2.2.1.1
        (repeat (refine BW.pl rfl rfl ?_))
        exact BW.irx rfl (Or.inl ⟨rfl, by constructor <;> omega⟩) ⟨rfl, InX.pre (b0 := 0) XG.rf h2 (by omega) (by omega) (by show 480 * (A9.2.2.2.1.length - A.2.2.2.1.length) ≤ 48000; omega) w2⟩
    · intro E q9 S2 h2
      cases hs : sOrd A o c with
      | inl w9 =>
        rw [hs] at h2
        exact InX.pre (b0 := 0) XG.rf h2 (by omega) (by omega) (by show 480 * 0 ≤ 48000; omega) (Nat.zero_le _)
      | inr z =>
        obtain ⟨c9, A9⟩ := z
        rw [hs] at h2
        cases h2.1
  -- a jump
  have zs : 0 ≤ sidx (oAct o.1) (kstr.getD 3 []) 0 := (sidx_mem _ _ 0 (Int.le_refl _)).mpr ((bT_mem _).mpr zst)
  have zst' : oAct o.1 = 98 ∨ oAct o.1 = 84 ∨ oAct o.1 = 113 ∨ oAct o.1 = 78 := of_decide_eq_true zst
  have e : sOne os k o c A = match sSteer os k o.1 A with | .inl w => .inl w | .inr (j, A1) => .inr (j, c, A1) := by
    unfold sOne
    rw [if_neg z58, if_pos zst]
    cases sSteer os k o.1 A <;> rfl
  rw [e, sSteer_def]
  clear e
  refine BW.br rfl rfl (by first | omega | decide | (constructor <;> first | omega | decide)) (fun w2 => ?_) (fun w2 => by first | (exfalso; omega) | exact absurd w2 (by decide))
  -- it is to be done
  have at57 : ∀ (S2 : BS), LO S2 K la A (B + 34) → XF K (fun _ => True) S S2 → (oAct o.1 = 84 → A.2.2.2.2.2.2.2 = true) → BW (d + 190) gm_X1_doOne 57 [some (aR (K 1)), some (aR q), some (aI k), some (aR tm), some (aR mk), some (aI 1), none] [] S2 (OnX S K la A c B (match sOne1 os k o.1 A with | .inl w => .inl w | .inr (j, A1) => .inr (j, c, A1))) := by
    intro S2 hL2 hX2 hrp
    have hx2 := hL2.1.obx
    have hm2 := (hX2.ob hm kmk (oNe rfl) rfl).1
    have h482 := hX2.fi hm kmk (oNe rfl) rfl h48 (by decide)
    have h492 := hX2.fi hm kmk (oNe rfl) rfl (show Fi S 49 mk (oNum o.1) from by obtain ⟨_, _, _, _, _, _, ⟨_, _, _, z, _⟩, _⟩ := hO.1; exact z) (by decide)
    have hq2 := (hX2.ob hq hkq (oNe rfl) rfl).1
    have hT2 := (hX2.ob hT hkt (oNe rfl) rfl).1
    have h132 := hX2.f13 hL h13
    have h5 : Fi S2 5 (K 1) (A.2.1 : Int) := hL2.1.f5
    have e3 := hL2.1.e3
    obtain ⟨mc0, hT0⟩ := hL2.1.text
    have hl0 : (lsOf la (idsOfL A.1)).length = A.1.length := by rw [lsOf_len, ids_len]
    have hp40 := hw.1.1
    have eS : sOne1 os k o.1 A = if oAct o.1 = 113 then .inr (os.length, A)
      else if oAct o.1 = 78 then (if A.2.1 = A.1.length then .inl 1 else .inr (k + 1, setP A (A.2.1 + 1)))
      else if oAct o.1 = 98 then (match sJump os o.1 with | .inl w => .inl w | .inr j => .inr (j, A))
      else if A.2.2.2.2.2.2.2 = true then (match sJump os o.1 with | .inl w => .inl w | .inr j => .inr (j, setR A false))
      else .inr (k + 1, A) := rfl
    rw [eS]
    (repeat (first | (refine BW.pl rfl rfl ?_) | (refine CW.geti rfl rfl (by assumption) rfl rfl (by assumption) (fun _ => ?_)) | (refine CW.getr rfl rfl (by assumption) rfl rfl (by assumption) ?_)))
    by_cases z78 : oAct o.1 = 78
    · rw [if_neg (by omega), if_pos z78]
      refine BW.br rfl rfl (by first | omega | decide | (constructor <;> first | omega | decide)) (fun w3 => by first | (exfalso; omega) | exact absurd w3 (by decide)) (fun w3 => ?_)
      (repeat (first | (refine BW.pl rfl rfl ?_) | (refine CW.geti rfl rfl (by assumption) rfl rfl (by assumption) (fun _ => ?_)) | (refine CW.getr rfl rfl (by assumption) rfl rfl (by assumption) ?_)))
      refine CW.e1 rfl rfl (by first | exact Or.inl rfl | exact Or.inr (tagO (by assumption) (by rfl) (by rfl))) (by first | exact Or.inl (by decide) | exact Or.inr ⟨_, rfl, by assumption⟩) rfl (B_llSize hT0) ?_
      rw [hl0]
      by_cases zp : A.2.1 = A.1.length
      · rw [if_pos zp]
        refine BW.br rfl rfl (by first | omega | decide | (constructor <;> first | omega | decide)) (fun w4 => ?_) (fun w4 => by first | (exfalso; omega) | exact absurd w4 (by decide))
        (repeat (refine BW.pl rfl rfl ?_))
        refine CW.need rfl rfl (by decide) rfl (Or.inl rfl) (by decide) rfl (fun w => absurd w (by decide)) (fun _ r9 S9 hT9 => ?_)
        exact ⟨S2, la, A, hL2.1.le (by omega) (by omega), XG.of hX2, LaE.rf, Int.le_refl _, ⟨[], by simp⟩, hT9⟩
      · rw [if_neg zp]
        refine BW.br rfl rfl (by first | omega | decide | (constructor <;> first | omega | decide)) (fun w4 => by first | (exfalso; omega) | exact absurd w4 (by decide)) (fun w4 => ?_)
        (repeat (refine BW.pl rfl rfl ?_))
        refine CW.need rfl rfl (by decide) rfl (Or.inr rfl) (by decide) rfl (fun _ => ?_) (fun w => absurd w (by decide))
        (repeat (first | (refine BW.pl rfl rfl ?_) | (refine CW.geti rfl rfl (by assumption) rfl rfl (by assumption) (fun _ => ?_)) | (refine CW.getr rfl rfl (by assumption) rfl rfl (by assumption) ?_)))
        first | (refine CW.putr rfl rfl (by assumption) rfl (by decide) (fun S3 hP3 h53 => ?_)) | (refine CW.puti rfl (by assumption) rfl (by decide) (by first | exact Or.inl ⟨rfl, by first | omega | decide | (constructor <;> first | omega | decide)⟩ | exact Or.inr (Or.inl ⟨rfl, by first | omega | decide | (constructor <;> first | omega | decide)⟩) | exact Or.inr (Or.inr (Or.inl ⟨rfl, by first | omega | decide | (constructor <;> first | omega | decide)⟩)) | exact Or.inr (Or.inr (Or.inr ⟨rfl, by first | omega | decide | (constructor <;> first | omega | decide)⟩))) (fun S3 hP3 h53 => ?_))
        (repeat (refine BW.pl rfl rfl ?_))
        have hL3 : LO S3 K la (setP A (A.2.1 + 1)) (B + 34) := LO.puP hL2 hP3 h53 (by omega)
        have hX3 : XF K (fun _ => True) S2 S3 := XF.rf.pu1 hP3 (by decide)
        exact BW.irx rfl (Or.inl ⟨rfl, by constructor <;> omega⟩) ⟨rfl, InX.same (c := 34) hL3 (XG.of (hX2.tr hX3)) (hX3.f13 hL2 h132) rfl (by omega) (by omega)⟩
    · refine BW.br rfl rfl (by first | omega | decide | (constructor <;> first | omega | decide)) (fun w3 => ?_) (fun w3 => by first | (exfalso; omega) | exact absurd w3 (by decide))
      (repeat (first | (refine BW.pl rfl rfl ?_) | (refine CW.geti rfl rfl (by assumption) rfl rfl (by assumption) (fun _ => ?_)) | (refine CW.getr rfl rfl (by assumption) rfl rfl (by assumption) ?_)))
      by_cases z113 : oAct o.1 = 113
      · rw [if_pos z113]
        refine BW.br rfl rfl (by first | omega | decide | (constructor <;> first | omega | decide)) (fun w4 => by first | (exfalso; omega) | exact absurd w4 (by decide)) (fun w4 => ?_)
        (repeat (refine BW.pl rfl rfl ?_))
        refine CW.e1 rfl rfl (by first | exact Or.inl rfl | exact Or.inr (tagO (by assumption) (by rfl) (by rfl))) (by first | exact Or.inl (by decide) | exact Or.inr ⟨_, rfl, by assumption⟩) rfl (B_alSize hq2) ?_
        rw [hxl]
        (repeat (refine BW.pl rfl rfl ?_))
        exact BW.irx rfl (Or.inl ⟨rfl, by constructor <;> omega⟩) ⟨rfl, InX.same (c := 34) hL2 (XG.of hX2) h132 rfl (by omega) (by omega)⟩
      · rw [if_neg z113, if_neg z78]
        refine BW.br rfl rfl (by first | omega | decide | (constructor <;> first | omega | decide)) (fun w4 => ?_) (fun w4 => by first | (exfalso; omega) | exact absurd w4 (by decide))
        (repeat (refine BW.pl rfl rfl ?_))
        refine CW.e1 rfl rfl (by first | exact Or.inl rfl | exact Or.inr (tagO (by assumption) (by rfl) (by rfl))) (by first | exact Or.inl (by decide) | exact Or.inr ⟨_, rfl, by assumption⟩) rfl (B_alSize hq2) ?_
        rw [hxl]
        have hjm := sJump_jm (os := os) (o := o)
        refine CW.x3 rfl rfl (by first | exact Or.inl rfl | exact Or.inr (tagO (by assumption) (by rfl) (by rfl))) (by first | exact Or.inl (by decide) | exact Or.inr ⟨_, rfl, by assumption⟩) rfl rfl (L_behindLabel (lab := sLab os (oNum o.1)) hm2 h492 ⟨hnr.1, by omega⟩ hT2 (fun z => hM _ z (by omega)) (fun k hk => by have := sLab_lt hk; omega) (by omega)) ?_ ?_
        · intro r S3 h3
          rw [← hjm] at h3
          cases hs : sJump os o.1 with
          | inl w9 =>
            rw [hs] at h3
            obtain ⟨q9, e9, _⟩ := h3
            cases e9
          | inr j =>
            rw [hs] at h3
            obtain ⟨e3', rfl⟩ := h3
            cases e3'
            have hj : j < 1000 := by
              rw [hjm] at hs
              unfold jmR at hs
              split at hs
              · cases hs; omega
              · cases hl : sLab os (oNum o.1) with
                | none => rw [hl] at hs; cases hs
                | some k9 => rw [hl] at hs; have := sLab_lt hl; cases hs; omega
            have h14 : Fi S3 14 (K 1) (b2i A.2.2.2.2.2.2.2) := hL2.1.f14
            dsimp only
            (iterate 2 (refine BW.pl rfl rfl ?_))
            cases hrpv : A.2.2.2.2.2.2.2 with
            | false =>
              have z98 : oAct o.1 = 98 := by
                rcases zst' with z | z | z | z
                · exact z
                · exact absurd (hrp z) (by rw [hrpv]; decide)
                · exact absurd z z113
                · exact absurd z z78
              rw [if_pos z98]
              rw [hrpv] at h14
              replace h14 : Fi S3 14 (K 1) 0 := h14
              (repeat (first | (refine BW.pl rfl rfl ?_) | (refine CW.geti rfl rfl (by assumption) rfl rfl (by assumption) (fun _ => ?_)) | (refine CW.getr rfl rfl (by assumption) rfl rfl (by assumption) ?_)))
              refine BW.br rfl rfl (by first | omega | decide | (constructor <;> first | omega | decide)) (fun w5 => ?_) (fun w5 => by first | (exfalso; omega) | exact absurd w5 (by decide))
              (iterate 1 (refine BW.pl rfl rfl ?_))
              first | (refine CW.putr rfl rfl (by assumption) rfl (by decide) (fun S4 hP4 h144 => ?_)) | (refine CW.puti rfl (by assumption) rfl (by decide) (by first | exact Or.inl ⟨rfl, by first | omega | decide | (constructor <;> first | omega | decide)⟩ | exact Or.inr (Or.inl ⟨rfl, by first | omega | decide | (constructor <;> first | omega | decide)⟩) | exact Or.inr (Or.inr (Or.inl ⟨rfl, by first | omega | decide | (constructor <;> first | omega | decide)⟩)) | exact Or.inr (Or.inr (Or.inr ⟨rfl, by first | omega | decide | (constructor <;> first | omega | decide)⟩))) (fun S4 hP4 h144 => ?_))
              (repeat (refine BW.pl rfl rfl ?_))
              have hL4 := LO.puR (b := false) hL2 hP4 h144 rfl
              have hX4 : XF K (fun _ => True) S3 S4 := XF.rf.pu1 hP4 (by decide)
              rw [← hrpv, setR_self] at hL4
              exact BW.irx rfl (Or.inl ⟨rfl, by constructor <;> omega⟩) ⟨rfl, InX.same (c := 34) hL4 (XG.of (hX2.tr hX4)) (hX4.f13 hL2 h132) rfl (by omega) (by omega)⟩
            | true =>
              rw [hrpv] at h14
              replace h14 : Fi S3 14 (K 1) 1 := h14
              (repeat (first | (refine BW.pl rfl rfl ?_) | (refine CW.geti rfl rfl (by assumption) rfl rfl (by assumption) (fun _ => ?_)) | (refine CW.getr rfl rfl (by assumption) rfl rfl (by assumption) ?_)))
              refine BW.br rfl rfl (by first | omega | decide | (constructor <;> first | omega | decide)) (fun w5 => by first | (exfalso; omega) | exact absurd w5 (by decide)) (fun w5 => ?_)
              (repeat (first | (refine BW.pl rfl rfl ?_) | (refine CW.geti rfl rfl (by assumption) rfl rfl (by assumption) (fun _ => ?_)) | (refine CW.getr rfl rfl (by assumption) rfl rfl (by assumption) ?_)))
              by_cases z98 : oAct o.1 = 98
              · rw [if_pos z98]
                refine BW.br rfl rfl (by first | omega | decide | (constructor <;> first | omega | decide)) (fun w6 => by first | (exfalso; omega) | exact absurd w6 (by decide)) (fun w6 => ?_)
                (iterate 2 (refine BW.pl rfl rfl ?_))
                first | (refine CW.putr rfl rfl (by assumption) rfl (by decide) (fun S4 hP4 h144 => ?_)) | (refine CW.puti rfl (by assumption) rfl (by decide) (by first | exact Or.inl ⟨rfl, by first | omega | decide | (constructor <;> first | omega | decide)⟩ | exact Or.inr (Or.inl ⟨rfl, by first | omega | decide | (constructor <;> first | omega | decide)⟩) | exact Or.inr (Or.inr (Or.inl ⟨rfl, by first | omega | decide | (constructor <;> first | omega | decide)⟩)) | exact Or.inr (Or.inr (Or.inr ⟨rfl, by first | omega | decide | (constructor <;> first | omega | decide)⟩))) (fun S4 hP4 h144 => ?_))
                (repeat (refine BW.pl rfl rfl ?_))
                have hL4 := LO.puR (b := true) hL2 hP4 h144 rfl
                have hX4 : XF K (fun _ => True) S3 S4 := XF.rf.pu1 hP4 (by decide)
                rw [← hrpv, setR_self] at hL4
                exact BW.irx rfl (Or.inl ⟨rfl, by constructor <;> omega⟩) ⟨rfl, InX.same (c := 34) hL4 (XG.of (hX2.tr hX4)) (hX4.f13 hL2 h132) rfl (by omega) (by omega)⟩
              · rw [if_neg z98, if_pos rfl]
                refine BW.br rfl rfl (by first | omega | decide | (constructor <;> first | omega | decide)) (fun w6 => ?_) (fun w6 => by first | (exfalso; omega) | exact absurd w6 (by decide))
                (iterate 1 (refine BW.pl rfl rfl ?_))
                first | (refine CW.putr rfl rfl (by assumption) rfl (by decide) (fun S4 hP4 h144 => ?_)) | (refine CW.puti rfl (by assumption) rfl (by decide) (by first | exact Or.inl ⟨rfl, by first | omega | decide | (constructor <;> first | omega | decide)⟩ | exact Or.inr (Or.inl ⟨rfl, by first | omega | decide | (constructor <;> first | omega | decide)⟩) | exact Or.inr (Or.inr (Or.inl ⟨rfl, by first | omega | decide | (constructor <;> first | omega | decide)⟩)) | exact Or.inr (Or.inr (Or.inr ⟨rfl, by first | omega | decide | (constructor <;> first | omega | decide)⟩))) (fun S4 hP4 h144 => ?_))
                (repeat (refine BW.pl rfl rfl ?_))
                have hL4 := LO.puR (b := false) hL2 hP4 h144 rfl
                have hX4 : XF K (fun _ => True) S3 S4 := XF.rf.pu1 hP4 (by decide)
                exact BW.irx rfl (Or.inl ⟨rfl, by constructor <;> omega⟩) ⟨rfl, InX.same (c := 34) hL4 (XG.of (hX2.tr hX4)) (hX4.f13 hL2 h132) setR_out (by omega) (by omega)⟩
        · intro E q9 S3 h3
          rw [← hjm] at h3
          cases hs : sJump os o.1 with
          | inl w9 =>
            rw [hs] at h3
            have g : OnX S K la A c B (.inl w9) (.inr (E, q9)) S3 := ⟨S2, la, A, hL2.1.le (by omega) (by omega), XG.of hX2, LaE.rf, Int.le_refl _, ⟨[], by simp⟩, h3⟩
            by_cases z98 : oAct o.1 = 98
            · rw [if_pos z98]; exact g
            · rw [if_neg z98, if_pos (hrp (by
                rcases zst' with z | z | z | z
                · exact absurd z z98
                · exact z
                · exact absurd z z113
                · exact absurd z z78))]
              exact g
          | inr j =>
            rw [hs] at h3
            cases h3.1
  -- it holds, or it doesn't
  have at44 : ∀ (S2 : BS) (is : Bool), LO S2 K la A (B + 34) → XF K (fun _ => True) S S2 → BW (d + 190) gm_X1_doOne 44 [some (aR (K 1)), some (aR q), some (aI k), some (aR tm), some (aR mk), some (aI (b2i is)), none] [] S2 (OnX S K la A c B (match (if is = true then sOne1 os k o.1 A else .inr (k + 1, A)) with | .inl w => .inl w | .inr (j, A1) => .inr (j, c, A1))) := by
    intro S2 is hL2 hX2
    have hx2 := hL2.1.obx
    have hm2 := (hX2.ob hm kmk (oNe rfl) rfl).1
    have h482 := hX2.fi hm kmk (oNe rfl) rfl h48 (by decide)
    have h132 := hX2.f13 hL h13
    have h14 : Fi S2 14 (K 1) (b2i A.2.2.2.2.2.2.2) := hL2.1.f14
    have go : BW (d + 190) gm_X1_doOne 53 [some (aR (K 1)), some (aR q), some (aI k), some (aR tm), some (aR mk), some (aI (b2i is)), none] [] S2 (OnX S K la A c B (.inr (k + 1, c, A))) := by
      (repeat (refine BW.pl rfl rfl ?_))
      exact BW.irx rfl (Or.inl ⟨rfl, by constructor <;> omega⟩) ⟨rfl, InX.same (c := 34) hL2 (XG.of hX2) h132 rfl (by omega) (by omega)⟩
    cases is with
    | false =>
      (repeat (refine BW.pl rfl rfl ?_))
      refine BW.br rfl rfl (by first | omega | decide | (constructor <;> first | omega | decide)) (fun w3 => ?_) (fun w3 => by first | (exfalso; omega) | exact absurd w3 (by decide))
      exact go
    | true =>
      rw [if_pos rfl]
      (repeat (refine BW.pl rfl rfl ?_))
      refine BW.br rfl rfl (by first | omega | decide | (constructor <;> first | omega | decide)) (fun w3 => by first | (exfalso; omega) | exact absurd w3 (by decide)) (fun w3 => ?_)
      (repeat (first | (refine BW.pl rfl rfl ?_) | (refine CW.geti rfl rfl (by assumption) rfl rfl (by assumption) (fun _ => ?_)) | (refine CW.getr rfl rfl (by assumption) rfl rfl (by assumption) ?_)))
      by_cases z84 : oAct o.1 = 84
      · refine BW.br rfl rfl (by first | omega | decide | (constructor <;> first | omega | decide)) (fun w4 => by first | (exfalso; omega) | exact absurd w4 (by decide)) (fun w4 => ?_)
        cases hrpv : A.2.2.2.2.2.2.2 with
        | false =>
          rw [hrpv] at h14
          replace h14 : Fi S2 14 (K 1) 0 := h14
          (repeat (first | (refine BW.pl rfl rfl ?_) | (refine CW.geti rfl rfl (by assumption) rfl rfl (by assumption) (fun _ => ?_)) | (refine CW.getr rfl rfl (by assumption) rfl rfl (by assumption) ?_)))
          refine BW.br rfl rfl (by first | omega | decide | (constructor <;> first | omega | decide)) (fun w5 => by first | (exfalso; omega) | exact absurd w5 (by decide)) (fun w5 => ?_)
          have e9 : sOne1 os k o.1 A = .inr (k + 1, A) := by
            unfold sOne1
            rw [if_neg (by omega), if_neg (by omega), if_neg (by omega), if_neg (by rw [hrpv]; decide)]
          rw [e9]
          exact go
        | true =>
          rw [hrpv] at h14
          replace h14 : Fi S2 14 (K 1) 1 := h14
          (repeat (first | (refine BW.pl rfl rfl ?_) | (refine CW.geti rfl rfl (by assumption) rfl rfl (by assumption) (fun _ => ?_)) | (refine CW.getr rfl rfl (by assumption) rfl rfl (by assumption) ?_)))
          refine BW.br rfl rfl (by first | omega | decide | (constructor <;> first | omega | decide)) (fun w5 => ?_) (fun w5 => by first | (exfalso; omega) | exact absurd w5 (by decide))
          exact at57 S2 hL2 hX2 (fun _ => hrpv)
      · refine BW.br rfl rfl (by first | omega | decide | (constructor <;> first | omega | decide)) (fun w4 => ?_) (fun w4 => by first | (exfalso; omega) | exact absurd w4 (by decide))
        exact at57 S2 hL2 hX2 (fun z => absurd z z84)
  (repeat (refine BW.pl rfl rfl ?_))
  refine CW.e1 rfl rfl (by first | exact Or.inl rfl | exact Or.inr (tagO (by assumption) (by rfl) (by rfl))) (by first | exact Or.inl (by decide) | exact Or.inr ⟨_, rfl, by assumption⟩) rfl (L_hasWhere hO.1) ?_
  by_cases zw : oAll o.1 = true ∨ oFst o.1 ≠ none
  · rw [if_pos zw, if_pos zw]
    refine BW.br rfl rfl (by first | omega | decide | (constructor <;> first | omega | decide)) (fun w3 => by first | (exfalso; omega) | exact absurd w3 (by decide)) (fun w3 => ?_)
    (repeat (refine BW.pl rfl rfl ?_))
    refine CW.x2 rfl rfl (by first | exact Or.inl rfl | exact Or.inr (tagO (by assumption) (by rfl) (by rfl))) (by first | exact Or.inl (by decide) | exact Or.inr ⟨_, rfl, by assumption⟩) rfl rfl (L_findRange (d := d + 5) (V := fun _ => True) hL hK hO.1 had1 had2 ⟨hac.1, by omega⟩ hw.txk (by omega)) ?_ ?_
    · intro r S2 h2
      revert h2
      have hok := fun f l => sRange_ok (A := A) (od := o.1) (f := f) (l := l) hw.1.1
      revert hok
      cases sRange A o.1 with
      | inl w =>
        rintro hok ⟨S1, _, _, q9, e9, _⟩
        cases e9
      | inr fl =>
        obtain ⟨f, l⟩ := fl
        rintro hok ⟨e2, hL2, hX2, h16, h17⟩
        cases e2
        have hR := hok f l rfl
        have hle := hR.le
        have hf60 : f ≤ 41 := by rcases hR with ⟨_, z, _⟩ | ⟨z, _⟩ <;> omega
        have hp40 := hw.1.1
        have hx2 := hL2.1.obx
        have h5 : Fi S2 5 (K 1) (A.2.1 : Int) := hL2.1.f5
        (repeat (first | (refine BW.pl rfl rfl ?_) | (refine CW.geti rfl rfl (by assumption) rfl rfl (by assumption) (fun _ => ?_)) | (refine CW.getr rfl rfl (by assumption) rfl rfl (by assumption) ?_)))
        refine BW.i2l rfl (by constructor <;> omega) ?_
        (repeat (first | (refine BW.pl rfl rfl ?_) | (refine CW.geti rfl rfl (by assumption) rfl rfl (by assumption) (fun _ => ?_)) | (refine CW.getr rfl rfl (by assumption) rfl rfl (by assumption) ?_)))
        refine BW.i2l rfl (by constructor <;> omega) ?_
        (repeat (first | (refine BW.pl rfl rfl ?_) | (refine CW.geti rfl rfl (by assumption) rfl rfl (by assumption) (fun _ => ?_)) | (refine CW.getr rfl rfl (by assumption) rfl rfl (by assumption) ?_)))
        refine BW.i2l rfl (by constructor <;> omega) ?_
        refine CW.e3 rfl rfl (by first | exact Or.inl rfl | exact Or.inr (tagO (by assumption) (by rfl) (by rfl))) (by first | exact Or.inl (by decide) | exact Or.inr ⟨_, rfl, by assumption⟩) rfl (B_in (by constructor <;> omega) (by constructor <;> omega) (by constructor <;> omega)) ?_
        dsimp only
        by_cases zi : f ≤ A.2.1 ∧ A.2.1 ≤ l
        · rw [if_pos (by omega), if_pos zi]
          (iterate 1 (refine BW.pl rfl rfl ?_))
          exact at44 S2 true hL2 hX2
        · rw [if_neg (by omega), if_neg zi]
          (iterate 1 (refine BW.pl rfl rfl ?_))
          exact at44 S2 false hL2 hX2
    · intro E q9 S2 h2
      revert h2
      cases sRange A o.1 with
      | inl w =>
        rintro ⟨S1, hL1, hX1, h9⟩
        exact ⟨S1, la, A, hL1.1.le (by omega) (by omega), XG.of hX1, LaE.rf, Int.le_refl _, ⟨[], by simp⟩, h9⟩
      | inr fl =>
        rintro ⟨e2, _⟩
        cases e2
  · rw [if_neg zw, if_neg zw]
    refine BW.br rfl rfl (by first | omega | decide | (constructor <;> first | omega | decide)) (fun w3 => ?_) (fun w3 => by first | (exfalso; omega) | exact absurd w3 (by decide))
    exact at44 S true (hL.le (by omega) (by omega)) XF.rf
end ON
