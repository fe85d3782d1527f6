-- C
set_option maxRecDepth 100000
/-! LINEORDERS: met -/
section QM
variable {d n m q i a y cap c1 c2 cap' p p' B c k f e l u w yp pp it lr j first : Nat} {S S' S0 S1 S2 : BS} {K : Nat → Nat} {la : Int → Nat} {G : BG} {A : St} {F V : Nat → Prop} {v nn b1 x1 x2 x3 : Int} {dn rs t : List SLine} {x : SLine} {r : Option Nat} {Q : GO → BS → Prop} {od : SOrd0} {pt : SPat} {o : Obj} {zz : Prop}
/-- the bits of the met lines ahead of k -/
def BitsT (od : SOrd0) (t : List SLine) (f k w : Nat) : Prop := w < 2 ^ 64 ∧ ∀ j, w.testBit j = (decide (f ≤ j ∧ j < k) && mtB od t j)
theorem BitsT.set (h : BitsT od t f k w) (hf : f ≤ k) (hk : k < 64) (hm : mtB od t k = true) : BitsT od t f (k + 1) (w ||| 2 ^ k) := by
  refine ⟨Nat.or_lt_two_pow h.1 (Nat.pow_lt_pow_right (by decide) hk), fun j => ?_⟩
  rw [Nat.testBit_or, h.2 j, Nat.testBit_two_pow]
  by_cases z : k = j
  · subst z
    rw [decide_eq_true rfl, Bool.or_true, decide_eq_true (by omega : f ≤ k ∧ k < k + 1), hm]
    rfl
  · rw [decide_eq_false z, Bool.or_false]
    congr 1
    exact decide_eq_decide.mpr (by omega)
theorem BitsT.skip (h : BitsT od t f k w) (hm : mtB od t k = false) : BitsT od t f (k + 1) w := by
  refine ⟨h.1, fun j => ?_⟩
  rw [h.2 j]
  by_cases z : k = j
  · subst z
    rw [hm, Bool.and_false, Bool.and_false]
  · congr 1
    exact decide_eq_decide.mpr (by omega)
/-- the next bit from k on -/
theorem BitsT.next (h : BitsT od t f (l + 1) w) : ∀ (n k : Nat), k + n = l + 1 → (∀ j, k ≤ j → w.testBit j = false) ∨ ∃ t0 : Nat, k ≤ t0 ∧ t0 ≤ l ∧ w.testBit t0 = true ∧ ∀ j, k ≤ j → j < t0 → w.testBit j = false := by
  intro n
  induction n with
  | zero =>
    intro k hk
    refine Or.inl (fun j hj => ?_)
    rw [h.2 j, decide_eq_false (by omega), Bool.false_and]
  | succ n ih =>
    intro k hk
    by_cases z : w.testBit k = true
    · exact Or.inr ⟨k, Nat.le_refl _, by omega, z, fun j h1 h2 => by omega⟩
    · have z2 : w.testBit k = false := by cases hh : w.testBit k with | true => exact absurd hh z | false => rfl
      rcases ih (k + 1) (by omega) with g | ⟨t0, g1, g2, g3, g4⟩
      · refine Or.inl (fun j hj => ?_)
        by_cases e : j = k
        · rw [e]; exact z2
        · exact g j (by omega)
      · refine Or.inr ⟨t0, by omega, g2, g3, fun j h1 h2 => ?_⟩
        by_cases e : j = k
        · rw [e]; exact z2
        · exact g4 j (by omega) h2
theorem metT_len : (metT od t f k).length ≤ k - f := by
  unfold metT sMet idsOfL
  rw [List.length_map]
  exact Nat.le_trans (List.length_filter_le _ _) (by rw [List.length_take]; omega)
theorem L_met (hL : LO S K la A B) (hK : ∀ m, F m → KoM K m) (hO : Or0 S F zz m od) (hg : oAct od = 123 ∨ oAct od = 103 ∨ oAct od = 71) (hpk : oAct od = 103 ∨ oAct od = 71 → PatK (oPat od)) (hf : 1 ≤ f) (hfl : f ≤ l + 1) (hl : l ≤ A.1.length) (hT : TxK A) (hB : B + 1000 ≤ 20000000) (hv : v = f) (hw : nn = l) : BMr (d + 184) gk_X1_met [aR (K 1), aR m, aI v, aI nn] S (fun r S' => ∃ q cap, r = vR (some q) ∧ S.1 q = oNil ∧ Ob S' q (oAl (lsOf la (sMet od (seg A.1 f l))) cap) ∧ LO S' K la A (B + 1000) ∧ XF K V S S') := by
  subst hv hw
  obtain ⟨t, p, G⟩ := A
  have hl : l ≤ t.length := hl
  have h40 : t.length ≤ 40 := hT.2.1
  have hrow : ∀ q ∈ t, q.2.length ≤ 30 := hT.2.2.1
  obtain ⟨f0, hm, -, -, -, h48, ⟨q2, -, -, ⟨-, -, -, ⟨r52, h52, h52p⟩, -⟩⟩, -⟩ := hO
  have kq := hK _ f0
  have h48 : Fi S 48 m (oAct od) := h48
  have eM : metT od t f (l + 1) = sMet od (seg t f l) := rfl
  refine BM.of rfl rfl rfl ?_
  refine CW.newJ (L := 3) (c := 17) rfl rfl rfl (fun bs S1 hN => ?_)
  have hbr := hN.ob
  have hbk := hN.1
  have hbko := hL.1.ko hN.nil
  have hb0 : S.1 bs = oNil := hN.nil
  have hL1 := hL.fr hN.fr LoW.no (by omega)
  (repeat (refine BW.pl rfl rfl ?_))
  refine CW.c1 rfl rfl (by first | exact Or.inl rfl | exact Or.inr (tagO (by assumption) (by rfl) (by rfl))) (by first | exact Or.inl (by decide) | exact Or.inr ⟨_, rfl, by assumption⟩) rfl (C_bsNew hbr) ?_
  rintro r S2 ⟨rfl, hb2, hF2⟩
  have hL2 := hL1.fr hF2 (LoW.one hbko hbr (oNe rfl) rfl) (by omega)
  have hX2 : XF K V S S2 := (XF.rf.nw hN).f1 hF2 (fun z => absurd hb0 z)
  -- the list is made of the bits
  have fin : ∀ (S3 : BS) (w : Nat) (v5 v6 : Option GV), gn1 v5 = true → gn1 v6 = true → BitsT od t f (l + 1) w → Ob S3 bs (oBs w) → LO S3 K la (t, p, G) (B + 28) → XF K V S S3 → BW (d + 183) gm_X1_met 33 [some (aR (K 1)), some (aR m), some (aI f), some (aI l), some (aR bs), v5, v6] [] S3 (fun r S' => ∃ v, r = .inl v ∧ ∃ q cap, v = vR (some q) ∧ S.1 q = oNil ∧ Ob S' q (oAl (lsOf la (sMet od (seg t f l))) cap) ∧ LO S' K la (t, p, G) (B + 1000) ∧ XF K V S S') := by
    intro S3 w v5 v6 g5 g6 hW hb3 hL3 hX3
    refine CW.newJ (L := 3) (c := 16) rfl rfl rfl (fun al S4 hN4 => ?_)
    have har := hN4.ob
    have hak := hN4.1
    have hako := hL3.1.ko hN4.nil
    have ha0 : S.1 al = oNil := hX3.nil hN4.nil
    have hL4 := hL3.fr hN4.fr LoW.no (by omega)
    have hb4 := hb3.fr hN4.fr ⟨oNe rfl, Sep.no⟩
    (repeat (refine BW.pl rfl rfl ?_))
    refine CW.c1 rfl rfl (by first | exact Or.inl rfl | exact Or.inr (tagO (by assumption) (by rfl) (by rfl))) (by first | exact Or.inl (by decide) | exact Or.inr ⟨_, rfl, by assumption⟩) rfl (C_alNew har) ?_
    rintro r S5 ⟨rfl, ha5, hF5⟩
    have hL5 := hL4.fr hF5 (LoW.one hako har (oNe rfl) rfl) (by omega)
    have hX5 : XF K V S S5 := (hX3.nw hN4).f1 hF5 (fun z => absurd ha0 z)
    have hb5 := hb4.fr hF5 ⟨oNe rfl, hb4.ne har (oNe rfl)⟩
    refine BW.strV rfl rfl (by simp only [List.all_cons, List.all_nil, g5, g6]; rfl) ?_
    have hno : ∀ j, f ≤ j → j ≤ l → w.testBit j = false → mtB od t j = false := fun j h1 h2 h3 => by
      rw [hW.2 j, decide_eq_true (by omega : f ≤ j ∧ j < l + 1), Bool.true_and] at h3
      exact h3
    have hyes : ∀ j, w.testBit j = true → f ≤ j ∧ mtB od t j = true := fun j h3 => by
      rw [hW.2 j] at h3
      by_cases z : f ≤ j ∧ j < l + 1
      · rw [decide_eq_true z, Bool.true_and] at h3
        exact ⟨z.1, h3⟩
      · rw [decide_eq_false z, Bool.false_and] at h3
        cases h3
    have loop : ∀ (N k : Nat) (S6 : BS) (cp : Nat) (r0 : Int), l + 1 - k ≤ N → k ≤ l + 1 → ((r0 = -1 ∧ ∀ j, k ≤ j → w.testBit j = false) ∨ ∃ t0 : Nat, r0 = t0 ∧ k ≤ t0 ∧ t0 ≤ l ∧ w.testBit t0 = true ∧ ∀ j, k ≤ j → j < t0 → w.testBit j = false) → Ob S6 al (oAl (lsOf la (metT od t f k)) cp) → Ob S6 bs (oBs w) → LO S6 K la (t, p, G) (B + 43 + (metT od t f k).length + 6 * cp) → XF K V S S6 → (cp ≤ 2 * (metT od t f k).length + 10) → BW (d + 183) gm_X1_met 41 [some (aR (K 1)), some (aR m), some (aI f), some (aI l), some (aR bs), some (aR al), some (aI r0)] [] S6 (fun r S' => ∃ v, r = .inl v ∧ ∃ q cap, v = vR (some q) ∧ S.1 q = oNil ∧ Ob S' q (oAl (lsOf la (sMet od (seg t f l))) cap) ∧ LO S' K la (t, p, G) (B + 1000) ∧ XF K V S S') := by
      intro N
      induction N with
      | zero =>
        intro k S6 cp r0 hN9 hk hr ha6 hb6 hL6 hX6 hcp
        have hke : k = l + 1 := by omega
        have hml := metT_len (od := od) (t := t) (f := f) (k := k)
        rcases hr with ⟨rfl, hr⟩ | ⟨t0, rfl, h1, h2, _⟩
        · rw [hke, eM] at ha6
          (repeat (refine BW.pl rfl rfl ?_))
          refine BW.br rfl rfl (by first | omega | decide | (constructor <;> first | omega | decide)) (fun w1 => ?_) (fun w1 => by first | (exfalso; omega) | exact absurd w1 (by decide))
          (repeat (refine BW.pl rfl rfl ?_))
          exact BW.aret rfl rfl ⟨_, rfl, al, cp, rfl, ha0, ha6, hL6.le (by omega) (by omega), hX6⟩
        · omega
      | succ N ih =>
        intro k S6 cp r0 hN9 hk hr ha6 hb6 hL6 hX6 hcp
        have hml := metT_len (od := od) (t := t) (f := f) (k := k)
        rcases hr with ⟨rfl, hr⟩ | ⟨t0, rfl, h1, h2, h3, h4⟩
        · have em := metT_no (od := od) (t := t) hf (l + 1 - k) k (by omega) (fun j j1 j2 j3 => hno j j3 (by omega) (hr j j1))
          rw [show k + (l + 1 - k) = l + 1 by omega, eM] at em
          rw [← em] at ha6
          (repeat (refine BW.pl rfl rfl ?_))
          refine BW.br rfl rfl (by first | omega | decide | (constructor <;> first | omega | decide)) (fun w1 => ?_) (fun w1 => by first | (exfalso; omega) | exact absurd w1 (by decide))
          (repeat (refine BW.pl rfl rfl ?_))
          exact BW.aret rfl rfl ⟨_, rfl, al, cp, rfl, ha0, ha6, hL6.le (by omega) (by omega), hX6⟩
        · obtain ⟨hft, hmt⟩ := hyes t0 h3
          have em := metT_no (od := od) (t := t) hf (t0 - k) k (by omega) (fun j j1 j2 j3 => hno j j3 (by omega) (h4 j j1 (by omega)))
          rw [show k + (t0 - k) = t0 by omega] at em
          have es := metT_s (od := od) (t := t) (k := t0) hf hft (by omega)
          rw [if_pos hmt] at es
          have hx6 := hL6.1.obx
          have hin : t.getD (t0 - 1) (0, []) ∈ t := getD_mem (by omega)
          have hxo := (hL6.2 _ hin).2.1
          have hxo : Ob S6 (la (idAt t (t0 - 1))) (oOwn 6) := hxo
          have htt := hL6.1.tt
          have hll : (lsOf la (metT od t f k)).length = (metT od t f k).length := by rw [lsOf_len]
          (repeat (refine BW.pl rfl rfl ?_))
          refine BW.br rfl rfl (by first | omega | decide | (constructor <;> first | omega | decide)) (fun w1 => by first | (exfalso; omega) | exact absurd w1 (by decide)) (fun w1 => ?_)
          (repeat (refine BW.pl rfl rfl ?_))
          refine CW.e2 rfl rfl (by first | exact Or.inl rfl | exact Or.inr (tagO (by assumption) (by rfl) (by rfl))) (by first | exact Or.inl (by decide) | exact Or.inr ⟨_, rfl, by assumption⟩) rfl (L_lineAt (k := t0 - 1) (x := idAt t (t0 - 1)) hL6.1 (by show t0 - 1 < (idsOfL t).length; rw [ids_len]; omega) ids_get (by show (idsOfL t).length < 100000; rw [ids_len]; omega) (by omega)) ?_
          refine CW.c2 rfl rfl (by first | exact Or.inl rfl | exact Or.inr (tagO (by assumption) (by rfl) (by rfl))) (by first | exact Or.inl (by decide) | exact Or.inr ⟨_, rfl, by assumption⟩) rfl (C_alAdd ha6 (vOk_o hxo rfl) (by omega) (by omega)) ?_
          rintro r S7 ⟨rfl, cp7, ha7, hF7, k1, k2⟩
          have e7 : lsOf la (metT od t f k) ++ [some (la (idAt t (t0 - 1)))] = lsOf la (metT od t f (t0 + 1)) := by
            rw [es, em, lsOf_app]; rfl
          rw [e7] at ha7
          have hl7 : (metT od t f (t0 + 1)).length = (metT od t f k).length + 1 := by rw [es, em, List.length_append]; rfl
          have hL7 := hL6.fr hF7 (LoW.one hako ha6 (oNe rfl) rfl) (by omega)
          have hX7 : XF K V S S7 := hX6.f1 hF7 (fun z => absurd ha0 z)
          have hb7 := hb6.fr hF7 ⟨oNe rfl, hb6.ne ha6 (oNe rfl)⟩
          (repeat (refine BW.pl rfl rfl ?_))
          have e8 : ((t0 : Nat) : Int) + 1 = ((t0 + 1 : Nat) : Int) := by omega
          rw [e8]
          have hL7' : LO S7 K la (t, p, G) (B + 43 + (metT od t f (t0 + 1)).length + 6 * cp7) := hL7.le (by omega) (by omega)
          rcases hW.next (l + 1 - (t0 + 1)) (t0 + 1) (by omega) with g | ⟨t1, g1, g2, g3, g4⟩
          · refine CW.e2 rfl rfl (by first | exact Or.inl rfl | exact Or.inr (tagO (by assumption) (by rfl) (by rfl))) (by first | exact Or.inl (by decide) | exact Or.inr ⟨_, rfl, by assumption⟩) rfl (B_bsNext (k := t0 + 1) (r := -1) hb7 hW.1 (by omega) (Or.inl ⟨rfl, g⟩)) ?_
            (iterate 2 (refine BW.pl rfl rfl ?_))
            exact ih (t0 + 1) S7 cp7 _ (by omega) (by omega) (Or.inl ⟨rfl, g⟩) ha7 hb7 hL7' hX7 (by omega)
          · refine CW.e2 rfl rfl (by first | exact Or.inl rfl | exact Or.inr (tagO (by assumption) (by rfl) (by rfl))) (by first | exact Or.inl (by decide) | exact Or.inr ⟨_, rfl, by assumption⟩) rfl (B_bsNext (k := t0 + 1) (r := t1) hb7 hW.1 (by omega) (Or.inr ⟨t1, rfl, g1, by omega, g3, g4⟩)) ?_
            (iterate 2 (refine BW.pl rfl rfl ?_))
            exact ih (t0 + 1) S7 cp7 _ (by omega) (by omega) (Or.inr ⟨t1, rfl, g1, g2, g3, g4⟩) ha7 hb7 hL7' hX7 (by omega)
    have h00 : metT od t f 0 = [] := metT_0 (Nat.zero_le _)
    have hL5' : LO S5 K la (t, p, G) (B + 43 + (metT od t f 0).length + 6 * 0) := by rw [h00]; exact hL5.le (by show B + 28 + (12 + 3) + 0 ≤ B + 43 + 0 + 6 * 0; omega) (by show B + 43 + 0 + 6 * 0 ≤ _; omega)
    have ha5' : Ob S5 al (oAl (lsOf la (metT od t f 0)) 0) := by rw [h00]; exact ha5
    (repeat (refine BW.pl rfl rfl ?_))
    rcases hW.next (l + 1) 0 (by omega) with g | ⟨t1, g1, g2, g3, g4⟩
    · refine CW.e2 rfl rfl (by first | exact Or.inl rfl | exact Or.inr (tagO (by assumption) (by rfl) (by rfl))) (by first | exact Or.inl (by decide) | exact Or.inr ⟨_, rfl, by assumption⟩) rfl (B_bsNext (k := 0) (r := -1) hb5 hW.1 (by decide) (Or.inl ⟨rfl, g⟩)) ?_
      refine BW.stiV rfl rfl (by simp only [List.set, List.all_cons, List.all_nil, g6]; rfl) ?_
      exact loop (l + 1) 0 S5 0 _ (by omega) (Nat.zero_le _) (Or.inl ⟨rfl, g⟩) ha5' hb5 hL5' hX5 (Nat.zero_le _)
    · refine CW.e2 rfl rfl (by first | exact Or.inl rfl | exact Or.inr (tagO (by assumption) (by rfl) (by rfl))) (by first | exact Or.inl (by decide) | exact Or.inr ⟨_, rfl, by assumption⟩) rfl (B_bsNext (k := 0) (r := t1) hb5 hW.1 (by decide) (Or.inr ⟨t1, rfl, g1, by omega, g3, g4⟩)) ?_
      refine BW.stiV rfl rfl (by simp only [List.set, List.all_cons, List.all_nil, g6]; rfl) ?_
      exact loop (l + 1) 0 S5 0 _ (by omega) (Nat.zero_le _) (Or.inr ⟨t1, rfl, g1, g2, g3, g4⟩) ha5' hb5 hL5' hX5 (Nat.zero_le _)
  have scan : ∀ (N k : Nat) (S3 : BS) (w : Nat), k + N = l + 1 → f ≤ k → BitsT od t f k w → Ob S3 bs (oBs w) → LO S3 K la (t, p, G) (B + 28) → XF K V S S3 → BW (d + 183) gm_X1_met 6 [some (aR (K 1)), some (aR m), some (aI f), some (aI l), some (aR bs), some (aI k), none] [] S3 (fun r S' => ∃ v, r = .inl v ∧ ∃ q cap, v = vR (some q) ∧ S.1 q = oNil ∧ Ob S' q (oAl (lsOf la (sMet od (seg t f l))) cap) ∧ LO S' K la (t, p, G) (B + 1000) ∧ XF K V S S') := by
    intro N
    induction N with
    | zero =>
      intro k S3 w hk hfk hW hb3 hL3 hX3
      obtain rfl : k = l + 1 := by omega
      (repeat (refine BW.pl rfl rfl ?_))
      refine BW.br rfl rfl (by first | omega | decide | (constructor <;> first | omega | decide)) (fun w1 => ?_) (fun w1 => by first | (exfalso; omega) | exact absurd w1 (by decide))
      exact fin S3 w _ _ rfl rfl hW hb3 hL3 hX3
    | succ N ih =>
      intro k S3 w hk hfk hW hb3 hL3 hX3
      have hm3 := (hX3.ob hm kq (oNe rfl) rfl).1
      have h483 : Fi S3 48 m (oAct od) := hX3.fi hm kq (oNe rfl) rfl h48 (by decide)
      have h523 := hX3.fe hm kq (oNe rfl) rfl h52 (by decide)
      have hx3 := hL3.1.obx
      have at31 : ∀ (S4 : BS) (w4 : Nat), BitsT od t f (k + 1) w4 → Ob S4 bs (oBs w4) → LO S4 K la (t, p, G) (B + 28) → XF K V S S4 → BW (d + 183) gm_X1_met 31 [some (aR (K 1)), some (aR m), some (aI f), some (aI l), some (aR bs), some (aI k), none] [] S4 (fun r S' => ∃ v, r = .inl v ∧ ∃ q cap, v = vR (some q) ∧ S.1 q = oNil ∧ Ob S' q (oAl (lsOf la (sMet od (seg t f l))) cap) ∧ LO S' K la (t, p, G) (B + 1000) ∧ XF K V S S') := by
        intro S4 w4 hW4 hb4 hL4 hX4
        (iterate 2 (refine BW.pl rfl rfl ?_))
        exact ih (k + 1) S4 w4 (by omega) (by omega) hW4 hb4 hL4 hX4
      have at28 : ∀ (S4 : BS), mtB od t k = true → Ob S4 bs (oBs w) → LO S4 K la (t, p, G) (B + 28) → XF K V S S4 → BW (d + 183) gm_X1_met 28 [some (aR (K 1)), some (aR m), some (aI f), some (aI l), some (aR bs), some (aI k), none] [] S4 (fun r S' => ∃ v, r = .inl v ∧ ∃ q cap, v = vR (some q) ∧ S.1 q = oNil ∧ Ob S' q (oAl (lsOf la (sMet od (seg t f l))) cap) ∧ LO S' K la (t, p, G) (B + 1000) ∧ XF K V S S') := by
        intro S4 hmt hb4 hL4 hX4
        (repeat (refine BW.pl rfl rfl ?_))
        refine CW.c2 rfl rfl (by first | exact Or.inl rfl | exact Or.inr (tagO (by assumption) (by rfl) (by rfl))) (by first | exact Or.inl (by decide) | exact Or.inr ⟨_, rfl, by assumption⟩) rfl (C_bsSet (k := k) hb4 hW.1 (by omega) rfl) ?_
        rintro r S5 ⟨rfl, hb5, hF5⟩
        exact at31 S5 _ (hW.set hfk (by omega) hmt) hb5 (hL4.fr hF5 (LoW.one hbko hb4 (oNe rfl) rfl) (by omega)) (hX4.f1 hF5 (fun z => absurd hb0 z))
      (repeat (refine BW.pl rfl rfl ?_))
      refine BW.br rfl rfl (by first | omega | decide | (constructor <;> first | omega | decide)) (fun w1 => by first | (exfalso; omega) | exact absurd w1 (by decide)) (fun w1 => ?_)
      (repeat (first | (refine BW.pl rfl rfl ?_) | (refine CW.geti rfl rfl (by assumption) rfl rfl (by assumption) (fun _ => ?_)) | (refine CW.getr rfl rfl (by assumption) rfl rfl (by assumption) ?_)))
      by_cases z : oAct od = 123
      · refine BW.br rfl rfl (by first | omega | decide | (constructor <;> first | omega | decide)) (fun w2 => ?_) (fun w2 => by first | (exfalso; omega) | exact absurd w2 (by decide))
        exact at28 S3 (by unfold mtB; rw [decide_eq_true z]; rfl) hb3 hL3 hX3
      · refine BW.br rfl rfl (by first | omega | decide | (constructor <;> first | omega | decide)) (fun w2 => by first | (exfalso; omega) | exact absurd w2 (by decide)) (fun w2 => ?_)
        have hg2 : oAct od = 103 ∨ oAct od = 71 := hg.elim (fun y => absurd y z) id
        obtain ⟨pp, rfl, hP⟩ := h52p (hg2.elim (fun y => Or.inr (Or.inl y)) (fun y => Or.inr (Or.inr y)))
        have hP3 : PatIs S3 F pp (oPat od) := PatIs.xf hP hX3 hK
        have hpo : Ob S3 pp (oOwn 9) := by obtain ⟨q, cap, xs, u, w, us, ws, _, h, _⟩ := hP3; exact h
        have hin : t.getD (k - 1) (0, []) ∈ t := getD_mem (by omega)
        obtain ⟨_, hxo, xr, x44, ⟨y2, rfl, hy2⟩, _⟩ := hL3.2 _ hin
        have hxo : Ob S3 (la (idAt t (k - 1))) (oOwn 6) := hxo
        have x44 : Fe S3 44 (la (idAt t (k - 1))) (some y2) := x44
        have hy2 : Ob S3 y2 (oStr (rowAt t (k - 1))) := hy2
        have h30 : (rowAt t (k - 1)).length ≤ 30 := hrow _ hin
        (repeat (first | (refine BW.pl rfl rfl ?_) | (refine CW.geti rfl rfl (by assumption) rfl rfl (by assumption) (fun _ => ?_)) | (refine CW.getr rfl rfl (by assumption) rfl rfl (by assumption) ?_)))
        refine CW.e2 rfl rfl (by first | exact Or.inl rfl | exact Or.inr (tagO (by assumption) (by rfl) (by rfl))) (by first | exact Or.inl (by decide) | exact Or.inr ⟨_, rfl, by assumption⟩) rfl (L_lineAt (k := k - 1) (x := idAt t (k - 1)) hL3.1 (by show k - 1 < (idsOfL t).length; rw [ids_len]; omega) ids_get (by show (idsOfL t).length < 100000; rw [ids_len]; omega) (by omega)) ?_
        (repeat (first | (refine BW.pl rfl rfl ?_) | (refine CW.geti rfl rfl (by assumption) rfl rfl (by assumption) (fun _ => ?_)) | (refine CW.getr rfl rfl (by assumption) rfl rfl (by assumption) ?_)))
        refine CW.c2 rfl rfl (by first | exact Or.inl rfl | exact Or.inr (tagO (by assumption) (by rfl) (by rfl))) (by first | exact Or.inl (by decide) | exact Or.inr ⟨_, rfl, by assumption⟩) rfl (P_isIn hP3 (hpk hg2) hy2 (by omega)) ?_
        rintro r S4 ⟨⟨hS, hR⟩, hP4, rfl⟩
        obtain ⟨hL4, hX34⟩ := LO.fnd (V := V) hL3 hK hS hR
        have hX4 := hX3.tr hX34
        have hb4 : Ob S4 bs (oBs w) := hb3.fr hR ⟨oNe rfl, fun y => by
          rcases y.2 with y | y
          · rw [show S3.1 bs = _ from hb3] at y; exact absurd (show (8 : Nat) = 9 from y) (by decide)
          · rw [show S3.1 bs = _ from hb3] at y; exact absurd y (oNe rfl)⟩
        have hm4 := (hX4.ob hm kq (oNe rfl) rfl).1
        have h484 : Fi S4 48 m (oAct od) := hX4.fi hm kq (oNe rfl) rfl h48 (by decide)
        have emt : mtB od t k = ((mFind (oPat od) (rowAt t (k - 1)) 0).isSome == decide (oAct od = 103)) := by unfold mtB; rw [decide_eq_false z, Bool.false_or]
        generalize (mFind (oPat od) (rowAt t (k - 1)) 0).isSome = fd at emt ⊢
        (repeat (first | (refine BW.pl rfl rfl ?_) | (refine CW.geti rfl rfl (by assumption) rfl rfl (by assumption) (fun _ => ?_)) | (refine CW.getr rfl rfl (by assumption) rfl rfl (by assumption) ?_)))
        by_cases z3 : oAct od = 103
        · rw [decide_eq_true z3] at emt
          refine BW.br rfl rfl (by first | omega | decide | (constructor <;> first | omega | decide)) (fun w3 => by first | (exfalso; omega) | exact absurd w3 (by decide)) (fun w3 => ?_)
          (iterate 2 (refine BW.pl rfl rfl ?_))
          cases fd with
          | true =>
            rw [if_pos rfl]
            refine BW.br rfl rfl (by first | omega | decide | (constructor <;> first | omega | decide)) (fun w4 => by first | (exfalso; omega) | exact absurd w4 (by decide)) (fun w4 => ?_)
            exact at28 S4 emt hb4 hL4 hX4
          | false =>
            rw [if_neg (by decide)]
            refine BW.br rfl rfl (by first | omega | decide | (constructor <;> first | omega | decide)) (fun w4 => ?_) (fun w4 => by first | (exfalso; omega) | exact absurd w4 (by decide))
            exact at31 S4 w (hW.skip emt) hb4 hL4 hX4
        · rw [decide_eq_false z3] at emt
          refine BW.br rfl rfl (by first | omega | decide | (constructor <;> first | omega | decide)) (fun w3 => ?_) (fun w3 => by first | (exfalso; omega) | exact absurd w3 (by decide))
          (iterate 1 (refine BW.pl rfl rfl ?_))
          cases fd with
          | true =>
            rw [if_pos rfl]
            refine BW.br rfl rfl (by first | omega | decide | (constructor <;> first | omega | decide)) (fun w4 => ?_) (fun w4 => by first | (exfalso; omega) | exact absurd w4 (by decide))
            exact at31 S4 w (hW.skip emt) hb4 hL4 hX4
          | false =>
            rw [if_neg (by decide)]
            refine BW.br rfl rfl (by first | omega | decide | (constructor <;> first | omega | decide)) (fun w4 => by first | (exfalso; omega) | exact absurd w4 (by decide)) (fun w4 => ?_)
            exact at28 S4 emt hb4 hL4 hX4
  (iterate 3 (refine BW.pl rfl rfl ?_))
  refine scan (l + 1 - f) f S2 0 (by omega) (Nat.le_refl _) ⟨by decide, fun j => ?_⟩ hb2 (hL2.le (by omega) (by omega)) hX2
  rw [Nat.zero_testBit, decide_eq_false (by omega), Bool.false_and]
end QM
