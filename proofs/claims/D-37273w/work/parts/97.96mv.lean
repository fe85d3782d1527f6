-- C
set_option maxRecDepth 100000
/-! LINEORDERS: moveLines -/
section MV
variable {d n m q i a y cap p B c k f e l b it lr to' : Nat} {S S' S0 S1 S2 : BS} {K : Nat → Nat} {la la' la2 : Int → Nat} {P R : List Int} {G : BG} {A : St} {V W : Nat → Prop} {s s2 z : List Int} {v w nn u : Int} {dn rs post t : List SLine} {mk mk' : Nat → Option Int} {xs ys : List (Option Nat)} {rows : List (List Int)} {o : Obj} {x x2 : SLine} {r : Option Nat} {Q : GO → BS → Prop} {od : SOrd0}
theorem W6.lc (h : LC S0 S K la p G B it lr dn rs V) : W6 S (fun k => k = K 3 ∨ k = it) := by
  obtain ⟨_, ⟨mc, h2, h3⟩, _⟩ := h
  exact W6.two (W6.one h2 (oNe rfl) rfl) (W6.one h3 (oNe rfl) rfl)
theorem LC.sep3 (h : LC S0 S K la p G B it lr dn rs V) (hm : Ob S m o) (h4 : (o.1 == 4) = false) (h5 : (o.1 == 5) = false) : Sep S (fun k => k = K 3 ∨ k = it) m := by
  obtain ⟨_, ⟨mc, h2, h3⟩, _⟩ := h
  refine fun z => z.elim (hm.ne h2 (fun w => ?_)) (hm.ne h3 (fun w => ?_))
  · rw [w] at h4; cases h4
  · rw [w] at h5; cases h5
theorem L_moveLines (hL : LO S K la A B) (hf : 1 ≤ f) (hfl : f ≤ l) (hl : l ≤ A.1.length) (h40 : A.1.length ≤ 40) (hto : to' ≤ A.1.length) (hB : B + 60000 ≤ 20000000) (hv : v = f) (hw : w = l) (hu : u = to') : BM (d + 8) gk_X1_moveLines [aR (K 1), aI v, aI w, aI u] S (ActX S K la A B 1600 1600 V (sMove A f l to')) := by
  subst hv hw hu
  obtain ⟨t, p, G⟩ := A
  have hLB : LB S K la (idsOfL t) p G B := hL.1
  have hl : l ≤ t.length := hl
  have h40 : t.length ≤ 40 := h40
  have hto : to' ≤ t.length := hto
  have hsl := seg_len (t := t) hl hf
  have es := seg_split hf (by omega) hl
  have hlp : (t.take (f - 1)).length = f - 1 := by rw [List.length_take]; omega
  have hld : (t.drop l).length = t.length - l := List.length_drop
  refine BM.of rfl rfl rfl ?_
  obtain ⟨k0, hk0⟩ : ∃ k0, k0 = if to' < f then to' else to' - (l + 1 - f) := ⟨_, rfl⟩
  have eS : sMove (t, p, G) f l to' = if f ≤ to' ∧ to' < l then .inl 1 else .inr ((t.take (f - 1) ++ t.drop l).take k0 ++ seg t f l ++ (t.take (f - 1) ++ t.drop l).drop k0, k0 + (l + 1 - f), G) := by rw [hk0]; rfl
  have at9 : ∀ b : Int, (b = 0 ∧ (f ≤ to' ∧ to' < l)) ∨ (b = 1 ∧ ¬ (f ≤ to' ∧ to' < l)) → BW (d + 7) gm_X1_moveLines 9 [some (aR (K 1)), some (aI f), some (aI l), some (aI to'), none, none, none] [aI b] S (ActX S K la (t, p, G) B 1600 1600 V (sMove (t, p, G) f l to')) := by
    rintro b (⟨rfl, z⟩ | ⟨rfl, z⟩)
    · rw [if_pos z] at eS
      (repeat (refine BW.pl rfl rfl ?_))
      refine CW.need rfl rfl (by decide) rfl (Or.inl rfl) (by decide) rfl (fun w => absurd w (by decide)) (fun _ r9 S9 hT9 => ?_)
      rw [eS]
      exact ⟨S, la, (t, p, G), hLB.le (by omega) (by omega), XF.rf, LaE.rf, Int.le_refl _, ⟨[], by simp⟩, hT9⟩
    · rw [if_neg z] at eS
      (repeat (refine BW.pl rfl rfl ?_))
      refine CW.need rfl rfl (by decide) rfl (Or.inr rfl) (by decide) rfl (fun _ => ?_) (fun w => absurd w (by decide))
      refine CW.newJ (L := 3) (c := 16) rfl rfl rfl (fun q S1 hN => ?_)
      have hq := hN.ob
      have hqk := hN.1
      have hqo := hLB.ko hN.nil
      have hL1 := hL.fr hN.fr LoW.no (by omega)
      (repeat (refine BW.pl rfl rfl ?_))
      refine CW.c1 rfl rfl (by first | exact Or.inl rfl | exact Or.inr (tagO (by assumption) (by rfl) (by rfl))) (by first | exact Or.inl (by decide) | exact Or.inr ⟨_, rfl, by assumption⟩) rfl (C_alNew hq) ?_
      rintro r S2 ⟨rfl, hq2, hF2⟩
      have hL2 := hL1.fr hF2 (LoW.one hqo hq (oNe rfl) rfl) (by omega)
      have hX2 : XF K V S S2 := (XF.rf.nw hN).f1 hF2 (fun z => absurd hN.nil z)
      have hx2 := hL2.1.obx
      have e32 := hL2.1.e3
      obtain ⟨mc2, hT2⟩ := hL2.1.text
      (repeat (first | (refine BW.pl rfl rfl ?_) | (refine CW.geti rfl rfl (by assumption) rfl rfl (by assumption) (fun _ => ?_)) | (refine CW.getr rfl rfl (by assumption) rfl rfl (by assumption) ?_)))
      have eb : (f : Int) - 1 = ((f - 1 : Nat) : Int) := by omega
      rw [eb]
      refine CW.c2 rfl rfl (by first | exact Or.inl rfl | exact Or.inr (tagO (by assumption) (by rfl) (by rfl))) (by first | exact Or.inl (by decide) | exact Or.inr ⟨_, rfl, by assumption⟩) rfl (L_cur (V := V) hL2 (k := f - 1) (by omega) (by omega) (by omega) rfl hT2) ?_
      rintro r S3 ⟨it, rfl, hitk, hC3, hF3⟩
      have hC3 := hC3.base hX2
      have hq3 := hq2.fr hF3 ⟨oNe rfl, Sep.no⟩
      -- the lines come back
      have back : ∀ (S4 : BS) (B4 cp : Nat) (v6 : Option GV), gn1 v6 = true → LO S4 K la (t.take (f - 1) ++ t.drop l, p, G) B4 → XF K V S S4 → Ob S4 q (oAl (lnsOf la (seg t f l)) cp) → RowsI S4 la G.2.2.2.2.1 (seg t f l) → B4 ≤ B + 760 → BW (d + 7) gm_X1_moveLines 37 [some (aR (K 1)), some (aI f), some (aI l), some (aI to'), some (aR q), some (aR it), v6] [] S4 (ActX S K la (t, p, G) B 1600 1600 V (sMove (t, p, G) f l to')) := by
        intro S4 B4 cp v6 g6 hL4 hX4 hq4 hR4 hB4
        have hx4 := hL4.1.obx
        have e34 := hL4.1.e3
        obtain ⟨mc4, hT4⟩ := hL4.1.text
        have hlt : (t.take (f - 1) ++ t.drop l).length = t.length - (l + 1 - f) := by rw [List.length_append, hlp, hld]; omega
        have hk0l : k0 ≤ (t.take (f - 1) ++ t.drop l).length := by rw [hlt, hk0]; split <;> omega
        have at48 : BW (d + 7) gm_X1_moveLines 48 [some (aR (K 1)), some (aI f), some (aI l), some (aI to'), some (aR q), some (aR it), v6] [aI k0, aR (K 3)] S4 (ActX S K la (t, p, G) B 1600 1600 V (sMove (t, p, G) f l to')) := by
          refine CW.c2 rfl rfl (by first | exact Or.inl rfl | exact Or.inr (tagO (by assumption) (by rfl) (by rfl))) (by first | exact Or.inl (by decide) | exact Or.inr ⟨_, rfl, by assumption⟩) rfl (L_cur (V := V) hL4 (k := k0) hk0l (by omega) (by omega) rfl hT4) ?_
          rintro r S5 ⟨it2, rfl, hit2k, hC5, hF5⟩
          have hC5 := hC5.base hX4
          have hq5 := hq4.fr hF5 ⟨oNe rfl, Sep.no⟩
          have hR5 := hR4.fr hF5 (LoW.no (K := K))
          refine BW.strV rfl rfl (by simp only [List.all_cons, List.all_nil, g6]; rfl) ?_
          (iterate 1 (refine BW.pl rfl rfl ?_))
          refine BW.stiV rfl rfl (by simp only [List.set, List.all_cons, List.all_nil, g6]; rfl) ?_
          have loop : ∀ (ms mv : List SLine) (S6 : BS) (B6 lr : Nat), mv ++ ms = seg t f l → LC S S6 K la p G B6 it2 lr ((t.take (f - 1) ++ t.drop l).take k0 ++ mv) ((t.take (f - 1) ++ t.drop l).drop k0) V → Ob S6 q (oAl (lnsOf la (seg t f l)) cp) → RowsI S6 la G.2.2.2.2.1 (seg t f l) → B6 + 16 * ms.length ≤ B + 1500 → BW (d + 7) gm_X1_moveLines 52 [some (aR (K 1)), some (aI f), some (aI l), some (aI to'), some (aR q), some (aR it2), some (aI mv.length)] [] S6 (ActX S K la (t, p, G) B 1600 1600 V (sMove (t, p, G) f l to')) := by
            intro ms
            induction ms with
            | nil =>
              intro mv S6 B6 lr hmv hC6 hq6 hR6 hB6
              rw [List.append_nil] at hmv
              subst hmv
              have hx6 := hC6.lb.obx
              obtain ⟨mc, hT6, hit6⟩ := hC6.2.1
              have hB6 : B6 ≤ B + 1500 := by simpa using hB6
              have hdl : ((t.take (f - 1) ++ t.drop l).take k0 ++ seg t f l).length = k0 + (l + 1 - f) := by rw [List.length_append, List.length_take, hsl, Nat.min_eq_left hk0l]
              (repeat (refine BW.pl rfl rfl ?_))
              refine CW.e1 rfl rfl (by first | exact Or.inl rfl | exact Or.inr (tagO (by assumption) (by rfl) (by rfl))) (by first | exact Or.inl (by decide) | exact Or.inr ⟨_, rfl, by assumption⟩) rfl (B_alSize hq6) ?_
              rw [lnsOf_len]
              refine BW.br rfl rfl (by first | omega | decide | (constructor <;> first | omega | decide)) (fun w => ?_) (fun w => by first | (exfalso; omega) | exact absurd w (by decide))
              (repeat (refine BW.pl rfl rfl ?_))
              refine CW.e1 rfl rfl (by first | exact Or.inl rfl | exact Or.inr (tagO (by assumption) (by rfl) (by rfl))) (by first | exact Or.inl (by decide) | exact Or.inr ⟨_, rfl, by assumption⟩) rfl (hC6.idx) ?_
              rw [hdl]
              first | (refine CW.putr rfl rfl (by assumption) rfl (by decide) (fun S7 hP7 h5 => ?_)) | (refine CW.puti rfl (by assumption) rfl (by decide) (by first | exact Or.inl ⟨rfl, by first | omega | decide | (constructor <;> first | omega | decide)⟩ | exact Or.inr (Or.inl ⟨rfl, by first | omega | decide | (constructor <;> first | omega | decide)⟩) | exact Or.inr (Or.inr (Or.inl ⟨rfl, by first | omega | decide | (constructor <;> first | omega | decide)⟩)) | exact Or.inr (Or.inr (Or.inr ⟨rfl, by first | omega | decide | (constructor <;> first | omega | decide)⟩))) (fun S7 hP7 h5 => ?_))
              have hC7 := hC6.pres hP7 h5 rfl
              refine BW.ret rfl rfl ?_
              rw [eS]
              exact ⟨rfl, la, hC7.1.le (by omega) (by omega), hC7.2.2.2.2.1, LaE.rf⟩
            | cons x ms ih =>
              intro mv S6 B6 lr hmv hC6 hq6 hR6 hB6
              obtain ⟨mc, hT6, hit6⟩ := hC6.2.1
              have hml : mv.length + (ms.length + 1) = l + 1 - f := by rw [← hsl, ← hmv]; simp
              have hB62 : B6 + 16 * (ms.length + 1) ≤ B + 1500 := by rw [List.length_cons] at hB6; exact hB6
              have hxin : x ∈ seg t f l := by rw [← hmv]; simp
              have hx6 := hR6 x hxin
              have hg : (lnsOf la (seg t f l)).getD mv.length none = some (la x.1) := by
                rw [← hmv, lnsOf_app]
                exact getD_mid lnsOf_len
              have hlC := hC6.2.2.2.2.2
              (repeat (refine BW.pl rfl rfl ?_))
              refine CW.e1 rfl rfl (by first | exact Or.inl rfl | exact Or.inr (tagO (by assumption) (by rfl) (by rfl))) (by first | exact Or.inl (by decide) | exact Or.inr ⟨_, rfl, by assumption⟩) rfl (B_alSize hq6) ?_
              rw [lnsOf_len, hsl]
              refine BW.br rfl rfl (by first | omega | decide | (constructor <;> first | omega | decide)) (fun w => by first | (exfalso; omega) | exact absurd w (by decide)) (fun w => ?_)
              (repeat (refine BW.pl rfl rfl ?_))
              refine CW.e2 rfl rfl (by first | exact Or.inl rfl | exact Or.inr (tagO (by assumption) (by rfl) (by rfl))) (by first | exact Or.inl (by decide) | exact Or.inr ⟨_, rfl, by assumption⟩) rfl (C_alGet hq6 (k := mv.length) (by rw [lnsOf_len, hsl]; omega) hg rfl) ?_
              refine CW.castS rfl hx6.2.1 rfl rfl rfl ?_
              refine CW.c2 rfl rfl (by first | exact Or.inl rfl | exact Or.inr (tagO (by assumption) (by rfl) (by rfl))) (by first | exact Or.inl (by decide) | exact Or.inr ⟨_, rfl, by assumption⟩) rfl (L_add hC6 hx6 rfl (by omega) (by rw [List.length_append, List.length_append, List.length_take, List.length_drop]; omega)) ?_
              rintro r S7 ⟨rfl, hC7, hF7⟩
              rw [List.append_assoc] at hC7
              (iterate 2 (refine BW.pl rfl rfl ?_))
              have e7 : (mv.length : Int) + 1 = ((mv ++ [x]).length : Int) := by rw [List.length_append]; rfl
              rw [e7]
              exact ih (mv ++ [x]) S7 _ 0 (by rw [← hmv]; simp) hC7 (hq6.fr hF7 ⟨oNe rfl, hC6.sep3 hq6 rfl rfl⟩) (hR6.f6 hF7 (W6.lc hC6)) (by omega)
          exact loop (seg t f l) [] S5 _ 0 rfl (by rw [List.append_nil]; exact hC5) hq5 hR5 (by rw [hsl]; omega)
        (repeat (first | (refine BW.pl rfl rfl ?_) | (refine CW.geti rfl rfl (by assumption) rfl rfl (by assumption) (fun _ => ?_)) | (refine CW.getr rfl rfl (by assumption) rfl rfl (by assumption) ?_)))
        by_cases z2 : to' < l
        · rw [if_pos (by omega)] at hk0
          refine BW.br rfl rfl (by first | omega | decide | (constructor <;> first | omega | decide)) (fun w => ?_) (fun w => by first | (exfalso; omega) | exact absurd w (by decide))
          (repeat (refine BW.pl rfl rfl ?_))
          have h48 := at48
          rw [hk0] at h48
          exact h48
        · rw [if_neg (by omega)] at hk0
          refine BW.br rfl rfl (by first | omega | decide | (constructor <;> first | omega | decide)) (fun w => by first | (exfalso; omega) | exact absurd w (by decide)) (fun w => ?_)
          (repeat (refine BW.pl rfl rfl ?_))
          refine CW.e1 rfl rfl (by first | exact Or.inl rfl | exact Or.inr (tagO (by assumption) (by rfl) (by rfl))) (by first | exact Or.inl (by decide) | exact Or.inr ⟨_, rfl, by assumption⟩) rfl (B_alSize hq4) ?_
          rw [lnsOf_len, hsl]
          (repeat (refine BW.pl rfl rfl ?_))
          rw [show (to' : Int) - ((l + 1 - f : Nat) : Int) = (k0 : Int) by omega]
          exact at48
      have loop1 : ∀ (ms mv : List SLine) (S4 : BS) (B4 cp lr : Nat), mv ++ ms = seg t f l → LC S S4 K la p G B4 it lr (t.take (f - 1)) (ms ++ t.drop l) V → Ob S4 q (oAl (lnsOf la mv) cp) → RowsI S4 la G.2.2.2.2.1 mv → B4 ≤ B + 100 + 2 * mv.length + 6 * cp → cp ≤ 2 * mv.length + 10 → BW (d + 7) gm_X1_moveLines 24 [some (aR (K 1)), some (aI f), some (aI l), some (aI to'), some (aR q), some (aR it), some (aI ((l : Int) + 1 - ms.length))] [] S4 (ActX S K la (t, p, G) B 1600 1600 V (sMove (t, p, G) f l to')) := by
        intro ms
        induction ms with
        | nil =>
          intro mv S4 B4 cp lr hmv hC4 hq4 hR4 hB4 hcp
          rw [List.append_nil] at hmv
          subst hmv
          have e1 : (l : Int) + 1 - (([] : List SLine).length : Nat) = (l : Int) + 1 := by rw [List.length_nil]; omega
          rw [e1]
          (repeat (refine BW.pl rfl rfl ?_))
          refine BW.br rfl rfl (by first | omega | decide | (constructor <;> first | omega | decide)) (fun w => ?_) (fun w => by first | (exfalso; omega) | exact absurd w (by decide))
          exact back S4 B4 cp _ rfl hC4.1 hC4.2.2.2.2.1 hq4 hR4 (by omega)
        | cons x ms ih =>
          intro mv S4 B4 cp lr hmv hC4 hq4 hR4 hB4 hcp
          obtain ⟨mc, hT4, hit4⟩ := hC4.2.1
          have hml : mv.length + (ms.length + 1) = l + 1 - f := by rw [← hsl, ← hmv]; simp
          have e1 : (l : Int) + 1 - ((x :: ms).length : Nat) = (l : Int) - ms.length := by rw [List.length_cons]; omega
          rw [e1]
          have hC' : LC S S4 K la p G B4 it lr (t.take (f - 1)) (x :: (ms ++ t.drop l)) V := hC4
          (repeat (refine BW.pl rfl rfl ?_))
          refine BW.br rfl rfl (by first | omega | decide | (constructor <;> first | omega | decide)) (fun w => by first | (exfalso; omega) | exact absurd w (by decide)) (fun w => ?_)
          (repeat (refine BW.pl rfl rfl ?_))
          refine CW.c1 rfl rfl (by first | exact Or.inl rfl | exact Or.inr (tagO (by assumption) (by rfl) (by rfl))) (by first | exact Or.inl (by decide) | exact Or.inr ⟨_, rfl, by assumption⟩) rfl (L_next hC') ?_
          rintro r S5 ⟨rfl, hC5, hF5⟩
          have hx5 := hC5.rws x (by simp)
          have hw5 := W6.one hit4 (oNe rfl) rfl
          have hR5 := hR4.f6 hF5 hw5
          have hq5 := hq4.fr hF5 ⟨oNe rfl, hq4.ne hit4 (oNe rfl)⟩
          have ht5 := hC5.big
          refine CW.castS rfl hx5.2.1 rfl rfl rfl ?_
          refine CW.c2 rfl rfl (by first | exact Or.inl rfl | exact Or.inr (tagO (by assumption) (by rfl) (by rfl))) (by first | exact Or.inl (by decide) | exact Or.inr ⟨_, rfl, by assumption⟩) rfl (C_alAdd hq5 (vOk_o hx5.2.1 rfl) (by rw [lnsOf_len]; omega) (by omega)) ?_
          rintro r S6 ⟨rfl, cp', hq6, hF6, hc1, hc2⟩
          rw [lnsOf_len] at hc2
          have hC6 := hC5.frN hF6 (LoW.one hqo hq5 (oNe rfl) rfl) (by obtain ⟨mc5, hT5, hit5⟩ := hC5.2.1; exact hit5.ne hq5 (oNe rfl)) (fun k hk => by rw [hk]; exact hN.nil) (by omega)
          have hw6 := W6.one hq5 (oNe rfl) rfl
          have hR6 := hR5.f6 hF6 hw6
          have hx6 := hx5.f6 hF6 hw6
          obtain ⟨mc6, hT6, hit6⟩ := hC6.2.1
          have hdl : (t.take (f - 1)).length + 1 = (t.take (f - 1)).length + 1 := rfl
          (repeat (refine BW.pl rfl rfl ?_))
          refine CW.c1 rfl rfl (by first | exact Or.inl rfl | exact Or.inr (tagO (by assumption) (by rfl) (by rfl))) (by first | exact Or.inl (by decide) | exact Or.inr ⟨_, rfl, by assumption⟩) rfl (L_rem hC6 (by omega)) ?_
          rintro r S7 ⟨rfl, hC7, hF7⟩
          have hq7 := hq6.fr hF7 ⟨oNe rfl, hC6.sep3 hq6 rfl rfl⟩
          have hR7 : RowsI S7 la G.2.2.2.2.1 (mv ++ [x]) := fun z hz => by
            rcases List.mem_append.mp hz with w | w
            · exact (hR6 z w).f6 hF7 (W6.lc hC6)
            · rw [List.mem_singleton.mp w]; exact hx6.f6 hF7 (W6.lc hC6)
          (iterate 2 (refine BW.pl rfl rfl ?_))
          rw [show (l : Int) - (ms.length : Nat) + 1 = (l : Int) + 1 - (ms.length : Nat) by omega]
          exact ih (mv ++ [x]) S7 _ cp' 0 (by rw [← hmv]; simp) hC7 (by rw [lnsOf_app]; exact hq7) hR7 (by rw [List.length_append, List.length_singleton]; omega) (by rw [List.length_append, List.length_singleton]; omega)
      (iterate 3 (refine BW.pl rfl rfl ?_))
      have e9 : (f : Int) = (l : Int) + 1 - ((seg t f l).length : Nat) := by rw [hsl]; omega
      have lp := loop1 (seg t f l) [] S3 _ 0 0 rfl (by rw [← es]; exact hC3) hq3 (fun z hz => by cases hz) (by simp <;> omega) (by simp)
      rw [← e9] at lp
      exact lp
  (repeat (refine BW.pl rfl rfl ?_))
  by_cases z1 : to' < f
  · refine BW.br rfl rfl (by first | omega | decide | (constructor <;> first | omega | decide)) (fun w => ?_) (fun w => by first | (exfalso; omega) | exact absurd w (by decide))
    (iterate 2 (refine BW.pl rfl rfl ?_))
    exact at9 1 (Or.inr ⟨rfl, fun z => by omega⟩)
  · refine BW.br rfl rfl (by first | omega | decide | (constructor <;> first | omega | decide)) (fun w => by first | (exfalso; omega) | exact absurd w (by decide)) (fun w => ?_)
    (repeat (refine BW.pl rfl rfl ?_))
    by_cases z2 : to' < l
    · refine BW.br rfl rfl (by first | omega | decide | (constructor <;> first | omega | decide)) (fun w2 => ?_) (fun w2 => by first | (exfalso; omega) | exact absurd w2 (by decide))
      (iterate 1 (refine BW.pl rfl rfl ?_))
      exact at9 0 (Or.inl ⟨rfl, by omega, z2⟩)
    · refine BW.br rfl rfl (by first | omega | decide | (constructor <;> first | omega | decide)) (fun w2 => by first | (exfalso; omega) | exact absurd w2 (by decide)) (fun w2 => ?_)
      (iterate 2 (refine BW.pl rfl rfl ?_))
      exact at9 1 (Or.inr ⟨rfl, fun z => z2 z.2⟩)
end MV
