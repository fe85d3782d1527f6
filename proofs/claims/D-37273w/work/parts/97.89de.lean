-- C
set_option maxRecDepth 100000
/-! LINEORDERS: delete, replaceLines, hold -/
section DE
variable {d n m q i a y cap p B c k f e l b : Nat} {S S' S0 S1 S2 : BS} {K : Nat → Nat} {la la' la2 : Int → Nat} {ids P R : List Int} {G : BG} {A : St} {V W : Nat → Prop} {s z : List Int} {x v w nn : Int} {t : List SLine} {mk mk' : Nat → Option Int} {xs ys : List (Option Nat)} {rows : List (List Int)} {o : Obj}
theorem L_delete (hL : LO S K la A B) (hf : 1 ≤ f) (hfl : f ≤ l + 1) (hl : l ≤ A.1.length) (hl4 : A.1.length ≤ 10000) (hB : B + 100000 ≤ 20000000) (hv : v = f) (hw : w = l) : BMr (d + 7) gk_X1_delete [aR (K 1), aI v, aI w] S (fun r S' => r = none ∧ LO S' K la (sDel A f l) (B + 17 + 6 * (l + 1 - f)) ∧ XF K V S S') := by
  subst hv hw
  obtain ⟨t, p, G⟩ := A
  obtain ⟨hLB, hRw⟩ := hL
  have hLB : LB S K la (idsOfL t) p G B := hLB
  have hRw : RowsI S la G.2.2.2.2.1 t := hRw
  have hl : l ≤ t.length := hl
  have hl4 : t.length ≤ 10000 := hl4
  have hx := hLB.obx
  have e3 := hLB.e3
  obtain ⟨mc, hT⟩ := hLB.text
  refine BM.of rfl rfl rfl ?_
  (repeat (first | (refine BW.pl rfl rfl ?_) | (refine CW.geti rfl rfl (by assumption) rfl rfl (by assumption) (fun _ => ?_)) | (refine CW.getr rfl rfl (by assumption) rfl rfl (by assumption) ?_)))
  have eb : (f : Int) - 1 = ((f - 1 : Nat) : Int) := by omega
  rw [eb]
  refine CW.c2 rfl rfl (by first | exact Or.inl rfl | exact Or.inr (tagO (by assumption) (by rfl) (by rfl))) (by first | exact Or.inl (by decide) | exact Or.inr ⟨_, rfl, by assumption⟩) rfl (C_itNew (k := f - 1) hT (by rw [lsOf_len, ids_len]; omega) (by rw [lsOf_len, ids_len]; omega) rfl) ?_
  rintro r S1 ⟨it, rfl, hit0, hitk, hit, hF1⟩
  have hko := hLB.ko hit0
  have hL1 := hLB.fr hF1 LoW.no (by omega)
  have hT1 := hT.fr hF1 ⟨oNe rfl, Sep.no⟩
  have hRw1 := hRw.fr hF1 (LoW.no (K := K))
  have loop : ∀ (n2 j : Nat) (S3 : BS) (mc3 lr : Nat), j + n2 = l + 1 - f → LB S3 K la (idsOfL (t.take (f - 1) ++ t.drop (f - 1 + j))) p (setM G (unmL G.2.2.2.1 (idsOfL ((t.drop (f - 1)).take j)))) (B + 17 + 6 * j) → RowsI S3 la G.2.2.2.2.1 (t.take (f - 1) ++ t.drop (f - 1 + j)) → Ob S3 (K 3) (oLl (lsOf la (idsOfL (t.take (f - 1) ++ t.drop (f - 1 + j)))) mc3) → Ob S3 it (oIt (K 3) (f - 1) mc3 lr) → XF K V S S3 → BW (d + 6) gm_X1_delete 9 [some (aR (K 1)), some (aI f), some (aI l), some (aR it), some (aI ((f : Int) + j))] [] S3 (fun r S' => ∃ v, r = .inl v ∧ (v = none ∧ LO S' K la (sDel (t, p, G) f l) (B + 17 + 6 * (l + 1 - f)) ∧ XF K V S S')) := by
    intro n2
    induction n2 with
    | zero =>
      intro j S3 mc3 lr hj hL3 hRw3 hT3 hit3 hX3
      obtain rfl : j = l + 1 - f := by omega
      (repeat (refine BW.pl rfl rfl ?_))
      refine BW.br rfl rfl (by first | omega | decide | (constructor <;> first | omega | decide)) (fun w => ?_) (fun w => by first | (exfalso; omega) | exact absurd w (by decide))
      refine BW.ret rfl rfl ⟨_, rfl, rfl, ⟨?_, ?_⟩, hX3⟩
      · show LB S3 K la (idsOfL (t.take (f - 1) ++ t.drop l)) p (setM G (unmL G.2.2.2.1 (idsOfL (seg t f l)))) _
        rw [show f - 1 + (l + 1 - f) = l by omega] at hL3
        exact hL3
      · show RowsI S3 la G.2.2.2.2.1 (t.take (f - 1) ++ t.drop l)
        rw [show f - 1 + (l + 1 - f) = l by omega] at hRw3
        exact hRw3
    | succ n2 ih =>
      intro j S3 mc3 lr hj hL3 hRw3 hT3 hit3 hX3
      have hjl : f - 1 + j < t.length := by omega
      have ed : t.drop (f - 1 + j) = t.getD (f - 1 + j) (0, []) :: t.drop (f - 1 + (j + 1)) := by
        rw [List.drop_eq_getElem_cons hjl, List.getD_eq_getElem?_getD, List.getElem?_eq_getElem hjl]; rfl
      have es : (t.drop (f - 1)).take (j + 1) = (t.drop (f - 1)).take j ++ [t.getD (f - 1 + j) (0, [])] := by
        rw [List.take_succ_eq_append_getElem (by rw [List.length_drop]; omega), List.getElem_drop, List.getD_eq_getElem?_getD, List.getElem?_eq_getElem hjl]; rfl
      have ih := ih (j + 1)
      rw [es] at ih
      have hin : t.getD (f - 1 + j) (0, []) ∈ t.take (f - 1) ++ t.drop (f - 1 + j) := by rw [ed]; exact List.mem_append_right _ List.mem_cons_self
      generalize t.getD (f - 1 + j) (0, []) = sl at ed ih hin es
      have hlt : (idsOfL (t.take (f - 1))).length = f - 1 := by rw [ids_len, List.length_take]; omega
      have eids : idsOfL (t.take (f - 1) ++ t.drop (f - 1 + j)) = idsOfL (t.take (f - 1)) ++ sl.1 :: idsOfL (t.drop (f - 1 + (j + 1))) := by rw [ed, idsOfL_app]; rfl
      have hll : (lsOf la (idsOfL (t.take (f - 1) ++ t.drop (f - 1 + j)))).length = t.length - j := by rw [lsOf_len, ids_len, List.length_append, List.length_take, List.length_drop]; omega
      have hg : (lsOf la (idsOfL (t.take (f - 1) ++ t.drop (f - 1 + j)))).getD (f - 1) none = some (la sl.1) := by
        rw [eids, lsOf_app, List.getD_eq_getElem?_getD, List.getElem?_append_right (by rw [lsOf_len]; omega), lsOf_len, hlt, Nat.sub_self]
        rfl
      have hxR : 0 ≤ sl.1 ∧ sl.1 < G.2.2.2.2.1 := hL3.idR (by rw [eids]; exact List.mem_append_right _ List.mem_cons_self)
      (repeat (refine BW.pl rfl rfl ?_))
      refine BW.br rfl rfl (by first | omega | decide | (constructor <;> first | omega | decide)) (fun w => by first | (exfalso; omega) | exact absurd w (by decide)) (fun w => ?_)
      (repeat (refine BW.pl rfl rfl ?_))
      refine CW.c1 rfl rfl (by first | exact Or.inl rfl | exact Or.inr (tagO (by assumption) (by rfl) (by rfl))) (by first | exact Or.inl (by decide) | exact Or.inr ⟨_, rfl, by assumption⟩) rfl (C_itNext hit3 hT3 (by omega) (by omega) hg) ?_
      rintro r S4 ⟨rfl, hit4, hF4⟩
      have hL4 := hL3.fr hF4 (LoW.one hko hit3 (oNe rfl) rfl) (by omega)
      have hT4 := hT3.fr hF4 ⟨oNe rfl, hT3.ne hit3 (oNe rfl)⟩
      have hRw4 := hRw3.fr hF4 (LoW.one hko hit3 (oNe rfl) rfl)
      have hX4 := hX3.f1 hF4 (fun z => absurd hit0 z)
      have h6 := hL4.la6 hxR
      have hx4 := hL4.obx
      refine CW.castS rfl h6 rfl rfl rfl ?_
      refine CW.c2 rfl rfl (by first | exact Or.inl rfl | exact Or.inr (tagO (by assumption) (by rfl) (by rfl))) (by first | exact Or.inl (by decide) | exact Or.inr ⟨_, rfl, by assumption⟩) rfl (L_unmark (V := V) hL4 hxR (by omega)) ?_
      rintro r S5 ⟨rfl, hL5, hX45, hF5⟩
      obtain ⟨M4, hM4, _⟩ := hL4.marks
      have hT5 := hT4.fr hF5 ⟨oNe rfl, hT4.ne hM4 (oNe rfl)⟩
      have hit5 := hit4.fr hF5 ⟨oNe rfl, hit4.ne hM4 (oNe rfl)⟩
      have hRw5 := hRw4.f6 hF5 (W6.one hM4 (oNe rfl) rfl)
      have ht5 := hL5.tt
      (repeat (refine BW.pl rfl rfl ?_))
      refine CW.c1 rfl rfl (by first | exact Or.inl rfl | exact Or.inr (tagO (by assumption) (by rfl) (by rfl))) (by first | exact Or.inl (by decide) | exact Or.inr ⟨_, rfl, by assumption⟩) rfl (C_itRem hit5 hT5 (by omega) (by omega) (by omega)) ?_
      rintro r S6 ⟨rfl, hT6, hit6, hF6⟩
      have hlo : LoX K S5 (fun k => k = K 3 ∨ k = it) 3 := LoX.two LoX.k (LoX.w (LoW.one hko hit5 (oNe rfl) rfl))
      have hw6 : W6 S5 (fun k => k = K 3 ∨ k = it) := W6.two (W6.one hT5 (oNe rfl) rfl) (W6.one hit5 (oNe rfl) rfl)
      rw [show f - 1 + 1 - 1 = f - 1 by omega] at hT6 hit6
      rw [eids, delA_ls hlt, ← idsOfL_app] at hT6
      have hL6 := hL5.setText hF6 hlo hT6 (fun x hx => by
        have := hL4.2.2.1.2.2 x (by
          rw [eids]
          rw [idsOfL_app] at hx
          rcases List.mem_append.mp hx with z | z
          · exact List.mem_append_left _ z
          · exact List.mem_append_right _ (List.mem_cons_of_mem _ z))
        exact this) (by omega)
      have hRw6 : RowsI S6 la G.2.2.2.2.1 (t.take (f - 1) ++ t.drop (f - 1 + (j + 1))) := (hRw5.f6 hF6 hw6).sub (fun q hq => by
        rw [ed]
        rcases List.mem_append.mp hq with z | z
        · exact List.mem_append_left _ z
        · exact List.mem_append_right _ (List.mem_cons_of_mem _ z))
      have em : unmk (unmL G.2.2.2.1 (idsOfL ((t.drop (f - 1)).take j))) sl.1 = unmL G.2.2.2.1 (idsOfL ((t.drop (f - 1)).take j ++ [sl])) := by
        rw [unmk_unmL, idsOfL_app]
        refine unmL_mem (fun x => ?_)
        rw [List.mem_append]
        show x ∈ sl.1 :: _ ↔ _ ∨ x ∈ [sl.1]
        rw [List.mem_cons, List.mem_singleton]
        exact Or.comm
      have hL7 : LB S6 K la (idsOfL (t.take (f - 1) ++ t.drop (f - 1 + (j + 1)))) p (setM G (unmL G.2.2.2.1 (idsOfL ((t.drop (f - 1)).take j ++ [sl])))) (B + 17 + 6 * (j + 1)) := by
        rw [← em]
        exact hL6.le (by omega) (by omega)
      (iterate 2 (refine BW.pl rfl rfl ?_))
      have e7 : (f : Int) + j + 1 = (f : Int) + ((j + 1 : Nat) : Int) := by omega
      rw [e7]
      exact ih S6 _ 0 (by omega) hL7 hRw6 hT6 hit6 ((hX4.tr hX45).f2 hF6 (fun _ => hL5.wk (by decide)) (fun z => absurd hit0 z))
  (iterate 3 (refine BW.pl rfl rfl ?_))
  have e0 : t.take (f - 1) ++ t.drop (f - 1 + 0) = t := by rw [Nat.add_zero]; exact List.take_append_drop _ _
  have e1 : setM G (unmL G.2.2.2.1 (idsOfL ((t.drop (f - 1)).take 0))) = G := by
    rw [List.take_zero]
    show setM G (unmL G.2.2.2.1 []) = G
    rw [unmL_nil]; rfl
  have e2 : (f : Int) = (f : Int) + ((0 : Nat) : Int) := by omega
  have lp := loop (l + 1 - f) 0 S1 mc 0 (Nat.zero_add _) (by rw [e0, e1]; exact hL1) (by rw [e0]; exact hRw1) (by rw [e0]; exact hT1) hit (XF.rf.f0 hF1)
  rw [← e2] at lp
  exact lp
theorem sIns_del {rows : List (List Int)} : sIns (sDel A f l) (f - 1) rows = sIns (sDel A f l) (f - 1) rows := rfl
theorem ActX.pre {A1 : St} {c1 c2 cx : Nat} {R : Nat ⊕ St} {r : GO} (hX : XF K V S S1) (h : ActX S1 K la A1 (B + c1) c2 cx V R r S') (hn : A1.2.2.2.2.2.2.1 = A.2.2.2.2.2.2.1) (ho : A1.2.2.2.1 = A.2.2.2.1) : ActX S K la A B (c1 + c2) (c1 + cx) V R r S' := by
  cases R with
  | inl w =>
    obtain ⟨S2, la2, A2, h1, h2, h3, h4, ⟨ex, h5⟩, h6⟩ := h
    exact ⟨S2, la2, A2, by rw [← Nat.add_assoc]; exact h1, hX.tr h2, by rw [← hn]; exact h3, by rw [← hn]; exact h4, ⟨ex, by rw [← ho]; exact h5⟩, h6⟩
  | inr A2 =>
    obtain ⟨h1, la2, h2, h3, h4⟩ := h
    exact ⟨h1, la2, by rw [← Nat.add_assoc]; exact h2, hX.tr h3, by rw [← hn]; exact h4⟩
theorem ActX.wk {V' : Nat → Prop} {c c' cx cx' : Nat} {R : Nat ⊕ St} {r : GO} (h : ActX S K la A B c cx V R r S') (hV : ∀ m, V m → V' m) (hc : c ≤ c') (hcx : cx ≤ cx') (hB : B + c' ≤ 20000000) (hB2 : B + cx' ≤ 20000000) : ActX S K la A B c' cx' V' R r S' := by
  cases R with
  | inl w =>
    obtain ⟨S2, la2, A2, h1, h2, h3⟩ := h
    exact ⟨S2, la2, A2, h1.le (by omega) hB2, h2.mono hV, h3⟩
  | inr A2 =>
    obtain ⟨h1, la2, h2, h3, h4⟩ := h
    exact ⟨h1, la2, h2.le (by omega) hB, h3.mono hV, h4⟩
theorem L_replaceLines (hL : LO S K la A B) (hf : 1 ≤ f) (hfl : f ≤ l + 1) (hl : l ≤ A.1.length) (hl4 : A.1.length ≤ 10000) (har : Ob S a (oRa 105 ys)) (hs : StrsIs S ys rows) (hao : KoM K a) (hn : A.2.2.2.2.2.2.1 < 1900000) (hrl : ys.length < 1000) (hB : B + 200000 ≤ 20000000) (hv : v = f) (hw : w = l) : BM (d + 8) gk_X1_replaceLines [aR (K 1), aI v, aI w, aR a] S (ActX S K la A B (17 + 6 * (l + 1 - f) + (17 + 30 * rows.length)) (17 + 6 * (l + 1 - f) + 0) (fun _ => False) (sIns (sDel A f l) (f - 1) rows)) := by
  subst hv hw
  have hx := hL.1.obx
  refine BM.of rfl rfl rfl ?_
  (repeat (refine BW.pl rfl rfl ?_))
  refine CW.c3 rfl rfl (by first | exact Or.inl rfl | exact Or.inr (tagO (by assumption) (by rfl) (by rfl))) (by first | exact Or.inl (by decide) | exact Or.inr ⟨_, rfl, by assumption⟩) rfl (L_delete (V := fun _ => False) hL hf hfl hl hl4 (by omega) rfl rfl) ?_
  rintro r S1 ⟨rfl, hL1, hX1⟩
  have har1 := (hX1.ob har hao (oNe rfl) rfl).1
  have hs1 := hX1.strs hs
  have hxx := hL1.1.obx
  obtain ⟨t, p, G⟩ := A
  have hl : l ≤ t.length := hl
  have hl4 : t.length ≤ 10000 := hl4
  have hdl : (sDel (t, p, G) f l).1.length = t.length - (l + 1 - f) := by
    show (t.take (f - 1) ++ t.drop l).length = _
    rw [List.length_append, List.length_take, List.length_drop]; omega
  (repeat (refine BW.pl rfl rfl ?_))
  refine CW.x3 rfl rfl (by first | exact Or.inl rfl | exact Or.inr (tagO (by assumption) (by rfl) (by rfl))) (by first | exact Or.inl (by decide) | exact Or.inr ⟨_, rfl, by assumption⟩) rfl rfl (L_insert (b := f - 1) hL1 (by omega) (by omega) har1 hs1 hao hn hrl (by omega) (by omega)) ?_ ?_
  · intro r S2 h2
    have h3 := ActX.pre (A := (t, p, G)) hX1 (B := B) (c1 := 17 + 6 * (l + 1 - f)) (by rw [← Nat.add_assoc]; exact h2) rfl rfl
    have hr : r = none := by
      cases e : sIns (sDel (t, p, G) f l) (f - 1) rows with
      | inl w => rw [e] at h2; obtain ⟨_, _, _, _, _, _, _, _, q, z, _⟩ := h2; cases z
      | inr A2 => rw [e] at h2; obtain ⟨z, _⟩ := h2; cases z; rfl
    subst hr
    exact BW.ret rfl rfl h3
  · intro E q S2 h2
    exact ActX.pre (A := (t, p, G)) hX1 (B := B) (c1 := 17 + 6 * (l + 1 - f)) (by rw [← Nat.add_assoc]; exact h2) rfl rfl
end DE
