-- C
set_option maxRecDepth 100000
/-! LINEORDERS: sort -/
def lnsOf (la : Int → Nat) (ls : List SLine) : List (Option Nat) := ls.map (fun q => some (la q.1))
section SO
variable {d n m q i a y cap p B c k f e l b it lr : Nat} {S S' S0 S1 S2 : BS} {K : Nat → Nat} {la la' la2 : Int → Nat} {P R : List Int} {G : BG} {A : St} {V W : Nat → Prop} {s s2 z : List Int} {v w nn : Int} {dn rs post t : List SLine} {mk mk' : Nat → Option Int} {xs ys : List (Option Nat)} {rows : List (List Int)} {o : Obj} {x x2 : SLine} {r : Option Nat} {Q : GO → BS → Prop} {od : SOrd0}
theorem lnsOf_len {ls : List SLine} : (lnsOf la ls).length = ls.length := by unfold lnsOf; rw [List.length_map]
theorem lnsOf_app {a b : List SLine} : lnsOf la (a ++ b) = lnsOf la a ++ lnsOf la b := by unfold lnsOf; rw [List.map_append]
theorem lnsOf_ids {ls : List SLine} : lnsOf la ls = lsOf la (idsOfL ls) := by unfold lnsOf lsOf idsOfL; rw [List.map_map]; rfl
theorem getD_mid {α : Type} {a b : List α} {x dd : α} (h : a.length = k) : (a ++ x :: b).getD k dd = x := by
  rw [List.getD_eq_getElem?_getD, List.getElem?_append_right (by omega), h, Nat.sub_self]; rfl
theorem set_mid {α : Type} {a b : List α} {x y : α} (h : a.length = k) : (a ++ x :: b).set k y = a ++ y :: b := by
  rw [List.set_append_right _ _ (by omega), h, Nat.sub_self]; rfl
theorem BW.stiV {M : GMeth} {ls : GL} {st : List GV} {b1 x1 : Int} (hC : M.2.2.1[i]? = some (3, a, b1)) (hl : Nat.ble (a + 1) ls.length = true) (hg : ls.all gn1 = true) (kk : BW d M (i + 1) (ls.set a (some (.inl x1))) st S Q) : BW d M i ls (.inl x1 :: st) S Q := BW.sti hC hl (by rw [gnoL_set (show gnoL ls = true from hg)]; exact kk)
theorem LC.base (h : LC S1 S2 K la p G B it lr dn rs V) (hX : XF K V S S1) : LC S S2 K la p G B it lr dn rs V := ⟨h.1, h.2.1, h.2.2.1, hX.nil h.2.2.2.1, hX.tr h.2.2.2.2.1, h.2.2.2.2.2⟩
/-- what is new since the start changes -/
theorem LC.frN (h : LC S0 S K la p G B it lr dn rs V) (hF : Fr S S' W c) (hs : LoW K S W) (hi : Sep S W it) (hN : ∀ m, W m → S0.1 m = oNil) (hB : B + c ≤ 20000000) : LC S0 S' K la p G (B + c) it lr dn rs V := by
  obtain ⟨h1, ⟨mc, h2, h3⟩, h4, h5, h6, h7⟩ := h
  exact ⟨h1.fr hF hs hB, ⟨mc, h2.fr hF ⟨oNe rfl, hs.sep (by decide) (h2.old (oNe rfl))⟩, h3.fr hF ⟨oNe rfl, hi⟩⟩, h4, h5, h6.fr hF (fun m hm z => absurd (hN m z) hm), h7⟩
theorem lineV (h : Ob S m (oOwn 6)) : ∃ k, (some m : Option Nat) = some k ∧ ((S.1 k).1 == 0) = false ∧ (gasg 106 (ocls (S.1 k)) = true ∨ (106 = 107 ∧ ocls (S.1 k) = 105 ∧ 1000 ≤ k)) := ⟨m, rfl, by rw [show S.1 m = oOwn 6 from h]; rfl, Or.inl (by rw [show S.1 m = oOwn 6 from h]; rfl)⟩
/-- a line goes into what is sorted, from pc 26 to 51 -/
theorem sortIns {ita j1 : Nat} (hac : oAct od = 111 ∨ oAct od = 79) (hnm : 0 ≤ oNum od ∧ oNum od ≤ 99) {P2 : List (Option Nat)} (hP2 : P2.length ≤ 1000) : ∀ (rest mv : List SLine) (jk : Option Nat) (S1 : BS), rest.length + mv.length ≤ 1000 → Ob S1 q (oRa 106 (lnsOf la rest.reverse ++ jk :: (lnsOf la mv.reverse ++ P2))) → Ob S1 m (oOwn 7) → Fi S1 48 m (oAct od) → Fi S1 49 m (oNum od) → RowI S1 la nn x → RowsI S1 la nn rest → (∀ S2 v8, Fr1 S1 S2 q 0 → Ob S2 q (oRa 106 (lnsOf la (mv ++ sInsR od x rest).reverse ++ P2)) → BW (d + 6) gm_X1_sort 51 [some (aR (K 1)), some (aR m), some (aI f), some (aI l), some (aR q), some (aR ita), some (aI j1), some (aR (la x.1)), some (aI v8)] [] S2 Q) → BW (d + 6) gm_X1_sort 26 [some (aR (K 1)), some (aR m), some (aI f), some (aI l), some (aR q), some (aR ita), some (aI j1), some (aR (la x.1)), some (aI rest.length)] [] S1 Q := by
  intro rest
  induction rest with
  | nil =>
    intro mv jk S1 hrl hq hm h48 h49 hx hr kk
    have hq : Ob S1 q (oRa 106 ([] ++ jk :: (lnsOf la mv.reverse ++ P2))) := hq
    have e0 : (([] : List SLine).length : Int) = 0 := rfl
    rw [e0]
    (repeat (refine BW.pl rfl rfl ?_))
    refine BW.br rfl rfl (by first | omega | decide | (constructor <;> first | omega | decide)) (fun w => ?_) (fun w => by first | (exfalso; omega) | exact absurd w (by decide))
    (repeat (refine BW.pl rfl rfl ?_))
    refine CW.aast rfl hq ⟨by decide, by simp; omega⟩ (Or.inr (lineV hx.2.1)) (fun S2 hq2 hF2 => ?_)
    refine kk S2 0 hF2 ?_
    have e : ([] ++ jk :: (lnsOf la mv.reverse ++ P2)).set (0 : Int).toNat (some (la x.1)) = lnsOf la (mv ++ sInsR od x []).reverse ++ P2 := by
      show some (la x.1) :: (lnsOf la mv.reverse ++ P2) = lnsOf la (mv ++ [x]).reverse ++ P2
      rw [List.reverse_append]
      rfl
    rw [← e]
    exact hq2
  | cons y rest ih =>
    intro mv jk S1 hrl hq hm h48 h49 hx hr kk
    have hrl2 : rest.length + 1 + mv.length ≤ 1000 := by rw [List.length_cons] at hrl; exact hrl
    have e1 : lnsOf la (y :: rest).reverse ++ jk :: (lnsOf la mv.reverse ++ P2) = lnsOf la rest.reverse ++ some (la y.1) :: (jk :: (lnsOf la mv.reverse ++ P2)) := by
      rw [List.reverse_cons, lnsOf_app, List.append_assoc]; rfl
    have hrl3 : (lnsOf la rest.reverse).length = rest.length := by rw [lnsOf_len, List.length_reverse]
    rw [e1] at hq
    have hy := hr y List.mem_cons_self
    have hlen : (lnsOf la rest.reverse ++ some (la y.1) :: (jk :: (lnsOf la mv.reverse ++ P2))).length = rest.length + 2 + mv.length + P2.length := by
      simp [lnsOf_len]; omega
    have e2 : ((y :: rest).length : Int) = (rest.length : Int) + 1 := by rw [List.length_cons]; omega
    rw [e2]
    have e3 : (rest.length : Int) + 1 - 1 = ((rest.length : Nat) : Int) := by omega
    have e4 : ((rest.length : Nat) : Int).toNat = rest.length := by omega
    have e5 : ((rest.length : Int) + 1).toNat = rest.length + 1 := by omega
    (repeat (refine BW.pl rfl rfl ?_))
    refine BW.br rfl rfl (by first | omega | decide | (constructor <;> first | omega | decide)) (fun w => by first | (exfalso; omega) | exact absurd w (by decide)) (fun w => ?_)
    (repeat (refine BW.pl rfl rfl ?_))
    rw [e3]
    refine CW.aald rfl hq ⟨by omega, by omega⟩ ?_
    rw [e4, getD_mid hrl3]
    refine CW.e3 rfl rfl (by first | exact Or.inl rfl | exact Or.inr (tagO (by assumption) (by rfl) (by rfl))) (by first | exact Or.inl (by decide) | exact Or.inr ⟨_, rfl, by assumption⟩) rfl (L_isBefore hm h48 h49 hac hnm hx hy) ?_
    by_cases z : sBef od x y = true
    · rw [if_pos z]
      have e6 : sInsR od x (y :: rest) = y :: sInsR od x rest := by
        conv => lhs; unfold sInsR
        rw [if_pos z]
      refine BW.br rfl rfl (by first | omega | decide | (constructor <;> first | omega | decide)) (fun w2 => by first | (exfalso; omega) | exact absurd w2 (by decide)) (fun w2 => ?_)
      (repeat (refine BW.pl rfl rfl ?_))
      rw [e3]
      refine CW.aald rfl hq ⟨by omega, by omega⟩ ?_
      rw [e4, getD_mid hrl3]
      refine CW.aast rfl hq ⟨by omega, by omega⟩ (Or.inr (lineV hy.2.1)) (fun S2 hq2 hF2 => ?_)
      have e7 : (lnsOf la rest.reverse ++ some (la y.1) :: (jk :: (lnsOf la mv.reverse ++ P2))).set ((rest.length : Int) + 1).toNat (some (la y.1)) = lnsOf la rest.reverse ++ some (la y.1) :: (lnsOf la (mv ++ [y]).reverse ++ P2) := by
        rw [e5, List.append_cons, set_mid (a := lnsOf la rest.reverse ++ [some (la y.1)]) (by rw [List.length_append, hrl3]; rfl), List.reverse_append, List.append_assoc]
        rfl
      rw [e7] at hq2
      have hw6 := W6.one hq (oNe rfl) rfl
      (iterate 2 (refine BW.pl rfl rfl ?_))
      have e8 : (rest.length : Int) + 1 + -1 = (rest.length : Int) := by omega
      rw [e8]
      refine ih (mv ++ [y]) _ S2 (by rw [List.length_append, List.length_singleton]; omega) hq2 (hm.fr hF2 ⟨oNe rfl, hm.ne hq (oNe rfl)⟩) (h48.fr hF2 ⟨⟨hm.old (oNe rfl), by decide⟩, hm.ne hq (oNe rfl)⟩) (h49.fr hF2 ⟨⟨hm.old (oNe rfl), by decide⟩, hm.ne hq (oNe rfl)⟩) (hx.f6 hF2 hw6) (fun q' hq' => (hr q' (List.mem_cons_of_mem _ hq')).f6 hF2 hw6) (fun S3 v8 hF3 hq3 => ?_)
      refine kk S3 v8 ((hF2.tr hF3 (fun _ _ z => z)).w (fun _ _ z => z) (Nat.le_refl _)) ?_
      rw [e6]
      rw [List.append_assoc] at hq3
      exact hq3
    · rw [if_neg z]
      have e6 : sInsR od x (y :: rest) = x :: y :: rest := by
        conv => lhs; unfold sInsR
        rw [if_neg z]
      refine BW.br rfl rfl (by first | omega | decide | (constructor <;> first | omega | decide)) (fun w2 => ?_) (fun w2 => by first | (exfalso; omega) | exact absurd w2 (by decide))
      (repeat (refine BW.pl rfl rfl ?_))
      refine CW.aast rfl hq ⟨by omega, by omega⟩ (Or.inr (lineV hx.2.1)) (fun S2 hq2 hF2 => ?_)
      refine kk S2 _ hF2 ?_
      have e7 : (lnsOf la rest.reverse ++ some (la y.1) :: (jk :: (lnsOf la mv.reverse ++ P2))).set ((rest.length : Int) + 1).toNat (some (la x.1)) = lnsOf la (mv ++ sInsR od x (y :: rest)).reverse ++ P2 := by
        rw [e5, List.append_cons, set_mid (a := lnsOf la rest.reverse ++ [some (la y.1)]) (by rw [List.length_append, hrl3]; rfl), e6]
        simp [lnsOf]
      rw [← e7]
      exact hq2
theorem L_sort (hL : LO S K la A B) (hf : 1 ≤ f) (hfl : f ≤ l) (hl : l ≤ A.1.length) (h40 : A.1.length ≤ 900) (hm : Ob S m (oOwn 7)) (hmo : KoM K m) (h48 : Fi S 48 m (oAct od)) (h49 : Fi S 49 m (oNum od)) (hac : oAct od = 111 ∨ oAct od = 79) (hnm : 0 ≤ oNum od ∧ oNum od ≤ 99) (hB : B + 60000 ≤ 20000000) (hw : w = f) (hz : nn = l) : BMr (d + 7) gk_X1_sort [aR (K 1), aR m, aI w, aI nn] S (fun r S' => r = none ∧ LO S' K la (sSort A od f l) (B + 30 + (l + 1 - f)) ∧ XF K V S S') := by
  subst hw hz
  obtain ⟨t, p, G⟩ := A
  have hLB : LB S K la (idsOfL t) p G B := hL.1
  have hl : l ≤ t.length := hl
  have h40 : t.length ≤ 900 := h40
  have hx := hLB.obx
  have e3 := hLB.e3
  obtain ⟨mc0, hT0⟩ := hLB.text
  have hsl := seg_len (t := t) hl hf
  have es := seg_split hf (by omega) hl
  have hlp : (t.take (f - 1)).length = f - 1 := by rw [List.length_take]; omega
  have et : t = t.take (f - 1) ++ (seg t f l ++ t.drop l) := by rw [← es, List.take_append_drop]
  refine BM.of rfl rfl rfl ?_
  (repeat (refine BW.pl rfl rfl ?_))
  have ea : (l : Int) - f + 1 = ((l + 1 - f : Nat) : Int) := by omega
  rw [ea]
  refine CW.arrR rfl rfl rfl ⟨by omega, by omega⟩ (fun q S1 hN => ?_)
  have hq := hN.ob
  have e0 : (((l + 1 - f : Nat) : Int)).toNat = l + 1 - f := by omega
  rw [e0] at hq
  have hL1 : LO S1 K la (t, p, G) (B + (12 + (l + 1 - f))) := by
    have := hL.fr hN.fr LoW.no (by omega)
    rw [e0] at this
    exact this
  have hqo := hL.1.ko hN.nil
  have hm1 := hm.fr hN.fr ⟨oNe rfl, Sep.no⟩
  have h481 := h48.fr hN.fr ⟨⟨hm.old (oNe rfl), by decide⟩, Sep.no⟩
  have h491 := h49.fr hN.fr ⟨⟨hm.old (oNe rfl), by decide⟩, Sep.no⟩
  have hX1 : XF K V S S1 := XF.rf.nw hN
  have hx1 := hL1.1.obx
  have e31 := hL1.1.e3
  obtain ⟨mc1, hT1⟩ := hL1.1.text
  (repeat (first | (refine BW.pl rfl rfl ?_) | (refine CW.geti rfl rfl (by assumption) rfl rfl (by assumption) (fun _ => ?_)) | (refine CW.getr rfl rfl (by assumption) rfl rfl (by assumption) ?_)))
  have eb : (f : Int) - 1 = ((f - 1 : Nat) : Int) := by omega
  rw [eb]
  refine CW.c2 rfl rfl (by first | exact Or.inl rfl | exact Or.inr (tagO (by assumption) (by rfl) (by rfl))) (by first | exact Or.inl (by decide) | exact Or.inr ⟨_, rfl, by assumption⟩) rfl (L_cur (V := V) hL1 (k := f - 1) (by omega) (by omega) (by omega) rfl hT1) ?_
  rintro r S2 ⟨it, rfl, hitk, hC2, hF2⟩
  have hC2 := hC2.base hX1
  have memt : ∀ z : SLine, z ∈ t.take (f - 1) ∨ z ∈ seg t f l ∨ z ∈ t.drop l → z ∈ t := fun z hz => by
    have : z ∈ t.take (f - 1) ++ (seg t f l ++ t.drop l) := by
      rcases hz with w | w | w
      · exact List.mem_append_left _ w
      · exact List.mem_append_right _ (List.mem_append_left _ w)
      · exact List.mem_append_right _ (List.mem_append_right _ w)
    rw [← et] at this
    exact this
  have hq2 := hq.fr hF2 ⟨oNe rfl, Sep.no⟩
  have hm2 := hm1.fr hF2 ⟨oNe rfl, Sep.no⟩
  have h482 := h481.fr hF2 ⟨⟨hm1.old (oNe rfl), by decide⟩, Sep.no⟩
  have h492 := h491.fr hF2 ⟨⟨hm1.old (oNe rfl), by decide⟩, Sep.no⟩
  have hperm := sSortL_perm (od := od) (seg t f l)
  have hsrl : (sSortL od (seg t f l)).length = l + 1 - f := by rw [hperm.length_eq, hsl]
  let PO : GO → BS → Prop := fun r S' => ∃ v, r = .inl v ∧ (v = none ∧ LO S' K la (sSort (t, p, G) od f l) (B + 30 + (l + 1 - f)) ∧ XF K V S S')
  have eS : sSort (t, p, G) od f l = (t.take (f - 1) ++ sSortL od (seg t f l) ++ t.drop l, l, G) := rfl
  -- the lines go back
  have back : ∀ (k : Nat) (S3 : BS) (mc lr : Nat) (v7 v8 : Option GV), gn1 v7 = true → gn1 v8 = true → k ≤ l + 1 - f → LB S3 K la (idsOfL (t.take (f - 1) ++ (seg t f l).take k ++ (sSortL od (seg t f l)).drop k ++ t.drop l)) p G (B + 30 + (l + 1 - f)) → RowsI S3 la G.2.2.2.2.1 t → Ob S3 (K 3) (oLl (lsOf la (idsOfL (t.take (f - 1) ++ (seg t f l).take k ++ (sSortL od (seg t f l)).drop k ++ t.drop l))) mc) → Ob S3 it (oIt (K 3) (f - 1 + k) mc lr) → Ob S3 q (oRa 106 (lnsOf la (sSortL od (seg t f l)))) → KoM K it → S.1 it = oNil → XF K V S S3 → BW (d + 6) gm_X1_sort 58 [some (aR (K 1)), some (aR m), some (aI f), some (aI l), some (aR q), some (aR it), some (aI ((k : Int) - 1)), v7, v8] [] S3 PO := by
    intro k
    induction k with
    | zero =>
      intro S3 mc lr v7 v8 g7 g8 hk hL3 hR3 hT3 hit3 hq3 hko hit0 hX3
      have hx3 := hL3.obx
      (repeat (refine BW.pl rfl rfl ?_))
      refine BW.br rfl rfl (by first | omega | decide | (constructor <;> first | omega | decide)) (fun w => ?_) (fun w => by first | (exfalso; omega) | exact absurd w (by decide))
      (repeat (refine BW.pl rfl rfl ?_))
      first | (refine CW.putr rfl rfl (by assumption) rfl (by decide) (fun S4 hP4 h5 => ?_)) | (refine CW.puti rfl (by assumption) rfl (by decide) (by first | exact Or.inl ⟨rfl, by first | omega | decide | (constructor <;> first | omega | decide)⟩ | exact Or.inr (Or.inl ⟨rfl, by first | omega | decide | (constructor <;> first | omega | decide)⟩) | exact Or.inr (Or.inr (Or.inl ⟨rfl, by first | omega | decide | (constructor <;> first | omega | decide)⟩)) | exact Or.inr (Or.inr (Or.inr ⟨rfl, by first | omega | decide | (constructor <;> first | omega | decide)⟩))) (fun S4 hP4 h5 => ?_))
      refine BW.ret rfl rfl ⟨_, rfl, rfl, ?_, hX3.pu1 hP4 (by decide)⟩
      rw [eS]
      rw [List.take_zero, List.drop_zero, List.append_nil] at hL3
      refine ⟨hL3.puP hP4 h5 rfl, (hR3.pu1 hP4 hx3).sub (fun z hz => ?_)⟩
      rcases List.mem_append.mp hz with w | w
      · rcases List.mem_append.mp w with w | w
        · exact memt z (Or.inl w)
        · exact memt z (Or.inr (Or.inl (hperm.mem_iff.mp w)))
      · exact memt z (Or.inr (Or.inr w))
    | succ k ih =>
      intro S3 mc lr v7 v8 g7 g8 hk hL3 hR3 hT3 hit3 hq3 hko hit0 hX3
      have hks : k < (seg t f l).length := by omega
      have hkr : k < (sSortL od (seg t f l)).length := by omega
      have e1 : (seg t f l).take (k + 1) = (seg t f l).take k ++ [(seg t f l).getD k (0, [])] := by
        rw [List.take_succ_eq_append_getElem hks, List.getD_eq_getElem?_getD, List.getElem?_eq_getElem hks]; rfl
      have e2 : (sSortL od (seg t f l)).drop k = (sSortL od (seg t f l)).getD k (0, []) :: (sSortL od (seg t f l)).drop (k + 1) := by
        rw [List.drop_eq_getElem_cons hkr, List.getD_eq_getElem?_getD, List.getElem?_eq_getElem hkr]; rfl
      have hgm : (sSortL od (seg t f l)).getD k (0, []) ∈ sSortL od (seg t f l) := getD_mem hkr
      have hg : (lnsOf la (sSortL od (seg t f l))).getD k none = some (la ((sSortL od (seg t f l)).getD k (0, [])).1) := by
        unfold lnsOf
        rw [List.getD_eq_getElem?_getD, List.getElem?_map, List.getD_eq_getElem?_getD, List.getElem?_eq_getElem hkr]; rfl
      have hxin : (sSortL od (seg t f l)).getD k (0, []) ∈ t := memt _ (Or.inr (Or.inl (hperm.mem_iff.mp hgm)))
      generalize hxx : (sSortL od (seg t f l)).getD k (0, []) = x at e2 hg hxin hgm
      generalize (seg t f l).getD k (0, []) = y at e1
      have hx6 := hR3 x hxin
      have hll : (idsOfL (t.take (f - 1) ++ (seg t f l).take k)).length = f - 1 + k := by rw [ids_len, List.length_append, hlp, List.length_take]; omega
      have eids : idsOfL (t.take (f - 1) ++ (seg t f l).take (k + 1) ++ (sSortL od (seg t f l)).drop (k + 1) ++ t.drop l) = idsOfL (t.take (f - 1) ++ (seg t f l).take k) ++ y.1 :: (idsOfL ((sSortL od (seg t f l)).drop (k + 1)) ++ idsOfL (t.drop l)) := by
        rw [e1]; simp [idsOfL]
      have eids2 : idsOfL (t.take (f - 1) ++ (seg t f l).take k ++ (sSortL od (seg t f l)).drop k ++ t.drop l) = idsOfL (t.take (f - 1) ++ (seg t f l).take k) ++ x.1 :: (idsOfL ((sSortL od (seg t f l)).drop (k + 1)) ++ idsOfL (t.drop l)) := by
        rw [e2]; simp [idsOfL]
      rw [eids] at hL3 hT3
      have hlen3 : (lsOf la (idsOfL (t.take (f - 1) ++ (seg t f l).take k) ++ y.1 :: (idsOfL ((sSortL od (seg t f l)).drop (k + 1)) ++ idsOfL (t.drop l)))).length = t.length := by
        rw [lsOf_len, List.length_append, List.length_cons, List.length_append, hll, ids_len, ids_len, List.length_drop, List.length_drop, hsrl]; omega
      have hcb := hL3.tt
      have ek : ((k + 1 : Nat) : Int) - 1 = (k : Int) := by omega
      rw [ek]
      (repeat (refine BW.pl rfl rfl ?_))
      refine BW.br rfl rfl (by first | omega | decide | (constructor <;> first | omega | decide)) (fun w => by first | (exfalso; omega) | exact absurd w (by decide)) (fun w => ?_)
      (repeat (refine BW.pl rfl rfl ?_))
      refine CW.c1 rfl rfl (by first | exact Or.inl rfl | exact Or.inr (tagO (by assumption) (by rfl) (by rfl))) (by first | exact Or.inl (by decide) | exact Or.inr ⟨_, rfl, by assumption⟩) rfl (C_itPrev hit3 hT3 (by omega) (by omega)) ?_
      rintro r S4 ⟨rfl, hit4, hF4⟩
      have hLo := LoW.one hko hit3 (oNe rfl) rfl
      have hL4 := hL3.fr hF4 hLo (by omega)
      have hR4 := hR3.fr hF4 hLo
      have hT4 := hT3.fr hF4 ⟨oNe rfl, hT3.ne hit3 (oNe rfl)⟩
      have hq4 := hq3.fr hF4 ⟨oNe rfl, hq3.ne hit3 (oNe rfl)⟩
      have hX4 := hX3.f1 hF4 (fun z => absurd hit0 z)
      have hx64 := hx6.fr hF4 hLo
      (repeat (refine BW.pl rfl rfl ?_))
      refine CW.aald rfl hq4 ⟨by omega, by rw [lnsOf_len]; omega⟩ ?_
      have ek2 : ((k : Nat) : Int).toNat = k := by omega
      rw [ek2, hg]
      rw [show f - 1 + (k + 1) - 1 = f - 1 + k by omega, show f - 1 + (k + 1) = (f - 1 + k) + 1 by omega] at hit4
      refine CW.c2 rfl rfl (by first | exact Or.inl rfl | exact Or.inr (tagO (by assumption) (by rfl) (by rfl))) (by first | exact Or.inl (by decide) | exact Or.inr ⟨_, rfl, by assumption⟩) rfl (C_itSet (j := f - 1 + k) hit4 hT4 (by omega) (vOk_o hx64.2.1 rfl)) ?_
      rintro r S5 ⟨rfl, hT5, hF5⟩
      have eset : (lsOf la (idsOfL (t.take (f - 1) ++ (seg t f l).take k) ++ y.1 :: (idsOfL ((sSortL od (seg t f l)).drop (k + 1)) ++ idsOfL (t.drop l)))).set (f - 1 + k) (some (la x.1)) = lsOf la (idsOfL (t.take (f - 1) ++ (seg t f l).take k ++ (sSortL od (seg t f l)).drop k ++ t.drop l)) := by
        rw [eids2, lsOf_app, lsOf_app]
        exact set_mid (by rw [lsOf_len, hll])
      rw [eset] at hT5
      have hL5 := hL4.setText hF5 LoX.k hT5 (fun z hz => by
        rw [eids2] at hz
        rcases List.mem_append.mp hz with w | w
        · exact hL4.idR (List.mem_append_left _ w)
        · rcases List.mem_cons.mp w with w | w
          · rw [w]; exact hx64.1
          · exact hL4.idR (List.mem_append_right _ (List.mem_cons_of_mem _ w))) (by omega)
      have hw6 : W6 S4 (fun k => k = K 3) := W6.one hT4 (oNe rfl) rfl
      refine BW.incV rfl rfl rfl (by simp only [List.all_cons, List.all_nil, g7, g8]; rfl) ?_
      (iterate 1 (refine BW.pl rfl rfl ?_))
      rw [show (k : Int) + -1 = (k : Int) - 1 by omega]
      exact ih S5 mc _ v7 v8 g7 g8 (by omega) (hL5.le (by omega) (by omega)) (hR4.f6 hF5 hw6) hT5 (hit4.fr hF5 ⟨oNe rfl, hit4.ne hT4 (oNe rfl)⟩) (hq4.fr hF5 ⟨oNe rfl, hq4.ne hT4 (oNe rfl)⟩) hko hit0 (hX4.f1 hF5 (fun _ => hL4.wk (by decide)))
  have loop : ∀ (ms1 acc dn : List SLine) (S3 : BS) (lr j : Nat) (v7 v8 : Option GV), gn1 v7 = true → gn1 v8 = true → LC S S3 K la p G (B + 29 + (l + 1 - f)) it lr dn (ms1 ++ t.drop l) V → dn ++ (ms1 ++ t.drop l) = t → ms1.length + acc.length = l + 1 - f → j = acc.length → dn.length = f - 1 + j → (∀ z ∈ acc, z ∈ t) → sSortL od (seg t f l) = (ms1.foldl (fun acc x => sInsR od x acc) acc).reverse → Ob S3 q (oRa 106 (lnsOf la acc.reverse ++ List.replicate ms1.length none)) → Ob S3 m (oOwn 7) → Fi S3 48 m (oAct od) → Fi S3 49 m (oNum od) → BW (d + 6) gm_X1_sort 16 [some (aR (K 1)), some (aR m), some (aI f), some (aI l), some (aR q), some (aR it), some (aI j), v7, v8] [] S3 PO := by
    intro ms1
    induction ms1 with
    | nil =>
      intro acc dn S3 lr j v7 v8 g7 g8 hC hdt hml hj hdl hac2 hsp hq3 hm3 h483 h493
      have hsp : sSortL od (seg t f l) = acc.reverse := hsp
      have hq3 : Ob S3 q (oRa 106 (lnsOf la acc.reverse ++ [])) := hq3
      rw [List.append_nil, ← hsp] at hq3
      have hml : 0 + acc.length = l + 1 - f := hml
      (repeat (refine BW.pl rfl rfl ?_))
      refine CW.alenR rfl hq3 (fun _ => ?_)
      rw [lnsOf_len, hsrl]
      refine BW.br rfl rfl (by first | omega | decide | (constructor <;> first | omega | decide)) (fun w => ?_) (fun w => by first | (exfalso; omega) | exact absurd w (by decide))
      (repeat (refine BW.pl rfl rfl ?_))
      refine CW.alenR rfl hq3 (fun _ => ?_)
      rw [lnsOf_len, hsrl]
      (iterate 2 (refine BW.pl rfl rfl ?_))
      refine BW.stiV rfl rfl (by simp only [List.all_cons, List.all_nil, g7, g8]; rfl) ?_
      obtain ⟨h1, ⟨mc, h2, h3⟩, h4, h5, h6, h7⟩ := hC
      have hdt' : dn ++ ([] ++ t.drop l) = t := hdt
      have eids : t.take (f - 1) ++ (seg t f l).take (l + 1 - f) ++ (sSortL od (seg t f l)).drop (l + 1 - f) ++ t.drop l = t := by
        have d1 : (seg t f l).take (l + 1 - f) = seg t f l := List.take_of_length_le (by omega)
        have d2 : (sSortL od (seg t f l)).drop (l + 1 - f) = [] := List.drop_of_length_le (by omega)
        rw [d1, d2, List.append_nil, List.append_assoc]
        exact et.symm
      rw [hdt'] at h1 h2
      exact back (l + 1 - f) S3 mc lr v7 v8 g7 g8 (Nat.le_refl _) (by rw [eids]; exact h1.1.le (by omega) (by omega)) h1.2 (by rw [eids]; exact h2) (by rw [hdl] at h3; rw [show f - 1 + (l + 1 - f) = f - 1 + j by omega]; exact h3) hq3 h4 h5 h6
    | cons x ms1 ih =>
      intro acc dn S3 lr j v7 v8 g7 g8 hC hdt hml hj hdl hac2 hsp hq3 hm3 h483 h493
      have hml2 : ms1.length + 1 + acc.length = l + 1 - f := by rw [List.length_cons] at hml; exact hml
      have hal : (lnsOf la acc.reverse ++ List.replicate (x :: ms1).length none).length = l + 1 - f := by rw [List.length_append, lnsOf_len, List.length_reverse, List.length_replicate, List.length_cons]; omega
      have hC' : LC S S3 K la p G (B + 29 + (l + 1 - f)) it lr dn (x :: (ms1 ++ t.drop l)) V := hC
      obtain ⟨mc, hT3, hit3⟩ := hC.2.1
      (repeat (refine BW.pl rfl rfl ?_))
      refine CW.alenR rfl hq3 (fun _ => ?_)
      rw [hal]
      refine BW.br rfl rfl (by first | omega | decide | (constructor <;> first | omega | decide)) (fun w => by first | (exfalso; omega) | exact absurd w (by decide)) (fun w => ?_)
      (repeat (refine BW.pl rfl rfl ?_))
      refine CW.c1 rfl rfl (by first | exact Or.inl rfl | exact Or.inr (tagO (by assumption) (by rfl) (by rfl))) (by first | exact Or.inl (by decide) | exact Or.inr ⟨_, rfl, by assumption⟩) rfl (L_next hC') ?_
      rintro r S4 ⟨rfl, hC4, hF4⟩
      have hin : x ∈ dn ++ [x] ++ (ms1 ++ t.drop l) := by simp
      have hx6 := hC4.rws x hin
      refine CW.castS rfl hx6.2.1 rfl rfl rfl ?_
      refine BW.strV rfl rfl (by simp only [List.all_cons, List.all_nil, g7, g8]; rfl) ?_
      (iterate 1 (refine BW.pl rfl rfl ?_))
      refine BW.stiV rfl rfl (by simp only [List.set, List.all_cons, List.all_nil, g8]; rfl) ?_
      have hq4 := hq3.fr hF4 ⟨oNe rfl, hq3.ne hit3 (oNe rfl)⟩
      have hm4 := hm3.fr hF4 ⟨oNe rfl, hm3.ne hit3 (oNe rfl)⟩
      have h484 := h483.fr hF4 ⟨⟨hm3.old (oNe rfl), by decide⟩, hm3.ne hit3 (oNe rfl)⟩
      have h494 := h493.fr hF4 ⟨⟨hm3.old (oNe rfl), by decide⟩, hm3.ne hit3 (oNe rfl)⟩
      have hdt4 : dn ++ [x] ++ (ms1 ++ t.drop l) = t := by rw [List.append_assoc]; exact hdt
      have hr4 : RowsI S4 la G.2.2.2.2.1 acc := fun z hz => hC4.rws z (by rw [hdt4]; exact hac2 z hz)
      have eq4 : lnsOf la acc.reverse ++ List.replicate (x :: ms1).length none = lnsOf la acc.reverse ++ none :: (lnsOf la ([] : List SLine).reverse ++ List.replicate ms1.length none) := rfl
      rw [eq4] at hq4
      subst hj
      refine sortIns (d := d) (x := x) hac hnm (P2 := List.replicate ms1.length none) (by rw [List.length_replicate]; omega) acc [] none S4 (by show acc.length + 0 ≤ 1000; omega) hq4 hm4 h484 h494 hx6 hr4 (fun S5 v8' hF5 hq5 => ?_)
      have hC5 : LC S S5 K la p G (B + 29 + (l + 1 - f)) it (dn.length + 1) (dn ++ [x]) (ms1 ++ t.drop l) V := hC4.frN hF5 (LoW.one hqo hq4 (oNe rfl) rfl) (by obtain ⟨mc4, hT4, hit4⟩ := hC4.2.1; exact hit4.ne hq4 (oNe rfl)) (fun k hk => by rw [hk]; exact hN.nil) (by omega)
      (iterate 2 (refine BW.pl rfl rfl ?_))
      have ej : (acc.length : Int) + 1 = ((acc.length + 1 : Nat) : Int) := by omega
      rw [ej]
      have hil : (sInsR od x acc).length = acc.length + 1 := by rw [(sInsR_perm (od := od) x acc).length_eq]; rfl
      exact ih (sInsR od x acc) (dn ++ [x]) S5 _ _ _ _ rfl rfl hC5 hdt4 (by rw [hil]; omega) hil.symm (by rw [List.length_append, hdl]; simp; omega) (fun z hz => by
        rcases List.mem_cons.mp ((sInsR_perm (od := od) x acc).mem_iff.mp hz) with w | w
        · rw [w]
          have : x ∈ dn ++ (x :: ms1 ++ t.drop l) := by simp
          rw [hdt] at this
          exact this
        · exact hac2 z w) hsp hq5 (hm4.fr hF5 ⟨oNe rfl, hm4.ne hq4 (oNe rfl)⟩) (h484.fr hF5 ⟨⟨hm4.old (oNe rfl), by decide⟩, hm4.ne hq4 (oNe rfl)⟩) (h494.fr hF5 ⟨⟨hm4.old (oNe rfl), by decide⟩, hm4.ne hq4 (oNe rfl)⟩)
  (iterate 3 (refine BW.pl rfl rfl ?_))
  exact loop (seg t f l) [] (t.take (f - 1)) S2 0 0 none none rfl rfl (by rw [← es]; exact hC2.le (by omega) (by omega)) et.symm (by rw [hsl]; rfl) rfl (by rw [hlp]; rfl) (fun z hz => by cases hz) rfl (by rw [hsl]; exact hq2) hm2 h482 h492
end SO
