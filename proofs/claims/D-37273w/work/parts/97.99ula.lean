-- C
set_option maxRecDepth 100000
/-! LINEORDERS: labelsOf -/
section LA
variable {d n m q cap B c k : Nat} {nr : Int} {S S' S1 : BS} {os : List SOrd} {xs : List (Option Nat)} {o : SOrd}
theorem sLab_snoc : sLab (os ++ [o]) nr = (sLab os nr).or (if oAct o.1 = 58 ∧ oNum o.1 = nr then some os.length else none) := by
  unfold sLab
  rw [List.findIdx?_append, List.findIdx?_singleton]
  congr 1
  by_cases z : oAct o.1 = 58 ∧ oNum o.1 = nr
  · rw [if_pos z, if_pos (by rw [Bool.and_eq_true, beq_iff_eq, beq_iff_eq]; exact z)]
    simp
  · rw [if_neg z, if_neg (by rw [Bool.and_eq_true, beq_iff_eq, beq_iff_eq]; exact z)]
    simp
theorem L_labelsOf (hq : Ob S q (oAl xs cap)) (hxl : xs.length = os.length) (hE : ∀ k, (hk : k < os.length) → ∃ mk, xs.getD k none = some mk ∧ Ob S mk (oOwn 7) ∧ Fi S 48 mk (oAct os[k].1) ∧ Fi S 49 mk (oNum os[k].1)) (hR : ∀ o ∈ os, oAct o.1 = 58 → 0 ≤ oNum o.1 ∧ oNum o.1 < 100) (hl : os.length < 99) (ht : S.2.2.2 < 400000000) : BMr (d + 8) gk_X1_labelsOf [aR q] S (fun r S' => ∃ tm Mm, r = vR (some tm) ∧ S.1 tm = oNil ∧ Ob S' tm (oTm Mm) ∧ (∀ nr, 0 ≤ nr → nr < 100 → Mm nr = (sLab os nr).map (fun k => k + 128)) ∧ Fr0 S S' (21 + 19 * os.length)) := by
  refine BM.of rfl rfl rfl ?_
  refine CW.newJ (L := 9) (c := 21) rfl rfl rfl (fun tm S1 hN => ?_)
  have htr := hN.ob
  have htk := hN.1
  have ht0 : S.1 tm = oNil := hN.nil
  (repeat (refine BW.pl rfl rfl ?_))
  refine CW.c1 rfl rfl (by first | exact Or.inl rfl | exact Or.inr (tagO (by assumption) (by rfl) (by rfl))) (by first | exact Or.inl (by decide) | exact Or.inr ⟨_, rfl, by assumption⟩) rfl (C_tmNew htr) ?_
  rintro r S2 ⟨rfl, hT2, hF2⟩
  have hFr : Fr0 S S2 21 := (hN.fr.tr hF2 (fun m hm z => hm (by rw [z]; exact ht0))).w (fun _ _ z => z) (by omega)
  have loop : ∀ (n j : Nat) (S3 : BS) (Mm : Int → Option Nat), j + n = os.length → Ob S3 tm (oTm Mm) → (∀ nr, 0 ≤ nr → nr < 100 → Mm nr = (sLab (os.take j) nr).map (fun k => k + 128)) → Fr0 S S3 (21 + 19 * j) → BW (d + 7) gm_X1_labelsOf 6 [some (aR q), some (aR tm), some (aI j)] [] S3 (fun r S' => ∃ v, r = .inl v ∧ ∃ tm Mm, v = vR (some tm) ∧ S.1 tm = oNil ∧ Ob S' tm (oTm Mm) ∧ (∀ nr, 0 ≤ nr → nr < 100 → Mm nr = (sLab os nr).map (fun k => k + 128)) ∧ Fr0 S S' (21 + 19 * os.length)) := by
    intro n
    induction n with
    | zero =>
      intro j S3 Mm hj hT3 hM hF3
      have hj : j = os.length := hj
      have hq3 := hq.fr hF3 ⟨oNe rfl, Sep.no⟩
      (repeat (refine BW.pl rfl rfl ?_))
      refine CW.e1 rfl rfl (by first | exact Or.inl rfl | exact Or.inr (tagO (by assumption) (by rfl) (by rfl))) (by first | exact Or.inl (by decide) | exact Or.inr ⟨_, rfl, by assumption⟩) rfl (B_alSize hq3) ?_
      refine BW.br rfl rfl (by first | omega | decide | (constructor <;> first | omega | decide)) (fun w => ?_) (fun w => by first | (exfalso; omega) | exact absurd w (by decide))
      (repeat (refine BW.pl rfl rfl ?_))
      refine BW.aret rfl rfl ⟨_, rfl, tm, Mm, rfl, ht0, hT3, fun nr h1 h2 => ?_, hF3.w (fun _ _ z => z) (by omega)⟩
      rw [hM nr h1 h2, List.take_of_length_le (by omega)]
    | succ n ih =>
      intro j S3 Mm hj hT3 hM hF3
      have hjl : j < os.length := by omega
      have hq3 := hq.fr hF3 ⟨oNe rfl, Sep.no⟩
      obtain ⟨mk, hg, hmk0, h480, h490⟩ := hE j hjl
      have hmk := hmk0.fr hF3 ⟨oNe rfl, Sep.no⟩
      have h48 := h480.fr hF3 ⟨⟨hmk0.old (oNe rfl), by decide⟩, Sep.no⟩
      have h49 := h490.fr hF3 ⟨⟨hmk0.old (oNe rfl), by decide⟩, Sep.no⟩
      have et : os.take (j + 1) = os.take j ++ [os[j]] := List.take_succ_eq_append_getElem hjl
      have etl : (os.take j).length = j := by rw [List.length_take]; omega
      have ht3 := hF3.2.2
      (repeat (refine BW.pl rfl rfl ?_))
      refine CW.e1 rfl rfl (by first | exact Or.inl rfl | exact Or.inr (tagO (by assumption) (by rfl) (by rfl))) (by first | exact Or.inl (by decide) | exact Or.inr ⟨_, rfl, by assumption⟩) rfl (B_alSize hq3) ?_
      refine BW.br rfl rfl (by first | omega | decide | (constructor <;> first | omega | decide)) (fun w => by first | (exfalso; omega) | exact absurd w (by decide)) (fun w => ?_)
      (repeat (refine BW.pl rfl rfl ?_))
      refine CW.e2 rfl rfl (by first | exact Or.inl rfl | exact Or.inr (tagO (by assumption) (by rfl) (by rfl))) (by first | exact Or.inl (by decide) | exact Or.inr ⟨_, rfl, by assumption⟩) rfl (C_alGet hq3 (show j < xs.length by omega) hg rfl) ?_
      refine CW.castS rfl hmk rfl rfl rfl ?_
      (repeat (first | (refine BW.pl rfl rfl ?_) | (refine CW.geti rfl rfl (by assumption) rfl rfl (by assumption) (fun _ => ?_)) | (refine CW.getr rfl rfl (by assumption) rfl rfl (by assumption) ?_)))
      by_cases z : oAct os[j].1 = 58
      · obtain ⟨r1, r2⟩ := hR os[j] (List.getElem_mem hjl) z
        refine BW.br rfl rfl (by first | omega | decide | (constructor <;> first | omega | decide)) (fun w2 => by first | (exfalso; omega) | exact absurd w2 (by decide)) (fun w2 => ?_)
        (repeat (refine BW.pl rfl rfl ?_))
        refine CW.e2 rfl rfl (by first | exact Or.inl rfl | exact Or.inr (tagO (by assumption) (by rfl) (by rfl))) (by first | exact Or.inl (by decide) | exact Or.inr ⟨_, rfl, by assumption⟩) rfl (C_alGet hq3 (show j < xs.length by omega) hg rfl) ?_
        refine CW.castS rfl hmk rfl rfl rfl ?_
        (repeat (first | (refine BW.pl rfl rfl ?_) | (refine CW.geti rfl rfl (by assumption) rfl rfl (by assumption) (fun _ => ?_)) | (refine CW.getr rfl rfl (by assumption) rfl rfl (by assumption) ?_)))
        refine CW.e1 rfl rfl (by first | exact Or.inl rfl | exact Or.inr (tagO (by assumption) (by rfl) (by rfl))) (by first | exact Or.inl (by decide) | exact Or.inr ⟨_, rfl, by assumption⟩) rfl (B_intOf ⟨by omega, by omega⟩) ?_
        (repeat (refine BW.pl rfl rfl ?_))
        refine CW.e1 rfl rfl (by first | exact Or.inl rfl | exact Or.inr (tagO (by assumption) (by rfl) (by rfl))) (by first | exact Or.inl (by decide) | exact Or.inr ⟨_, rfl, by assumption⟩) rfl (B_intOf ⟨by omega, by omega⟩) ?_
        refine CW.c3 rfl rfl (by first | exact Or.inl rfl | exact Or.inr (tagO (by assumption) (by rfl) (by rfl))) (by first | exact Or.inl (by decide) | exact Or.inr ⟨_, rfl, by assumption⟩) rfl (C_tmPutA hT3 ⟨by omega, by omega⟩ (fun m h => Or.inl (by cases h; omega)) (by omega)) ?_
        rintro r S4 ⟨rfl, hT4, hF4⟩
        (iterate 3 (refine BW.pl rfl rfl ?_))
        refine ih (j + 1) S4 _ (by omega) hT4 (fun nr h1 h2 => ?_) ((hF3.tr hF4 (fun m hm z => hm (by rw [z]; exact ht0))).w (fun _ _ z => z) (by omega))
        have hMn := hM nr h1 h2
        have hMo := hM (oNum os[j].1) r1 r2
        have ej : ((j : Int) + 128).toNat = j + 128 := by omega
        by_cases e : oNum os[j].1 = nr
        · have e1 : (if oAct os[j].1 = 58 ∧ oNum os[j].1 = nr then some j else none) = some j := if_pos ⟨z, e⟩
          rw [et, sLab_snoc, etl, e1]
          subst e
          cases hs : sLab (os.take j) (oNum os[j].1) with
          | none =>
            rw [hs] at hMo
            have hMo : Mm (oNum os[j].1) = none := hMo
            rw [if_pos hMo]
            unfold upM
            rw [if_pos rfl, ej]
            rfl
          | some k0 =>
            rw [hs] at hMo
            have hMo : Mm (oNum os[j].1) = some (k0 + 128) := hMo
            rw [if_neg (by rw [hMo]; exact fun y => by cases y), hMo]
            rfl
        · have e1 : (if oAct os[j].1 = 58 ∧ oNum os[j].1 = nr then some j else none) = none := if_neg (fun y => e y.2)
          rw [et, sLab_snoc, etl, e1, Option.or_none, ← hMn]
          split
          · unfold upM
            rw [if_neg (fun y => e y.symm)]
          · rfl
      · refine BW.br rfl rfl (by first | omega | decide | (constructor <;> first | omega | decide)) (fun w2 => ?_) (fun w2 => by first | (exfalso; omega) | exact absurd w2 (by decide))
        (iterate 2 (refine BW.pl rfl rfl ?_))
        refine ih (j + 1) S3 Mm (by omega) hT3 (fun nr h1 h2 => ?_) (hF3.w (fun _ _ z => z) (by omega))
        rw [et, sLab_snoc, if_neg (fun y => z y.1), Option.or_none]
        exact hM nr h1 h2
  (iterate 3 (refine BW.pl rfl rfl ?_))
  exact loop os.length 0 S2 _ (Nat.zero_add _) hT2 (fun nr _ _ => rfl) hFr
end LA
