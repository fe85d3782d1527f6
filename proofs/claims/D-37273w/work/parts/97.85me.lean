-- C
set_option maxRecDepth 100000
/-! LINEORDERS: marks taken away; lines by their numbers; rows in arrays -/
section MF
variable {d n m q i a y cap p B c k f e : Nat} {S S' S0 S1 S2 : BS} {K : Nat → Nat} {la : Int → Nat} {ids : List Int} {G : BG} {V W : Nat → Prop} {s z : List Int} {x v : Int} {t : List SLine} {mk mk' : Nat → Option Int} {xs ys : List (Option Nat)} {rows : List (List Int)}
theorem LB.la6 (h : LB S K la ids p G B) (hx : 0 ≤ x ∧ x < G.2.2.2.2.1) : Ob S (la x) (oOwn 6) := (h.2.2.1.1.1 x hx.1 hx.2).1
theorem LB.lai (h : LB S K la ids p G B) {y : Int} (hx : 0 ≤ x ∧ x < G.2.2.2.2.1) (hy : 0 ≤ y ∧ y < G.2.2.2.2.1) (e : la x = la y) : x = y := h.2.2.1.1.2 x y hx.1 hx.2 hy.1 hy.2 e
theorem LB.idR (h : LB S K la ids p G B) (hx : x ∈ ids) : 0 ≤ x ∧ x < G.2.2.2.2.1 := h.2.2.1.2.2 x hx
def mkJ (m : Nat → Option Int) (x : Int) (j : Nat) : Nat → Option Int := fun k => if k < j then unmk m x k else m k
theorem L_unmark (hL : LB S K la ids p G B) (hx : 0 ≤ x ∧ x < G.2.2.2.2.1) (hB : B + 5 ≤ 20000000) : BMr (d + 6) gk_X1_unmark [aR (K 1), aR (la x)] S (fun r S' => r = none ∧ LB S' K la ids p (setM G (unmk G.2.2.2.1 x)) (B + 5) ∧ XF K V S S' ∧ Fr1 S S' (K 6) 5) := by
  refine BM.of rfl rfl rfl ?_
  have loop : ∀ (n j : Nat) (S1 : BS), j + n = 5 → LB S1 K la ids p (setM G (mkJ G.2.2.2.1 x j)) (B + j) → XF K V S S1 → Fr1 S S1 (K 6) j → BW (d + 5) gm_X1_unmark 2 [some (aR (K 1)), some (aR (la x)), some (aI j)] [] S1 (fun r S' => ∃ v, r = .inl v ∧ (v = none ∧ LB S' K la ids p (setM G (unmk G.2.2.2.1 x)) (B + 5) ∧ XF K V S S' ∧ Fr1 S S' (K 6) 5)) := by
    intro n
    induction n with
    | zero =>
      intro j S1 hj hL1 hX1 hF1
      obtain rfl : j = 5 := by omega
      (repeat (refine BW.pl rfl rfl ?_))
      refine BW.br rfl rfl (by first | omega | decide | (constructor <;> first | omega | decide)) (fun w => ?_) (fun w => by first | (exfalso; omega) | exact absurd w (by decide))
      exact BW.ret rfl rfl ⟨_, rfl, rfl, hL1.mkc (fun j hj => if_pos hj), hX1, hF1⟩
    | succ n ih =>
      intro j S1 hj hL1 hX1 hF1
      have hxb := hL1.obx
      have e6 := hL1.e6
      have ht := hL1.tt
      obtain ⟨M, hM, hMj⟩ := hL1.marks
      obtain ⟨m1, m2⟩ := hMj j (by omega)
      have m1 : M (j : Int) = (G.2.2.2.1 j).map la := by
        rw [m1]
        show (if j < j then unmk G.2.2.2.1 x j else G.2.2.2.1 j).map la = _
        rw [if_neg (Nat.lt_irrefl j)]
      have m2 : ∀ y, G.2.2.2.1 j = some y → 0 ≤ y ∧ y < G.2.2.2.2.1 := fun y hy => m2 y (by
        show (if j < j then unmk G.2.2.2.1 x j else G.2.2.2.1 j) = some y
        rw [if_neg (Nat.lt_irrefl j)]; exact hy)
      have hlx : Ob S1 (la x) (oOwn 6) := hL1.la6 hx
      refine BW.big hlx rfl rfl (fun hbig => ?_)
      (repeat (refine BW.pl rfl rfl ?_))
      refine BW.br rfl rfl (by first | omega | decide | (constructor <;> first | omega | decide)) (fun w => by first | (exfalso; omega) | exact absurd w (by decide)) (fun w => ?_)
      (repeat (first | (refine BW.pl rfl rfl ?_) | (refine CW.geti rfl rfl (by assumption) rfl rfl (by assumption) (fun _ => ?_)) | (refine CW.getr rfl rfl (by assumption) rfl rfl (by assumption) ?_)))
      refine CW.e1 rfl rfl (by first | exact Or.inl rfl | exact Or.inr (tagO (by assumption) (by rfl) (by rfl))) (by first | exact Or.inl (by decide) | exact Or.inr ⟨_, rfl, by assumption⟩) rfl (B_intOf ⟨by omega, by omega⟩) ?_
      refine CW.e2 rfl rfl (by first | exact Or.inl rfl | exact Or.inr (tagO (by assumption) (by rfl) (by rfl))) (by first | exact Or.inl (by decide) | exact Or.inr ⟨_, rfl, by assumption⟩) rfl (C_tmGet hM ⟨by omega, by omega⟩ m1) ?_
      (repeat (refine BW.pl rfl rfl ?_))
      by_cases z : G.2.2.2.1 j = some x
      · rw [z]
        refine CW.ane rfl (fun n h => by cases h; rw [show S1.1 (la x) = oOwn 6 from hlx]; rfl) (fun n h => by cases h; rw [show S1.1 (la x) = oOwn 6 from hlx]; rfl) (fun n m h _ => by cases h; exact Or.inl hbig) (fun h => absurd rfl h) (fun _ => ?_)
        (repeat (first | (refine BW.pl rfl rfl ?_) | (refine CW.geti rfl rfl (by assumption) rfl rfl (by assumption) (fun _ => ?_)) | (refine CW.getr rfl rfl (by assumption) rfl rfl (by assumption) ?_)))
        refine CW.e1 rfl rfl (by first | exact Or.inl rfl | exact Or.inr (tagO (by assumption) (by rfl) (by rfl))) (by first | exact Or.inl (by decide) | exact Or.inr ⟨_, rfl, by assumption⟩) rfl (B_intOf ⟨by omega, by omega⟩) ?_
        refine CW.c2 rfl rfl (by first | exact Or.inl rfl | exact Or.inr (tagO (by assumption) (by rfl) (by rfl))) (by first | exact Or.inl (by decide) | exact Or.inr ⟨_, rfl, by assumption⟩) rfl (C_tmRem hM ⟨by omega, by omega⟩ (by omega)) ?_
        rintro r S2 ⟨rfl, hM2, hF2⟩
        (iterate 2 (refine BW.pl rfl rfl ?_))
        have hL2 : LB S2 K la ids p (setM G (mkJ G.2.2.2.1 x (j + 1))) (B + j + 1) := by
          refine hL1.setMk hF2 LoX.k ⟨_, hM2, fun k hk => ?_⟩ (by omega)
          obtain ⟨c1, c2⟩ := hMj k hk
          show upM M (j : Int) none k = ((if k < j + 1 then unmk G.2.2.2.1 x k else G.2.2.2.1 k).map la) ∧ ∀ y, (if k < j + 1 then unmk G.2.2.2.1 x k else G.2.2.2.1 k) = some y → _
          have c1 : M k = (if k < j then unmk G.2.2.2.1 x k else G.2.2.2.1 k).map la := c1
          have c2 : ∀ y, (if k < j then unmk G.2.2.2.1 x k else G.2.2.2.1 k) = some y → 0 ≤ y ∧ y < G.2.2.2.2.1 := c2
          unfold upM
          by_cases e : k = j
          · subst e
            have eu : unmk G.2.2.2.1 x k = none := by unfold unmk; rw [if_pos z]
            rw [if_pos rfl, if_pos (Nat.lt_succ_self k), eu]
            exact ⟨rfl, fun y hy => by cases hy⟩
          · rw [if_neg (by omega)]
            by_cases e2 : k < j
            · rw [if_pos e2] at c1 c2
              rw [if_pos (by omega)]; exact ⟨c1, c2⟩
            · rw [if_neg e2] at c1 c2
              rw [if_neg (by omega)]; exact ⟨c1, c2⟩
        (iterate 1 (refine BW.pl rfl rfl ?_))
        exact ih (j + 1) S2 (by omega) hL2 (hX1.f1 hF2 (fun _ => hL1.wk (by decide))) ((hF1.tr hF2 (fun _ _ z => z)).w (fun _ _ z => z) (Nat.le_refl _))
      · have hz : (G.2.2.2.1 j).map la ≠ some (la x) := fun w => by
          cases hj2 : G.2.2.2.1 j with
          | none => rw [hj2] at w; cases w
          | some y =>
            rw [hj2] at w
            have w : some (la y) = some (la x) := w
            exact z (by rw [hj2, hL1.lai (m2 y hj2) hx (Option.some.inj w)])
        refine CW.ane rfl (fun n h => ?_) (fun n h => by cases h; rw [show S1.1 (la x) = oOwn 6 from hlx]; rfl) (fun n m _ h => by cases h; exact Or.inr hbig) (fun _ => ?_) (fun h => absurd h hz)
        · cases hj2 : G.2.2.2.1 j with
          | none => rw [hj2] at h; cases h
          | some y =>
            rw [hj2] at h
            cases h
            rw [show S1.1 (la y) = oOwn 6 from hL1.la6 (m2 y hj2)]; rfl
        · (iterate 2 (refine BW.pl rfl rfl ?_))
          have e : mkJ G.2.2.2.1 x (j + 1) = mkJ G.2.2.2.1 x j := by
            funext k
            show (if k < j + 1 then unmk G.2.2.2.1 x k else G.2.2.2.1 k) = if k < j then unmk G.2.2.2.1 x k else G.2.2.2.1 k
            by_cases e1 : k = j
            · subst e1
              rw [if_pos (Nat.lt_succ_self k), if_neg (Nat.lt_irrefl k)]
              unfold unmk
              rw [if_neg z]
            · by_cases e2 : k < j
              · rw [if_pos e2, if_pos (by omega)]
              · rw [if_neg e2, if_neg (by omega)]
          exact ih (j + 1) S1 (by omega) (by rw [e]; exact hL1.le (by omega) (by omega)) hX1 (hF1.w (fun _ _ z => z) (by omega))
  (iterate 2 (refine BW.pl rfl rfl ?_))
  exact loop 5 0 S rfl hL XF.rf (Fr.rf.w (fun _ _ z => z) (Nat.zero_le _))
theorem L_lineAt (hL : LB S K la ids p G B) (hk : k < ids.length) (hx : ids.getD k 0 = x) (hkl : ids.length < 100000) (hv : v = k + 1) : BE (d + 4) gk_X1_lineAt [aR (K 1), aI v] S (vR (some (la x))) := by
  have hxb := hL.obx
  have e3 := hL.e3
  obtain ⟨mc, hT⟩ := hL.text
  have hxi : x ∈ ids := by rw [← hx, List.getD_eq_getElem?_getD, List.getElem?_eq_getElem hk]; exact List.getElem_mem hk
  have h6 := hL.la6 (hL.idR hxi)
  refine BM.of rfl rfl rfl ?_
  (repeat (first | (refine BW.pl rfl rfl ?_) | (refine CW.geti rfl rfl (by assumption) rfl rfl (by assumption) (fun _ => ?_)) | (refine CW.getr rfl rfl (by assumption) rfl rfl (by assumption) ?_)))
  refine CW.e2 rfl rfl (by first | exact Or.inl rfl | exact Or.inr (tagO (by assumption) (by rfl) (by rfl))) (by first | exact Or.inl (by decide) | exact Or.inr ⟨_, rfl, by assumption⟩) rfl (C_llGet hT (by rw [lsOf_len]; exact hk) (lsOf_get hk hx) (by omega)) ?_
  refine CW.castS rfl h6 rfl rfl rfl ?_
  exact BW.aret rfl rfl ⟨_, rfl, rfl, rfl⟩
theorem idNo_app {a : List Int} {y : Int} : idNo (a ++ [y]) x = if idNo a x ≠ 0 then idNo a x else if y = x then a.length + 1 else 0 := by
  unfold idNo
  rw [List.findIdx?_append]
  cases h : a.findIdx? (fun q => q == x) with
  | some k => rfl
  | none =>
    dsimp only
    rw [if_neg (fun z => z rfl)]
    by_cases e : y = x
    · subst e
      rw [if_pos rfl]
      simp
    · rw [if_neg e]
      have : (y == x) = false := beq_false_of_ne e
      simp [List.findIdx?_cons, this]
theorem idNo_0 {a : List Int} (h : x ∉ a) : idNo a x = 0 := by
  unfold idNo
  cases e : a.findIdx? (fun q => q == x) with
  | none => rfl
  | some k =>
    exfalso
    obtain ⟨h1, h2, _⟩ := List.findIdx?_eq_some_iff_getElem.mp e
    exact h (by rw [← beq_iff_eq.mp h2]; exact List.getElem_mem h1)
theorem linNo_id {t : List SLine} : linNo t x = idNo (idsOfL t) x := by
  unfold linNo idNo idsOfL
  rw [List.findIdx?_map]
  rfl
theorem L_numberOf (hL : LB S K la ids p G B) (hx : 0 ≤ x ∧ x < G.2.2.2.2.1) (hnd : ids.Nodup) (hl : ids.length < 100000) (hB : B + 17 ≤ 20000000) : BMr (d + 5) gk_X1_numberOf [aR (K 1), aR (la x)] S (fun r S' => r = vI (idNo ids x) ∧ Fr0 S S' 17) := by
  have hxb := hL.obx
  have e3 := hL.e3
  obtain ⟨mc, hT⟩ := hL.text
  refine BM.of rfl rfl rfl ?_
  (repeat (first | (refine BW.pl rfl rfl ?_) | (refine CW.geti rfl rfl (by assumption) rfl rfl (by assumption) (fun _ => ?_)) | (refine CW.getr rfl rfl (by assumption) rfl rfl (by assumption) ?_)))
  refine CW.c1 rfl rfl (by first | exact Or.inl rfl | exact Or.inr (tagO (by assumption) (by rfl) (by rfl))) (by first | exact Or.inl (by decide) | exact Or.inr ⟨_, rfl, by assumption⟩) rfl (C_llIt hT (by rw [lsOf_len]; omega)) ?_
  rintro r S1 ⟨it, rfl, hit0, hitk, hit, hF1⟩
  have hL1 := hL.fr hF1 LoW.no hB
  have hT1 := hT.fr hF1 ⟨oNe rfl, Sep.no⟩
  have hko := hL.ko hit0
  (iterate 1 (refine BW.pl rfl rfl ?_))
  have hlx := hL1.la6 hx
  have loop : ∀ (n j : Nat) (S2 : BS) (lr : Nat), j + n = ids.length → LB S2 K la ids p G (B + 17) → Ob S2 (K 3) (oLl (lsOf la ids) mc) → Ob S2 it (oIt (K 3) j mc lr) → Fr S S2 (fun m => m = it) 17 → BW (d + 4) gm_X1_numberOf 6 [some (aR (K 1)), some (aR (la x)), some (aI (idNo (ids.take j) x)), some (aR it)] [] S2 (fun r S' => ∃ v, r = .inl v ∧ (v = vI (idNo ids x) ∧ Fr0 S S' 17)) := by
    intro n
    induction n with
    | zero =>
      intro j S2 lr hj hL2 hT2 hit2 hF2
      (repeat (refine BW.pl rfl rfl ?_))
      refine CW.e1 rfl rfl (by first | exact Or.inl rfl | exact Or.inr (tagO (by assumption) (by rfl) (by rfl))) (by first | exact Or.inl (by decide) | exact Or.inr ⟨_, rfl, by assumption⟩) rfl (B_itHas hit2 hT2 (by rw [lsOf_len]; omega)) ?_
      rw [if_neg (by rw [lsOf_len]; omega)]
      refine BW.br rfl rfl (by first | omega | decide | (constructor <;> first | omega | decide)) (fun w => ?_) (fun w => by first | (exfalso; omega) | exact absurd w (by decide))
      (repeat (refine BW.pl rfl rfl ?_))
      have e : ids.take j = ids := List.take_of_length_le (by omega)
      rw [e]
      have hR : idNo ids x ≤ ids.length := by
        unfold idNo
        split
        · rename_i k h
          have := (List.findIdx?_eq_some_iff_getElem.mp h).1
          omega
        · omega
      exact BW.irx rfl (Or.inl ⟨rfl, by constructor <;> omega⟩) ⟨_, rfl, rfl, hF2.w (fun m hm z => hm (by rw [z]; exact hit0)) (Nat.le_refl _)⟩
    | succ n ih =>
      intro j S2 lr hj hL2 hT2 hit2 hF2
      have hjl : j < ids.length := by omega
      have hg := lsOf_get (la := la) hjl rfl
      have hin : ids.getD j 0 ∈ ids := by rw [List.getD_eq_getElem?_getD, List.getElem?_eq_getElem hjl]; exact List.getElem_mem hjl
      have hyR := hL2.idR hin
      (repeat (refine BW.pl rfl rfl ?_))
      refine CW.e1 rfl rfl (by first | exact Or.inl rfl | exact Or.inr (tagO (by assumption) (by rfl) (by rfl))) (by first | exact Or.inl (by decide) | exact Or.inr ⟨_, rfl, by assumption⟩) rfl (B_itHas hit2 hT2 (by rw [lsOf_len]; omega)) ?_
      rw [if_pos (by rw [lsOf_len]; omega)]
      refine BW.br rfl rfl (by first | omega | decide | (constructor <;> first | omega | decide)) (fun w => by first | (exfalso; omega) | exact absurd w (by decide)) (fun w => ?_)
      (repeat (refine BW.pl rfl rfl ?_))
      refine CW.c1 rfl rfl (by first | exact Or.inl rfl | exact Or.inr (tagO (by assumption) (by rfl) (by rfl))) (by first | exact Or.inl (by decide) | exact Or.inr ⟨_, rfl, by assumption⟩) rfl (C_itNext hit2 hT2 (by rw [lsOf_len]; omega) (by rw [lsOf_len]; omega) hg) ?_
      rintro r S3 ⟨rfl, hit3, hF3⟩
      have hW3 : LoW K S2 (fun m => m = it) := LoW.one hko hit2 (oNe rfl) rfl
      have hL3 : LB S3 K la ids p G (B + 17) := hL2.fr hF3 hW3 (by omega)
      have hT3 := hT2.fr hF3 ⟨oNe rfl, hT2.ne hit2 (oNe rfl)⟩
      have hF23 : Fr S S3 (fun m => m = it) 17 := (hF2.tr hF3 (fun _ _ z => z)).w (fun _ _ z => z) (Nat.le_refl _)
      have hlx3 := hL3.la6 hx
      have hly3 := hL3.la6 hyR
      refine BW.big hlx3 rfl rfl (fun hbig => ?_)
      have et : ids.take (j + 1) = ids.take j ++ [ids.getD j 0] := by
        rw [List.take_succ_eq_append_getElem hjl, List.getD_eq_getElem?_getD, List.getElem?_eq_getElem hjl]
        rfl
      have hnt : ids.getD j 0 ∉ ids.take j := fun z => by
        have : (ids.take (j + 1)).Nodup := hnd.sublist (List.take_sublist _ _)
        rw [et, List.nodup_append] at this
        exact this.2.2 _ z _ List.mem_cons_self rfl
      (repeat (refine BW.pl rfl rfl ?_))
      by_cases z : ids.getD j 0 = x
      · refine CW.ane rfl (fun n h => by cases h; rw [show S3.1 (la (ids.getD j 0)) = oOwn 6 from hly3]; rfl) (fun n h => by cases h; rw [show S3.1 (la x) = oOwn 6 from hlx3]; rfl) (fun n m _ h => by cases h; exact Or.inr hbig) (fun h => absurd (by rw [z]) h) (fun _ => ?_)
        (repeat (refine BW.pl rfl rfl ?_))
        refine CW.e1 rfl rfl (by first | exact Or.inl rfl | exact Or.inr (tagO (by assumption) (by rfl) (by rfl))) (by first | exact Or.inl (by decide) | exact Or.inr ⟨_, rfl, by assumption⟩) rfl (B_itIdx hit3 hT3 (by rw [lsOf_len]; omega)) ?_
        (iterate 2 (refine BW.pl rfl rfl ?_))
        have e : (idNo (ids.take (j + 1)) x : Nat) = j + 1 := by
          rw [et, idNo_app, idNo_0 (by rw [← z]; exact hnt), if_neg (fun z => z rfl), if_pos z, List.length_take]
          omega
        have e2 : ((idNo (ids.take (j + 1)) x : Nat) : Int) = ((j + 1 : Nat) : Int) := by rw [e]
        rw [← e2]
        exact ih (j + 1) S3 (j + 1) (by omega) hL3 hT3 hit3 hF23
      · refine CW.ane rfl (fun n h => by cases h; rw [show S3.1 (la (ids.getD j 0)) = oOwn 6 from hly3]; rfl) (fun n h => by cases h; rw [show S3.1 (la x) = oOwn 6 from hlx3]; rfl) (fun n m _ h => by cases h; exact Or.inr hbig) (fun _ => ?_) (fun h => absurd (hL3.lai hyR hx (Option.some.inj h)) z)
        have e : (idNo (ids.take (j + 1)) x : Nat) = idNo (ids.take j) x := by
          rw [et, idNo_app]
          by_cases e0 : idNo (ids.take j) x = 0
          · rw [if_neg (fun w => w e0), if_neg z, e0]
          · rw [if_pos e0]
        rw [← e]
        exact ih (j + 1) S3 (j + 1) (by omega) hL3 hT3 hit3 hF23
  exact loop ids.length 0 S1 0 (Nat.zero_add _) hL1 hT1 hit (hF1.w (fun _ _ z => z.elim) (Nat.le_refl _))
end MF
