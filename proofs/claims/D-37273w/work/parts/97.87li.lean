-- C
set_option maxRecDepth 100000
/-! LINEORDERS: rows of lines; lines come and go -/
def LaE (la la' : Int → Nat) (n : Int) : Prop := ∀ x, x < n → la' x = la x
section LN
variable {d n m q i a y cap p B c k f e l b : Nat} {S S' S0 S1 S2 : BS} {K : Nat → Nat} {la la' la2 : Int → Nat} {ids : List Int} {G : BG} {A : St} {V W : Nat → Prop} {s z : List Int} {x v w nn : Int} {t : List SLine} {mk mk' : Nat → Option Int} {xs ys : List (Option Nat)} {rows : List (List Int)}
theorem LaE.rf : LaE la la nn := fun _ _ => rfl
theorem LaE.tr {n2 : Int} (h : LaE la la' nn) (h2 : LaE la' la2 n2) (hn : nn ≤ n2) : LaE la la2 nn := fun x hx => (h2 x (by omega)).trans (h x hx)
theorem LaE.up : LaE la (upL la nn m) nn := fun x hx => if_neg (by omega)
theorem seg_len (h : l ≤ t.length) (hf : 1 ≤ f) : (seg t f l).length = l + 1 - f := by
  unfold seg
  rw [List.length_take, List.length_drop]; omega
theorem seg_get {j : Nat} (hj : j < l + 1 - f) : (seg t f l).getD j (0, []) = t.getD (f - 1 + j) (0, []) := by
  unfold seg
  rw [List.getD_eq_getElem?_getD, List.getElem?_take_of_lt hj, List.getElem?_drop, List.getD_eq_getElem?_getD]
theorem ids_get {k : Nat} : (idsOfL t).getD k 0 = (t.getD k (0, [])).1 := by
  unfold idsOfL
  rw [List.getD_eq_getElem?_getD, List.getElem?_map, List.getD_eq_getElem?_getD]
  cases t[k]? <;> rfl
theorem ids_len : (idsOfL t).length = t.length := by unfold idsOfL; rw [List.length_map]
theorem getD_mem {α : Type} {ls : List α} {dd : α} (h : k < ls.length) : ls.getD k dd ∈ ls := by
  rw [List.getD_eq_getElem?_getD, List.getElem?_eq_getElem h]; exact List.getElem_mem h
theorem L_rowsIn (hL : LO S K la A B) (hf : 1 ≤ f) (hfl : f ≤ l + 1) (hl : l ≤ A.1.length) (hl4 : A.1.length < 10000) (hB : B + 60000 ≤ 20000000) (hv : v = f) (hw : w = l) : BMr (d + 4) gk_X1_rowsIn [aR (K 1), aI v, aI w] S (fun r S' => ∃ q ys, r = vR (some q) ∧ S.1 q = oNil ∧ Ob S' q (oRa 105 ys) ∧ StrsIs S' ys (rowsOfL (seg A.1 f l)) ∧ Fr0 S S' (29 + (l + 1 - f))) := by
  subst hv hw
  have hsl := seg_len hl hf
  obtain ⟨hLB, hRw⟩ := hL
  have hx := hLB.obx
  have e3 := hLB.e3
  obtain ⟨mc, hT⟩ := hLB.text
  refine BM.of rfl rfl rfl ?_
  let ys : List (Option Nat) := (seg A.1 f l).map (fun q => S.2.2.1 44 (la q.1))
  have hyl : ys.length = l + 1 - f := by show (List.map _ _).length = _; rw [List.length_map, hsl]
  have hyg : ∀ j, j < l + 1 - f → ys.getD j none = S.2.2.1 44 (la (A.1.getD (f - 1 + j) (0, [])).1) := fun j hj => by
    show ((seg A.1 f l).map (fun q => S.2.2.1 44 (la q.1))).getD j none = _
    rw [← seg_get hj, List.getD_eq_getElem?_getD, List.getElem?_map, List.getD_eq_getElem?_getD, List.getElem?_eq_getElem (by omega)]
    rfl
  have hss : StrsIs S ys (rowsOfL (seg A.1 f l)) := by
    have hrl : (rowsOfL (seg A.1 f l)).length = l + 1 - f := by unfold rowsOfL; rw [List.length_map, hsl]
    refine ⟨by rw [hyl, hrl], fun j hj => ?_⟩
    have hj : j < l + 1 - f := by omega
    rw [hyg j hj]
    have hq := hRw (A.1.getD (f - 1 + j) (0, [])) (getD_mem (by omega))
    obtain ⟨_, _, r, h1, h2⟩ := hq
    have h1 : S.2.2.1 44 (la (A.1.getD (f - 1 + j) (0, [])).1) = r := h1
    rw [h1]
    have er : (rowsOfL (seg A.1 f l)).getD j [] = (A.1.getD (f - 1 + j) (0, [])).2 := by
      unfold rowsOfL
      rw [← seg_get hj, List.getD_eq_getElem?_getD, List.getElem?_map, List.getD_eq_getElem?_getD, List.getElem?_eq_getElem (by omega)]
      rfl
    rw [er]
    exact h2
  (repeat (refine BW.pl rfl rfl ?_))
  have ea : (l : Int) - f + 1 = ((l + 1 - f : Nat) : Int) := by omega
  rw [ea]
  refine CW.arrR rfl rfl rfl ⟨by omega, by omega⟩ (fun q S1 hN => ?_)
  have hq := hN.ob
  have e0 : (((l + 1 - f : Nat) : Int)).toNat = l + 1 - f := by omega
  rw [e0, ← hyl, ← filA_0] at hq
  have hqz := hN.nil
  have hqo := hLB.ko hqz
  have hF1 : Fr S S1 (fun m => m = q) (12 + (l + 1 - f)) := by
    have := hN.fr
    rw [e0] at this
    exact this.w (fun _ _ z => z.elim) (Nat.le_refl _)
  have hL1 := hLB.fr hN.fr LoW.no (by omega)
  have hx := hL1.obx
  have e3 := hL1.e3
  have hT := hT.fr hN.fr ⟨oNe rfl, Sep.no⟩
  (repeat (first | (refine BW.pl rfl rfl ?_) | (refine CW.geti rfl rfl (by assumption) rfl rfl (by assumption) (fun _ => ?_)) | (refine CW.getr rfl rfl (by assumption) rfl rfl (by assumption) ?_)))
  have eb : (f : Int) - 1 = ((f - 1 : Nat) : Int) := by omega
  rw [eb]
  refine CW.c2 rfl rfl (by first | exact Or.inl rfl | exact Or.inr (tagO (by assumption) (by rfl) (by rfl))) (by first | exact Or.inl (by decide) | exact Or.inr ⟨_, rfl, by assumption⟩) rfl (C_itNew (k := f - 1) hT (by rw [lsOf_len, ids_len]; omega) (by rw [lsOf_len, ids_len]; omega) rfl) ?_
  rintro r S2 ⟨it, rfl, hit0, hitk, hit, hF2⟩
  have hq2 := hq.fr hF2 ⟨oNe rfl, Sep.no⟩
  have hT := hT.fr hF2 ⟨oNe rfl, Sep.no⟩
  have hqit : q ≠ it := hq2.ne hit (oNe rfl)
  have hitS : S.1 it = oNil := hN.fr.nil hit0
  have hF12 : Fr S S2 (fun m => m = q ∨ m = it) (29 + (l + 1 - f)) := ((hF1.w (W2 := fun m => m = q ∨ m = it) (fun _ _ z => Or.inl z) (Nat.le_refl _)).tr hF2 (fun _ _ z => z.elim)).w (fun _ _ z => z) (by omega)
  have loop : ∀ (n2 j : Nat) (S3 : BS) (lr : Nat), j + n2 = l + 1 - f → Ob S3 q (oRa 105 (filA ys j)) → Ob S3 (K 3) (oLl (lsOf la (idsOfL A.1)) mc) → Ob S3 it (oIt (K 3) (f - 1 + j) mc lr) → Fr S S3 (fun m => m = q ∨ m = it) (29 + (l + 1 - f)) → BW (d + 3) gm_X1_rowsIn 16 [some (aR (K 1)), some (aI f), some (aI l), some (aR q), some (aR it), some (aI j)] [] S3 (fun r S' => ∃ v, r = .inl v ∧ ∃ q ys, v = vR (some q) ∧ S.1 q = oNil ∧ Ob S' q (oRa 105 ys) ∧ StrsIs S' ys (rowsOfL (seg A.1 f l)) ∧ Fr0 S S' (29 + (l + 1 - f))) := by
    intro n2
    induction n2 with
    | zero =>
      intro j S3 lr hj hq3 hT3 hit3 hF3
      obtain rfl : j = ys.length := by omega
      rw [filA_end] at hq3
      (repeat (refine BW.pl rfl rfl ?_))
      refine CW.alenR rfl hq3 (fun _ => ?_)
      refine BW.br rfl rfl (by first | omega | decide | (constructor <;> first | omega | decide)) (fun w => ?_) (fun w => by first | (exfalso; omega) | exact absurd w (by decide))
      (repeat (refine BW.pl rfl rfl ?_))
      have hF0 : Fr0 S S3 (29 + (l + 1 - f)) := hF3.w (fun m hm z => z.elim (fun z => hm (by rw [z]; exact hqz)) (fun z => hm (by rw [z]; exact hitS))) (Nat.le_refl _)
      exact BW.aret rfl rfl ⟨_, rfl, q, ys, rfl, hqz, hq3, hss.fr hF0 NoS.no, hF0⟩
    | succ n2 ih =>
      intro j S3 lr hj hq3 hT3 hit3 hF3
      have hjl : j < l + 1 - f := by omega
      have hfl := filA_len (xs := ys) (j := j) (by omega)
      have hkl : f - 1 + j < A.1.length := by omega
      obtain ⟨hr1, hr2, r, hr3, hr4⟩ := hRw (A.1.getD (f - 1 + j) (0, [])) (getD_mem hkl)
      have hg := lsOf_get (la := la) (ids := idsOfL A.1) (k := f - 1 + j) (by rw [ids_len]; exact hkl) ids_get
      have hyr : ys.getD j none = r := by rw [hyg j hjl]; exact hr3
      generalize (A.1.getD (f - 1 + j) (0, [])) = sl at hr1 hr2 hr3 hr4 hg
      (repeat (refine BW.pl rfl rfl ?_))
      refine CW.alenR rfl hq3 (fun _ => ?_)
      refine BW.br rfl rfl (by first | omega | decide | (constructor <;> first | omega | decide)) (fun w => by first | (exfalso; omega) | exact absurd w (by decide)) (fun w => ?_)
      (repeat (refine BW.pl rfl rfl ?_))
      refine CW.c1 rfl rfl (by first | exact Or.inl rfl | exact Or.inr (tagO (by assumption) (by rfl) (by rfl))) (by first | exact Or.inl (by decide) | exact Or.inr ⟨_, rfl, by assumption⟩) rfl (C_itNext hit3 hT3 (by rw [lsOf_len, ids_len]; omega) (by rw [lsOf_len, ids_len]; omega) hg) ?_
      rintro r4 S4 ⟨rfl, hit4, hF4⟩
      have hF34 : Fr S S4 (fun m => m = q ∨ m = it) (29 + (l + 1 - f)) := (hF3.tr hF4 (fun _ _ z => Or.inr z)).w (fun _ _ z => z) (Nat.le_refl _)
      have hNo : Sep S (fun m => m = q ∨ m = it) (la sl.1) := fun z => z.elim (fun z => hr2.old (oNe rfl) (by rw [z]; exact hqz)) (fun z => hr2.old (oNe rfl) (by rw [z]; exact hitS))
      have h6 := hr2.fr hF34 ⟨oNe rfl, hNo⟩
      have h44 := hr3.fr hF34 ⟨⟨hr2.old (oNe rfl), by decide⟩, hNo⟩
      have hq4 := hq3.fr hF4 ⟨oNe rfl, hq3.ne hit3 (oNe rfl)⟩
      obtain ⟨⟨yy, rfl, hy2⟩, _⟩ := hr4
      have hy4 := hy2.fr hF34 ⟨oNe rfl, fun z => z.elim (fun z => hy2.old (oNe rfl) (by rw [z]; exact hqz)) (fun z => hy2.old (oNe rfl) (by rw [z]; exact hitS))⟩
      refine CW.castS rfl h6 rfl rfl rfl ?_
      (repeat (first | (refine BW.pl rfl rfl ?_) | (refine CW.geti rfl rfl (by assumption) rfl rfl (by assumption) (fun _ => ?_)) | (refine CW.getr rfl rfl (by assumption) rfl rfl (by assumption) ?_)))
      refine CW.aast rfl hq4 ⟨by omega, by omega⟩ (Or.inr ⟨yy, rfl, by rw [show S4.1 yy = _ from hy4]; rfl, Or.inl (by rw [show S4.1 yy = _ from hy4]; rfl)⟩) (fun S5 hq5 hF5 => ?_)
      have ej : ((j : Nat) : Int).toNat = j := by omega
      rw [ej, ← hyr, filA_set (by omega)] at hq5
      have hit5 := hit4.fr hF5 ⟨oNe rfl, hit4.ne hq4 (oNe rfl)⟩
      have hT4 := hT3.fr hF4 ⟨oNe rfl, hT3.ne hit3 (oNe rfl)⟩
      have hT5 := hT4.fr hF5 ⟨oNe rfl, hT4.ne hq4 (oNe rfl)⟩
      (iterate 2 (refine BW.pl rfl rfl ?_))
      exact ih (j + 1) S5 _ (by omega) hq5 hT5 hit5 ((hF34.tr hF5 (fun _ _ z => Or.inl z)).w (fun _ _ z => z) (Nat.le_refl _))
  (iterate 3 (refine BW.pl rfl rfl ?_))
  exact loop (l + 1 - f) 0 S2 0 (Nat.zero_add _) hq2 hT hit hF12
theorem mkL_app : ∀ (rs : List (List Int)) (nn : Int) (r : List Int), mkL nn (rs ++ [r]) = mkL nn rs ++ [(nn + rs.length, r)] := by
  intro rs
  induction rs with
  | nil => intro nn r; simp [mkL]
  | cons r0 rs ih =>
    intro nn r
    show (nn, r0) :: mkL (nn + 1) (rs ++ [r]) = (nn, r0) :: (mkL (nn + 1) rs ++ [(nn + (r0 :: rs).length, r)])
    have e : nn + 1 + (rs.length : Int) = nn + ((rs.length + 1 : Nat) : Int) := by omega
    rw [ih, List.length_cons, e]
theorem lsOf_app {ids2 : List Int} : lsOf la (ids ++ ids2) = lsOf la ids ++ lsOf la ids2 := by unfold lsOf; rw [List.map_append]
theorem lsOf_up (h : ∀ x ∈ ids, x < nn) : lsOf (upL la nn m) ids = lsOf la ids := by
  unfold lsOf
  refine List.map_congr_left (fun x hx => ?_)
  show some (if x = nn then m else la x) = _
  have := h x hx
  rw [if_neg (by omega)]
end LN
