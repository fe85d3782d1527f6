-- C
set_option maxRecDepth 100000
/-! LINEORDERS: changeLines for p and n -/
section LP
variable {d n m q i a y cap c1 c2 cap' p B c k f e l u w yp pp it lr : Nat} {S S' S0 S1 S2 : BS} {K : Nat → Nat} {la : Int → Nat} {G : BG} {A : St} {F V : Nat → Prop} {s s2 z z2 row : List Int} {v nn : Int} {dn rs : List SLine} {x : SLine} {r : Option Nat} {Q : GO → BS → Prop} {od : SOrd0} {pt : SPat} {b g : MG} {o : Obj} {zz : Prop} {M : GMeth} {ls : GL} {st : List GV}
def prnR (t : List SLine) (l : Nat) (G : BG) : Option (List (List Int)) → Nat ⊕ St
  | none => .inl 4
  | some ou1 => .inr (t, l, setLs G 8 ou1)
theorem dgL_len (h : 0 ≤ v ∧ v < 100) : (dg v).length ≤ 2 := by
  unfold dg
  split <;> simp
theorem L_linesP (hL : LO S K la A B) (hK : ∀ m, F m → KoM K m) (hO : Or0 S F zz q od) (hact : oAct od = 112 ∨ oAct od = 110) (hf : 1 ≤ f) (hfl : f ≤ l) (hl : l ≤ A.1.length) (h40 : A.1.length ≤ 40) (hrow : ∀ q ∈ A.1, q.2.length ≤ 30) (hout : A.2.2.2.1.length ≤ 100) (hB : B + 200000 ≤ 20000000) (hv : v = f) (hw : nn = l) : BM (d + 9) gk_X1_changeLines [aR (K 1), aR q, aI v, aI nn] S (ActX S K la A B (20 + 480 * (l + 1 - f)) 20000 (fun _ => True) (prnR A.1 l A.2.2 (sPrint (decide (oAct od = 110)) f (rowsOfL (seg A.1 f l)) A.2.2.2.1))) := by
  subst hv hw
  obtain ⟨t, p, G⟩ := A
  have hLB : LB S K la (idsOfL t) p G B := hL.1
  have hl : l ≤ t.length := hl
  have h40 : t.length ≤ 40 := h40
  have hout : G.2.1.length ≤ 100 := hout
  have hrow : ∀ q ∈ t, q.2.length ≤ 30 := hrow
  have hx := hLB.obx
  have e3 := hLB.e3
  have hsl := seg_len (t := t) hl hf
  have es := seg_split hf (by omega) hl
  have hlp : (t.take (f - 1)).length = f - 1 := by rw [List.length_take]; omega
  obtain ⟨mc0, hT0⟩ := hLB.text
  show BM (d + 9) gk_X1_changeLines [aR (K 1), aR q, aI f, aI l] S (ActX S K la (t, p, G) B (20 + 480 * (l + 1 - f)) 20000 (fun _ => True) (prnR t l G (sPrint (decide (oAct od = 110)) f (rowsOfL (seg t f l)) G.2.1)))
  generalize hR : sPrint (decide (oAct od = 110)) f (rowsOfL (seg t f l)) G.2.1 = R
  refine BM.of rfl rfl rfl ?_
  (repeat (first | (refine BW.pl rfl rfl ?_) | (refine CW.geti rfl rfl (by assumption) rfl rfl (by assumption) (fun _ => ?_)) | (refine CW.getr rfl rfl (by assumption) rfl rfl (by assumption) ?_)))
  have eb : (f : Int) - 1 = ((f - 1 : Nat) : Int) := by omega
  rw [eb]
  refine CW.c2 rfl rfl (by first | exact Or.inl rfl | exact Or.inr (tagO (by assumption) (by rfl) (by rfl))) (by first | exact Or.inl (by decide) | exact Or.inr ⟨_, rfl, by assumption⟩) rfl (L_cur (V := fun _ => True) hL (k := f - 1) (by omega) (by omega) (by omega) rfl hT0) ?_
  rintro r S1 ⟨it, rfl, hitk, hC, hF1⟩
  rw [es] at hC
  let PO : GO → BS → Prop := ActX S K la (t, p, G) B (20 + 480 * (l + 1 - f)) 20000 (fun _ => True) (prnR t l G R)
  have loop : ∀ (ms dn : List SLine) (S2 : BS) (lr B2 : Nat) (out2 : List (List Int)) (v6 : Option GV), gn1 v6 = true → LC S S2 K la p (setLs G 8 out2) B2 it lr dn (ms ++ t.drop l) (fun _ => True) → dn ++ (ms ++ t.drop l) = t → dn.length + ms.length = l → (∀ q ∈ ms, q.2.length ≤ 30) → out2.length ≤ 100 → (∃ ex, out2 = G.2.1 ++ ex) → B2 + 480 * ms.length ≤ B + 17 + 480 * (l + 1 - f) → sPrint (decide (oAct od = 110)) (dn.length + 1) (rowsOfL ms) out2 = R → BW (d + 8) gm_X1_changeLines 9 [some (aR (K 1)), some (aR q), some (aI f), some (aI l), some (aR it), some (aI ((dn.length + 1 : Nat) : Int)), v6] [] S2 PO := by
    intro ms
    induction ms with
    | nil =>
      intro dn S2 lr B2 out2 v6 g6 hC2 hdt hdl h30 hol hex hB2 he
      have he : some out2 = R := he
      have hdl : dn.length + 0 = l := hdl
      have hB2 : B2 + 0 ≤ B + 17 + 480 * (l + 1 - f) := hB2
      have hx2 := hC2.lb.obx
      show BW (d + 8) gm_X1_changeLines 9 _ [] S2 (ActX S K la (t, p, G) B (20 + 480 * (l + 1 - f)) 20000 (fun _ => True) (prnR t l G R))
      rw [← he]
      (repeat (refine BW.pl rfl rfl ?_))
      refine BW.br rfl rfl (by first | omega | decide | (constructor <;> first | omega | decide)) (fun w => ?_) (fun w => by first | (exfalso; omega) | exact absurd w (by decide))
      (repeat (refine BW.pl rfl rfl ?_))
      first | (refine CW.putr rfl rfl (by assumption) rfl (by decide) (fun S3 hP3 h5 => ?_)) | (refine CW.puti rfl (by assumption) rfl (by decide) (by first | exact Or.inl ⟨rfl, by first | omega | decide | (constructor <;> first | omega | decide)⟩ | exact Or.inr (Or.inl ⟨rfl, by first | omega | decide | (constructor <;> first | omega | decide)⟩) | exact Or.inr (Or.inr (Or.inl ⟨rfl, by first | omega | decide | (constructor <;> first | omega | decide)⟩)) | exact Or.inr (Or.inr (Or.inr ⟨rfl, by first | omega | decide | (constructor <;> first | omega | decide)⟩))) (fun S3 hP3 h5 => ?_))
      have hC3 := hC2.pres hP3 h5 rfl
      have hL3 : LO S3 K la (dn ++ ([] ++ t.drop l), l, setLs G 8 out2) B2 := hC3.1
      refine BW.ret rfl rfl ⟨rfl, la, ?_, hC3.2.2.2.2.1, LaE.rf⟩
      rw [hdt] at hL3
      exact ⟨hL3.1.le (by omega) (by omega), hL3.2⟩
    | cons x ms ih =>
      intro dn S2 lr B2 out2 v6 g6 hC2 hdt hdl h30 hol hex hB2 he
      have hC2 : LC S S2 K la p (setLs G 8 out2) B2 it lr dn (x :: (ms ++ t.drop l)) (fun _ => True) := hC2
      simp only [List.length_cons] at hdl hB2
      obtain ⟨mc, hT, hit⟩ := hC2.2.1
      (repeat (refine BW.pl rfl rfl ?_))
      refine BW.br rfl rfl (by first | omega | decide | (constructor <;> first | omega | decide)) (fun w => by first | (exfalso; omega) | exact absurd w (by decide)) (fun w => ?_)
      (repeat (refine BW.pl rfl rfl ?_))
      refine CW.c1 rfl rfl (by first | exact Or.inl rfl | exact Or.inr (tagO (by assumption) (by rfl) (by rfl))) (by first | exact Or.inl (by decide) | exact Or.inr ⟨_, rfl, by assumption⟩) rfl (L_next hC2) ?_
      rintro r S3 ⟨rfl, hC3, hF3⟩
      obtain ⟨hxR, hx6, xr, x44, ⟨y2, rfl, hy2⟩, hy2k⟩ := hC3.rws x (by simp)
      refine CW.castS rfl hx6 rfl rfl rfl ?_
      refine BW.strV rfl rfl (by simp only [List.all_cons, List.all_nil, g6]; rfl) ?_
      have hO3 := hO.xf hC3.2.2.2.2.1 hK
      have hq3 : Ob S3 q (oOwn 7) := hO3.2.1
      have h483 : Fi S3 48 q (oAct od) := hO3.2.2.2.2.2.1
      have hx3 := hC3.lb.obx
      have hx30 := h30 x List.mem_cons_self
      have ho2 : (setLs G 8 out2).2.1 = out2 := rfl
      have hnd : dn ++ [x] ++ (ms ++ t.drop l) = t := by rw [List.append_assoc]; exact hdt
      have hln : ((dn.length + 1 : Nat) : Int) + 1 = (((dn ++ [x]).length + 1 : Nat) : Int) := by rw [List.length_append, List.length_singleton]; omega
      -- a row is told
      have told : ∀ (sx : List Int) (y5 : Nat) (S5 : BS) (B5 : Nat) (M5 : Nat), (if (decide (oAct od = 110)) = true then sNum (dn.length + 1) ++ [32] else []) ++ x.2 = sx → sx.length ≤ 30 → B5 ≤ B2 + 400 → (M5 = 23 ∨ M5 = 42) → LC S S5 K la p (setLs G 8 out2) B5 it (dn.length + 1) (dn ++ [x]) (ms ++ t.drop l) (fun _ => True) → Ob S5 y5 (oStr sx) → okS (some y5) → BW (d + 8) gm_X1_changeLines M5 [some (aR (K 1)), some (aR q), some (aI f), some (aI l), some (aR it), some (aI ((dn.length + 1 : Nat) : Int)), some (aR (la x.1))] [aR y5, aR (K 1)] S5 PO := by
        intro sx y5 S5 B5 M5 hsx hs30 hB5 hM5 hC5 hy5 hyk5
        have hx5 := hC5.lb.obx
        have e0 : sPrint (decide (oAct od = 110)) (dn.length + 1) (rowsOfL (x :: ms)) out2 = match sTell out2 sx with
          | none => none
          | some o1 => sPrint (decide (oAct od = 110)) (dn.length + 1 + 1) (rowsOfL ms) o1 := by rw [← hsx]; rfl
        rw [e0] at he
        have done : ∀ (r : Option GV) (S6 : BS), (if (setLs G 8 out2).2.1.length = 100 then Thr9 11 78 4 S5 (.inl r) S6 else (.inl r : GO) = .inl none ∧ LC S S6 K la p (setLs (setLs G 8 out2) 8 ((setLs G 8 out2).2.1 ++ [sx])) (B5 + 1) it (dn.length + 1) (dn ++ [x]) (ms ++ t.drop l) (fun _ => True)) → r = none ∧ BW (d + 8) gm_X1_changeLines 51 [some (aR (K 1)), some (aR q), some (aI f), some (aI l), some (aR it), some (aI ((dn.length + 1 : Nat) : Int)), some (aR (la x.1))] [] S6 PO := by
          intro r S6 h6
          rw [ho2] at h6
          by_cases z : out2.length = 100
          · rw [if_pos z] at h6
            obtain ⟨q9, e9, _⟩ := h6
            cases e9
          · rw [if_neg z] at h6
            obtain ⟨e6, hC6⟩ := h6
            cases e6
            have hC6 : LC S S6 K la p (setLs G 8 (out2 ++ [sx])) (B5 + 1) it (dn.length + 1) (dn ++ [x]) (ms ++ t.drop l) (fun _ => True) := hC6
            have eT : sTell out2 sx = some (out2 ++ [sx]) := by unfold sTell; rw [if_neg (by omega)]
            rw [eT] at he
            have he : sPrint (decide (oAct od = 110)) (dn.length + 1 + 1) (rowsOfL ms) (out2 ++ [sx]) = R := he
            refine ⟨rfl, ?_⟩
            (iterate 2 (refine BW.pl rfl rfl ?_))
            rw [hln]
            obtain ⟨ex, rfl⟩ := hex
            refine ih (dn ++ [x]) S6 _ (B5 + 1) _ _ rfl hC6 hnd (by rw [List.length_append, List.length_singleton]; omega) (fun q hq => h30 q (List.mem_cons_of_mem _ hq)) (by rw [List.length_append, List.length_singleton]; omega) ⟨ex ++ [sx], by rw [List.append_assoc]⟩ (by omega) ?_
            rw [List.length_append, List.length_singleton]
            exact he
        have thr : ∀ (E q9 : Nat) (S6 : BS), (if (setLs G 8 out2).2.1.length = 100 then Thr9 11 78 4 S5 (.inr (E, some q9)) S6 else (.inr (E, some q9) : GO) = .inl none ∧ LC S S6 K la p (setLs (setLs G 8 out2) 8 ((setLs G 8 out2).2.1 ++ [sx])) (B5 + 1) it (dn.length + 1) (dn ++ [x]) (ms ++ t.drop l) (fun _ => True)) → PO (.inr (E, some q9)) S6 := by
          intro E q9 S6 h6
          rw [ho2] at h6
          by_cases z : out2.length = 100
          · rw [if_pos z] at h6
            have eT : sTell out2 sx = none := by unfold sTell; rw [if_pos (Or.inl z)]
            rw [eT] at he
            have he : none = R := he
            show ActX S K la (t, p, G) B (20 + 480 * (l + 1 - f)) 20000 (fun _ => True) (prnR t l G R) _ _
            rw [← he]
            exact ⟨S5, la, (dn ++ [x] ++ (ms ++ t.drop l), p, setLs G 8 out2), hC5.lb.le (by omega) (by omega), hC5.2.2.2.2.1, LaE.rf, Int.le_refl _, hex, h6⟩
          · rw [if_neg z] at h6
            cases h6.1
        rcases hM5 with rfl | rfl
        · refine CW.x2 rfl rfl (by first | exact Or.inl rfl | exact Or.inr (tagO (by assumption) (by rfl) (by rfl))) (by first | exact Or.inl (by decide) | exact Or.inr ⟨_, rfl, by assumption⟩) rfl rfl (L_tellC hC5 hy5 hyk5 (by rw [ho2]; exact hol) (by omega)) ?_ ?_
          · intro r S6 h6
            obtain ⟨rfl, hb⟩ := done r S6 h6
            (iterate 1 (refine BW.pl rfl rfl ?_))
            exact hb
          · intro E q9 S6 h6
            have h66 := h6
            rw [ho2] at h66
            by_cases z : out2.length = 100
            · rw [if_pos z] at h66
              obtain ⟨q8, e8, _⟩ := h66
              cases e8
              exact thr _ _ S6 h6
            · rw [if_neg z] at h66
              cases h66.1
        · refine CW.x2 rfl rfl (by first | exact Or.inl rfl | exact Or.inr (tagO (by assumption) (by rfl) (by rfl))) (by first | exact Or.inl (by decide) | exact Or.inr ⟨_, rfl, by assumption⟩) rfl rfl (L_tellC hC5 hy5 hyk5 (by rw [ho2]; exact hol) (by omega)) ?_ ?_
          · intro r S6 h6
            obtain ⟨rfl, hb⟩ := done r S6 h6
            (iterate 1 (refine BW.pl rfl rfl ?_))
            exact hb
          · intro E q9 S6 h6
            have h66 := h6
            rw [ho2] at h66
            by_cases z : out2.length = 100
            · rw [if_pos z] at h66
              obtain ⟨q8, e8, _⟩ := h66
              cases e8
              exact thr _ _ S6 h6
            · rw [if_neg z] at h66
              cases h66.1
      rcases hact with ha | ha
      · have hnn : decide (oAct od = 110) = false := decide_eq_false (by omega)
        (repeat (first | (refine BW.pl rfl rfl ?_) | (refine CW.geti rfl rfl (by assumption) rfl rfl (by assumption) (fun _ => ?_)) | (refine CW.getr rfl rfl (by assumption) rfl rfl (by assumption) ?_)))
        refine BW.br rfl rfl (by first | omega | decide | (constructor <;> first | omega | decide)) (fun w2 => by first | (exfalso; omega) | exact absurd w2 (by decide)) (fun w2 => ?_)
        (repeat (first | (refine BW.pl rfl rfl ?_) | (refine CW.geti rfl rfl (by assumption) rfl rfl (by assumption) (fun _ => ?_)) | (refine CW.getr rfl rfl (by assumption) rfl rfl (by assumption) ?_)))
        exact told x.2 y2 S3 B2 23 (by rw [hnn]; rfl) hx30 (by omega) (Or.inl rfl) hC3 hy2 hy2k
      · have hnn : decide (oAct od = 110) = true := decide_eq_true ha
        (repeat (first | (refine BW.pl rfl rfl ?_) | (refine CW.geti rfl rfl (by assumption) rfl rfl (by assumption) (fun _ => ?_)) | (refine CW.getr rfl rfl (by assumption) rfl rfl (by assumption) ?_)))
        refine BW.br rfl rfl (by first | omega | decide | (constructor <;> first | omega | decide)) (fun w2 => ?_) (fun w2 => by first | (exfalso; omega) | exact absurd w2 (by decide))
        (repeat (first | (refine BW.pl rfl rfl ?_) | (refine CW.geti rfl rfl (by assumption) rfl rfl (by assumption) (fun _ => ?_)) | (refine CW.getr rfl rfl (by assumption) rfl rfl (by assumption) ?_)))
        refine BW.br rfl rfl (by first | omega | decide | (constructor <;> first | omega | decide)) (fun w3 => by first | (exfalso; omega) | exact absurd w3 (by decide)) (fun w3 => ?_)
        (repeat (refine BW.pl rfl rfl ?_))
        refine CW.newJ (L := 4) (c := 14) rfl rfl rfl (fun bb S4 hN => ?_)
        have hbb := hN.ob
        have hbbk := hN.1
        have hbbo := hC3.lb.ko hN.nil
        have hbb0 : S.1 bb = oNil := hC3.2.2.2.2.1.nil hN.nil
        have hC4 := hC3.f0 hN.fr (by omega)
        obtain ⟨mc4, hT4, hit4⟩ := hC4.2.1
        have hy4 := hy2.fr hN.fr ⟨oNe rfl, Sep.no⟩
        (repeat (refine BW.pl rfl rfl ?_))
        refine CW.c1 rfl rfl (by first | exact Or.inl rfl | exact Or.inr (tagO (by assumption) (by rfl) (by rfl))) (by first | exact Or.inl (by decide) | exact Or.inr ⟨_, rfl, by assumption⟩) rfl (C_sbNew hbb) ?_
        rintro r S5 ⟨rfl, hb5, hF5⟩
        have hC5 := hC4.frN hF5 (LoW.one hbbo hbb (oNe rfl) rfl) (hit4.ne hbb (oNe rfl)) (fun m hm => by rw [hm]; exact hbb0) (by omega)
        obtain ⟨mc5, hT5, hit5⟩ := hC5.2.1
        have hy5 := hy4.fr hF5 ⟨oNe rfl, hy4.ne hbb (oNe rfl)⟩
        have hkr : (0 : Int) ≤ ((dn.length + 1 : Nat) : Int) ∧ ((dn.length + 1 : Nat) : Int) < 100 := ⟨by omega, by omega⟩
        (repeat (refine BW.pl rfl rfl ?_))
        refine CW.c2 rfl rfl (by first | exact Or.inl rfl | exact Or.inr (tagO (by assumption) (by rfl) (by rfl))) (by first | exact Or.inl (by decide) | exact Or.inr ⟨_, rfl, by assumption⟩) rfl (C_sbAppI hb5 hkr (by decide)) ?_
        rintro r S6 ⟨rfl, cp6, hb6, hF6, k61, k62⟩
        have hdl6 := dgL_len hkr
        have hC6 := hC5.frN hF6 (LoW.one hbbo hb5 (oNe rfl) rfl) (hit5.ne hb5 (oNe rfl)) (fun m hm => by rw [hm]; exact hbb0) (by simp only [List.nil_append] at k62; omega)
        obtain ⟨mc6, hT6, hit6⟩ := hC6.2.1
        have hy6 := hy5.fr hF6 ⟨oNe rfl, hy5.ne hb5 (oNe rfl)⟩
        simp only [List.nil_append] at hb6 k62
        (repeat (refine BW.pl rfl rfl ?_))
        refine BW.c261 (fun h261 => ?_)
        refine CW.c2 rfl rfl (by first | exact Or.inl rfl | exact Or.inr (tagO (by assumption) (by rfl) (by rfl))) (by first | exact Or.inl (by decide) | exact Or.inr ⟨_, rfl, by assumption⟩) rfl (C_sbAppS hb6 h261 (by simp only [List.length_cons, List.length_nil]; omega)) ?_
        rintro r S7 ⟨rfl, cp7, hb7, hF7, k71, k72⟩
        rw [List.length_append, List.length_singleton] at k72
        have hC7 := hC6.frN hF7 (LoW.one hbbo hb6 (oNe rfl) rfl) (hit6.ne hb6 (oNe rfl)) (fun m hm => by rw [hm]; exact hbb0) (by omega)
        obtain ⟨mc7, hT7, hit7⟩ := hC7.2.1
        have hy7 := hy6.fr hF7 ⟨oNe rfl, hy6.ne hb6 (oNe rfl)⟩
        have hx67 := hC7.x6 (x := x) (by simp)
        obtain ⟨_, _, xr7, x447, ⟨y27, rfl, hy27⟩, hy2k7⟩ := hC7.rws x (by simp)
        (repeat (first | (refine BW.pl rfl rfl ?_) | (refine CW.geti rfl rfl (by assumption) rfl rfl (by assumption) (fun _ => ?_)) | (refine CW.getr rfl rfl (by assumption) rfl rfl (by assumption) ?_)))
        refine CW.c2 rfl rfl (by first | exact Or.inl rfl | exact Or.inr (tagO (by assumption) (by rfl) (by rfl))) (by first | exact Or.inl (by decide) | exact Or.inr ⟨_, rfl, by assumption⟩) rfl (C_sbAppS hb7 hy27 (by rw [List.length_append, List.length_singleton]; omega)) ?_
        rintro r S8 ⟨rfl, cp8, hb8, hF8, k81, k82⟩
        rw [List.length_append, List.length_append, List.length_singleton] at k82
        have hC8 := hC7.frN hF8 (LoW.one hbbo hb7 (oNe rfl) rfl) (hit7.ne hb7 (oNe rfl)) (fun m hm => by rw [hm]; exact hbb0) (by omega)
        (repeat (refine BW.pl rfl rfl ?_))
        refine CW.c1 rfl rfl (by first | exact Or.inl rfl | exact Or.inr (tagO (by assumption) (by rfl) (by rfl))) (by first | exact Or.inl (by decide) | exact Or.inr ⟨_, rfl, by assumption⟩) rfl (C_sbStr hb8) ?_
        rintro r S9 ⟨y9, rfl, hy9k, hy90, hy9, hF9⟩
        have hsxl : (dg ((dn.length + 1 : Nat) : Int) ++ [32] ++ x.2).length = (dg ((dn.length + 1 : Nat) : Int)).length + 1 + x.2.length := by rw [List.length_append, List.length_append, List.length_singleton]
        have hC9 := hC8.f0 hF9 (by omega)
        have hsx : (if (decide (oAct od = 110)) = true then sNum (dn.length + 1) ++ [32] else []) ++ x.2 = dg ((dn.length + 1 : Nat) : Int) ++ [32] ++ x.2 := by rw [hnn, if_pos rfl, sNum_dg (by omega)]
        by_cases z3 : 30 < (dg ((dn.length + 1 : Nat) : Int) ++ [32] ++ x.2).length
        · have e0 : sPrint (decide (oAct od = 110)) (dn.length + 1) (rowsOfL (x :: ms)) out2 = match sTell out2 (dg ((dn.length + 1 : Nat) : Int) ++ [32] ++ x.2) with
            | none => none
            | some o1 => sPrint (decide (oAct od = 110)) (dn.length + 1 + 1) (rowsOfL ms) o1 := by rw [← hsx]; rfl
          have eT : sTell out2 (dg ((dn.length + 1 : Nat) : Int) ++ [32] ++ x.2) = none := by unfold sTell; rw [if_pos (Or.inr z3)]
          rw [e0, eT] at he
          have he : none = R := he
          refine CW.x1 rfl rfl (by first | exact Or.inl rfl | exact Or.inr (tagO (by assumption) (by rfl) (by rfl))) (by first | exact Or.inl (by decide) | exact Or.inr ⟨_, rfl, by assumption⟩) rfl rfl (L_checked hy9) ?_ ?_
          · rintro r S10 h10
            rw [if_pos z3] at h10
            obtain ⟨q9, e9, _⟩ := h10
            cases e9
          · rintro E q9 S10 h10
            rw [if_pos z3] at h10
            show ActX S K la (t, p, G) B (20 + 480 * (l + 1 - f)) 20000 (fun _ => True) (prnR t l G R) _ _
            rw [← he]
            exact ⟨S9, la, (dn ++ [x] ++ (ms ++ t.drop l), p, setLs G 8 out2), hC9.lb.le (by omega) (by omega), hC9.2.2.2.2.1, LaE.rf, Int.le_refl _, hex, h10⟩
        · refine CW.x1 rfl rfl (by first | exact Or.inl rfl | exact Or.inr (tagO (by assumption) (by rfl) (by rfl))) (by first | exact Or.inl (by decide) | exact Or.inr ⟨_, rfl, by assumption⟩) rfl rfl (L_checked hy9) ?_ ?_
          · rintro r S10 h10
            rw [if_neg z3] at h10
            obtain ⟨h10, rfl⟩ := h10
            cases h10
            exact told _ y9 S10 _ 42 hsx (by omega) (by omega) (Or.inr rfl) hC9 hy9 (okS.mk (Or.inl hy9k))
          · rintro E q9 S10 h10
            rw [if_neg z3] at h10
            cases h10.1
  (iterate 3 (refine BW.pl rfl rfl ?_))
  have e1 : ((f : Nat) : Int) = (((t.take (f - 1)).length + 1 : Nat) : Int) := by rw [hlp]; omega
  have eG : setLs G 8 G.2.1 = G := rfl
  have hgo := loop (seg t f l) (t.take (f - 1)) S1 0 (B + 17) G.2.1 none rfl (by rw [eG]; exact hC) (by rw [← es, List.take_append_drop]) (by rw [hsl, hlp]; omega) (fun q hq => hrow q (List.mem_of_mem_drop (List.mem_of_mem_take hq))) hout ⟨[], (List.append_nil _).symm⟩ (by rw [hsl]; omega) (by rw [hlp, show f - 1 + 1 = f by omega]; exact hR)
  rw [hlp, show f - 1 + 1 = f by omega] at hgo
  exact hgo
end LP
