-- C
set_option maxRecDepth 100000
/-! LINEORDERS: doOrder, more branches: d m t = k -/
section KD
variable {d n m q i a y cap c1 c2 cap' p p' B c k f e l u w yp pp it lr : Nat} {S S' S0 S1 S2 : BS} {K : Nat → Nat} {la : Int → Nat} {G : BG} {A : St} {F V : Nat → Prop} {s s2 z z2 row : List Int} {v nn b1 x1 x2 x3 : Int} {dn rs t : List SLine} {x : SLine} {r : Option Nat} {Q : GO → BS → Prop} {od : SOrd0} {pt : SPat} {b g : MG} {o : Obj} {zz : Prop} {M : GMeth} {ls : GL} {st : List GV} {bk : Bool} {ad tg : SAdr}
/-- what = answers, and k, and d -/
def telR (A : St) (l : Nat) : Nat ⊕ St := match sTell A.2.2.2.1 (sNum l) with
  | none => .inl 4
  | some ou1 => .inr (A.1, A.2.1, setLs A.2.2 8 ou1)
def mrkR (A : St) (j : Nat) (x : Int) : Nat ⊕ St := .inr (A.1, A.2.1, setM A.2.2 (fup A.2.2.2.2.2.1 j (some x)))
def delR (A : St) (f l : Nat) : Nat ⊕ St := .inr ((sDel A f l).1, min f (sDel A f l).1.length, (sDel A f l).2.2)
def movR (A : St) (tg : SAdr) (f l : Nat) : Nat ⊕ St := match sAdr A tg with
  | .inl w => .inl w
  | .inr to => sMove A f l to
def copR (A : St) (tg : SAdr) (f l : Nat) : Nat ⊕ St := match sAdr A tg with
  | .inl w => .inl w
  | .inr to => sIns A to (rowsOfL (seg A.1 f l))
theorem BW.minV (hC : M.2.2.1[i]? = some (71, a, b1)) (hs : (st.map gcat).sum ≤ 8) (hx : inR x1 ∧ inR x2) (hv : (if x2 < x1 then x2 else x1) = x3) (kk : BW d M (i + 1) ls (.inl x3 :: st) S Q) : BW d M i ls (.inl x2 :: .inl x1 :: st) S Q := fun g hR => GW.min hC hs hx hv (kk g hR)
theorem LO.puP (hL : LO S K la (t, p, G) B) (hP : Pu S S' 5 (K 1)) (hv : Fi S' 5 (K 1) v) (hp : v = (p' : Int)) : LO S' K la (t, p', G) B := ⟨hL.1.puP hP hv hp, hL.2.f6 hP.fr (W6.one hL.1.obx (ownNe rfl) rfl)⟩
theorem D_d (h : DoC S K la A B F zz m od) (hf : 1 ≤ f) (hfl : f ≤ l) (hl : l ≤ A.1.length) : BW (d + 186) gm_X1_doOrder 36 [some (aR (K 1)), some (aR m), some (aI f), some (aI l), none] [] S (ActX S K la A B 3100 21000 (fun _ => True) (delR A f l)) := by
  obtain ⟨hL, hK, hO, hw, -, hn, hB⟩ := h
  have h40 : A.1.length ≤ 40 := hw.2.1
  have hx := hL.1.obx
  (repeat (refine BW.pl rfl rfl ?_))
  refine CW.c3 rfl rfl (by first | exact Or.inl rfl | exact Or.inr (tagO (by assumption) (by rfl) (by rfl))) (by first | exact Or.inl (by decide) | exact Or.inr ⟨_, rfl, by assumption⟩) rfl (L_delete (V := fun _ => True) (f := f) (l := l) hL hf (by omega) hl (by omega) (by omega) rfl rfl) ?_
  rintro r S1 ⟨rfl, hL1, hX1⟩
  have hlen : (sDel A f l).1.length = A.1.length - (l + 1 - f) := by
    obtain ⟨t, p, G⟩ := A
    have hl : l ≤ t.length := hl
    show (t.take (f - 1) ++ t.drop l).length = t.length - (l + 1 - f)
    rw [List.length_append, List.length_take, List.length_drop]
    omega
  unfold delR
  have hn1 : (sDel A f l).2.2.2.2.2.2.1 = A.2.2.2.2.2.2.1 := rfl
  generalize sDel A f l = A1 at *
  obtain ⟨t1, p1, G1⟩ := A1
  have hlen : t1.length = A.1.length - (l + 1 - f) := hlen
  have hL1b : LB S1 K la (idsOfL t1) p1 G1 (B + 17 + 6 * (l + 1 - f)) := hL1.1
  have hx1 := hL1b.obx
  have e3 := hL1b.e3
  obtain ⟨mc0, hT0⟩ := hL1b.text
  have hl0 : (lsOf la (idsOfL t1)).length = t1.length := by rw [lsOf_len, ids_len]
  (repeat (first | (refine BW.pl rfl rfl ?_) | (refine CW.geti rfl rfl (by assumption) rfl rfl (by assumption) (fun _ => ?_)) | (refine CW.getr rfl rfl (by assumption) rfl rfl (by assumption) ?_)))
  refine CW.e1 rfl rfl (by first | exact Or.inl rfl | exact Or.inr (tagO (by assumption) (by rfl) (by rfl))) (by first | exact Or.inl (by decide) | exact Or.inr ⟨_, rfl, by assumption⟩) rfl (B_llSize hT0) ?_
  rw [hl0]
  refine BW.minV (x3 := ((min f t1.length : Nat) : Int)) rfl (Nat.le_of_ble_eq_true rfl) ⟨by constructor <;> omega, by constructor <;> omega⟩ (by split <;> omega) ?_
  first | (refine CW.putr rfl rfl (by assumption) rfl (by decide) (fun S2 hP2 h5 => ?_)) | (refine CW.puti rfl (by assumption) rfl (by decide) (by first | exact Or.inl ⟨rfl, by first | omega | decide | (constructor <;> first | omega | decide)⟩ | exact Or.inr (Or.inl ⟨rfl, by first | omega | decide | (constructor <;> first | omega | decide)⟩) | exact Or.inr (Or.inr (Or.inl ⟨rfl, by first | omega | decide | (constructor <;> first | omega | decide)⟩)) | exact Or.inr (Or.inr (Or.inr ⟨rfl, by first | omega | decide | (constructor <;> first | omega | decide)⟩))) (fun S2 hP2 h5 => ?_))
  have hL2 := hL1.puP hP2 h5 rfl
  (iterate 1 (refine BW.pl rfl rfl ?_))
  exact BW.ret rfl rfl ⟨rfl, la, hL2.le (by omega) (by omega), hX1.pu1 hP2 (by decide), LaE.rf⟩
theorem NuX.refu {w : Nat} {r : GO} (h : NuX S K la A B V (.inl w) r S') (hB : B + 21000 ≤ 20000000) : Refu S K la A B 21000 V w r S' := by
  obtain ⟨S1, h1, h2, h3⟩ := h
  exact ⟨S1, la, A, h1.1.le (by omega) (by omega), h2, LaE.rf, Int.le_refl _, ⟨[], by simp⟩, h3⟩
theorem DoC.tgt (h : DoC S K la A B F zz m od) (ht : oTgt od = some tg) : Ob S m (oOwn 7) ∧ KoM K m ∧ AdK tg ∧ ∃ am, Fe S 51 m (some am) ∧ AdrIs S F am tg := by
  obtain ⟨_, hK, ⟨f0, hm, -, -, -, -, ⟨q2, h50, _, ⟨-, -, ⟨r51, h51, h51a⟩, -⟩⟩, -⟩, _, ⟨-, -, -, -, -, had3⟩, _⟩ := h
  have h51a : AdO S F r51 (oTgt od) := h51a
  rw [ht] at h51a
  obtain ⟨am, rfl, ha⟩ := h51a
  exact ⟨hm, hK _ f0, had3 tg ht, am, h51, ha⟩
theorem D_m (h : DoC S K la A B F zz m od) (ht : oTgt od = some tg) (hf : 1 ≤ f) (hfl : f ≤ l) (hl : l ≤ A.1.length) : BW (d + 186) gm_X1_doOrder 135 [some (aR (K 1)), some (aR m), some (aI f), some (aI l), none] [] S (ActX S K la A B 3100 21000 (fun _ => True) (movR A tg f l)) := by
  obtain ⟨hm, kq, hadk, am, h51, ha⟩ := h.tgt ht
  obtain ⟨hL, hK, hO, hw, -, hn, hB⟩ := h
  have h40 : A.1.length ≤ 40 := hw.2.1
  have hx := hL.1.obx
  unfold movR
  (repeat (first | (refine BW.pl rfl rfl ?_) | (refine CW.geti rfl rfl (by assumption) rfl rfl (by assumption) (fun _ => ?_)) | (refine CW.getr rfl rfl (by assumption) rfl rfl (by assumption) ?_)))
  refine CW.x2 rfl rfl (by first | exact Or.inl rfl | exact Or.inr (tagO (by assumption) (by rfl) (by rfl))) (by first | exact Or.inl (by decide) | exact Or.inr ⟨_, rfl, by assumption⟩) rfl rfl (L_numAdr (V := fun _ => True) hL hK ha hadk hw.txk (by omega)) ?_ ?_
  · intro r S2 h2
    revert h2
    cases sAdr A tg with
    | inl w =>
      rintro ⟨S1, _, _, q9, e9, _⟩
      cases e9
    | inr to =>
      rintro ⟨hv, e2, hL2, hX2⟩
      cases e2
      have hx2 := hL2.1.obx
      show BW (d + 186) gm_X1_doOrder 142 _ [aI (to : Int), aI (l : Int), aI (f : Int), aR (K 1)] S2 (ActX S K la A B 3100 21000 (fun _ => True) (sMove A f l to))
      refine CW.x4 rfl rfl (by first | exact Or.inl rfl | exact Or.inr (tagO (by assumption) (by rfl) (by rfl))) (by first | exact Or.inl (by decide) | exact Or.inr ⟨_, rfl, by assumption⟩) rfl rfl (L_moveLines (V := fun _ => True) (to' := to) (f := f) (l := l) hL2 hf hfl hl h40 hv (by omega) rfl rfl rfl) ?_ ?_
      · intro r S9 h2
        have h2 := (ActX.pre (A := A) (B := B) hX2 h2 rfl rfl).wk (V' := fun _ => True) (c' := 3100) (cx' := 21000) (fun _ _ => trivial) (by omega) (by omega) (by omega) (by omega)
        obtain rfl := h2.ret0
        (iterate 1 (refine BW.pl rfl rfl ?_))
        exact BW.ret rfl rfl h2
      · intro E q9 S9 h2
        exact (ActX.pre (A := A) (B := B) hX2 h2 rfl rfl).wk (V' := fun _ => True) (c' := 3100) (cx' := 21000) (fun _ _ => trivial) (by omega) (by omega) (by omega) (by omega)
  · intro E q9 S2 h2
    revert h2
    cases sAdr A tg with
    | inl w => intro h2; exact h2.refu (by omega)
    | inr to =>
      rintro ⟨hv, e2, _⟩
      cases e2
theorem D_t (h : DoC S K la A B F zz m od) (ht : oTgt od = some tg) (hf : 1 ≤ f) (hfl : f ≤ l) (hl : l ≤ A.1.length) : BW (d + 186) gm_X1_doOrder 144 [some (aR (K 1)), some (aR m), some (aI f), some (aI l), none] [] S (ActX S K la A B 3100 21000 (fun _ => True) (copR A tg f l)) := by
  obtain ⟨hm, kq, hadk, am, h51, ha⟩ := h.tgt ht
  obtain ⟨hL, hK, hO, hw, -, hn, hB⟩ := h
  have h40 : A.1.length ≤ 40 := hw.2.1
  have hx := hL.1.obx
  unfold copR
  have hsl := seg_len (t := A.1) hl hf
  have hrl : (rowsOfL (seg A.1 f l)).length = l + 1 - f := by unfold rowsOfL; rw [List.length_map, hsl]
  (repeat (first | (refine BW.pl rfl rfl ?_) | (refine CW.geti rfl rfl (by assumption) rfl rfl (by assumption) (fun _ => ?_)) | (refine CW.getr rfl rfl (by assumption) rfl rfl (by assumption) ?_)))
  refine CW.x2 rfl rfl (by first | exact Or.inl rfl | exact Or.inr (tagO (by assumption) (by rfl) (by rfl))) (by first | exact Or.inl (by decide) | exact Or.inr ⟨_, rfl, by assumption⟩) rfl rfl (L_numAdr (V := fun _ => True) hL hK ha hadk hw.txk (by omega)) ?_ ?_
  · intro r S2 h2
    revert h2
    cases sAdr A tg with
    | inl w =>
      rintro ⟨S1, _, _, q9, e9, _⟩
      cases e9
    | inr to =>
      rintro ⟨hv, e2, hL2, hX2⟩
      cases e2
      have hx2 := hL2.1.obx
      show BW (d + 186) gm_X1_doOrder 149 _ [aI (to : Int), aR (K 1)] S2 (ActX S K la A B 3100 21000 (fun _ => True) (sIns A to (rowsOfL (seg A.1 f l))))
      (repeat (refine BW.pl rfl rfl ?_))
      refine CW.c3 rfl rfl (by first | exact Or.inl rfl | exact Or.inr (tagO (by assumption) (by rfl) (by rfl))) (by first | exact Or.inl (by decide) | exact Or.inr ⟨_, rfl, by assumption⟩) rfl (L_rowsIn (f := f) (l := l) hL2 hf (by omega) hl (by omega) (by omega) rfl rfl) ?_
      rintro r S3 ⟨q, ys, rfl, hq0, hq1, hss1, hF1⟩
      have hL3 := hL2.fr hF1 LoW.no (by omega)
      have hao := hL2.1.ko hq0
      have hX3 := hX2.f0 hF1
      have hx3 := hL3.1.obx
      have hyl := hss1.1
      have hL3 : LO S3 K la A (B + (17 + (29 + (l + 1 - f)))) := by rw [← Nat.add_assoc]; exact hL3
      refine CW.x3 rfl rfl (by first | exact Or.inl rfl | exact Or.inr (tagO (by assumption) (by rfl) (by rfl))) (by first | exact Or.inl (by decide) | exact Or.inr ⟨_, rfl, by assumption⟩) rfl rfl (L_insert (b := to) hL3 hv (by omega) hq1 hss1 hao hn (by omega) (by omega) rfl) ?_ ?_
      · intro r S9 h2
        have h2 := (ActX.pre (A := A) (B := B) hX3 (h2.wk (V' := fun _ => True) (fun _ z => z.elim) (Nat.le_refl _) (Nat.le_refl _) (by omega) (by omega)) rfl rfl).wk (V' := fun _ => True) (c' := 3100) (cx' := 21000) (fun _ _ => trivial) (by omega) (by omega) (by omega) (by omega)
        obtain rfl := h2.ret0
        (iterate 1 (refine BW.pl rfl rfl ?_))
        exact BW.ret rfl rfl h2
      · intro E q9 S9 h2
        exact (ActX.pre (A := A) (B := B) hX3 (h2.wk (V' := fun _ => True) (fun _ z => z.elim) (Nat.le_refl _) (Nat.le_refl _) (by omega) (by omega)) rfl rfl).wk (V' := fun _ => True) (c' := 3100) (cx' := 21000) (fun _ _ => trivial) (by omega) (by omega) (by omega) (by omega)
  · intro E q9 S2 h2
    revert h2
    cases sAdr A tg with
    | inl w => intro h2; exact h2.refu (by omega)
    | inr to =>
      rintro ⟨hv, e2, _⟩
      cases e2
theorem D_eq (h : DoC S K la A B F zz m od) (hl : l ≤ A.1.length) : BW (d + 186) gm_X1_doOrder 65 [some (aR (K 1)), some (aR m), some (aI f), some (aI l), none] [] S (ActX S K la A B 3100 21000 (fun _ => True) (telR A l)) := by
  obtain ⟨hL, hK, hO, hw, -, hn, hB⟩ := h
  have h40 : A.1.length ≤ 40 := hw.2.1
  have hoo : A.2.2.2.1.length ≤ 100 := hw.2.2.2.2.2.2.2.1.1
  obtain ⟨t, p, G⟩ := A
  have h40 : t.length ≤ 40 := h40
  have hl : l ≤ t.length := hl
  have hoo : G.2.1.length ≤ 100 := hoo
  have hx := hL.1.obx
  have eS : telR (t, p, G) l = if G.2.1.length = 100 then .inl 4 else .inr (t, p, setLs G 8 (G.2.1 ++ [dg l])) := by
    have e0 : sTell G.2.1 (sNum l) = if G.2.1.length = 100 then none else some (G.2.1 ++ [dg l]) := by
      have hd := dgL_len (v := l) ⟨by omega, by omega⟩
      unfold sTell
      rw [sNum_dg (by omega)]
      by_cases z : G.2.1.length = 100
      · rw [if_pos (Or.inl z), if_pos z]
      · rw [if_neg (by omega), if_neg z]
    show (match sTell G.2.1 (sNum l) with | none => (.inl 4 : Nat ⊕ St) | some ou1 => .inr (t, p, setLs G 8 ou1)) = _
    rw [e0]
    by_cases z : G.2.1.length = 100
    · rw [if_pos z, if_pos z]
    · rw [if_neg z, if_neg z]
  rw [eS]
  (repeat (refine BW.pl rfl rfl ?_))
  refine CW.c1 rfl rfl (by first | exact Or.inl rfl | exact Or.inr (tagO (by assumption) (by rfl) (by rfl))) (by first | exact Or.inl (by decide) | exact Or.inr ⟨_, rfl, by assumption⟩) rfl (C_intVal ⟨by omega, by omega⟩) ?_
  rintro r S1 ⟨y, rfl, hyk, hy0, hy, hF1⟩
  have hL1 := hL.fr hF1 LoW.no (by omega)
  have hx1 := hL1.1.obx
  have hL1b : LB S1 K la (idsOfL t) p G (B + 30) := hL1.1
  obtain ⟨cap, xs, hob, _⟩ := hL1b.list (i := 8) (by decide)
  refine CW.x2 rfl rfl (by first | exact Or.inl rfl | exact Or.inr (tagO (by assumption) (by rfl) (by rfl))) (by first | exact Or.inl (by decide) | exact Or.inr ⟨_, rfl, by assumption⟩) rfl rfl (L_tell (V := fun _ => True) hL1b hy (okS.mk (Or.inl hyk)) hoo (by omega)) ?_ ?_
  · rintro r S2 h2
    by_cases z : G.2.1.length = 100
    · rw [if_pos z] at h2
      obtain ⟨q9, e9, _⟩ := h2
      cases e9
    · rw [if_neg z] at h2 ⊢
      obtain ⟨e2, hL2, hX2, c, hF2⟩ := h2
      cases e2
      (iterate 1 (refine BW.pl rfl rfl ?_))
      exact BW.ret rfl rfl ⟨rfl, la, ⟨hL2.le (by omega) (by omega), hL1.2.f6 hF2 (W6.one hob (oNe rfl) rfl)⟩, (XF.rf.f0 hF1).tr hX2, LaE.rf⟩
  · intro E q9 S2 h2
    by_cases z : G.2.1.length = 100
    · rw [if_pos z] at h2 ⊢
      exact ⟨S1, la, (t, p, G), hL1b.le (by omega) (by omega), XF.rf.f0 hF1, LaE.rf, Int.le_refl _, ⟨[], by simp⟩, h2⟩
    · rw [if_neg z] at h2
      cases h2.1
theorem D_k (h : DoC S K la A B F zz m od) (h5 : oNum od < 5) (hf : 1 ≤ l) (hl : l ≤ A.1.length) : BW (d + 186) gm_X1_doOrder 155 [some (aR (K 1)), some (aR m), some (aI f), some (aI l), none] [] S (ActX S K la A B 3100 21000 (fun _ => True) (mrkR A (oNum od).toNat (idAt A.1 (l - 1)))) := by
  obtain ⟨hL, hK, ⟨f0, hm, -, -, -, h48, ⟨q2, h50, _, ⟨h49, -⟩⟩, -⟩, hw, ⟨hnm, -⟩, hn, hB⟩ := h
  have h40 : A.1.length ≤ 40 := hw.2.1
  obtain ⟨t, p, G⟩ := A
  have h40 : t.length ≤ 40 := h40
  have hl : l ≤ t.length := hl
  have hLB : LB S K la (idsOfL t) p G B := hL.1
  have hx := hLB.obx
  have e6 := hLB.e6
  have htt := hLB.tt
  have h49 : Fi S 49 m (oNum od) := h49
  obtain ⟨M, hM, hMj⟩ := hLB.marks
  have hin : t.getD (l - 1) (0, []) ∈ t := getD_mem (by omega)
  have hx6 := (hL.2 _ hin).2.1
  have hxR := (hL.2 _ hin).1
  have hx6 : Ob S (la (idAt t (l - 1))) (oOwn 6) := hx6
  obtain ⟨j, hj⟩ : ∃ j : Nat, oNum od = j := ⟨(oNum od).toNat, by omega⟩
  (repeat (first | (refine BW.pl rfl rfl ?_) | (refine CW.geti rfl rfl (by assumption) rfl rfl (by assumption) (fun _ => ?_)) | (refine CW.getr rfl rfl (by assumption) rfl rfl (by assumption) ?_)))
  refine CW.e1 rfl rfl (by first | exact Or.inl rfl | exact Or.inr (tagO (by assumption) (by rfl) (by rfl))) (by first | exact Or.inl (by decide) | exact Or.inr ⟨_, rfl, by assumption⟩) rfl (B_intOf ⟨by omega, by omega⟩) ?_
  (repeat (refine BW.pl rfl rfl ?_))
  refine CW.e2 rfl rfl (by first | exact Or.inl rfl | exact Or.inr (tagO (by assumption) (by rfl) (by rfl))) (by first | exact Or.inl (by decide) | exact Or.inr ⟨_, rfl, by assumption⟩) rfl (L_lineAt (k := l - 1) (x := idAt t (l - 1)) hL.1 (by show l - 1 < (idsOfL t).length; rw [ids_len]; omega) ids_get (by show (idsOfL t).length < 100000; rw [ids_len]; omega) (by omega)) ?_
  refine CW.c3 rfl rfl (by first | exact Or.inl rfl | exact Or.inr (tagO (by assumption) (by rfl) (by rfl))) (by first | exact Or.inl (by decide) | exact Or.inr ⟨_, rfl, by assumption⟩) rfl (C_tmPut hM ⟨by omega, by omega⟩ (vOk_o hx6 rfl) (by omega)) ?_
  rintro r S1 ⟨rfl, hM1, hF1⟩
  have hL1 : LB S1 K la (idsOfL t) p (setM G (fup G.2.2.2.1 (oNum od).toNat (some (idAt t (l - 1))))) (B + 19) := by
    refine hLB.setMk hF1 LoX.k ⟨_, hM1, fun k hk => ?_⟩ (by omega)
    obtain ⟨c1, c2⟩ := hMj k hk
    show upM M (oNum od) (some (la (idAt t (l - 1)))) k = (fup G.2.2.2.1 (oNum od).toNat (some (idAt t (l - 1))) k).map la ∧ _
    unfold upM fup
    by_cases e : k = (oNum od).toNat
    · rw [if_pos (by omega), if_pos e]
      exact ⟨rfl, fun y hy => by cases hy; exact hxR⟩
    · rw [if_neg (by omega), if_neg e]
      exact ⟨c1, c2⟩
  (iterate 2 (refine BW.pl rfl rfl ?_))
  exact BW.ret rfl rfl ⟨rfl, la, ⟨hL1.le (by omega) (by omega), hL.2.f6 hF1 (W6.one hM (oNe rfl) rfl)⟩, XF.rf.f1 hF1 (fun _ => hLB.wk (by decide)), LaE.rf⟩
end KD
