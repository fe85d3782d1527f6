-- C
set_option maxRecDepth 100000
/-! LINEORDERS: spot, numberOfAddress -/
section SP
variable {d n m q i a y cap c1 c2 cap' p B c k f e l u w yp pp it lr : Nat} {S S' S0 S1 S2 : BS} {K : Nat → Nat} {la : Int → Nat} {G : BG} {A : St} {F V : Nat → Prop} {s s2 z z2 row : List Int} {v nn b1 x1 x2 x3 : Int} {dn rs t : List SLine} {x : SLine} {r : Option Nat} {Q : GO → BS → Prop} {od : SOrd0} {pt : SPat} {b g : MG} {o : Obj} {zz : Prop} {M : GMeth} {ls : GL} {st : List GV} {bk : Bool} {ad : SAdr}
/-- what is known of an address -/
def AdK (ad : SAdr) : Prop := (ad.1 = 48 ∨ ad.1 = 36 ∨ ad.1 = 39 ∨ ad.1 = 46 ∨ ad.1 = 47 ∨ ad.1 = 63) ∧ (ad.1 = 39 → 0 ≤ ad.2.1 ∧ ad.2.1 < 5) ∧ (0 ≤ ad.2.1 ∧ ad.2.1 < 1000) ∧ (-1000 < ad.2.2.2.1 ∧ ad.2.2.2.1 < 1000) ∧ (ad.1 = 47 ∨ ad.1 = 63 → PatK ad.2.2.1)
/-- what is known of a text whose lines are looked at -/
def TxK (A : St) : Prop := (A.2.1 ≤ A.1.length ∧ (A.1 ≠ [] → 1 ≤ A.2.1)) ∧ A.1.length ≤ 40 ∧ (∀ q ∈ A.1, q.2.length ≤ 30) ∧ (idsOfL A.1).Nodup
def SpX (S : BS) (K : Nat → Nat) (la : Int → Nat) (A : St) (B : Nat) (V : Nat → Prop) (R : Nat ⊕ Int) (r : GO) (S' : BS) : Prop := match R with
  | .inl w => ∃ S1, LO S1 K la A (B + 17) ∧ XF K V S S1 ∧ Thr9 11 78 w S1 r S'
  | .inr v => r = .inl (vI v) ∧ LO S' K la A (B + 17) ∧ XF K V S S'
theorem idNo_R {ids : List Int} {x : Int} : idNo ids x ≤ ids.length := by
  unfold idNo
  cases h : ids.findIdx? (fun q => q == x) with
  | none => exact Nat.zero_le _
  | some k =>
    have : k < ids.length := (List.findIdx?_eq_some_iff_getElem.mp h).1
    exact this
theorem L_spot (hL : LO S K la A B) (hK : ∀ m, F m → KoM K m) (hA : AdrIs S F m ad) (had : AdK ad) (hT : TxK A) (hB : B + 17 ≤ 20000000) : BM (d + 183) gk_X1_spot [aR (K 1), aR m] S (SpX S K la A B V (sSpot A ad)) := by
  obtain ⟨t, p, G⟩ := A
  obtain ⟨hp1, h40, hrow, hnd⟩ := hT
  have hLB : LB S K la (idsOfL t) p G B := hL.1
  have hp1 : p ≤ t.length ∧ (t ≠ [] → 1 ≤ p) := hp1
  have h40 : t.length ≤ 40 := h40
  have hrow : ∀ q ∈ t, q.2.length ≤ 30 := hrow
  have hnd : (idsOfL t).Nodup := hnd
  obtain ⟨f0, ha, h18, h19, h21, h22, r20, h20, h20p⟩ := hA
  obtain ⟨ak, ak39, akn, akm, akp⟩ := had
  have hx := hLB.obx
  have e3 := hLB.e3
  have h5 := hLB.pres5
  obtain ⟨mc0, hT0⟩ := hLB.text
  have hl0 : (lsOf la (idsOfL t)).length = t.length := by rw [lsOf_len, ids_len]
  have hL17 : LO S K la (t, p, G) (B + 17) := ⟨hLB.le (by omega) (by omega), hL.2⟩
  have eS : sSpot (t, p, G) ad = if ad.1 = 48 then .inr ad.2.1
    else if ad.1 = 36 then .inr t.length
    else if ad.1 = 39 then match G.2.2.2.1 ad.2.1.toNat with
      | none => .inl 3
      | some x => .inr (linNo t x)
    else if ad.1 = 46 then .inr p
    else if sSeek t p ad.2.2.1 (decide (ad.1 = 63)) = 0 then .inl 2 else .inr (sSeek t p ad.2.2.1 (decide (ad.1 = 63))) := rfl
  refine BM.of rfl rfl rfl ?_
  have seek : ∀ (bk : Bool) (pp : Nat), decide (ad.1 = 63) = bk → ad.1 = 47 ∨ ad.1 = 63 → PatIs S F pp ad.2.2.1 → BW (d + 182) gm_X1_spot 42 [some (aR (K 1)), some (aR m), none, none] [aI (b2i bk), aR pp, aR (K 1)] S (SpX S K la (t, p, G) B V (sSpot (t, p, G) ad)) := by
    intro bk pp hbk hk hP
    rw [eS, if_neg (by omega), if_neg (by omega), if_neg (by omega), if_neg (by omega), hbk]
    refine CW.c3 rfl rfl (by first | exact Or.inl rfl | exact Or.inr (tagO (by assumption) (by rfl) (by rfl))) (by first | exact Or.inl (by decide) | exact Or.inr ⟨_, rfl, by assumption⟩) rfl (L_nextHolding (V := V) (bk := bk) hL hK hP (akp hk) hp1 h40 hrow rfl) ?_
    rintro r S2 ⟨rfl, hL2, hX2⟩
    have hL2' : LO S2 K la (t, p, G) (B + 17) := ⟨hL2.1.le (by omega) (by omega), hL2.2⟩
    have hsk := sSeek_R (t := t) (p := p) (pt := ad.2.2.1) (back := bk)
    show BW (d + 182) gm_X1_spot 43 _ [aI (if sSeek t p ad.2.2.1 bk = 0 then -1 else (sSeek t p ad.2.2.1 bk : Int))] S2 _
    by_cases z : sSeek t p ad.2.2.1 bk = 0
    · rw [if_pos z, if_pos z]
      (repeat (refine BW.pl rfl rfl ?_))
      refine BW.br rfl rfl (by first | omega | decide | (constructor <;> first | omega | decide)) (fun w => ?_) (fun w => by first | (exfalso; omega) | exact absurd w (by decide))
      (repeat (refine BW.pl rfl rfl ?_))
      refine CW.need rfl rfl (by decide) rfl (Or.inl rfl) (by decide) rfl (fun w => absurd w (by decide)) (fun _ r9 S9 hT9 => ?_)
      exact ⟨S2, hL2', hX2, hT9⟩
    · rw [if_neg z, if_neg z]
      (repeat (refine BW.pl rfl rfl ?_))
      refine BW.br rfl rfl (by first | omega | decide | (constructor <;> first | omega | decide)) (fun w => by first | (exfalso; omega) | exact absurd w (by decide)) (fun w => ?_)
      (repeat (refine BW.pl rfl rfl ?_))
      refine CW.need rfl rfl (by decide) rfl (Or.inr rfl) (by decide) rfl (fun _ => ?_) (fun w => absurd w (by decide))
      (repeat (refine BW.pl rfl rfl ?_))
      exact BW.irx rfl (Or.inl ⟨rfl, by constructor <;> omega⟩) ⟨rfl, hL2', hX2⟩
  rcases ak with z | z | z | z | z | z
  · rw [eS, if_pos z]
    have h18' : Fi S 18 m 48 := by rw [← z]; exact h18
    clear h18
    (repeat (first | (refine BW.pl rfl rfl ?_) | (refine CW.geti rfl rfl (by assumption) rfl rfl (by assumption) (fun _ => ?_)) | (refine CW.getr rfl rfl (by assumption) rfl rfl (by assumption) ?_)))
    refine BW.sw (i' := 3) rfl rfl (by constructor <;> omega) rfl ?_
    (repeat (first | (refine BW.pl rfl rfl ?_) | (refine CW.geti rfl rfl (by assumption) rfl rfl (by assumption) (fun _ => ?_)) | (refine CW.getr rfl rfl (by assumption) rfl rfl (by assumption) ?_)))
    exact BW.irx rfl (Or.inl ⟨rfl, by constructor <;> omega⟩) ⟨rfl, hL17, XF.rf⟩
  · rw [eS, if_neg (by omega), if_pos z]
    have h18' : Fi S 18 m 36 := by rw [← z]; exact h18
    clear h18
    (repeat (first | (refine BW.pl rfl rfl ?_) | (refine CW.geti rfl rfl (by assumption) rfl rfl (by assumption) (fun _ => ?_)) | (refine CW.getr rfl rfl (by assumption) rfl rfl (by assumption) ?_)))
    refine BW.sw (i' := 9) rfl rfl (by constructor <;> omega) rfl ?_
    (repeat (first | (refine BW.pl rfl rfl ?_) | (refine CW.geti rfl rfl (by assumption) rfl rfl (by assumption) (fun _ => ?_)) | (refine CW.getr rfl rfl (by assumption) rfl rfl (by assumption) ?_)))
    refine CW.e1 rfl rfl (by first | exact Or.inl rfl | exact Or.inr (tagO (by assumption) (by rfl) (by rfl))) (by first | exact Or.inl (by decide) | exact Or.inr ⟨_, rfl, by assumption⟩) rfl (B_llSize hT0) ?_
    rw [hl0]
    exact BW.irx rfl (Or.inl ⟨rfl, by constructor <;> omega⟩) ⟨rfl, hL17, XF.rf⟩
  · obtain ⟨j1, j2⟩ := ak39 z
    obtain ⟨j, hj⟩ : ∃ j : Nat, ad.2.1 = j := ⟨ad.2.1.toNat, by omega⟩
    have ej : ad.2.1.toNat = j := by omega
    rw [hj] at h19
    rw [eS, if_neg (by omega), if_neg (by omega), if_pos z, ej]
    have h18' : Fi S 18 m 39 := by rw [← z]; exact h18
    clear h18
    have e6 := hLB.e6
    obtain ⟨M, hM, hMj⟩ := hLB.marks
    obtain ⟨m1, m2⟩ := hMj j (by omega)
    (repeat (first | (refine BW.pl rfl rfl ?_) | (refine CW.geti rfl rfl (by assumption) rfl rfl (by assumption) (fun _ => ?_)) | (refine CW.getr rfl rfl (by assumption) rfl rfl (by assumption) ?_)))
    refine BW.sw (i' := 13) rfl rfl (by constructor <;> omega) rfl ?_
    (repeat (first | (refine BW.pl rfl rfl ?_) | (refine CW.geti rfl rfl (by assumption) rfl rfl (by assumption) (fun _ => ?_)) | (refine CW.getr rfl rfl (by assumption) rfl rfl (by assumption) ?_)))
    refine CW.e1 rfl rfl (by first | exact Or.inl rfl | exact Or.inr (tagO (by assumption) (by rfl) (by rfl))) (by first | exact Or.inl (by decide) | exact Or.inr ⟨_, rfl, by assumption⟩) rfl (B_intOf ⟨by omega, by omega⟩) ?_
    refine CW.e2 rfl rfl (by first | exact Or.inl rfl | exact Or.inr (tagO (by assumption) (by rfl) (by rfl))) (by first | exact Or.inl (by decide) | exact Or.inr ⟨_, rfl, by assumption⟩) rfl (C_tmGet hM ⟨by omega, by omega⟩ m1) ?_
    cases hmk : G.2.2.2.1 j with
    | none =>
      refine CW.castN rfl ?_
      (repeat (refine BW.pl rfl rfl ?_))
      refine CW.nul rfl rfl (fun n h => by cases h) ?_
      (repeat (refine BW.pl rfl rfl ?_))
      refine CW.need rfl rfl (by decide) rfl (Or.inl rfl) (by decide) rfl (fun w => absurd w (by decide)) (fun _ r9 S9 hT9 => ?_)
      exact ⟨S, hL17, XF.rf, hT9⟩
    | some x =>
      have hxR := m2 x hmk
      have hx6 := hLB.la6 hxR
      show BW (d + 182) gm_X1_spot 19 _ [aR (la x)] S _
      refine CW.castS rfl hx6 rfl rfl rfl ?_
      (repeat (refine BW.pl rfl rfl ?_))
      refine CW.nul rfl rfl (fun n h => by cases h; rw [show S.1 (la x) = oOwn 6 from hx6]; rfl) ?_
      (repeat (refine BW.pl rfl rfl ?_))
      refine CW.need rfl rfl (by decide) rfl (Or.inr rfl) (by decide) rfl (fun _ => ?_) (fun w => absurd w (by decide))
      (repeat (refine BW.pl rfl rfl ?_))
      refine CW.c2 rfl rfl (by first | exact Or.inl rfl | exact Or.inr (tagO (by assumption) (by rfl) (by rfl))) (by first | exact Or.inl (by decide) | exact Or.inr ⟨_, rfl, by assumption⟩) rfl (L_numberOf hLB hxR hnd (by rw [ids_len]; omega) hB) ?_
      rintro r S2 ⟨rfl, hF2⟩
      have hno := idNo_R (ids := idsOfL t) (x := x)
      rw [ids_len] at hno
      refine BW.irx rfl (Or.inl ⟨rfl, by constructor <;> omega⟩) ⟨?_, hL.fr hF2 LoW.no hB, XF.rf.f0 hF2⟩
      rw [linNo_id]
  · rw [eS, if_neg (by omega), if_neg (by omega), if_neg (by omega), if_pos z]
    have h18' : Fi S 18 m 46 := by rw [← z]; exact h18
    clear h18
    (repeat (first | (refine BW.pl rfl rfl ?_) | (refine CW.geti rfl rfl (by assumption) rfl rfl (by assumption) (fun _ => ?_)) | (refine CW.getr rfl rfl (by assumption) rfl rfl (by assumption) ?_)))
    refine BW.sw (i' := 6) rfl rfl (by constructor <;> omega) rfl ?_
    (repeat (first | (refine BW.pl rfl rfl ?_) | (refine CW.geti rfl rfl (by assumption) rfl rfl (by assumption) (fun _ => ?_)) | (refine CW.getr rfl rfl (by assumption) rfl rfl (by assumption) ?_)))
    exact BW.irx rfl (Or.inl ⟨rfl, by constructor <;> omega⟩) ⟨rfl, hL17, XF.rf⟩
  · obtain ⟨pp, rfl, hP⟩ := h20p (Or.inl z)
    have h18' : Fi S 18 m 47 := by rw [← z]; exact h18
    clear h18
    (repeat (first | (refine BW.pl rfl rfl ?_) | (refine CW.geti rfl rfl (by assumption) rfl rfl (by assumption) (fun _ => ?_)) | (refine CW.getr rfl rfl (by assumption) rfl rfl (by assumption) ?_)))
    refine BW.sw (i' := 32) rfl rfl (by constructor <;> omega) rfl ?_
    (repeat (first | (refine BW.pl rfl rfl ?_) | (refine CW.geti rfl rfl (by assumption) rfl rfl (by assumption) (fun _ => ?_)) | (refine CW.getr rfl rfl (by assumption) rfl rfl (by assumption) ?_)))
    refine BW.br rfl rfl (by first | omega | decide | (constructor <;> first | omega | decide)) (fun w => ?_) (fun w => by first | (exfalso; omega) | exact absurd w (by decide))
    (iterate 1 (refine BW.pl rfl rfl ?_))
    exact seek false pp (decide_eq_false (by omega)) (Or.inl z) hP
  · obtain ⟨pp, rfl, hP⟩ := h20p (Or.inr z)
    have h18' : Fi S 18 m 63 := by rw [← z]; exact h18
    clear h18
    (repeat (first | (refine BW.pl rfl rfl ?_) | (refine CW.geti rfl rfl (by assumption) rfl rfl (by assumption) (fun _ => ?_)) | (refine CW.getr rfl rfl (by assumption) rfl rfl (by assumption) ?_)))
    refine BW.sw (i' := 32) rfl rfl (by constructor <;> omega) rfl ?_
    (repeat (first | (refine BW.pl rfl rfl ?_) | (refine CW.geti rfl rfl (by assumption) rfl rfl (by assumption) (fun _ => ?_)) | (refine CW.getr rfl rfl (by assumption) rfl rfl (by assumption) ?_)))
    refine BW.br rfl rfl (by first | omega | decide | (constructor <;> first | omega | decide)) (fun w => by first | (exfalso; omega) | exact absurd w (by decide)) (fun w => ?_)
    (iterate 2 (refine BW.pl rfl rfl ?_))
    exact seek true pp (decide_eq_true z) (Or.inr z) hP
def NuX (S : BS) (K : Nat → Nat) (la : Int → Nat) (A : St) (B : Nat) (V : Nat → Prop) (R : Nat ⊕ Nat) (r : GO) (S' : BS) : Prop := match R with
  | .inl w => ∃ S1, LO S1 K la A (B + 17) ∧ XF K V S S1 ∧ Thr9 11 78 w S1 r S'
  | .inr v => v ≤ A.1.length ∧ r = .inl (vI v) ∧ LO S' K la A (B + 17) ∧ XF K V S S'
end SP
