-- C
set_option maxRecDepth 100000
/-! LINEORDERS: numberOfAddress, takesAll, findRange -/
section HR
variable {d n m q i a y cap c1 c2 cap' p B c k f e l u w yp pp it lr : Nat} {S S' S0 S1 S2 : BS} {K : Nat → Nat} {la : Int → Nat} {G : BG} {A : St} {F V : Nat → Prop} {s s2 z z2 row : List Int} {v nn b1 x1 x2 x3 : Int} {dn rs t : List SLine} {x : SLine} {r : Option Nat} {Q : GO → BS → Prop} {od : SOrd0} {pt : SPat} {b g : MG} {o : Obj} {zz : Prop} {M : GMeth} {ls : GL} {st : List GV} {bk : Bool} {ad : SAdr}
theorem sSpot_R (hT : TxK A) (had : AdK ad) (h : sSpot A ad = .inr v) : 0 ≤ v ∧ v < 1000 := by
  obtain ⟨t, p, G⟩ := A
  obtain ⟨hp1, h40, hrow, hnd⟩ := hT
  have hp1 : p ≤ t.length ∧ (t ≠ [] → 1 ≤ p) := hp1
  have h40 : t.length ≤ 40 := h40
  have eS : sSpot (t, p, G) ad = if ad.1 = 48 then .inr ad.2.1
    else if ad.1 = 36 then .inr t.length
    else if ad.1 = 39 then match G.2.2.2.1 ad.2.1.toNat with
      | none => .inl 3
      | some x => .inr (linNo t x)
    else if ad.1 = 46 then .inr p
    else if sSeek t p ad.2.2.1 (decide (ad.1 = 63)) = 0 then .inl 2 else .inr (sSeek t p ad.2.2.1 (decide (ad.1 = 63))) := rfl
  rw [eS] at h
  have hsk := sSeek_R (t := t) (p := p) (pt := ad.2.2.1) (back := decide (ad.1 = 63))
  split at h
  · cases h; exact had.2.2.1
  · split at h
    · cases h; omega
    · split at h
      · split at h
        · cases h
        · rename_i x _
          cases h
          have hno := idNo_R (ids := idsOfL t) (x := x)
          rw [ids_len] at hno
          rw [linNo_id]
          omega
      · split at h
        · cases h; omega
        · split at h
          · cases h
          · cases h; omega
theorem L_numAdr (hL : LO S K la A B) (hK : ∀ m, F m → KoM K m) (hA : AdrIs S F m ad) (had : AdK ad) (hT : TxK A) (hB : B + 17 ≤ 20000000) : BM (d + 184) gk_X1_numberOfAddress [aR (K 1), aR m] S (NuX S K la A B V (sAdr A ad)) := by
  have hx := hL.1.obx
  have eS : sAdr A ad = match sSpot A ad with
    | .inl w => .inl w
    | .inr v => if v + ad.2.2.2.1 < 0 ∨ (A.1.length : Int) < v + ad.2.2.2.1 then .inl 1 else .inr (v + ad.2.2.2.1).toNat := rfl
  rw [eS]
  have hR := fun v => sSpot_R (v := v) hT had
  refine BM.of rfl rfl rfl ?_
  (repeat (refine BW.pl rfl rfl ?_))
  refine CW.x2 rfl rfl (by first | exact Or.inl rfl | exact Or.inr (tagO (by assumption) (by rfl) (by rfl))) (by first | exact Or.inl (by decide) | exact Or.inr ⟨_, rfl, by assumption⟩) rfl rfl (L_spot (V := V) hL hK hA had hT hB) ?_ ?_
  · intro r S2 h2
    revert h2 hR
    cases sSpot A ad with
    | inl w =>
      rintro hR ⟨S1, _, _, q9, e9, _⟩
      cases e9
    | inr v =>
      rintro hR ⟨e2, hL2, hX2⟩
      cases e2
      obtain ⟨v1, v2⟩ := hR v rfl
      have ha2 := hA.xf hX2 hK
      have h21 := ha2.2.2.2.2.1
      have hm2 := ha2.2.1
      have hx2 := hL2.1.obx
      have e3 := hL2.1.e3
      obtain ⟨mc0, hT0⟩ := hL2.1.text
      have hl0 : (lsOf la (idsOfL A.1)).length = A.1.length := by rw [lsOf_len, ids_len]
      have akm := had.2.2.2.1
      have h40 := hT.2.1
      show BW (d + 183) gm_X1_numberOfAddress 3 [some (aR (K 1)), some (aR m), none] [aI v] S2 (NuX S K la A B V (if v + ad.2.2.2.1 < 0 ∨ (A.1.length : Int) < v + ad.2.2.2.1 then .inl 1 else .inr (v + ad.2.2.2.1).toNat))
      (repeat (first | (refine BW.pl rfl rfl ?_) | (refine CW.geti rfl rfl (by assumption) rfl rfl (by assumption) (fun _ => ?_)) | (refine CW.getr rfl rfl (by assumption) rfl rfl (by assumption) ?_)))
      refine BW.i2l rfl (by constructor <;> omega) ?_
      (repeat (first | (refine BW.pl rfl rfl ?_) | (refine CW.geti rfl rfl (by assumption) rfl rfl (by assumption) (fun _ => ?_)) | (refine CW.getr rfl rfl (by assumption) rfl rfl (by assumption) ?_)))
      refine CW.e1 rfl rfl (by first | exact Or.inl rfl | exact Or.inr (tagO (by assumption) (by rfl) (by rfl))) (by first | exact Or.inl (by decide) | exact Or.inr ⟨_, rfl, by assumption⟩) rfl (B_llSize hT0) ?_
      rw [hl0]
      refine BW.i2l rfl (by constructor <;> omega) ?_
      refine CW.e3 rfl rfl (by first | exact Or.inl rfl | exact Or.inr (tagO (by assumption) (by rfl) (by rfl))) (by first | exact Or.inl (by decide) | exact Or.inr ⟨_, rfl, by assumption⟩) rfl (B_in (by constructor <;> omega) (by decide) (by constructor <;> omega)) ?_
      by_cases z : 0 ≤ v + ad.2.2.2.1 ∧ v + ad.2.2.2.1 ≤ (A.1.length : Int)
      · rw [if_pos z, if_neg (by omega)]
        (repeat (refine BW.pl rfl rfl ?_))
        refine CW.need rfl rfl (by decide) rfl (Or.inr rfl) (by decide) rfl (fun _ => ?_) (fun w => absurd w (by decide))
        (repeat (refine BW.pl rfl rfl ?_))
        refine BW.irx rfl (Or.inl ⟨rfl, by constructor <;> omega⟩) ⟨by omega, ?_, hL2, hX2⟩
        rw [show (((v + ad.2.2.2.1).toNat : Nat) : Int) = v + ad.2.2.2.1 by omega]
      · rw [if_neg z, if_pos (by omega)]
        (repeat (refine BW.pl rfl rfl ?_))
        refine CW.need rfl rfl (by decide) rfl (Or.inl rfl) (by decide) rfl (fun w => absurd w (by decide)) (fun _ r9 S9 hT9 => ?_)
        exact ⟨S2, hL2, hX2, hT9⟩
  · intro E q9 S2 h2
    revert h2
    cases sSpot A ad with
    | inl w =>
      rintro ⟨S1, hL1, hX1, h9⟩
      exact ⟨S1, hL1, hX1, h9⟩
    | inr v =>
      rintro ⟨e2, _⟩
      cases e2
theorem L_takesAll (hm : Ob S m (oOwn 7)) (h48 : Fi S 48 m (oAct od)) (hr : 0 ≤ oAct od ∧ oAct od < 1000) : BE (d + 1) gk_X1_takesAll [aR m] S (vI (if sWide (oAct od) = true then 1 else 0)) := by
  refine BM.of rfl rfl rfl ?_
  have yes : sWide (oAct od) = true → BW d gm_X1_takesAll 12 [some (aR m)] [] S (fun r S' => ∃ v, r = .inl v ∧ (vI (if sWide (oAct od) = true then 1 else 0) = v ∧ S = S')) := fun z => by
    rw [if_pos z]
    (repeat (refine BW.pl rfl rfl ?_))
    exact BW.irx rfl (Or.inr (Or.inl ⟨rfl, Or.inr rfl⟩)) ⟨_, rfl, rfl, rfl⟩
  (repeat (first | (refine BW.pl rfl rfl ?_) | (refine CW.geti rfl rfl (by assumption) rfl rfl (by assumption) (fun _ => ?_)) | (refine CW.getr rfl rfl (by assumption) rfl rfl (by assumption) ?_)))
  by_cases z1 : oAct od = 103
  · refine BW.br rfl rfl (by first | omega | decide | (constructor <;> first | omega | decide)) (fun w => ?_) (fun w => by first | (exfalso; omega) | exact absurd w (by decide))
    exact yes (decide_eq_true (Or.inl z1))
  · refine BW.br rfl rfl (by first | omega | decide | (constructor <;> first | omega | decide)) (fun w => by first | (exfalso; omega) | exact absurd w (by decide)) (fun w => ?_)
    (repeat (first | (refine BW.pl rfl rfl ?_) | (refine CW.geti rfl rfl (by assumption) rfl rfl (by assumption) (fun _ => ?_)) | (refine CW.getr rfl rfl (by assumption) rfl rfl (by assumption) ?_)))
    by_cases z2 : oAct od = 71
    · refine BW.br rfl rfl (by first | omega | decide | (constructor <;> first | omega | decide)) (fun w => ?_) (fun w => by first | (exfalso; omega) | exact absurd w (by decide))
      exact yes (decide_eq_true (Or.inr (Or.inl z2)))
    · refine BW.br rfl rfl (by first | omega | decide | (constructor <;> first | omega | decide)) (fun w => by first | (exfalso; omega) | exact absurd w (by decide)) (fun w => ?_)
      (repeat (first | (refine BW.pl rfl rfl ?_) | (refine CW.geti rfl rfl (by assumption) rfl rfl (by assumption) (fun _ => ?_)) | (refine CW.getr rfl rfl (by assumption) rfl rfl (by assumption) ?_)))
      by_cases z3 : oAct od = 119
      · refine BW.br rfl rfl (by first | omega | decide | (constructor <;> first | omega | decide)) (fun w => by first | (exfalso; omega) | exact absurd w (by decide)) (fun w => ?_)
        exact yes (decide_eq_true (Or.inr (Or.inr z3)))
      · refine BW.br rfl rfl (by first | omega | decide | (constructor <;> first | omega | decide)) (fun w => ?_) (fun w => by first | (exfalso; omega) | exact absurd w (by decide))
        have e : sWide (oAct od) = false := decide_eq_false (fun z => z.elim z1 (fun z => z.elim z2 z3))
        rw [e]
        (repeat (refine BW.pl rfl rfl ?_))
        exact BW.irx rfl (Or.inr (Or.inl ⟨rfl, Or.inl rfl⟩)) ⟨_, rfl, rfl, rfl⟩
end HR
