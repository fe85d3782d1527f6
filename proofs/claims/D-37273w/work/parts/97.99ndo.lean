-- C
set_option maxRecDepth 100000
/-! LINEORDERS: doOrder of a plain order -/
section ND
variable {d n m q i a y cap c1 c2 cap' p p' B c k f e l u w yp pp it lr j first : Nat} {S S' S0 S1 S2 : BS} {K : Nat → Nat} {la : Int → Nat} {G : BG} {A : St} {F V : Nat → Prop} {s s2 z z2 row : List Int} {v nn b1 x1 x2 x3 : Int} {dn rs t : List SLine} {x : SLine} {r : Option Nat} {Q : GO → BS → Prop} {od : SOrd0} {pt : SPat} {b g : MG} {o : Obj} {zz : Prop} {M : GMeth} {ls : GL} {st : List GV} {bk mo : Bool} {ad tg : SAdr} {xs : List (Option Nat)} {rows : List (List Int)} {ids : List Int}
theorem sAdrG_R (h : sAdr A ad = .inr k) : k ≤ A.1.length := by
  unfold sAdr at h
  split at h
  · cases h
  · split at h
    · cases h
    · cases h
      omega
theorem sAdO_R {ao : Option SAdr} (hp : p ≤ A.1.length) (h : sAdO A p ao = .inr k) : k ≤ A.1.length := by
  cases ao with
  | none => cases h; exact hp
  | some a => exact sAdrG_R h
theorem sRange_ok (hp : A.2.1 ≤ A.1.length) (h : sRange A od = .inr (f, l)) : RanOk A od f l := by
  unfold sRange at h
  split at h
  · split at h
    · cases h
    · rename_i z
      cases h
      refine Or.inl ⟨Nat.le_refl _, by omega, Nat.le_refl _, fun hw => ?_⟩
      rcases Nat.eq_zero_or_pos A.1.length with w | w
      · exact absurd ⟨w, hw⟩ z
      · exact w
  · split at h
    · cases h
    · rename_i f1 hf1
      have b1 := sAdO_R hp hf1
      split at h
      · cases h
      · rename_i l1 hl1
        have b2 := sAdO_R b1 hl1
        split at h
        · cases h
        · split at h
          · cases h
          · rename_i z1 z2
            cases h
            rcases Nat.eq_zero_or_pos f with w | w
            · subst w
              have z3 : oSnd od = none ∧ sAhead (oAct od) = true := Classical.byContradiction (fun y => z2 ⟨rfl, y⟩)
              rw [z3.1] at hl1
              cases hl1
              exact Or.inr ⟨rfl, rfl, z3.2⟩
            · exact Or.inl ⟨w, by omega, b2, fun _ => by omega⟩
/-- an order that is no group, no jump, no label -/
def OdP (od : SOrd0) : Prop := (oAct od ∈ [(97 : Int), (105 : Int), (99 : Int), (100 : Int), (106 : Int), (118 : Int), (108 : Int), (61 : Int), (104 : Int), (72 : Int), (117 : Int), (101 : Int), (62 : Int), (60 : Int), (115 : Int), (122 : Int), (111 : Int), (79 : Int), (109 : Int), (116 : Int), (114 : Int), (119 : Int), (107 : Int), (112 : Int), (110 : Int)]) ∧ (oAct od = 109 ∨ oAct od = 116 → ∃ tg, oTgt od = some tg) ∧ (oAct od = 107 → oNum od < 5) ∧ (oAct od = 114 ∨ oAct od = 119 → oNum od < 4)
/-- what printing costs -/
def pC (A : St) (od : SOrd0) : Nat := match sRange A od with
  | .inl _ => 0
  | .inr (f, l) => if oAct od = 112 ∨ oAct od = 110 then 20 + 480 * (l + 1 - f) else 0
theorem D_at (h : DoC S K la A B F zz m od) (hP : OdP od) (hR : RanOk A od f l) : BW (d + 186) gm_X1_doOrder 9 [some (aR (K 1)), some (aR m), some (aI f), some (aI l), none] [] S (ActX S K la A B (3100 + (if oAct od = 112 ∨ oAct od = 110 then 20 + 480 * (l + 1 - f) else 0)) 21000 (fun _ => True) (sAct A od f l)) := by
  obtain ⟨hm, kq, h48, h49⟩ := h.ord
  obtain ⟨hPa, hPt, hPk, hPr⟩ := hP
  have h40 : A.1.length ≤ 40 := h.2.2.2.1.2.1
  have hB := h.2.2.2.2.2.2
  have hle := hR.le
  have one := fun z => RanOk.one (A := A) (od := od) (f := f) (e := l) hR z
  have hcs : oAct od = 97 ∨ oAct od = 105 ∨ oAct od = 99 ∨ oAct od = 100 ∨ oAct od = 106 ∨ oAct od = 118 ∨ oAct od = 108 ∨ oAct od = 61 ∨ oAct od = 104 ∨ oAct od = 72 ∨ oAct od = 117 ∨ oAct od = 101 ∨ oAct od = 62 ∨ oAct od = 60 ∨ oAct od = 115 ∨ oAct od = 122 ∨ oAct od = 111 ∨ oAct od = 79 ∨ oAct od = 109 ∨ oAct od = 116 ∨ oAct od = 114 ∨ oAct od = 119 ∨ oAct od = 107 ∨ oAct od = 112 ∨ oAct od = 110 := by simpa using hPa
  rcases hcs with z | z | z | z | z | z | z | z | z | z | z | z | z | z | z | z | z | z | z | z | z | z | z | z | z
  · have e : sAct A od f l = sIns A l (oRows od) := by
      unfold sAct
      (repeat (first | rw [if_pos (by omega)] | rw [if_neg (by omega)]))
    have hwi : sWide (oAct od) = false := decide_eq_false (by omega)
    have g := D_a (d := d) (f := f) (l := l) h hle
    rw [← e] at g
    rw [if_neg (by omega)]
    have h48' : Fi S 48 m 97 := by rw [← z]; exact h48
    clear h48
    (iterate 2 (first | (refine BW.pl rfl rfl ?_) | (refine CW.geti rfl rfl (by assumption) rfl rfl (by assumption) (fun _ => ?_)) | (refine CW.getr rfl rfl (by assumption) rfl rfl (by assumption) ?_)))
    refine BW.sw (i' := 12) rfl rfl (by constructor <;> omega) rfl ?_
    exact BW.mono2 (fun r S' hh => hh.wk (fun _ hh => hh) (by omega) (Nat.le_refl _) (by omega) (by omega)) g
  · have e : sAct A od f l = sIns A (f - 1) (oRows od) := by
      unfold sAct
      (repeat (first | rw [if_pos (by omega)] | rw [if_neg (by omega)]))
    have hah : sAhead (oAct od) = false := decide_eq_false (by omega)
    have hwi : sWide (oAct od) = false := decide_eq_false (by omega)
    have g := D_i (d := d) (f := f) (l := l) h (one hah).1 (by have := (one hah).2.2.2 hwi; omega)
    rw [← e] at g
    rw [if_neg (by omega)]
    have h48' : Fi S 48 m 105 := by rw [← z]; exact h48
    clear h48
    (iterate 2 (first | (refine BW.pl rfl rfl ?_) | (refine CW.geti rfl rfl (by assumption) rfl rfl (by assumption) (fun _ => ?_)) | (refine CW.getr rfl rfl (by assumption) rfl rfl (by assumption) ?_)))
    refine BW.sw (i' := 19) rfl rfl (by constructor <;> omega) rfl ?_
    exact BW.mono2 (fun r S' hh => hh.wk (fun _ hh => hh) (by omega) (Nat.le_refl _) (by omega) (by omega)) g
  · have e : sAct A od f l = sIns (sDel A f l) (f - 1) (oRows od) := by
      unfold sAct
      (repeat (first | rw [if_pos (by omega)] | rw [if_neg (by omega)]))
    have hah : sAhead (oAct od) = false := decide_eq_false (by omega)
    have hwi : sWide (oAct od) = false := decide_eq_false (by omega)
    have g := D_c (d := d) (f := f) (l := l) h (one hah).1 (one hah).2.1 hle
    rw [← e] at g
    rw [if_neg (by omega)]
    have h48' : Fi S 48 m 99 := by rw [← z]; exact h48
    clear h48
    (iterate 2 (first | (refine BW.pl rfl rfl ?_) | (refine CW.geti rfl rfl (by assumption) rfl rfl (by assumption) (fun _ => ?_)) | (refine CW.getr rfl rfl (by assumption) rfl rfl (by assumption) ?_)))
    refine BW.sw (i' := 28) rfl rfl (by constructor <;> omega) rfl ?_
    exact BW.mono2 (fun r S' hh => hh.wk (fun _ hh => hh) (by omega) (Nat.le_refl _) (by omega) (by omega)) g
  · have e : sAct A od f l = delR A f l := by
      unfold sAct
      (repeat (first | rw [if_pos (by omega)] | rw [if_neg (by omega)]))
      rfl
    have hah : sAhead (oAct od) = false := decide_eq_false (by omega)
    have hwi : sWide (oAct od) = false := decide_eq_false (by omega)
    have g := D_d (d := d) (f := f) (l := l) h (one hah).1 ((one hah).2.2.2 hwi) hle
    rw [← e] at g
    rw [if_neg (by omega)]
    have h48' : Fi S 48 m 100 := by rw [← z]; exact h48
    clear h48
    (iterate 2 (first | (refine BW.pl rfl rfl ?_) | (refine CW.geti rfl rfl (by assumption) rfl rfl (by assumption) (fun _ => ?_)) | (refine CW.getr rfl rfl (by assumption) rfl rfl (by assumption) ?_)))
    refine BW.sw (i' := 36) rfl rfl (by constructor <;> omega) rfl ?_
    exact BW.mono2 (fun r S' hh => hh.wk (fun _ hh => hh) (by omega) (Nat.le_refl _) (by omega) (by omega)) g
  · have e : sAct A od f l = sJoin A f l := by
      unfold sAct
      (repeat (first | rw [if_pos (by omega)] | rw [if_neg (by omega)]))
    have hah : sAhead (oAct od) = false := decide_eq_false (by omega)
    have hwi : sWide (oAct od) = false := decide_eq_false (by omega)
    have g := D_j (d := d) (f := f) (l := l) h (one hah).1 ((one hah).2.2.2 hwi) hle
    rw [← e] at g
    rw [if_neg (by omega)]
    have h48' : Fi S 48 m 106 := by rw [← z]; exact h48
    clear h48
    (iterate 2 (first | (refine BW.pl rfl rfl ?_) | (refine CW.geti rfl rfl (by assumption) rfl rfl (by assumption) (fun _ => ?_)) | (refine CW.getr rfl rfl (by assumption) rfl rfl (by assumption) ?_)))
    refine BW.sw (i' := 48) rfl rfl (by constructor <;> omega) rfl ?_
    exact BW.mono2 (fun r S' hh => hh.wk (fun _ hh => hh) (by omega) (Nat.le_refl _) (by omega) (by omega)) g
  · have e : sAct A od f l = sPart A (oNum od).toNat f l := by
      unfold sAct
      (repeat (first | rw [if_pos (by omega)] | rw [if_neg (by omega)]))
    have hah : sAhead (oAct od) = false := decide_eq_false (by omega)
    have hwi : sWide (oAct od) = false := decide_eq_false (by omega)
    have g := D_v (d := d) (f := f) (l := l) h (one hah).1 ((one hah).2.2.2 hwi) hle
    rw [← e] at g
    rw [if_neg (by omega)]
    have h48' : Fi S 48 m 118 := by rw [← z]; exact h48
    clear h48
    (iterate 2 (first | (refine BW.pl rfl rfl ?_) | (refine CW.geti rfl rfl (by assumption) rfl rfl (by assumption) (fun _ => ?_)) | (refine CW.getr rfl rfl (by assumption) rfl rfl (by assumption) ?_)))
    refine BW.sw (i' := 53) rfl rfl (by constructor <;> omega) rfl ?_
    exact BW.mono2 (fun r S' hh => hh.wk (fun _ hh => hh) (by omega) (Nat.le_refl _) (by omega) (by omega)) g
  · have e : sAct A od f l = .inr (sLeave A f l) := by
      unfold sAct
      (repeat (first | rw [if_pos (by omega)] | rw [if_neg (by omega)]))
    have hah : sAhead (oAct od) = false := decide_eq_false (by omega)
    have hwi : sWide (oAct od) = false := decide_eq_false (by omega)
    have g := D_l (d := d) (f := f) (l := l) h (one hah).1 ((one hah).2.2.2 hwi) hle
    rw [← e] at g
    rw [if_neg (by omega)]
    have h48' : Fi S 48 m 108 := by rw [← z]; exact h48
    clear h48
    (iterate 2 (first | (refine BW.pl rfl rfl ?_) | (refine CW.geti rfl rfl (by assumption) rfl rfl (by assumption) (fun _ => ?_)) | (refine CW.getr rfl rfl (by assumption) rfl rfl (by assumption) ?_)))
    refine BW.sw (i' := 60) rfl rfl (by constructor <;> omega) rfl ?_
    exact BW.mono2 (fun r S' hh => hh.wk (fun _ hh => hh) (by omega) (Nat.le_refl _) (by omega) (by omega)) g
  · have e : sAct A od f l = telR A l := by
      unfold sAct
      (repeat (first | rw [if_pos (by omega)] | rw [if_neg (by omega)]))
      obtain ⟨t9, p9, h9, o9, f9, m9, n9, r9⟩ := A
      unfold telR
      dsimp only
      cases sTell o9 (sNum l) <;> rfl
    have hah : sAhead (oAct od) = false := decide_eq_false (by omega)
    have hwi : sWide (oAct od) = false := decide_eq_false (by omega)
    have g := D_eq (d := d) (f := f) (l := l) h hle
    rw [← e] at g
    rw [if_neg (by omega)]
    have h48' : Fi S 48 m 61 := by rw [← z]; exact h48
    clear h48
    (iterate 2 (first | (refine BW.pl rfl rfl ?_) | (refine CW.geti rfl rfl (by assumption) rfl rfl (by assumption) (fun _ => ?_)) | (refine CW.getr rfl rfl (by assumption) rfl rfl (by assumption) ?_)))
    refine BW.sw (i' := 65) rfl rfl (by constructor <;> omega) rfl ?_
    exact BW.mono2 (fun r S' hh => hh.wk (fun _ hh => hh) (by omega) (Nat.le_refl _) (by omega) (by omega)) g
  · have e : sAct A od f l = sHold A 0 f l := by
      unfold sAct
      (repeat (first | rw [if_pos (by omega)] | rw [if_neg (by omega)]))
    have hah : sAhead (oAct od) = false := decide_eq_false (by omega)
    have hwi : sWide (oAct od) = false := decide_eq_false (by omega)
    have g := D_h (d := d) (f := f) (l := l) h (first := 0) (mo := false) (Or.inr ⟨z, rfl, rfl⟩) (one hah).1 ((one hah).2.2.2 hwi) hle
    rw [← e] at g
    rw [if_neg (by omega)]
    have h48' : Fi S 48 m 104 := by rw [← z]; exact h48
    clear h48
    (iterate 2 (first | (refine BW.pl rfl rfl ?_) | (refine CW.geti rfl rfl (by assumption) rfl rfl (by assumption) (fun _ => ?_)) | (refine CW.getr rfl rfl (by assumption) rfl rfl (by assumption) ?_)))
    refine BW.sw (i' := 70) rfl rfl (by constructor <;> omega) rfl ?_
    exact BW.mono2 (fun r S' hh => hh.wk (fun _ hh => hh) (by omega) (Nat.le_refl _) (by omega) (by omega)) g
  · have e : sAct A od f l = sHold A A.2.2.1.length f l := by
      unfold sAct
      (repeat (first | rw [if_pos (by omega)] | rw [if_neg (by omega)]))
    have hah : sAhead (oAct od) = false := decide_eq_false (by omega)
    have hwi : sWide (oAct od) = false := decide_eq_false (by omega)
    have g := D_h (d := d) (f := f) (l := l) h (first := A.2.2.1.length) (mo := true) (Or.inl ⟨z, rfl, rfl⟩) (one hah).1 ((one hah).2.2.2 hwi) hle
    rw [← e] at g
    rw [if_neg (by omega)]
    have h48' : Fi S 48 m 72 := by rw [← z]; exact h48
    clear h48
    (iterate 2 (first | (refine BW.pl rfl rfl ?_) | (refine CW.geti rfl rfl (by assumption) rfl rfl (by assumption) (fun _ => ?_)) | (refine CW.getr rfl rfl (by assumption) rfl rfl (by assumption) ?_)))
    refine BW.sw (i' := 70) rfl rfl (by constructor <;> omega) rfl ?_
    exact BW.mono2 (fun r S' hh => hh.wk (fun _ hh => hh) (by omega) (Nat.le_refl _) (by omega) (by omega)) g
  · have e : sAct A od f l = (if A.2.2.1 = [] then .inl 5 else sIns A l A.2.2.1) := by
      unfold sAct
      (repeat (first | rw [if_pos (by omega)] | rw [if_neg (by omega)]))
    have hwi : sWide (oAct od) = false := decide_eq_false (by omega)
    have g := D_u (d := d) (f := f) (l := l) h hle
    rw [← e] at g
    rw [if_neg (by omega)]
    have h48' : Fi S 48 m 117 := by rw [← z]; exact h48
    clear h48
    (iterate 2 (first | (refine BW.pl rfl rfl ?_) | (refine CW.geti rfl rfl (by assumption) rfl rfl (by assumption) (fun _ => ?_)) | (refine CW.getr rfl rfl (by assumption) rfl rfl (by assumption) ?_)))
    refine BW.sw (i' := 87) rfl rfl (by constructor <;> omega) rfl ?_
    exact BW.mono2 (fun r S' hh => hh.wk (fun _ hh => hh) (by omega) (Nat.le_refl _) (by omega) (by omega)) g
  · have e : sAct A od f l = sXch A f l := by
      unfold sAct
      (repeat (first | rw [if_pos (by omega)] | rw [if_neg (by omega)]))
    have hah : sAhead (oAct od) = false := decide_eq_false (by omega)
    have hwi : sWide (oAct od) = false := decide_eq_false (by omega)
    have g := D_e (d := d) (f := f) (l := l) h (one hah).1 ((one hah).2.2.2 hwi) hle
    rw [← e] at g
    rw [if_neg (by omega)]
    have h48' : Fi S 48 m 101 := by rw [← z]; exact h48
    clear h48
    (iterate 2 (first | (refine BW.pl rfl rfl ?_) | (refine CW.geti rfl rfl (by assumption) rfl rfl (by assumption) (fun _ => ?_)) | (refine CW.getr rfl rfl (by assumption) rfl rfl (by assumption) ?_)))
    refine BW.sw (i' := 103) rfl rfl (by constructor <;> omega) rfl ?_
    exact BW.mono2 (fun r S' hh => hh.wk (fun _ hh => hh) (by omega) (Nat.le_refl _) (by omega) (by omega)) g
  · have e : sAct A od f l = sChange A od f l := by
      unfold sAct
      (repeat (first | rw [if_pos (by omega)] | rw [if_neg (by omega)]))
    have hah : sAhead (oAct od) = false := decide_eq_false (by omega)
    have hwi : sWide (oAct od) = false := decide_eq_false (by omega)
    have g := D_z (d := d) (f := f) (l := l) h (one hah).1 ((one hah).2.2.2 hwi) hle (by omega)
    rw [← e] at g
    rw [if_neg (by omega)]
    have h48' : Fi S 48 m 62 := by rw [← z]; exact h48
    clear h48
    (iterate 2 (first | (refine BW.pl rfl rfl ?_) | (refine CW.geti rfl rfl (by assumption) rfl rfl (by assumption) (fun _ => ?_)) | (refine CW.getr rfl rfl (by assumption) rfl rfl (by assumption) ?_)))
    refine BW.sw (i' := 203) rfl rfl (by constructor <;> omega) rfl ?_
    exact BW.mono2 (fun r S' hh => hh.wk (fun _ hh => hh) (by omega) (Nat.le_refl _) (by omega) (by omega)) g
  · have e : sAct A od f l = sChange A od f l := by
      unfold sAct
      (repeat (first | rw [if_pos (by omega)] | rw [if_neg (by omega)]))
    have hah : sAhead (oAct od) = false := decide_eq_false (by omega)
    have hwi : sWide (oAct od) = false := decide_eq_false (by omega)
    have g := D_z (d := d) (f := f) (l := l) h (one hah).1 ((one hah).2.2.2 hwi) hle (by omega)
    rw [← e] at g
    rw [if_neg (by omega)]
    have h48' : Fi S 48 m 60 := by rw [← z]; exact h48
    clear h48
    (iterate 2 (first | (refine BW.pl rfl rfl ?_) | (refine CW.geti rfl rfl (by assumption) rfl rfl (by assumption) (fun _ => ?_)) | (refine CW.getr rfl rfl (by assumption) rfl rfl (by assumption) ?_)))
    refine BW.sw (i' := 203) rfl rfl (by constructor <;> omega) rfl ?_
    exact BW.mono2 (fun r S' hh => hh.wk (fun _ hh => hh) (by omega) (Nat.le_refl _) (by omega) (by omega)) g
  · have e : sAct A od f l = sChange A od f l := by
      unfold sAct
      (repeat (first | rw [if_pos (by omega)] | rw [if_neg (by omega)]))
    have hah : sAhead (oAct od) = false := decide_eq_false (by omega)
    have hwi : sWide (oAct od) = false := decide_eq_false (by omega)
    have g := D_z (d := d) (f := f) (l := l) h (one hah).1 ((one hah).2.2.2 hwi) hle (by omega)
    rw [← e] at g
    rw [if_neg (by omega)]
    have h48' : Fi S 48 m 115 := by rw [← z]; exact h48
    clear h48
    (iterate 2 (first | (refine BW.pl rfl rfl ?_) | (refine CW.geti rfl rfl (by assumption) rfl rfl (by assumption) (fun _ => ?_)) | (refine CW.getr rfl rfl (by assumption) rfl rfl (by assumption) ?_)))
    refine BW.sw (i' := 203) rfl rfl (by constructor <;> omega) rfl ?_
    exact BW.mono2 (fun r S' hh => hh.wk (fun _ hh => hh) (by omega) (Nat.le_refl _) (by omega) (by omega)) g
  · have e : sAct A od f l = sChange A od f l := by
      unfold sAct
      (repeat (first | rw [if_pos (by omega)] | rw [if_neg (by omega)]))
    have hah : sAhead (oAct od) = false := decide_eq_false (by omega)
    have hwi : sWide (oAct od) = false := decide_eq_false (by omega)
    have g := D_z (d := d) (f := f) (l := l) h (one hah).1 ((one hah).2.2.2 hwi) hle (by omega)
    rw [← e] at g
    rw [if_neg (by omega)]
    have h48' : Fi S 48 m 122 := by rw [← z]; exact h48
    clear h48
    (iterate 2 (first | (refine BW.pl rfl rfl ?_) | (refine CW.geti rfl rfl (by assumption) rfl rfl (by assumption) (fun _ => ?_)) | (refine CW.getr rfl rfl (by assumption) rfl rfl (by assumption) ?_)))
    refine BW.sw (i' := 203) rfl rfl (by constructor <;> omega) rfl ?_
    exact BW.mono2 (fun r S' hh => hh.wk (fun _ hh => hh) (by omega) (Nat.le_refl _) (by omega) (by omega)) g
  · have e : sAct A od f l = .inr (sSort A od f l) := by
      unfold sAct
      (repeat (first | rw [if_pos (by omega)] | rw [if_neg (by omega)]))
    have hah : sAhead (oAct od) = false := decide_eq_false (by omega)
    have hwi : sWide (oAct od) = false := decide_eq_false (by omega)
    have g := D_o (d := d) (f := f) (l := l) h (one hah).1 ((one hah).2.2.2 hwi) hle (by omega)
    rw [← e] at g
    rw [if_neg (by omega)]
    have h48' : Fi S 48 m 111 := by rw [← z]; exact h48
    clear h48
    (iterate 2 (first | (refine BW.pl rfl rfl ?_) | (refine CW.geti rfl rfl (by assumption) rfl rfl (by assumption) (fun _ => ?_)) | (refine CW.getr rfl rfl (by assumption) rfl rfl (by assumption) ?_)))
    refine BW.sw (i' := 129) rfl rfl (by constructor <;> omega) rfl ?_
    exact BW.mono2 (fun r S' hh => hh.wk (fun _ hh => hh) (by omega) (Nat.le_refl _) (by omega) (by omega)) g
  · have e : sAct A od f l = .inr (sSort A od f l) := by
      unfold sAct
      (repeat (first | rw [if_pos (by omega)] | rw [if_neg (by omega)]))
    have hah : sAhead (oAct od) = false := decide_eq_false (by omega)
    have hwi : sWide (oAct od) = false := decide_eq_false (by omega)
    have g := D_o (d := d) (f := f) (l := l) h (one hah).1 ((one hah).2.2.2 hwi) hle (by omega)
    rw [← e] at g
    rw [if_neg (by omega)]
    have h48' : Fi S 48 m 79 := by rw [← z]; exact h48
    clear h48
    (iterate 2 (first | (refine BW.pl rfl rfl ?_) | (refine CW.geti rfl rfl (by assumption) rfl rfl (by assumption) (fun _ => ?_)) | (refine CW.getr rfl rfl (by assumption) rfl rfl (by assumption) ?_)))
    refine BW.sw (i' := 129) rfl rfl (by constructor <;> omega) rfl ?_
    exact BW.mono2 (fun r S' hh => hh.wk (fun _ hh => hh) (by omega) (Nat.le_refl _) (by omega) (by omega)) g
  · obtain ⟨tg, htg⟩ := hPt (by omega)
    have e : sAct A od f l = movR A tg f l := by
      unfold sAct
      (repeat (first | rw [if_pos (by omega)] | rw [if_neg (by omega)]))
      rw [htg, Option.getD_some]
      unfold movR
      cases sAdr A tg <;> rfl
    have hah : sAhead (oAct od) = false := decide_eq_false (by omega)
    have hwi : sWide (oAct od) = false := decide_eq_false (by omega)
    have g := D_m (d := d) (f := f) (l := l) h htg (one hah).1 ((one hah).2.2.2 hwi) hle
    rw [← e] at g
    rw [if_neg (by omega)]
    have h48' : Fi S 48 m 109 := by rw [← z]; exact h48
    clear h48
    (iterate 2 (first | (refine BW.pl rfl rfl ?_) | (refine CW.geti rfl rfl (by assumption) rfl rfl (by assumption) (fun _ => ?_)) | (refine CW.getr rfl rfl (by assumption) rfl rfl (by assumption) ?_)))
    refine BW.sw (i' := 135) rfl rfl (by constructor <;> omega) rfl ?_
    exact BW.mono2 (fun r S' hh => hh.wk (fun _ hh => hh) (by omega) (Nat.le_refl _) (by omega) (by omega)) g
  · obtain ⟨tg, htg⟩ := hPt (by omega)
    have e : sAct A od f l = copR A tg f l := by
      unfold sAct
      (repeat (first | rw [if_pos (by omega)] | rw [if_neg (by omega)]))
      rw [htg, Option.getD_some]
      unfold copR
      cases sAdr A tg <;> rfl
    have hah : sAhead (oAct od) = false := decide_eq_false (by omega)
    have hwi : sWide (oAct od) = false := decide_eq_false (by omega)
    have g := D_t (d := d) (f := f) (l := l) h htg (one hah).1 ((one hah).2.2.2 hwi) hle
    rw [← e] at g
    rw [if_neg (by omega)]
    have h48' : Fi S 48 m 116 := by rw [← z]; exact h48
    clear h48
    (iterate 2 (first | (refine BW.pl rfl rfl ?_) | (refine CW.geti rfl rfl (by assumption) rfl rfl (by assumption) (fun _ => ?_)) | (refine CW.getr rfl rfl (by assumption) rfl rfl (by assumption) ?_)))
    refine BW.sw (i' := 144) rfl rfl (by constructor <;> omega) rfl ?_
    exact BW.mono2 (fun r S' hh => hh.wk (fun _ hh => hh) (by omega) (Nat.le_refl _) (by omega) (by omega)) g
  · have e : sAct A od f l = (if A.2.2.2.2.1 (oNum od).toNat = [] then .inr A else sIns A l (A.2.2.2.2.1 (oNum od).toNat)) := by
      unfold sAct
      (repeat (first | rw [if_pos (by omega)] | rw [if_neg (by omega)]))
    have hwi : sWide (oAct od) = false := decide_eq_false (by omega)
    have g := D_r (d := d) (f := f) (l := l) h (hPr (by omega)) hle
    rw [← e] at g
    rw [if_neg (by omega)]
    have h48' : Fi S 48 m 114 := by rw [← z]; exact h48
    clear h48
    (iterate 2 (first | (refine BW.pl rfl rfl ?_) | (refine CW.geti rfl rfl (by assumption) rfl rfl (by assumption) (fun _ => ?_)) | (refine CW.getr rfl rfl (by assumption) rfl rfl (by assumption) ?_)))
    refine BW.sw (i' := 166) rfl rfl (by constructor <;> omega) rfl ?_
    exact BW.mono2 (fun r S' hh => hh.wk (fun _ hh => hh) (by omega) (Nat.le_refl _) (by omega) (by omega)) g
  · have e : sAct A od f l = wriR A (oNum od).toNat f l := by
      unfold sAct
      (repeat (first | rw [if_pos (by omega)] | rw [if_neg (by omega)]))
      rfl
    have hah : sAhead (oAct od) = false := decide_eq_false (by omega)
    have g := D_w (d := d) (f := f) (l := l) h (hPr (by omega)) (one hah).1 (one hah).2.1 hle
    rw [← e] at g
    rw [if_neg (by omega)]
    have h48' : Fi S 48 m 119 := by rw [← z]; exact h48
    clear h48
    (iterate 2 (first | (refine BW.pl rfl rfl ?_) | (refine CW.geti rfl rfl (by assumption) rfl rfl (by assumption) (fun _ => ?_)) | (refine CW.getr rfl rfl (by assumption) rfl rfl (by assumption) ?_)))
    refine BW.sw (i' := 185) rfl rfl (by constructor <;> omega) rfl ?_
    exact BW.mono2 (fun r S' hh => hh.wk (fun _ hh => hh) (by omega) (Nat.le_refl _) (by omega) (by omega)) g
  · have e : sAct A od f l = mrkR A (oNum od).toNat (idAt A.1 (l - 1)) := by
      unfold sAct
      (repeat (first | rw [if_pos (by omega)] | rw [if_neg (by omega)]))
      rfl
    have hah : sAhead (oAct od) = false := decide_eq_false (by omega)
    have hwi : sWide (oAct od) = false := decide_eq_false (by omega)
    have g := D_k (d := d) (f := f) (l := l) h (hPk z) (by have := (one hah).1; have := (one hah).2.2.2 hwi; omega) hle
    rw [← e] at g
    rw [if_neg (by omega)]
    have h48' : Fi S 48 m 107 := by rw [← z]; exact h48
    clear h48
    (iterate 2 (first | (refine BW.pl rfl rfl ?_) | (refine CW.geti rfl rfl (by assumption) rfl rfl (by assumption) (fun _ => ?_)) | (refine CW.getr rfl rfl (by assumption) rfl rfl (by assumption) ?_)))
    refine BW.sw (i' := 155) rfl rfl (by constructor <;> omega) rfl ?_
    exact BW.mono2 (fun r S' hh => hh.wk (fun _ hh => hh) (by omega) (Nat.le_refl _) (by omega) (by omega)) g
  · have e : sAct A od f l = prnR A.1 l A.2.2 (sPrint (decide (oAct od = 110)) f (rowsOfL (seg A.1 f l)) A.2.2.2.1) := by
      unfold sAct
      (repeat (first | rw [if_pos (by omega)] | rw [if_neg (by omega)]))
      obtain ⟨t9, p9, h9, o9, f9, m9, n9, r9⟩ := A
      dsimp only
      cases sPrint (decide (oAct od = 110)) f (rowsOfL (seg t9 f l)) o9 <;> rfl
    have hah : sAhead (oAct od) = false := decide_eq_false (by omega)
    have hwi : sWide (oAct od) = false := decide_eq_false (by omega)
    have g := D_p (d := d) (f := f) (l := l) h (by omega) (one hah).1 ((one hah).2.2.2 hwi) hle
    rw [← e] at g
    rw [if_pos (by omega)]
    have h48' : Fi S 48 m 112 := by rw [← z]; exact h48
    clear h48
    (iterate 2 (first | (refine BW.pl rfl rfl ?_) | (refine CW.geti rfl rfl (by assumption) rfl rfl (by assumption) (fun _ => ?_)) | (refine CW.getr rfl rfl (by assumption) rfl rfl (by assumption) ?_)))
    refine BW.sw (i' := 203) rfl rfl (by constructor <;> omega) rfl ?_
    exact BW.mono2 (fun r S' hh => hh.wk (fun _ hh => hh) (by omega) (Nat.le_refl _) (by omega) (by omega)) g
  · have e : sAct A od f l = prnR A.1 l A.2.2 (sPrint (decide (oAct od = 110)) f (rowsOfL (seg A.1 f l)) A.2.2.2.1) := by
      unfold sAct
      (repeat (first | rw [if_pos (by omega)] | rw [if_neg (by omega)]))
      obtain ⟨t9, p9, h9, o9, f9, m9, n9, r9⟩ := A
      dsimp only
      cases sPrint (decide (oAct od = 110)) f (rowsOfL (seg t9 f l)) o9 <;> rfl
    have hah : sAhead (oAct od) = false := decide_eq_false (by omega)
    have hwi : sWide (oAct od) = false := decide_eq_false (by omega)
    have g := D_p (d := d) (f := f) (l := l) h (by omega) (one hah).1 ((one hah).2.2.2 hwi) hle
    rw [← e] at g
    rw [if_pos (by omega)]
    have h48' : Fi S 48 m 110 := by rw [← z]; exact h48
    clear h48
    (iterate 2 (first | (refine BW.pl rfl rfl ?_) | (refine CW.geti rfl rfl (by assumption) rfl rfl (by assumption) (fun _ => ?_)) | (refine CW.getr rfl rfl (by assumption) rfl rfl (by assumption) ?_)))
    refine BW.sw (i' := 203) rfl rfl (by constructor <;> omega) rfl ?_
    exact BW.mono2 (fun r S' hh => hh.wk (fun _ hh => hh) (by omega) (Nat.le_refl _) (by omega) (by omega)) g
end ND
