set_option maxRecDepth 100000
/-! the twin puts its work, puts the rest, takes the next line -/
/-- the lines that there are when the work is put -/
def PLn (W : WG) : List SLine := W.2.2.2.1 ++ W.2.2.2.2
/-- the work is put: neither the work nor what is due counts -/
def TWP (σ : TS) (t : List SLine) (W : WG) (B : BG) : Prop := ResIs σ t W.2.2.2.2 ∧ PutIs σ W.2.2.2.1 ∧ TR σ B.1 B.2.1 B.2.2.1 ∧ MrkIs σ B.2.2.2.1 (idsOfL (PLn W)) B.2.2.2.2.1 ∧ (σ.1 17) = B.2.2.2.2.1 ∧ (σ.1 44) = b2i B.2.2.2.2.2
def PwQ (σ : TS) (t : List SLine) (R : Nat ⊕ (WG × BG)) (r : Option Int) (τ : TS) : Prop := (TFr [13, 17] [6, 8] σ τ ∧ RSame (fun k => 41 ≤ k ∧ k < 82) σ τ) ∧ match R with
  | .inl w => r = some (w : Int)
  | .inr (W1, B1) => r = some 0 ∧ TWP τ t W1 B1
section TPut
variable {d : Nat} {σ τ : TS} {s l l1 l2 : List Int} {t pu re : List SLine} {du : List (List Int)} {x : SLine} {g : Bool} {W : WG} {B : BG} {fs as : List Nat} {rs : List (List Int)} {xs : List Int} {h o : List (List Int)} {fi : Nat → List (List Int)} {m : Nat → Option Int} {n n0 : Int} {rp : Bool} {od : SOrd0}
theorem TW.imp {C : List TI} {i : Nat} {ls : TL} {st : List TV} {Q Q' : Option Int → TS → Prop} (h : TW d C i ls st σ Q) (hQ : ∀ r τ, Q r τ → Q' r τ) : TW d C i ls st σ Q' := fun hi => by
  obtain ⟨N, r, σ', a, b⟩ := h hi
  exact ⟨N, r, σ', a, hQ _ _ b⟩
theorem TR.put (f : TR σ h o fi) (hf : TFr fs as σ τ) (hs : RSame (fun k => k < 82) σ τ) (h1 : ∀ k ∈ [14, 15], k ∉ fs) (h2 : 11 ∉ as) : TR τ h o fi := by
  obtain ⟨⟨f1, f2, f3⟩, ⟨f4, f5, f6⟩, f7⟩ := f
  refine ⟨⟨(hf.1 14 (h1 14 (by decide))).trans f1, f2, f3.same hs (fun k hk z => by omega)⟩, ⟨(hf.1 15 (h1 15 (by decide))).trans f4, f5, f6.same hs (fun k hk z => by omega)⟩, fun k hk => ?_⟩
  obtain ⟨q1, q2, q3⟩ := f7 k hk
  rw [hf.2 11 h2]
  exact ⟨q1, q2, q3.same hs (fun j hj z => by omega)⟩
/-- what is due is put, one behind the other -/
theorem T_putDue (hD : DueIs σ du) (hnR : 0 ≤ n ∧ n < 900000) (hdl : du.length < 900000) : ∀ (rs : List (List Int)) (j : Nat) (pu' pu1 : List SLine) (n' : Int) (τ : TS), du.drop j = rs → j + rs.length = du.length → PutIs τ pu' → (τ.1 17) = n' → pu'.length = pu1.length + j → n' = n + j → pu' ++ mkL n' rs = pu1 ++ mkL n du → RSame (fun k => 41 ≤ k ∧ k < 82) σ τ → TFr [13, 17] [6, 8] σ τ → TW (d + 3) tc_putWork 13 [some (.inr 0), some (.inl 0), some (.inl j)] [] τ (fun r υ => (TFr [13, 17] [6, 8] σ υ ∧ RSame (fun k => 41 ≤ k ∧ k < 82) σ υ) ∧ (40 < pu1.length + du.length → r = some 4) ∧ (¬ 40 < pu1.length + du.length → r = some 0 ∧ PutIs υ (pu1 ++ mkL n du) ∧ (υ.1 17) = n + du.length)) := by
  intro rs
  induction rs with
  | nil =>
    intro j pu' pu1 n' τ hdr hj hP hn hl hnn he hsm hf
    simp [mkL] at hj he
    have h72 : τ.1 72 = du.length := (hf.1 72 (by decide)).trans hD.1
    have h40 := hP.2.1
    (repeat (first | (refine TW.getf rfl rfl rfl (fun _ => ?_)) | (refine TW.pl rfl rfl ?_)))
    refine TW.br rfl rfl (by first | omega | exact b2i_R _ | exact ⟨b2i_R _, by omega⟩) (fun q1 => ?_) (fun q1 => ?_)
    rotate_left
    · omega
    · (repeat (first | (refine TW.getf rfl rfl rfl (fun _ => ?_)) | (refine TW.pl rfl rfl ?_)))
      refine TW.iret rfl ⟨⟨hf, hsm⟩, fun z => by omega, fun _ => ⟨rfl, by rw [← he]; exact hP, by rw [hn, hnn, hj]⟩⟩
  | cons r rs ih =>
    intro j pu' pu1 n' τ hdr hj hP hn hl hnn he hsm hf
    have h40 := hP.2.1
    simp at hj
    have hDτ : DueIs τ du := hD.same hf hsm (by decide) (fun k z => by omega)
    have h72 : τ.1 72 = du.length := hDτ.1
    have hjl : j < du.length := by omega
    have hrj := hDτ.2 j hjl (by omega)
    rw [dropc (y := []) hjl] at hdr
    obtain ⟨hd1, hd2⟩ := List.cons.inj hdr
    rw [hd1] at hrj
    (repeat (first | (refine TW.getf rfl rfl rfl (fun _ => ?_)) | (refine TW.pl rfl rfl ?_)))
    refine TW.br rfl rfl (by first | omega | exact b2i_R _ | exact ⟨b2i_R _, by omega⟩) (fun q1 => ?_) (fun q1 => ?_)
    · omega
    (repeat (first | (refine TW.getf rfl rfl rfl (fun _ => ?_)) | (refine TW.pl rfl rfl ?_)))
    refine TW.br rfl rfl (by first | omega | exact b2i_R _ | exact ⟨b2i_R _, by omega⟩) (fun q2 => ?_) (fun q2 => ?_)
    · exact absurd rfl q2
    (repeat (first | (refine TW.getf rfl rfl rfl (fun _ => ?_)) | (refine TW.pl rfl rfl ?_)))
    refine TW.cv1 rfl rfl rfl (Nat.le_of_ble_eq_true rfl) (T_putNewR (row := 388 + j) hP hrj (by omega) (by omega) hn (by omega)) ?_
    rintro r3 τ3 ⟨⟨hf3, hs3⟩, hq3⟩
    have hsm3 : RSame (fun k => 41 ≤ k ∧ k < 82) σ τ3 := fun i hi => (hs3 i hi).trans (hsm i hi)
    have hf4 : TFr [13, 17] [6, 8] σ τ3 := hf.trans (hf3.mono (by decide) (by decide))
    have h72' : τ3.1 72 = du.length := (hf4.1 72 (by decide)).trans hD.1
    by_cases hfull : pu'.length = 40
    · have hq3 := hq3.1 hfull
      subst hq3
      clear ih
      (iterate 3 (first | (refine TW.getf rfl rfl rfl (fun _ => ?_)) | (refine TW.pl rfl rfl ?_)))
      (repeat (first | (refine TW.getf rfl rfl rfl (fun _ => ?_)) | (refine TW.pl rfl rfl ?_)))
      refine TW.br rfl rfl (by first | omega | exact b2i_R _ | exact ⟨b2i_R _, by omega⟩) (fun q3 => ?_) (fun q3 => ?_)
      · (repeat (first | (refine TW.getf rfl rfl rfl (fun _ => ?_)) | (refine TW.pl rfl rfl ?_)))
        exact TW.iret rfl ⟨⟨hf4, hsm3⟩, fun _ => rfl, fun z => absurd (show 40 < pu1.length + du.length by omega) z⟩
      · (repeat (first | (refine TW.getf rfl rfl rfl (fun _ => ?_)) | (refine TW.pl rfl rfl ?_)))
        refine TW.br rfl rfl (by first | omega | exact b2i_R _ | exact ⟨b2i_R _, by omega⟩) (fun q4 => ?_) (fun q4 => ?_)
        · (repeat (first | (refine TW.getf rfl rfl rfl (fun _ => ?_)) | (refine TW.pl rfl rfl ?_)))
          exact TW.iret rfl ⟨⟨hf4, hsm3⟩, fun _ => rfl, fun z => absurd (show 40 < pu1.length + du.length by omega) z⟩
        · exact absurd q4 (by decide)
    · obtain ⟨rfl, hP3, hn3⟩ := hq3.2 hfull
      (iterate 3 (first | (refine TW.getf rfl rfl rfl (fun _ => ?_)) | (refine TW.pl rfl rfl ?_)))
      refine ih (j + 1) (pu' ++ [(n', r)]) pu1 (n' + 1) τ3 hd2 (by omega) hP3 hn3 (by simp; omega) (by omega) (by rw [List.append_assoc]; exact he) hsm3 hf4
theorem T_putWork (hB : TWB σ t (x, g, du, pu, re) (h, o, fi, m, n, rp)) (hw : WS n0 (x, g, du, pu, re) (h, o, fi, m, n, rp)) (hn0 : n0 < 890000) (hdl : du.length < 900000) : TM (d + 4) tk_putWork [.inr 0] σ (PwQ σ t (stPutWork (x, g, du, pu, re) (h, o, fi, m, n, rp))) := by
  have hnR : 0 ≤ n ∧ n ≤ n0 + 40 := hw.nn
  obtain ⟨hRes, hPut, hDue, hWrk, hTR, hMrk, hnid, hrp⟩ := hB
  have hRes : ResIs σ t re := hRes
  have hPut : PutIs σ pu := hPut
  have hDue : DueIs σ du := hDue
  have hnid : σ.1 17 = n := hnid
  have h40 := hPut.2.1
  have h70 : σ.1 70 = b2i (!g) := hWrk.1
  have fin : ∀ (τ υ : TS) (r : Option Int) (pu1 : List SLine), (∀ y ∈ idsOfL pu1, y ∈ idsOfL (allL (x, g, du, pu, re))) → TFr [13, 17] [6, 8] σ υ ∧ RSame (fun k => 41 ≤ k ∧ k < 82) σ υ → (40 < pu1.length + du.length → r = some 4) ∧ (¬ 40 < pu1.length + du.length → r = some 0 ∧ PutIs υ (pu1 ++ mkL n du) ∧ (υ.1 17) = n + du.length) → ¬ (g = false ∧ pu.length = 40) → pu1 = (if g = true then pu else pu ++ [x]) → PwQ σ t (stPutWork (x, g, du, pu, re) (h, o, fi, m, n, rp)) r υ := by
    rintro τ υ r pu1 hids ⟨hf, hs⟩ ⟨a, b⟩ hng rfl
    refine ⟨⟨hf, hs⟩, ?_⟩
    unfold stPutWork stPuts
    dsimp only
    rw [if_neg hng]
    by_cases hc : 40 < (if g = true then pu else pu ++ [x]).length + du.length
    · rw [if_pos hc]
      exact a hc
    · rw [if_neg hc]
      obtain ⟨b1, b2, b3⟩ := b hc
      refine ⟨b1, hRes.same hf hs (by decide) (by decide) (fun k z => by omega), b2, hTR.put hf (fun i hi => hs i (fun z => hi (by omega))) (by decide) (by decide), (hMrk.same (hf.2 10 (by decide))).grow (fun y hy => ?_) (by show n ≤ n + _; omega), b3, (hf.1 44 (by decide)).trans hrp⟩
      have hy : y ∈ idsOfL (((if g = true then pu else pu ++ [x]) ++ mkL n du) ++ re) := hy
      rw [idsOfL_app, List.mem_append] at hy
      rcases hy with hy | hy
      · rcases ids_mkL hy with z | z
        · exact Or.inl (hids y z)
        · exact Or.inr z
      · refine Or.inl ?_
        rw [allL_ids]
        exact mem_app3.mpr (Or.inr (Or.inr hy))
  refine TM.of rfl rfl ?_
  cases g with
  | true =>
    have h70 : σ.1 70 = 0 := h70
    (repeat (first | (refine TW.getf rfl rfl rfl (fun _ => ?_)) | (refine TW.pl rfl rfl ?_)))
    refine TW.br rfl rfl (by first | omega | exact b2i_R _ | exact ⟨b2i_R _, by omega⟩) (fun q1 => ?_) (fun q1 => ?_)
    rotate_left
    · omega
    (iterate 4 (first | (refine TW.getf rfl rfl rfl (fun _ => ?_)) | (refine TW.pl rfl rfl ?_)))
    refine (T_putDue hDue (by omega) hdl du 0 pu pu n σ rfl (by simp) hPut hnid rfl (by omega) rfl (fun _ _ => rfl) TFr.rf).imp ?_
    intro r υ hq
    exact fin σ υ r pu (fun y hy => by rw [allL_ids]; exact mem_app3.mpr (Or.inl hy)) hq.1 hq.2 (fun z => by cases z.1) rfl
  | false =>
    have h70 : σ.1 70 = 1 := h70
    obtain ⟨hrw, hwid, -⟩ := hWrk.2 rfl
    have hxR := (hw.work).1
    (repeat (first | (refine TW.getf rfl rfl rfl (fun _ => ?_)) | (refine TW.pl rfl rfl ?_)))
    refine TW.br rfl rfl (by first | omega | exact b2i_R _ | exact ⟨b2i_R _, by omega⟩) (fun q1 => ?_) (fun q1 => ?_)
    · omega
    (repeat (first | (refine TW.getf rfl rfl rfl (fun _ => ?_)) | (refine TW.pl rfl rfl ?_)))
    rw [hwid]
    refine TW.cv2 rfl rfl rfl (Nat.le_of_ble_eq_true rfl) (T_putR (row := 429) hPut hrw rfl (by decide) (by omega)) ?_
    rintro r τ1 ⟨⟨hf1, hs1⟩, hq⟩
    by_cases hfull : pu.length = 40
    · have hq := hq.1 hfull
      subst hq
      have out : PwQ σ t (stPutWork (x, false, du, pu, re) (h, o, fi, m, n, rp)) (some 4) τ1 := by
        refine ⟨⟨hf1.mono (by decide) (by decide), hs1⟩, ?_⟩
        unfold stPutWork
        dsimp only
        rw [if_pos ⟨rfl, hfull⟩]
        rfl
      have h72 : τ1.1 72 = du.length := (hf1.1 72 (by decide)).trans hDue.1
      (iterate 4 (first | (refine TW.getf rfl rfl rfl (fun _ => ?_)) | (refine TW.pl rfl rfl ?_)))
      (repeat (first | (refine TW.getf rfl rfl rfl (fun _ => ?_)) | (refine TW.pl rfl rfl ?_)))
      refine TW.br rfl rfl (by first | omega | exact b2i_R _ | exact ⟨b2i_R _, by omega⟩) (fun q3 => ?_) (fun q3 => ?_)
      · (repeat (first | (refine TW.getf rfl rfl rfl (fun _ => ?_)) | (refine TW.pl rfl rfl ?_)))
        exact TW.iret rfl out
      · (repeat (first | (refine TW.getf rfl rfl rfl (fun _ => ?_)) | (refine TW.pl rfl rfl ?_)))
        refine TW.br rfl rfl (by first | omega | exact b2i_R _ | exact ⟨b2i_R _, by omega⟩) (fun q4 => ?_) (fun q4 => ?_)
        · (repeat (first | (refine TW.getf rfl rfl rfl (fun _ => ?_)) | (refine TW.pl rfl rfl ?_)))
          exact TW.iret rfl out
        · exact absurd q4 (by decide)
    · obtain ⟨rfl, hP1⟩ := hq.2 hfull
      have hn1 : τ1.1 17 = n := (hf1.1 17 (by decide)).trans hnid
      (iterate 4 (first | (refine TW.getf rfl rfl rfl (fun _ => ?_)) | (refine TW.pl rfl rfl ?_)))
      refine (T_putDue hDue (by omega) hdl du 0 (pu ++ [x]) (pu ++ [x]) n τ1 rfl (by simp) hP1 hn1 rfl (by omega) rfl hs1 (hf1.mono (by decide) (by decide))).imp ?_
      intro r υ hq
      exact fin σ υ r (pu ++ [x]) (fun y hy => by
        rw [idsOfL_app] at hy
        rw [allL_ids]
        exact List.mem_append_left _ hy) hq.1 hq.2 (fun z => hfull z.2) rfl
theorem ResIs.next {P : Nat → Prop} {y : SLine} (hh : ResIs σ t (y :: re)) (hf : TFr fs as σ τ) (hs : RSame P σ τ) (h1 : ∀ k ∈ [12, 16, 65], k ∉ fs) (h2 : 7 ∉ as) (hP : ∀ k, P k → 40 ≤ k) (h66 : (τ.1 66) = ((t.length - re.length : Nat) : Int)) : ResIs τ t re := by
  obtain ⟨-, -, -, hle, -, hdr⟩ := hh.nth
  exact ⟨hh.1.same hf hs (h1 12 (by decide)) h2 hP, (hf.1 65 (h1 65 (by decide))).trans hh.2.1, h66, hdr, by omega, hh.2.2.2.2.2.elim (fun p hp => ⟨p, (hf.1 16 (h1 16 (by decide))).trans hp⟩)⟩
def PrQ (σ : TS) (t pu re : List SLine) (r : Option Int) (τ : TS) : Prop := (TFr [13, 66] [6, 8] σ τ ∧ RSame (fun k => 41 ≤ k ∧ k < 82) σ τ) ∧ if 40 < pu.length + re.length then r = some 4 else r = some 0 ∧ ResIs τ t [] ∧ PutIs τ (pu ++ re)
theorem T_putRest0 (hR : ResIs σ t re) (hP : PutIs σ pu) (hid : ∀ q ∈ re, inR q.1) : TM (d + 3) tk_putRest [.inr 0] σ (PrQ σ t pu re) := by
  refine TM.of rfl rfl ?_
  (iterate 2 (first | (refine TW.getf rfl rfl rfl (fun _ => ?_)) | (refine TW.pl rfl rfl ?_)))
  have loop : ∀ (re' pu' : List SLine) (τ : TS), ResIs τ t re' → PutIs τ pu' → pu' ++ re' = pu ++ re → (∀ q ∈ re', inR q.1) → RSame (fun k => 41 ≤ k ∧ k < 82) σ τ → TFr [13, 66] [6, 8] σ τ → TW (d + 2) tc_putRest 2 [some (.inr 0), some (.inl 0)] [] τ (PrQ σ t pu re) := by
    intro re'
    induction re' with
    | nil =>
      intro pu' τ hR hP he hid hsm hf
      simp at he
      have e66 : τ.1 66 = t.length := by have := hR.2.2.1; simp at this; exact this
      have e65 : τ.1 65 = t.length := hR.2.1
      have h40 := hP.2.1
      rw [he, List.length_append] at h40
      (repeat (first | (refine TW.getf rfl rfl rfl (fun _ => ?_)) | (refine TW.pl rfl rfl ?_)))
      refine TW.br rfl rfl (by first | omega | exact b2i_R _ | exact ⟨b2i_R _, by omega⟩) (fun q1 => ?_) (fun q1 => ?_)
      · (repeat (first | (refine TW.getf rfl rfl rfl (fun _ => ?_)) | (refine TW.pl rfl rfl ?_)))
        refine TW.iret rfl ⟨⟨hf, hsm⟩, ?_⟩
        rw [if_neg (by omega)]
        exact ⟨rfl, hR, by rw [← he]; exact hP⟩
      · omega
    | cons y re' ih =>
      intro pu' τ hR hP he hid hsm hf
      obtain ⟨ry, iy, e66, hle, h40, hdr⟩ := hR.nth
      have e65 : τ.1 65 = t.length := hR.2.1
      have hyR := hid y List.mem_cons_self
      have hln : pu'.length + (re'.length + 1) = pu.length + re.length := by
        have := congrArg List.length he
        simp at this
        omega
      (repeat (first | (refine TW.getf rfl rfl rfl (fun _ => ?_)) | (refine TW.pl rfl rfl ?_)))
      refine TW.br rfl rfl (by first | omega | exact b2i_R _ | exact ⟨b2i_R _, by omega⟩) (fun q1 => ?_) (fun q1 => ?_)
      · omega
      (repeat (first | (refine TW.getf rfl rfl rfl (fun _ => ?_)) | (refine TW.pl rfl rfl ?_)))
      refine TW.br rfl rfl (by first | omega | exact b2i_R _ | exact ⟨b2i_R _, by omega⟩) (fun q2 => ?_) (fun q2 => ?_)
      · exact absurd rfl q2
      (repeat (first | (refine TW.getf rfl rfl rfl (fun _ => ?_)) | (refine TW.pl rfl rfl ?_)))
      refine TW.iald (n := 41) rfl rfl rfl (by omega) (fun _ => ?_)
      rw [e66]
      rw [show ((t.length - (re'.length + 1) : Nat) : Int).toNat = t.length - (re'.length + 1) from rfl, iy]
      (repeat (first | (refine TW.getf rfl rfl rfl (fun _ => ?_)) | (refine TW.pl rfl rfl ?_)))
      refine TW.cv2 rfl rfl rfl (Nat.le_of_ble_eq_true rfl) (T_putR (row := t.length - (re'.length + 1)) hP ry (by omega) (by omega) hyR) ?_
      rintro r τ1 ⟨⟨hf1, hs1⟩, hq⟩
      have hsm1 : RSame (fun k => 41 ≤ k ∧ k < 82) σ τ1 := fun i hi => (hs1 i hi).trans (hsm i hi)
      have hf2 : TFr [13, 66] [6, 8] σ τ1 := hf.trans (hf1.mono (by decide) (by decide))
      have e66' : τ1.1 66 = ((t.length - (re'.length + 1) : Nat) : Int) := (hf1.1 66 (by decide)).trans e66
      have e65' : τ1.1 65 = t.length := (hf1.1 65 (by decide)).trans e65
      by_cases hfull : pu'.length = 40
      · have hq := hq.1 hfull
        subst hq
        clear ih
        have fin : ∀ υ, TFr [13, 66] [6, 8] σ υ → RSame (fun k => 41 ≤ k ∧ k < 82) σ υ → PrQ σ t pu re (some 4) υ := fun υ a b => ⟨⟨a, b⟩, by rw [if_pos (by omega)]⟩
        (iterate 6 (first | (refine TW.getf rfl rfl rfl (fun _ => ?_)) | (refine TW.pl rfl rfl ?_)))
        refine TW.putf rfl rfl (by omega) ?_
        have hf3 := hf2.ts1 (k := 66) (v := τ1.1 66 + 1) (by decide)
        (repeat (first | (refine TW.getf rfl rfl rfl (fun _ => ?_)) | (refine TW.pl rfl rfl ?_)))
        refine TW.br rfl rfl (by first | omega | exact b2i_R _ | exact ⟨b2i_R _, by omega⟩) (fun q3 => ?_) (fun q3 => ?_)
        · (repeat (first | (refine TW.getf rfl rfl rfl (fun _ => ?_)) | (refine TW.pl rfl rfl ?_)))
          exact TW.iret rfl (fin _ hf3 hsm1)
        · (repeat (first | (refine TW.getf rfl rfl rfl (fun _ => ?_)) | (refine TW.pl rfl rfl ?_)))
          refine TW.br rfl rfl (by first | omega | exact b2i_R _ | exact ⟨b2i_R _, by omega⟩) (fun q4 => ?_) (fun q4 => ?_)
          · (repeat (first | (refine TW.getf rfl rfl rfl (fun _ => ?_)) | (refine TW.pl rfl rfl ?_)))
            exact TW.iret rfl (fin _ hf3 hsm1)
          · exact absurd q4 (by decide)
      · obtain ⟨rfl, hP1⟩ := hq.2 hfull
        (iterate 6 (first | (refine TW.getf rfl rfl rfl (fun _ => ?_)) | (refine TW.pl rfl rfl ?_)))
        refine TW.putf rfl rfl (by omega) ?_
        (iterate 1 (first | (refine TW.getf rfl rfl rfl (fun _ => ?_)) | (refine TW.pl rfl rfl ?_)))
        have hf3 : TFr [13, 66] [6, 8] τ (ts1 τ1 66 (τ1.1 66 + 1)) := (hf1.mono (by decide) (by decide)).ts1 (by decide)
        refine ih (pu' ++ [y]) _ (hR.next hf3 (hs1.t1) (by decide) (by decide) (fun k z => by omega) (by rw [ts1_eq]; omega)) (hP1.same (fs := [66]) (as := []) (P := fun _ => False) (TFr.rf.ts1 (by decide)) (fun _ _ => rfl) (by decide) (by decide) (fun k z => z.elim)) (by rw [List.append_assoc]; exact he) (fun q hq => hid q (List.mem_cons_of_mem _ hq)) hsm1 (hf2.ts1 (by decide))
  exact loop re pu σ hR hP rfl hid (fun _ _ => rfl) TFr.rf
theorem TW.putg {C : List TI} {i a : Nat} {b : Int} {ls : TL} {st : List TV} {Q : Option Int → TS → Prop} {v : Int} (hC : C[i]? = some (6, a, b)) (hk : decide (a < 80 ∧ tkd a = 0) = true) (hx : inR v) (k : ∀ υ, υ.1 a = v → TFr [a] [] σ υ → TW d C (i + 1) ls st υ Q) : TW d C i ls (.inl v :: .inr 0 :: st) σ Q := TW.putf hC hk hx (k _ (ts1_eq ..) (TFr.rf.ts1 (by simp)))
theorem TW.putb {C : List TI} {i a : Nat} {b : Int} {ls : TL} {st : List TV} {Q : Option Int → TS → Prop} {v : Int} (hC : C[i]? = some (6, a, b)) (hk : decide (a < 80 ∧ tkd a = 1) = true) (hx : v = 0 ∨ v = 1) (k : ∀ υ, υ.1 a = v → TFr [a] [] σ υ → TW d C (i + 1) ls st υ Q) : TW d C i ls (.inl v :: .inr 0 :: st) σ Q := TW.putz hC hk hx (k _ (ts1_eq ..) (TFr.rf.ts1 (by simp)))
def TnQ (σ : TS) (t : List SLine) (y : SLine) (pu re : List SLine) (B : BG) (tu : Int) (r : Option Int) (τ : TS) : Prop := r = none ∧ TFr [44, 66, 67, 68, 69, 70, 72] [6] σ τ ∧ RSame (fun k => k = 429) σ τ ∧ TWB τ t (y, false, [], pu, re) B ∧ (τ.1 69) = tu + 1
theorem T_takeNext {y : SLine} {tu : Int} (hB : TWP σ t (x, g, du, pu, y :: re) (h, o, fi, m, n, rp)) (hid : inR y.1) (htu : (σ.1 69) = tu) (htR : 0 ≤ tu ∧ tu < 1000) : TM (d + 2) tk_takeNext [.inr 0] σ (TnQ σ t y pu re (h, o, fi, m, n, false) tu) := by
  obtain ⟨hRes, hPut, hTR, hMrk, hnid, hrp⟩ := hB
  have hRes : ResIs σ t (y :: re) := hRes
  obtain ⟨ry, iy, e66, hle, h40, hdr⟩ := hRes.nth
  refine TM.of rfl rfl ?_
  (repeat (first | (refine TW.getf rfl rfl rfl (fun _ => ?_)) | (refine TW.pl rfl rfl ?_)))
  refine TW.cv2 rfl rfl rfl (Nat.le_of_ble_eq_true rfl) (T_cpRow (a := t.length - (re.length + 1)) (b := 429) ry (by omega) rfl (by omega) (by decide)) ?_
  rintro _ τ1 ⟨rfl, hr1, hs1, hf1⟩
  have a66 : τ1.1 66 = ((t.length - (re.length + 1) : Nat) : Int) := (hf1.1 66 (by decide)).trans e66
  (repeat (first | (refine TW.getf rfl rfl rfl (fun _ => ?_)) | (refine TW.pl rfl rfl ?_)))
  refine TW.iald (n := 41) rfl rfl rfl (by omega) (fun _ => ?_)
  have ey : (τ1.2 7 (((τ1.1 66)).toNat)) = y.1 := by
    rw [a66, hf1.2 7 (by decide)]
    exact (tix (by omega)).trans iy
  rw [ey]
  (repeat (first | (refine TW.getf rfl rfl rfl (fun _ => ?_)) | (refine TW.pl rfl rfl ?_)))
  refine TW.putg rfl rfl hid (fun τ2 v2 f2 => ?_)
  have b66 : τ2.1 66 = ((t.length - (re.length + 1) : Nat) : Int) := (f2.1 66 (by decide)).trans a66
  (repeat (first | (refine TW.getf rfl rfl rfl (fun _ => ?_)) | (refine TW.pl rfl rfl ?_)))
  refine TW.putg rfl rfl (by omega) (fun τ3 v3 f3 => ?_)
  have c66 : τ3.1 66 = ((t.length - (re.length + 1) : Nat) : Int) := (f3.1 66 (by decide)).trans b66
  (repeat (first | (refine TW.getf rfl rfl rfl (fun _ => ?_)) | (refine TW.pl rfl rfl ?_)))
  refine TW.putg rfl rfl (by omega) (fun τ4 v4 f4 => ?_)
  have d69 : τ4.1 69 = tu := (f4.1 69 (by decide)).trans ((f3.1 69 (by decide)).trans ((f2.1 69 (by decide)).trans ((hf1.1 69 (by decide)).trans htu)))
  (repeat (first | (refine TW.getf rfl rfl rfl (fun _ => ?_)) | (refine TW.pl rfl rfl ?_)))
  refine TW.putg rfl rfl (by omega) (fun τ5 v5 f5 => ?_)
  (repeat (first | (refine TW.getf rfl rfl rfl (fun _ => ?_)) | (refine TW.pl rfl rfl ?_)))
  refine TW.putb rfl rfl (Or.inr rfl) (fun τ6 v6 f6 => ?_)
  (repeat (first | (refine TW.getf rfl rfl rfl (fun _ => ?_)) | (refine TW.pl rfl rfl ?_)))
  refine TW.putg rfl rfl (by decide) (fun τ7 v7 f7 => ?_)
  (repeat (first | (refine TW.getf rfl rfl rfl (fun _ => ?_)) | (refine TW.pl rfl rfl ?_)))
  refine TW.putb rfl rfl (Or.inl rfl) (fun τ8 v8 f8 => ?_)
  have g7 : TFr [72, 44] [] τ6 τ8 := (f7.mono (by decide) (by decide)).trans (f8.mono (by decide) (by decide))
  have g6 : TFr [70, 72, 44] [] τ5 τ8 := (f6.mono (by decide) (by decide)).trans (g7.mono (by decide) (by decide))
  have g5 : TFr [69, 70, 72, 44] [] τ4 τ8 := (f5.mono (by decide) (by decide)).trans (g6.mono (by decide) (by decide))
  have g4 : TFr [66, 69, 70, 72, 44] [] τ3 τ8 := (f4.mono (by decide) (by decide)).trans (g5.mono (by decide) (by decide))
  have g3 : TFr [68, 66, 69, 70, 72, 44] [] τ2 τ8 := (f3.mono (by decide) (by decide)).trans (g4.mono (by decide) (by decide))
  have g2 : TFr [67, 68, 66, 69, 70, 72, 44] [] τ1 τ8 := (f2.mono (by decide) (by decide)).trans (g3.mono (by decide) (by decide))
  have g1 : TFr [44, 66, 67, 68, 69, 70, 72] [6] σ τ8 := (hf1.mono (by decide) (by decide)).trans (g2.mono (by decide) (by decide))
  have hs : RSame (fun k => k = 429) σ τ8 := fun i hi => by rw [g2.2 6 (by decide)]; exact hs1 i hi
  have w67 : τ8.1 67 = y.1 := (g3.1 67 (by decide)).trans v2
  have w68 : τ8.1 68 = ((t.length - re.length : Nat) : Int) := by rw [g4.1 68 (by decide), v3]; omega
  have w66 : τ8.1 66 = ((t.length - re.length : Nat) : Int) := by rw [g5.1 66 (by decide), v4]; omega
  have w69 : τ8.1 69 = tu + 1 := by rw [g6.1 69 (by decide), v5, d69]
  have w70 : τ8.1 70 = 1 := (g7.1 70 (by decide)).trans v6
  have w72 : τ8.1 72 = 0 := (f8.1 72 (by decide)).trans v7
  have r8 : RowIs τ8 429 y.2 := hr1.fr (g2.2 6 (by decide))
  clear f2 f3 f4 f5 f6 f7 f8 g2 g3 g4 g5 g6 g7 v2 v3 v4 v5 v6 v7
  refine TW.vret rfl ⟨rfl, g1, hs, ⟨hRes.next g1 hs (by decide) (by decide) (fun k z => by omega) w66, hPut.same g1 hs (by decide) (by decide) (fun k z => by omega), ⟨w72, fun k z => absurd z (Nat.not_lt_zero _)⟩, ⟨w70, fun _ => ⟨r8, w67, w68⟩⟩, hTR.same g1 hs (by decide) (by decide) (fun k z => Or.inr (by omega)), ?_, (g1.1 17 (by decide)).trans hnid, v8⟩, w69⟩
  refine (hMrk.same (g1.2 10 (by decide))).grow (fun z hz => Or.inl ?_) (Int.le_refl _)
  rw [allL_ids] at hz
  show z ∈ idsOfL (pu ++ y :: re)
  rw [idsOfL_app]
  rcases mem_app3.mp hz with w | w | w
  · exact List.mem_append_left _ w
  · exact List.mem_append_right _ (by
      have : z = y.1 := by simpa using w
      rw [this]
      exact List.mem_cons_self)
  · exact List.mem_append_right _ (List.mem_cons_of_mem _ w)
end TPut
