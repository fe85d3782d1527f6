set_option maxRecDepth 100000
/-! the twin's acts: s and z -/
section TRep2
variable {d : Nat} {σ τ : TS} {s l l1 : List Int} {fs as : List Nat} {pre mid post t : List SLine} {p : Nat} {h o : List (List Int)} {fi : Nat → List (List Int)} {m : Nat → Option Int} {n : Int} {rp : Bool} {rs : List (List Int)} {xs ys : List Int}
/-- a sign some places on -/
theorem SgnIs.atk {x v : Int} {i : Nat} (hs : SgnIs σ s) (hx : Sfx s l x) (hi : i < l.length) (hv : v = x + i) : (σ.2 21 (v.toNat)) = l.getD i 0 ∧ 0 ≤ v ∧ v < 60 ∧ v < s.length ∧ 32 ≤ l.getD i 0 ∧ l.getD i 0 ≤ 126 := by
  obtain ⟨k, h1, h2, h3⟩ := hx
  have hl : l.length = s.length - k := by rw [← h3, List.length_drop]
  have h60 := hs.2.1
  have e : l.getD i 0 = s.getD (k + i) 0 := by
    rw [← h3, List.getD_eq_getElem?_getD, List.getD_eq_getElem?_getD, List.getElem?_drop]
  have hm : s.getD (k + i) 0 ∈ s := by
    rw [List.getD_eq_getElem?_getD, List.getElem?_eq_getElem (by omega)]
    exact List.getElem_mem _
  have hR := hs.2.2.2 _ hm
  rw [e]
  refine ⟨?_, by omega, by omega, by omega, hR.1, hR.2⟩
  rw [← hs.2.2.1 (k + i) (by omega)]
  exact tix (by omega)
theorem Sfx.drop {x v : Int} {i : Nat} (hx : Sfx s l x) (hi : i ≤ l.length) (hv : v = x + i) : Sfx s (l.drop i) v := by
  obtain ⟨k, h1, h2, h3⟩ := hx
  have hl : l.length = s.length - k := by rw [← h3, List.length_drop]
  exact ⟨k + i, by omega, by omega, by rw [← h3, List.drop_drop]⟩
theorem tw_all : ∀ (l : List Int), ∀ c ∈ l.takeWhile isChr, isChr c = true := by
  intro l
  induction l with
  | nil => intro c hc; cases hc
  | cons a l ih =>
    intro c hc
    rw [List.takeWhile_cons] at hc
    split at hc
    · rename_i ha
      rcases List.mem_cons.mp hc with h | h
      · rw [h]; exact ha
      · exact ih c h
    · cases hc
theorem tw_eq {l : List Int} (h : (l.takeWhile isChr).length = l.length) : l.takeWhile isChr = l := by
  have := List.takeWhile_append_dropWhile (p := isChr) (l := l)
  have hl := congrArg List.length this
  rw [List.length_append] at hl
  have h0 : l.dropWhile isChr = [] := List.length_eq_zero_iff.mp (by omega)
  rw [h0, List.append_nil] at this
  exact this
theorem hd_cons9 {l : List Int} {c : Int} (h : hd l = c) (hc : c ≠ 0) : l = c :: l.tail := by
  cases l with
  | nil => exact absurd h.symm hc
  | cons a q => rw [show a = c from h]; rfl
/-- what z has -/
theorem pTurn_out {q le pu : List Int} (h : pTurn q = .inr (l1, le, pu)) : q = 47 :: (le ++ 47 :: (pu ++ 47 :: l1)) ∧ le ≠ [] ∧ pu.length = le.length ∧ (∀ c ∈ le, isChr c = true) ∧ ∀ c ∈ pu, isChr c = true := by
  unfold pTurn at h
  split at h
  · rename_i h47
    dsimp only at h
    split at h
    · cases h
    · rename_i hne
      split at h
      · rename_i h47'
        split at h
        · cases h
        · rename_i hlb
          split at h
          · rename_i h47''
            cases h
            have hpl : ((q.tail.dropWhile isChr).tail.take (q.tail.takeWhile isChr).length).length ≤ (q.tail.takeWhile isChr).length := by rw [List.length_take]; omega
            have hple : (((q.tail.dropWhile isChr).tail.take (q.tail.takeWhile isChr).length).takeWhile isChr).length ≤ ((q.tail.dropWhile isChr).tail.take (q.tail.takeWhile isChr).length).length := (List.takeWhile_sublist _).length_le
            have e1 := tw_eq (l := (q.tail.dropWhile isChr).tail.take (q.tail.takeWhile isChr).length) (by omega)
            refine ⟨?_, hne, by omega, tw_all _, tw_all _⟩
            rw [e1, ← hd_cons9 h47'' (by decide), List.take_append_drop, ← hd_cons9 h47' (by decide), List.takeWhile_append_dropWhile]
            exact hd_cons9 h47 (by decide)
          · cases h
      · cases h
  · cases h
theorem sTrn_len {le pu : List Int} : (sTrn le pu ys).length = ys.length := List.length_map _
theorem sTrn_getD {le pu : List Int} {j : Nat} (hj : j < ys.length) : (sTrn le pu ys).getD j 0 = (match le.findIdx? (fun x => x == ys.getD j 0) with
  | some k => pu.getD k 0
  | none => ys.getD j 0) := by
  unfold sTrn
  rw [List.getD_eq_getElem?_getD, List.getElem?_map, List.getElem?_eq_getElem hj, List.getD_eq_getElem?_getD, List.getElem?_eq_getElem hj]
  rfl
theorem T_turns {row : Nat} {u x : Int} {le pu : List Int} (hs : SgnIs σ s) (hr : RowIs σ row ys) (hu : u = row) (hrow : row < 868) (hx : Sfx s l x) (hl0 : l ≠ []) (hp : pTurn l.tail = .inr (l1, le, pu)) : TM (d + 2) tk_turns [.inr 0, .inl u, .inl x] σ (fun r τ => r = none ∧ RowIs τ row (sTrn le pu ys) ∧ RSame (fun k => k = row) σ τ ∧ TFr [] [6] σ τ) := by
  subst hu
  have h30 := hr.2.1
  have h60 := hs.2.1
  obtain ⟨hq, hle, hlp, hal, hap⟩ := pTurn_out hp
  have hx2 : Sfx s (le ++ 47 :: (pu ++ 47 :: l1)) (x + 2) := by
    have := (hx.step hl0 rfl)
    rw [hq] at this
    have := this.step (y := x + 2) (by simp) (by omega)
    exact this
  have hlen := hx2.len
  simp at hlen
  have rdL : ∀ (τ : TS), SgnIs τ s → ∀ (i : Nat) (v : Int), i < le.length → v = x + 2 + i → (τ.2 21 (v.toNat)) = le.getD i 0 ∧ (0 ≤ v ∧ v < 60) ∧ 32 ≤ le.getD i 0 ∧ le.getD i 0 ≤ 126 := by
    intro τ hsτ i v hi hv
    have := hsτ.atk (i := i) hx2 (by simp; omega) hv
    rw [getD_apl hi] at this
    exact ⟨this.1, ⟨this.2.1, this.2.2.1⟩, this.2.2.2.2⟩
  have rdE : ∀ (τ : TS), SgnIs τ s → ∀ (v : Int), v = x + 2 + le.length → (τ.2 21 (v.toNat)) = 47 ∧ (0 ≤ v ∧ v < 60) := by
    intro τ hsτ v hv
    have := hsτ.atk (i := le.length) hx2 (by simp) hv
    rw [zget] at this
    exact ⟨this.1, this.2.1, this.2.2.1⟩
  have rdP : ∀ (τ : TS), SgnIs τ s → ∀ (i : Nat) (v : Int), i < pu.length → v = x + 2 + le.length + 1 + i → (τ.2 21 (v.toNat)) = pu.getD i 0 ∧ (0 ≤ v ∧ v < 60) ∧ 32 ≤ pu.getD i 0 ∧ pu.getD i 0 ≤ 126 := by
    intro τ hsτ i v hi hv
    have := hsτ.atk (v := v) (i := le.length + (i + 1)) hx2 (by simp; omega) (by omega)
    rw [getD_app9, List.getD_cons_succ, getD_apl hi] at this
    exact ⟨this.1, ⟨this.2.1, this.2.2.1⟩, this.2.2.2.2⟩
  refine TM.of rfl rfl ?_
  (iterate 6 (first | (refine TW.getf rfl rfl rfl (fun _ => ?_)) | (refine TW.pl rfl rfl ?_)))
  refine TW.wR (fun hR => ?_)
  have hyR : ∀ j, j < ys.length → inR (ys.getD j 0) := fun j hj => by rw [← hr.2.2 j hj]; exact hR.2 6 _
  have hzR : ∀ j, j < ys.length → inR ((sTrn le pu ys).getD j 0) := by
    intro j hj
    rw [sTrn_getD hj]
    cases hfi : le.findIdx? (fun x => x == ys.getD j 0) with
    | none => exact hyR j hj
    | some i =>
      have hi := (List.findIdx?_eq_some_iff_getElem.mp hfi).1
      have hm : pu.getD i 0 ∈ pu := by
        rw [List.getD_eq_getElem?_getD, List.getElem?_eq_getElem (by omega)]
        exact List.getElem_mem _
      have := chr_R (hap _ hm)
      show inR (pu.getD i 0)
      omega
  have inner : ∀ (τ : TS) (j : Nat) (k : Int) (Q : Option Int → TS → Prop) (o6 : Option TV), SgnIs τ s → k = j → j < ys.length → τ.2 6 (31 * (row : Int) + 1 + k).toNat = ys.getD j 0 → (∀ o6, TW (d + 1) tc_turns 64 [some (.inr 0), some (.inl row), some (.inl x), some (.inl (x + 2)), some (.inl (x + 2 + le.length)), some (.inl k), o6] [.inl ((sTrn le pu ys).getD j 0), .inl (31 * (row : Int) + 1 + k), .inr 7] τ Q) → TW (d + 1) tc_turns 21 [some (.inr 0), some (.inl row), some (.inl x), some (.inl (x + 2)), some (.inl (x + 2 + le.length)), some (.inl k), o6] [] τ Q := by
    intro τ j k Q o6 hsτ hk hj hyj hQ
    have hfin1 : ∀ (i : Nat) (v : Int), i < le.length → v = x + 2 + i → (∀ z, z < i → ¬ le.getD z 0 = ys.getD j 0) → le.getD i 0 = ys.getD j 0 → TW (d + 1) tc_turns 37 [some (.inr 0), some (.inl row), some (.inl x), some (.inl (x + 2)), some (.inl (x + 2 + le.length)), some (.inl k), some (.inl v)] [] τ Q := by
      intro i v hi hv hn he
      have hfi : le.findIdx? (fun x => x == ys.getD j 0) = some i := by
        refine List.findIdx?_eq_some_iff_getElem.mpr ⟨hi, ?_, fun z hz => ?_⟩
        · rw [List.getD_eq_getElem?_getD, List.getElem?_eq_getElem hi] at he
          simpa using he
        · have := hn z hz
          rw [List.getD_eq_getElem?_getD, List.getElem?_eq_getElem (by omega)] at this
          simpa using this
      have hval := sTrn_getD (le := le) (pu := pu) hj
      rw [hfi] at hval
      have hval : (sTrn le pu ys).getD j 0 = pu.getD i 0 := hval
      have hrd := rdP τ hsτ i (x + 2 + le.length + 1 + v - (x + 2)) (by omega) (by omega)
      (repeat (first | (refine TW.getf rfl rfl rfl (fun _ => ?_)) | (refine TW.pl rfl rfl ?_)))
      refine TW.br rfl rfl (by first | omega | exact b2i_R _ | exact ⟨b2i_R _, by omega⟩) (fun q1 => ?_) (fun q1 => ?_)
      · omega
      · (repeat (first | (refine TW.getf rfl rfl rfl (fun _ => ?_)) | (refine TW.pl rfl rfl ?_)))
        refine TW.iald (n := 60) rfl rfl rfl (by omega) (fun _ => ?_)
        rw [hrd.1, ← hval]
        (iterate 1 (first | (refine TW.getf rfl rfl rfl (fun _ => ?_)) | (refine TW.pl rfl rfl ?_)))
        exact hQ _
    have hfin2 : ∀ (v : Int), v = x + 2 + le.length → (∀ z, z < le.length → ¬ le.getD z 0 = ys.getD j 0) → TW (d + 1) tc_turns 37 [some (.inr 0), some (.inl row), some (.inl x), some (.inl (x + 2)), some (.inl (x + 2 + le.length)), some (.inl k), some (.inl v)] [] τ Q := by
      intro v hv hn
      have hfi : le.findIdx? (fun x => x == ys.getD j 0) = none := by
        refine List.findIdx?_eq_none_iff.mpr (fun z hz => ?_)
        obtain ⟨i, hi, rfl⟩ := List.mem_iff_getElem.mp hz
        have := hn i hi
        rw [List.getD_eq_getElem?_getD, List.getElem?_eq_getElem hi] at this
        simpa using this
      have hval := sTrn_getD (le := le) (pu := pu) hj
      rw [hfi] at hval
      have hval : (sTrn le pu ys).getD j 0 = ys.getD j 0 := hval
      (repeat (first | (refine TW.getf rfl rfl rfl (fun _ => ?_)) | (refine TW.pl rfl rfl ?_)))
      refine TW.br rfl rfl (by first | omega | exact b2i_R _ | exact ⟨b2i_R _, by omega⟩) (fun q1 => ?_) (fun q1 => ?_)
      · (repeat (first | (refine TW.getf rfl rfl rfl (fun _ => ?_)) | (refine TW.pl rfl rfl ?_)))
        refine TW.cv2 rfl rfl rfl (Nat.le_of_ble_eq_true rfl) (T_sign (row := (row : Int)) (k := k) (by omega) (by omega)) ?_; rintro _ _ ⟨rfl, rfl⟩
        rw [hyj, ← hval]
        exact hQ _
      · omega
    have loop : ∀ (q i : Nat) (v : Int), v = x + 2 + i → i + q = le.length → (∀ z, z < i → ¬ le.getD z 0 = ys.getD j 0) → TW (d + 1) tc_turns 23 [some (.inr 0), some (.inl row), some (.inl x), some (.inl (x + 2)), some (.inl (x + 2 + le.length)), some (.inl k), some (.inl v)] [] τ Q := by
      intro q
      induction q with
      | zero =>
        intro i v hv hi hn
        have hi2 : i = le.length := by omega
        subst hi2
        (repeat (first | (refine TW.getf rfl rfl rfl (fun _ => ?_)) | (refine TW.pl rfl rfl ?_)))
        refine TW.br rfl rfl (by first | omega | exact b2i_R _ | exact ⟨b2i_R _, by omega⟩) (fun q1 => ?_) (fun q1 => ?_)
        · exact hfin2 v hv hn
        · omega
      | succ q ih =>
        intro i v hv hi hn
        have hrd := rdL τ hsτ i v (by omega) hv
        (repeat (first | (refine TW.getf rfl rfl rfl (fun _ => ?_)) | (refine TW.pl rfl rfl ?_)))
        refine TW.br rfl rfl (by first | omega | exact b2i_R _ | exact ⟨b2i_R _, by omega⟩) (fun q1 => ?_) (fun q1 => ?_)
        · omega
        (repeat (first | (refine TW.getf rfl rfl rfl (fun _ => ?_)) | (refine TW.pl rfl rfl ?_)))
        refine TW.iald (n := 60) rfl rfl rfl (by omega) (fun _ => ?_)
        rw [hrd.1]
        (repeat (first | (refine TW.getf rfl rfl rfl (fun _ => ?_)) | (refine TW.pl rfl rfl ?_)))
        refine TW.cv2 rfl rfl rfl (Nat.le_of_ble_eq_true rfl) (T_sign (row := (row : Int)) (k := k) (by omega) (by omega)) ?_; rintro _ _ ⟨rfl, rfl⟩
        rw [hyj]
        refine TW.br rfl rfl ⟨by omega, hyR j hj⟩ (fun q2 => ?_) (fun q2 => ?_)
        · exact hfin1 i v (by omega) hv hn q2
        · (iterate 2 (first | (refine TW.getf rfl rfl rfl (fun _ => ?_)) | (refine TW.pl rfl rfl ?_)))
          refine ih (i + 1) (v + 1) (by omega) (by omega) (fun z hz => ?_)
          by_cases e : z = i
          · rw [e]; exact q2
          · exact hn z (by omega)
    (iterate 2 (first | (refine TW.getf rfl rfl rfl (fun _ => ?_)) | (refine TW.pl rfl rfl ?_)))
    exact loop le.length 0 _ (by omega) (by omega) (fun z hz => absurd hz (Nat.not_lt_zero _))
  have outer : ∀ (q j : Nat) (k : Int) (o6 : Option TV) (τ : TS), j + q = ys.length → k = j → τ.1 = σ.1 → (∀ i, i < ys.length → τ.2 6 (31 * row + 1 + i) = if i < j then (sTrn le pu ys).getD i 0 else ys.getD i 0) → τ.2 6 (31 * row) = ys.length → RSame (fun k => k = row) σ τ → TFr [] [6] σ τ → TW (d + 1) tc_turns 16 [some (.inr 0), some (.inl row), some (.inl x), some (.inl (x + 2)), some (.inl (x + 2 + le.length)), some (.inl k), o6] [] τ (fun r τ => r = none ∧ RowIs τ row (sTrn le pu ys) ∧ RSame (fun k => k = row) σ τ ∧ TFr [] [6] σ τ) := by
    intro q
    induction q with
    | zero =>
      intro j k o6 τ hj hk h1 h6 h0 hs6 hfr
      have el : τ.2 6 (31 * (row : Int)).toNat = ys.length := by rw [← h0]; exact tix (by omega)
      (repeat (first | (refine TW.getf rfl rfl rfl (fun _ => ?_)) | (refine TW.pl rfl rfl ?_)))
      refine TW.cv1 rfl rfl rfl (Nat.le_of_ble_eq_true rfl) (T_len (row := (row : Int)) (by omega)) ?_; rintro _ _ ⟨rfl, rfl⟩
      rw [el]
      refine TW.br rfl rfl (by first | omega | exact b2i_R _ | exact ⟨b2i_R _, by omega⟩) (fun q1 => ?_) (fun q1 => ?_)
      · refine TW.vret rfl ⟨rfl, ⟨by rw [h0, sTrn_len], by rw [sTrn_len]; exact h30, fun i hi => ?_⟩, hs6, hfr⟩
        rw [sTrn_len] at hi
        rw [h6 i hi, if_pos (by omega)]
      · omega
    | succ q ih =>
      intro j k o6 τ hj hk h1 h6 h0 hs6 hfr
      have el : τ.2 6 (31 * (row : Int)).toNat = ys.length := by rw [← h0]; exact tix (by omega)
      have hyj : τ.2 6 (31 * (row : Int) + 1 + k).toNat = ys.getD j 0 := by
        rw [show (31 * (row : Int) + 1 + k).toNat = 31 * row + 1 + j by omega, h6 j (by omega), if_neg (by omega)]
      have hzj := hzR j (by omega)
      (repeat (first | (refine TW.getf rfl rfl rfl (fun _ => ?_)) | (refine TW.pl rfl rfl ?_)))
      refine TW.cv1 rfl rfl rfl (Nat.le_of_ble_eq_true rfl) (T_len (row := (row : Int)) (by omega)) ?_; rintro _ _ ⟨rfl, rfl⟩
      rw [el]
      refine TW.br rfl rfl (by first | omega | exact b2i_R _ | exact ⟨b2i_R _, by omega⟩) (fun q1 => ?_) (fun q1 => ?_)
      · omega
      refine inner τ j k _ o6 (hs.fr hfr (by decide) (by decide)) hk (by omega) hyj (fun o6' => ?_)
      refine TW.iast (n := 26908) rfl rfl rfl (by omega) (by omega) ?_
      (iterate 2 (first | (refine TW.getf rfl rfl rfl (fun _ => ?_)) | (refine TW.pl rfl rfl ?_)))
      refine ih (j + 1) (k + 1) _ _ (by omega) (by omega) h1 (fun i hi => ?_) ?_ (fun i hi => ?_) (hfr.ts2 (by decide))
      · rw [ts2_at]
        by_cases e : i = j
        · rw [if_pos (by omega), if_pos (by omega), e]
        · rw [if_neg (by omega), h6 i hi]
          by_cases e2 : i < j
          · rw [if_pos e2, if_pos (by omega)]
          · rw [if_neg e2, if_neg (by omega)]
      · rw [ts2_at, if_neg (by omega)]; exact h0
      · rw [ts2_at, if_neg (by omega)]; exact hs6 i hi
  -- where the letters end
  have ends : ∀ (q i : Nat) (v : Int), v = x + 2 + i → i + q = le.length → TW (d + 1) tc_turns 6 [some (.inr 0), some (.inl row), some (.inl x), some (.inl (x + 2)), some (.inl v), none, none] [] σ (fun r τ => r = none ∧ RowIs τ row (sTrn le pu ys) ∧ RSame (fun k => k = row) σ τ ∧ TFr [] [6] σ τ) := by
    intro q
    induction q with
    | zero =>
      intro i v hv hi
      have hi2 : i = le.length := by omega
      subst hi2
      have hrd := rdE σ hs v hv
      (repeat (first | (refine TW.getf rfl rfl rfl (fun _ => ?_)) | (refine TW.pl rfl rfl ?_)))
      refine TW.iald (n := 60) rfl rfl rfl (by omega) (fun _ => ?_)
      rw [hrd.1]
      (repeat (first | (refine TW.getf rfl rfl rfl (fun _ => ?_)) | (refine TW.pl rfl rfl ?_)))
      refine TW.br rfl rfl (by first | omega | exact b2i_R _ | exact ⟨b2i_R _, by omega⟩) (fun q1 => ?_) (fun q1 => ?_)
      · (iterate 2 (first | (refine TW.getf rfl rfl rfl (fun _ => ?_)) | (refine TW.pl rfl rfl ?_)))
        rw [hv]
        refine outer ys.length 0 0 none σ (by omega) rfl rfl (fun i hi => ?_) hr.1 (fun _ _ => rfl) TFr.rf
        rw [if_neg (by omega)]; exact hr.2.2 i hi
      · exact absurd rfl q1
    | succ q ih =>
      intro i v hv hi
      have hrd := rdL σ hs i v (by omega) hv
      have hm : le.getD i 0 ∈ le := by
        rw [List.getD_eq_getElem?_getD, List.getElem?_eq_getElem (by omega)]
        exact List.getElem_mem _
      have hch := chr_R (hal _ hm)
      (repeat (first | (refine TW.getf rfl rfl rfl (fun _ => ?_)) | (refine TW.pl rfl rfl ?_)))
      refine TW.iald (n := 60) rfl rfl rfl (by omega) (fun _ => ?_)
      rw [hrd.1]
      (repeat (first | (refine TW.getf rfl rfl rfl (fun _ => ?_)) | (refine TW.pl rfl rfl ?_)))
      refine TW.br rfl rfl (by first | omega | exact b2i_R _ | exact ⟨b2i_R _, by omega⟩) (fun q1 => ?_) (fun q1 => ?_)
      · omega
      · (iterate 2 (first | (refine TW.getf rfl rfl rfl (fun _ => ?_)) | (refine TW.pl rfl rfl ?_)))
        exact ih (i + 1) (v + 1) (by omega) (by omega)
  exact ends le.length 0 _ (by omega) (by omega)
theorem T_turnAll {od : SOrd0} {x : Int} (hs : SgnIs σ s) (hx : Sfx s l x) (hl0 : l ≠ []) (hact : oAct od = 122) (hp : pTurn l.tail = .inr (l1, oLet od, oPut od)) (hA : TA (pre ++ mid ++ post, p, h, o, fi, m, n, rp) σ) (hf : (σ.1 42) = pre.length + 1) (hl : (σ.1 43) = pre.length + mid.length) : TM (d + 3) tk_turnAll [.inr 0, .inl x] σ (ActQ σ (chgR pre post (pre.length + mid.length) h o fi m n (sChgL od mid rp))) := by
  obtain ⟨h12, h40⟩ := hA.lenM
  refine TM.of rfl rfl ?_
  (iterate 3 (first | (refine TW.getf rfl rfl rfl (fun _ => ?_)) | (refine TW.pl rfl rfl ?_)))
  have loop : ∀ (ms P : List SLine) (k : Int) (τ : TS), TA (P ++ ms ++ post, p, h, o, fi, m, n, rp) τ → k = P.length + 1 → P.length + ms.length = pre.length + mid.length → (τ.1 43) = pre.length + mid.length → SgnIs τ s → AX σ τ → TW (d + 2) tc_turnAll 3 [some (.inr 0), some (.inl x), some (.inl k)] [] τ (ActQ σ (chgR P post (pre.length + mid.length) h o fi m n (sChgL od ms rp))) := by
    intro ms
    induction ms with
    | nil =>
      intro P k τ hA' hk hpl hl' hsτ hx'
      simp at hpl
      (repeat (first | (refine TW.getf rfl rfl rfl (fun _ => ?_)) | (refine TW.pl rfl rfl ?_)))
      refine TW.br rfl rfl (by first | omega | exact b2i_R _ | exact ⟨b2i_R _, by omega⟩) (fun q1 => ?_) (fun q1 => ?_)
      · (repeat (first | (refine TW.getf rfl rfl rfl (fun _ => ?_)) | (refine TW.pl rfl rfl ?_)))
        refine TW.putf rfl rfl (by omega) ?_
        (repeat (first | (refine TW.getf rfl rfl rfl (fun _ => ?_)) | (refine TW.pl rfl rfl ?_)))
        exact TW.iret rfl ⟨hx'.trans (AX.fr (TFr.rf.ts1 (fs := [16]) (as := []) (by decide)) (by decide) (by decide) (by decide)), rfl, hA'.pres (by omega)⟩
      · omega
    | cons y ms ih =>
      intro P k τ hA' hk hpl hl' hsτ hx'
      simp at hpl
      have hA2 := hA'
      rw [List.append_assoc, List.cons_append] at hA2
      obtain ⟨hrow, -, -, -⟩ := hA2.1.atZ
      have hc : sChg od y.2 = some (sTrn (oLet od) (oPut od) y.2, false) := by
        unfold sChg
        rw [if_neg (by omega), if_pos hact]
      have e0 : sChgL od (y :: ms) rp = match sChg od y.2 with
        | none => none
        | some (r1, b) => match sChgL od ms (rp || b) with
          | none => none
          | some (q, rp1) => some ((y.1, r1) :: q, rp1) := rfl
      have key : chgR P post (pre.length + mid.length) h o fi m n (sChgL od (y :: ms) rp) = chgR (P ++ [(y.1, sTrn (oLet od) (oPut od) y.2)]) post (pre.length + mid.length) h o fi m n (sChgL od ms rp) := by
        rw [chgR_cons, e0, hc]
        dsimp only
        rw [Bool.or_false]
        rfl
      rw [key]
      (repeat (first | (refine TW.getf rfl rfl rfl (fun _ => ?_)) | (refine TW.pl rfl rfl ?_)))
      refine TW.br rfl rfl (by first | omega | exact b2i_R _ | exact ⟨b2i_R _, by omega⟩) (fun q1 => ?_) (fun q1 => ?_)
      · omega
      (repeat (first | (refine TW.getf rfl rfl rfl (fun _ => ?_)) | (refine TW.pl rfl rfl ?_)))
      refine TW.cs1 rfl rfl rfl (Nat.le_of_ble_eq_true rfl) (T_textRow (k := P.length) (by omega) (by omega)) ?_; rintro _ _ ⟨rfl, rfl⟩
      (repeat (first | (refine TW.getf rfl rfl rfl (fun _ => ?_)) | (refine TW.pl rfl rfl ?_)))
      refine TW.cv2 rfl rfl rfl (Nat.le_of_ble_eq_true rfl) (T_turns hsτ hrow rfl (by omega) hx hl0 hp) ?_
      rintro _ τ1 ⟨rfl, hr1, hs1, hf1⟩
      (iterate 2 (first | (refine TW.getf rfl rfl rfl (fun _ => ?_)) | (refine TW.pl rfl rfl ?_)))
      exact ih (P ++ [(y.1, _)]) (k + 1) τ1 (by rw [List.append_assoc, List.append_assoc]; exact hA2.setRow hr1 hs1 hf1 (by decide) (by decide)) (by simp; omega) (by simp; omega) ((hf1.1 43 (by decide)).trans hl') (hsτ.fr hf1 (by decide) (by decide)) (hx'.trans (AX.row hf1 hs1 (by decide) (by decide) (fun k z => by omega)))
  rw [hf]
  exact loop mid pre _ σ hA (by omega) rfl hl hs AX.rf
end TRep2
