set_option maxRecDepth 100000
/-! THE TWIN'S ROWS AND LINES -/
/-- all else is the same: fields but fs, arrays but as -/
def TFr (fs as : List Nat) (σ τ : TS) : Prop := (∀ k, k ∉ fs → τ.1 k = σ.1 k) ∧ ∀ a, a ∉ as → τ.2 a = σ.2 a
theorem TFr.rf {fs as : List Nat} {σ : TS} : TFr fs as σ σ := ⟨fun _ _ => rfl, fun _ _ => rfl⟩
theorem TFr.mono {fs as fs' as' : List Nat} {σ τ : TS} (h : TFr fs as σ τ) (h1 : ∀ k ∈ fs, k ∈ fs') (h2 : ∀ k ∈ as, k ∈ as') : TFr fs' as' σ τ := ⟨fun k hk => h.1 k (fun z => hk (h1 k z)), fun a ha => h.2 a (fun z => ha (h2 a z))⟩
theorem TFr.trans {fs as : List Nat} {σ τ υ : TS} (h : TFr fs as σ τ) (h2 : TFr fs as τ υ) : TFr fs as σ υ := ⟨fun k hk => (h2.1 k hk).trans (h.1 k hk), fun a ha => (h2.2 a ha).trans (h.2 a ha)⟩
/-- row k of the twin holds xs -/
def RowIs (σ : TS) (k : Nat) (xs : List Int) : Prop := σ.2 6 (31 * k) = xs.length ∧ xs.length ≤ 30 ∧ ∀ j, j < xs.length → σ.2 6 (31 * k + 1 + j) = xs.getD j 0
/-- the row that is being made -/
def MadeIs (σ : TS) (xs : List Int) : Prop := σ.1 20 = xs.length ∧ ∀ j, j < xs.length → j < 30 → σ.2 19 j = xs.getD j 0
/-- only the rows of P may have changed, in r -/
def RSame (P : Nat → Prop) (σ τ : TS) : Prop := ∀ j, ¬ P (j / 31) → τ.2 6 j = σ.2 6 j
theorem RowIs.same {P : Nat → Prop} {σ τ : TS} {k : Nat} {xs : List Int} (h : RowIs σ k xs) (hs : RSame P σ τ) (hk : ¬ P k) : RowIs τ k xs := by
  obtain ⟨h1, h2, h3⟩ := h
  refine ⟨?_, h2, fun j hj => ?_⟩
  · rw [hs _ (by rw [show 31 * k / 31 = k by omega]; exact hk)]; exact h1
  · rw [hs _ (by rw [show (31 * k + 1 + j) / 31 = k by omega]; exact hk)]; exact h3 j hj
theorem RowIs.fr {σ τ : TS} {k : Nat} {xs : List Int} (h : RowIs σ k xs) (hs : τ.2 6 = σ.2 6) : RowIs τ k xs := by
  unfold RowIs at h ⊢
  rw [hs]
  exact h
theorem getD_snoc_lt {xs : List Int} {c : Int} {j : Nat} (h : j < xs.length) : (xs ++ [c]).getD j 0 = xs.getD j 0 := by
  rw [List.getD_eq_getElem?_getD, List.getD_eq_getElem?_getD, List.getElem?_append_left h]
theorem getD_snoc {xs : List Int} {c : Int} : (xs ++ [c]).getD xs.length 0 = c := by
  rw [List.getD_eq_getElem?_getD, List.getElem?_concat_length]; rfl
section TRows
variable {d : Nat} {σ : TS}
theorem T_makes {c : Int} {xs : List Int} (hM : MadeIs σ xs) (hl : xs.length < 100000) (hc : inR c) : TM (d + 1) tk_makes [.inr 0, .inl c] σ (fun r τ => r = none ∧ MadeIs τ (xs ++ [c]) ∧ TFr [20] [19] σ τ) := by
  obtain ⟨h1, h2⟩ := hM
  refine TM.of rfl rfl ?_
  (repeat (first | (refine TW.getf rfl rfl rfl (fun _ => ?_)) | (refine TW.pl rfl rfl ?_)))
  refine TW.ic_ge rfl (by omega) (by decide) (fun h3 => ?_) (fun h3 => ?_)
  · (repeat (first | (refine TW.getf rfl rfl rfl (fun _ => ?_)) | (refine TW.pl rfl rfl ?_)))
    refine TW.putf rfl rfl (by omega) ?_
    refine TW.vret rfl ⟨rfl, ⟨?_, fun j hj hj2 => ?_⟩, fun k hk => ?_, fun a ha => rfl⟩
    · show (if 20 = 20 then σ.1 20 + 1 else σ.1 20) = _
      simp; omega
    · show σ.2 19 j = _
      rw [h2 j (by omega) hj2, getD_snoc_lt (by omega)]
    · show (if k = 20 then _ else _) = _
      rw [if_neg (by simpa using hk)]
  · (repeat (first | (refine TW.getf rfl rfl rfl (fun _ => ?_)) | (refine TW.pl rfl rfl ?_)))
    refine TW.iast (n := 31) rfl rfl rfl (by omega) hc ?_
    (repeat (first | (refine TW.getf rfl rfl rfl (fun _ => ?_)) | (refine TW.pl rfl rfl ?_)))
    refine TW.putf rfl rfl (by show inR (σ.1 20 + 1); omega) ?_
    refine TW.vret rfl ⟨rfl, ⟨?_, fun j hj hj2 => ?_⟩, fun k hk => ?_, fun a ha => ?_⟩
    · show (if 20 = 20 then σ.1 20 + 1 else σ.1 20) = _
      simp; omega
    · show (if 19 = 19 ∧ j = (σ.1 20).toNat then c else σ.2 19 j) = _
      by_cases e : j = xs.length
      · subst e
        rw [if_pos ⟨rfl, by omega⟩, getD_snoc]
      · rw [if_neg (by omega), h2 j (by simp at hj; omega) hj2, getD_snoc_lt (by simp at hj; omega)]
    · show (if k = 20 then _ else _) = _
      rw [if_neg (by simpa using hk)]
      rfl
    · funext j
      show (if a = 19 ∧ j = _ then _ else σ.2 a j) = _
      rw [if_neg (fun z => ha (by rw [z.1]; exact List.mem_cons_self))]
def CpK (σ τ : TS) (a b k : Int) : Prop := τ.1 = σ.1 ∧ ∀ (q j : Nat), τ.2 q j = if q = 6 ∧ 31 * b ≤ (j : Int) ∧ (j : Int) < 31 * b + k then σ.2 6 (31 * a + ((j : Int) - 31 * b)).toNat else σ.2 q j
theorem T_copyRow {a b : Int} (ha : 0 ≤ a ∧ a < 868) (hb : 0 ≤ b ∧ b < 868) : TM (d + 1) tk_copyRow [.inr 0, .inl a, .inl b] σ (fun r τ => r = none ∧ CpK σ τ a b 31) := by
  refine TM.of rfl rfl ?_
  (iterate 2 (first | (refine TW.getf rfl rfl rfl (fun _ => ?_)) | (refine TW.pl rfl rfl ?_)))
  have loop : ∀ (n : Nat) (k : Int) (τ : TS), 0 ≤ k → k + n = 31 → CpK σ τ a b k → TW d tc_copyRow 2 [some (.inr 0), some (.inl a), some (.inl b), some (.inl k)] [] τ (fun r τ => r = none ∧ CpK σ τ a b 31) := by
    intro n
    induction n with
    | zero =>
      intro k τ h0 hk hc
      (repeat (first | (refine TW.getf rfl rfl rfl (fun _ => ?_)) | (refine TW.pl rfl rfl ?_)))
      refine TW.ic_ge rfl (by omega) (by decide) (fun h3 => ?_) (fun h3 => by omega)
      refine TW.vret rfl ⟨rfl, ?_⟩
      rw [show (31 : Int) = k by omega]
      exact hc
    | succ n ih =>
      intro k τ h0 hk hc
      (repeat (first | (refine TW.getf rfl rfl rfl (fun _ => ?_)) | (refine TW.pl rfl rfl ?_)))
      refine TW.ic_ge rfl (by omega) (by decide) (fun h3 => by omega) (fun h3 => ?_)
      (repeat (first | (refine TW.getf rfl rfl rfl (fun _ => ?_)) | (refine TW.pl rfl rfl ?_)))
      refine TW.iald (n := 26908) rfl rfl rfl (by omega) (fun _ => ?_)
      refine TW.iast (n := 26908) rfl rfl rfl (by omega) (by assumption) ?_
      (iterate 2 (first | (refine TW.getf rfl rfl rfl (fun _ => ?_)) | (refine TW.pl rfl rfl ?_)))
      refine ih (k + 1) _ (by omega) (by omega) ⟨hc.1, fun q j => ?_⟩
      show (if q = 6 ∧ j = (31 * b + k).toNat then τ.2 6 (31 * a + k).toNat else τ.2 q j) = _
      by_cases e : q = 6 ∧ j = (31 * b + k).toNat
      · rw [if_pos e, hc.2, if_neg (by omega), if_pos (by omega), show (31 * a + ((j : Int) - 31 * b)).toNat = (31 * a + k).toNat by omega]
      · rw [if_neg e, hc.2]
        by_cases e2 : q = 6 ∧ 31 * b ≤ (j : Int) ∧ (j : Int) < 31 * b + k
        · rw [if_pos e2, if_pos (by omega)]
        · rw [if_neg e2, if_neg (by omega)]
  exact loop 31 0 σ (by decide) rfl ⟨rfl, fun q j => by rw [if_neg (by omega)]⟩
theorem CpK.row {τ : TS} {a b : Nat} {xs : List Int} (h : CpK σ τ a b 31) (hr : RowIs σ a xs) : RowIs τ b xs := by
  obtain ⟨h1, h2, h3⟩ := hr
  refine ⟨?_, h2, fun j hj => ?_⟩
  · rw [h.2, if_pos (by omega), ← h1, show (31 * (a : Int) + (((31 * b : Nat) : Int) - 31 * (b : Int))).toNat = 31 * a by omega]
  · rw [h.2, if_pos (by omega), ← h3 j hj, show (31 * (a : Int) + (((31 * b + 1 + j : Nat) : Int) - 31 * (b : Int))).toNat = 31 * a + 1 + j by omega]
theorem CpK.same {τ : TS} {a b : Int} {n : Nat} (h : CpK σ τ a b 31) (hn : b = n) : RSame (fun k => k = n) σ τ := fun j hj => by
  rw [h.2, if_neg (by omega)]
theorem CpK.fr {τ : TS} {a b : Int} (h : CpK σ τ a b 31) : TFr [] [6] σ τ := ⟨fun k _ => by rw [h.1], fun q hq => by
  funext j
  rw [h.2, if_neg (fun z => hq (by rw [z.1]; exact List.mem_cons_self))]⟩
theorem T_makesRow {row : Nat} {u v : Int} {xs ys : List Int} (hr : RowIs σ row ys) (hrow : row < 868) (hu : 0 ≤ u ∧ u ≤ v ∧ v ≤ ys.length) (hM : MadeIs σ xs) (hl : xs.length < 90000) : TM (d + 2) tk_makesRow [.inr 0, .inl row, .inl u, .inl v] σ (fun r τ => r = none ∧ MadeIs τ (xs ++ (ys.drop u.toNat).take (v - u).toNat) ∧ TFr [20] [19] σ τ) := by
  refine TM.of rfl rfl ?_
  (iterate 2 (first | (refine TW.getf rfl rfl rfl (fun _ => ?_)) | (refine TW.pl rfl rfl ?_)))
  have loop : ∀ (n : Nat) (k : Int) (zs : List Int) (τ : TS), u ≤ k → k + n = v → zs = xs ++ (ys.drop u.toNat).take (k - u).toNat → MadeIs τ zs → TFr [20] [19] σ τ → TW (d + 1) tc_makesRow 2 [some (.inr 0), some (.inl row), some (.inl u), some (.inl v), some (.inl k)] [] τ (fun r τ => r = none ∧ MadeIs τ (xs ++ (ys.drop u.toNat).take (v - u).toNat) ∧ TFr [20] [19] σ τ) := by
    intro n
    induction n with
    | zero =>
      intro k zs τ h0 hk hz hm hf
      (repeat (first | (refine TW.getf rfl rfl rfl (fun _ => ?_)) | (refine TW.pl rfl rfl ?_)))
      refine TW.ic_ge rfl (by have := hr.2.1; omega) (by have := hr.2.1; omega) (fun h3 => ?_) (fun h3 => by omega)
      refine TW.vret rfl ⟨rfl, ?_, hf⟩
      rw [show v = k by omega, ← hz]
      exact hm
    | succ n ih =>
      intro k zs τ h0 hk hz hm hf
      have hrl := hr.2.1
      have hr2 : RowIs τ row ys := hr.fr (hf.2 6 (by decide))
      (repeat (first | (refine TW.getf rfl rfl rfl (fun _ => ?_)) | (refine TW.pl rfl rfl ?_)))
      refine TW.ic_ge rfl (by omega) (by omega) (fun h3 => by omega) (fun h3 => ?_)
      (repeat (first | (refine TW.getf rfl rfl rfl (fun _ => ?_)) | (refine TW.pl rfl rfl ?_)))
      refine TW.cv2 rfl rfl rfl (by decide) (T_sign (by omega) (by omega)) ?_
      rintro _ _ ⟨rfl, rfl⟩
      have e1 : τ.2 6 (31 * (row : Int) + 1 + k).toNat = ys.getD k.toNat 0 := by
        exact (tix (by omega)).trans (hr2.2.2 k.toNat (by omega))
      intro hR
      have hc := hR.2 6 (31 * (row : Int) + 1 + k).toNat
      revert hR
      show TW _ _ _ _ _ _ _
      have hzl : zs.length < 100000 := by rw [hz]; simp; omega
      refine TW.cv1 rfl rfl rfl (by decide) (T_makes hm hzl hc) ?_
      rintro _ τ1 ⟨rfl, hm1, hf1⟩
      (iterate 2 (first | (refine TW.getf rfl rfl rfl (fun _ => ?_)) | (refine TW.pl rfl rfl ?_)))
      refine ih (k + 1) _ τ1 (by omega) (by omega) ?_ hm1 (hf.trans hf1)
      rw [hz, e1, List.append_assoc]
      congr 1
      rw [show (k + 1 - u).toNat = (k - u).toNat + 1 by omega, List.take_add_one]
      congr 1
      rw [List.getElem?_drop, show u.toNat + (k - u).toNat = k.toNat by omega, List.getD_eq_getElem?_getD]
      rw [List.getElem?_eq_getElem (by omega)]
      rfl
  exact loop (v - u).toNat u xs σ (by omega) (by omega) (by simp) hM TFr.rf
/-- the row that was made is laid -/
theorem T_lays {row : Nat} {xs : List Int} (hrow : row < 868) (hM : MadeIs σ xs) (hl : xs.length < 100000) : TM (d + 1) tk_lays [.inr 0, .inl row] σ (fun r τ => r = some (b2i (decide (xs.length ≤ 30))) ∧ (xs.length ≤ 30 → RowIs τ row xs) ∧ (30 < xs.length → τ = σ) ∧ RSame (fun k => k = row) σ τ ∧ TFr [] [6] σ τ) := by
  obtain ⟨h1, h2⟩ := id hM
  refine TM.of rfl rfl ?_
  (repeat (first | (refine TW.getf rfl rfl rfl (fun _ => ?_)) | (refine TW.pl rfl rfl ?_)))
  refine TW.ic_le rfl (by omega) (by decide) (fun h3 => ?_) (fun h3 => ?_)
  · (repeat (first | (refine TW.getf rfl rfl rfl (fun _ => ?_)) | (refine TW.pl rfl rfl ?_)))
    refine TW.iast (n := 26908) rfl rfl rfl (by omega) (by omega) ?_
    (iterate 2 (first | (refine TW.getf rfl rfl rfl (fun _ => ?_)) | (refine TW.pl rfl rfl ?_)))
    have loop : ∀ (n : Nat) (k : Int) (τ : TS), 0 ≤ k → k + n = xs.length → (τ.1 = σ.1 ∧ ∀ (q j : Nat), τ.2 q j = if q = 6 ∧ j = 31 * row then (xs.length : Int) else if q = 6 ∧ 31 * row + 1 ≤ j ∧ (j : Int) < 31 * row + 1 + k then xs.getD (j - (31 * row + 1)) 0 else σ.2 q j) → TW d tc_lays 16 [some (.inr 0), some (.inl row), some (.inl k)] [] τ (fun r τ => r = some (b2i (decide (xs.length ≤ 30))) ∧ (xs.length ≤ 30 → RowIs τ row xs) ∧ (30 < xs.length → τ = σ) ∧ RSame (fun k => k = row) σ τ ∧ TFr [] [6] σ τ) := by
      intro n
      induction n with
      | zero =>
        intro k τ h0 hk hc
        have h20 : τ.1 20 = xs.length := by rw [hc.1]; exact h1
        (repeat (first | (refine TW.getf rfl rfl rfl (fun _ => ?_)) | (refine TW.pl rfl rfl ?_)))
        refine TW.ic_ge rfl (by omega) (by omega) (fun h4 => ?_) (fun h4 => by omega)
        (repeat (first | (refine TW.getf rfl rfl rfl (fun _ => ?_)) | (refine TW.pl rfl rfl ?_)))
        refine TW.zret rfl (Or.inr rfl) ⟨?_, fun _ => ⟨?_, by omega, fun j hj => ?_⟩, fun z => by omega, fun j hj => ?_, fun k _ => by rw [hc.1], fun a ha => ?_⟩
        · rw [decide_eq_true (by omega)]; rfl
        · rw [hc.2, if_pos ⟨rfl, rfl⟩]
        · rw [hc.2, if_neg (by omega), if_pos (by omega)]
          exact gix (by omega)
        · rw [hc.2, if_neg (by omega), if_neg (by omega)]
        · funext j
          have ha : a ≠ 6 := by simpa using ha
          rw [hc.2, if_neg (fun z => ha z.1), if_neg (fun z => ha z.1)]
      | succ n ih =>
        intro k τ h0 hk hc
        have h20 : τ.1 20 = xs.length := by rw [hc.1]; exact h1
        (repeat (first | (refine TW.getf rfl rfl rfl (fun _ => ?_)) | (refine TW.pl rfl rfl ?_)))
        refine TW.ic_ge rfl (by omega) (by omega) (fun h4 => by omega) (fun h4 => ?_)
        (repeat (first | (refine TW.getf rfl rfl rfl (fun _ => ?_)) | (refine TW.pl rfl rfl ?_)))
        refine TW.iald (n := 31) rfl rfl rfl (by omega) (fun _ => ?_)
        refine TW.iast (n := 26908) rfl rfl rfl (by omega) (by assumption) ?_
        (iterate 2 (first | (refine TW.getf rfl rfl rfl (fun _ => ?_)) | (refine TW.pl rfl rfl ?_)))
        refine ih (k + 1) _ (by omega) (by omega) ⟨hc.1, fun q j => ?_⟩
        show (if q = 6 ∧ j = (31 * (row : Int) + 1 + k).toNat then τ.2 19 k.toNat else τ.2 q j) = _
        by_cases e : q = 6 ∧ j = (31 * (row : Int) + 1 + k).toNat
        · rw [if_pos e, hc.2, if_neg (by omega), if_neg (by omega), if_neg (by omega), if_pos (by omega), h2 k.toNat (by omega) (by omega)]
          exact gix (by omega)
        · rw [if_neg e, hc.2]
          by_cases e1 : q = 6 ∧ j = 31 * row
          · rw [if_pos e1, if_pos e1]
          · rw [if_neg e1, if_neg e1]
            by_cases e2 : q = 6 ∧ 31 * row + 1 ≤ j ∧ (j : Int) < 31 * row + 1 + k
            · rw [if_pos e2, if_pos (by omega)]
            · rw [if_neg e2, if_neg (by omega)]
    refine loop xs.length 0 _ (by decide) (by omega) ⟨rfl, fun q j => ?_⟩
    show (if q = 6 ∧ j = (31 * (row : Int)).toNat then σ.1 20 else σ.2 q j) = _
    by_cases e : q = 6 ∧ j = 31 * row
    · rw [if_pos (by omega), if_pos e, h1]
    · rw [if_neg (by omega), if_neg e, if_neg (by omega)]
  · (repeat (first | (refine TW.getf rfl rfl rfl (fun _ => ?_)) | (refine TW.pl rfl rfl ?_)))
    refine TW.zret rfl (Or.inl rfl) ⟨?_, fun z => by omega, fun _ => rfl, fun _ _ => rfl, TFr.rf⟩
    rw [decide_eq_false (by omega)]; rfl
end TRows
