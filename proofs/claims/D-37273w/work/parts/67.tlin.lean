set_option maxRecDepth 100000
/-! THE TWIN'S LINES -/
abbrev SLine : Type := Int × List Int
/-- the twin's text -/
def TextIs (σ : TS) (t : List SLine) : Prop := σ.1 12 = t.length ∧ t.length ≤ 40 ∧ ∀ k, k < t.length → RowIs σ k (t.getD k (0, [])).2 ∧ σ.2 7 k = (t.getD k (0, [])).1
/-- open: what stands behind a line has moved on; k is how far -/
def OpK (σ τ : TS) (m : Nat) (k : Int) : Prop := τ.1 = σ.1 ∧ (∀ j : Nat, τ.2 6 j = if 31 * (k + 1) ≤ (j : Int) ∧ j < 31 * (m + 1) then σ.2 6 (j - 31) else σ.2 6 j) ∧ (∀ j : Nat, τ.2 7 j = if k + 1 ≤ (j : Int) ∧ j ≤ m then σ.2 7 (j - 1) else σ.2 7 j) ∧ ∀ a, a ∉ [6, 7] → τ.2 a = σ.2 a
section TLines
variable {d : Nat} {σ : TS}
theorem T_open {b m : Nat} (hm : (σ.1 12) = m) (hm40 : m ≤ 40) (hb : b ≤ m) : TM (d + 2) tk_open [.inr 0, .inl b] σ (fun r τ => r = none ∧ ∃ υ, OpK σ υ m b ∧ τ = ts1 υ 12 (m + 1)) := by
  refine TM.of rfl rfl ?_
  (iterate 3 (first | (refine TW.getf rfl rfl rfl (fun _ => ?_)) | (refine TW.pl rfl rfl ?_)))
  have loop : ∀ (n : Nat) (k : Int) (τ : TS), k = b + n → k ≤ m → OpK σ τ m k → TW (d + 1) tc_open 3 [some (.inr 0), some (.inl b), some (.inl k)] [] τ (fun r τ => r = none ∧ ∃ υ, OpK σ υ m b ∧ τ = ts1 υ 12 (m + 1)) := by
    intro n
    induction n with
    | zero =>
      intro k τ hk hkm hc
      have h12 : τ.1 12 = m := by rw [hc.1]; exact hm
      (repeat (first | (refine TW.getf rfl rfl rfl (fun _ => ?_)) | (refine TW.pl rfl rfl ?_)))
      refine TW.ic_le rfl (by omega) (by omega) (fun h3 => ?_) (fun h3 => by omega)
      (repeat (first | (refine TW.getf rfl rfl rfl (fun _ => ?_)) | (refine TW.pl rfl rfl ?_)))
      refine TW.putf rfl rfl (by omega) ?_
      refine TW.vret rfl ⟨rfl, τ, ?_, by rw [h12]⟩
      rw [show (b : Int) = k by omega]
      exact hc
    | succ n ih =>
      intro k τ hk hkm hc
      (repeat (first | (refine TW.getf rfl rfl rfl (fun _ => ?_)) | (refine TW.pl rfl rfl ?_)))
      refine TW.ic_le rfl (by omega) (by omega) (fun h3 => by omega) (fun h3 => ?_)
      (repeat (first | (refine TW.getf rfl rfl rfl (fun _ => ?_)) | (refine TW.pl rfl rfl ?_)))
      refine TW.cv2 rfl rfl rfl (by decide) (T_copyRow (by omega) (by omega)) ?_
      rintro _ τ1 ⟨rfl, hcp⟩
      (repeat (first | (refine TW.getf rfl rfl rfl (fun _ => ?_)) | (refine TW.pl rfl rfl ?_)))
      refine TW.iald (n := 41) rfl rfl rfl (by omega) (fun _ => ?_)
      refine TW.iast (n := 41) rfl rfl rfl (by omega) (by assumption) ?_
      (iterate 2 (first | (refine TW.getf rfl rfl rfl (fun _ => ?_)) | (refine TW.pl rfl rfl ?_)))
      refine ih (k - 1) _ (by omega) (by omega) ⟨hcp.1.trans hc.1, fun j => ?_, fun j => ?_, fun a ha => ?_⟩
      · rw [ts2_ne (by decide), hcp.2]
        by_cases e : 31 * k ≤ (j : Int) ∧ (j : Int) < 31 * k + 31
        · rw [if_pos (by omega), hc.2.1, if_neg (by omega), if_pos (by omega)]
          exact tix (by omega)
        · rw [if_neg (by omega), hc.2.1]
          by_cases e2 : 31 * (k + 1) ≤ (j : Int) ∧ j < 31 * (m + 1)
          · rw [if_pos e2, if_pos (by omega)]
          · rw [if_neg e2, if_neg (by omega)]
      · show (if 7 = 7 ∧ j = k.toNat then τ1.2 7 (k - 1).toNat else τ1.2 7 j) = _
        have e7 : ∀ i, τ1.2 7 i = τ.2 7 i := fun i => by rw [hcp.2, if_neg (by omega)]
        rw [e7, e7]
        by_cases e : j = k.toNat
        · rw [if_pos ⟨rfl, e⟩, hc.2.2.1, if_neg (by omega), if_pos (by omega)]
          exact tix (by omega)
        · rw [if_neg (by omega), hc.2.2.1]
          by_cases e2 : k + 1 ≤ (j : Int) ∧ j ≤ m
          · rw [if_pos e2, if_pos (by omega)]
          · rw [if_neg e2, if_neg (by omega)]
      · have h6 : a ≠ 6 ∧ a ≠ 7 := by simpa using ha
        rw [← hc.2.2.2 a ha]
        funext j
        rw [ts2_ne h6.2, hcp.2, if_neg (fun z => h6.1 z.1)]
  rw [hm]
  exact loop (m - b) m σ (by omega) (by omega) ⟨rfl, fun j => by rw [if_neg (by omega)], fun j => by rw [if_neg (by omega)], fun _ _ => rfl⟩
/-- close: what stands behind a line comes back by one -/
def ClK (σ τ : TS) (l : Nat) (k : Int) : Prop := τ.1 = σ.1 ∧ (∀ j : Nat, τ.2 6 j = if 31 * (l - 1) ≤ j ∧ (j : Int) < 31 * (k - 1) then σ.2 6 (j + 31) else σ.2 6 j) ∧ (∀ j : Nat, τ.2 7 j = if l - 1 ≤ j ∧ (j : Int) < k - 1 then σ.2 7 (j + 1) else σ.2 7 j) ∧ ∀ a, a ∉ [6, 7] → τ.2 a = σ.2 a
theorem T_close {l m : Nat} (hm : (σ.1 12) = m) (hm40 : m ≤ 40) (hl : 1 ≤ l ∧ l ≤ m) : TM (d + 2) tk_close [.inr 0, .inl l] σ (fun r τ => r = none ∧ ∃ υ, ClK σ υ l m ∧ τ = ts1 υ 12 (m - 1)) := by
  refine TM.of rfl rfl ?_
  (iterate 2 (first | (refine TW.getf rfl rfl rfl (fun _ => ?_)) | (refine TW.pl rfl rfl ?_)))
  have loop : ∀ (n : Nat) (k : Int) (τ : TS), k + n = m → l ≤ k → ClK σ τ l k → TW (d + 1) tc_close 2 [some (.inr 0), some (.inl l), some (.inl k)] [] τ (fun r τ => r = none ∧ ∃ υ, ClK σ υ l m ∧ τ = ts1 υ 12 (m - 1)) := by
    intro n
    induction n with
    | zero =>
      intro k τ hk hkm hc
      have h12 : τ.1 12 = m := by rw [hc.1]; exact hm
      (repeat (first | (refine TW.getf rfl rfl rfl (fun _ => ?_)) | (refine TW.pl rfl rfl ?_)))
      refine TW.ic_ge rfl (by omega) (by omega) (fun h3 => ?_) (fun h3 => by omega)
      (repeat (first | (refine TW.getf rfl rfl rfl (fun _ => ?_)) | (refine TW.pl rfl rfl ?_)))
      refine TW.putf rfl rfl (by omega) ?_
      refine TW.vret rfl ⟨rfl, τ, ?_, by rw [h12]⟩
      rw [show (m : Int) = k by omega]
      exact hc
    | succ n ih =>
      intro k τ hk hkm hc
      have h12 : τ.1 12 = m := by rw [hc.1]; exact hm
      (repeat (first | (refine TW.getf rfl rfl rfl (fun _ => ?_)) | (refine TW.pl rfl rfl ?_)))
      refine TW.ic_ge rfl (by omega) (by omega) (fun h3 => by omega) (fun h3 => ?_)
      (repeat (first | (refine TW.getf rfl rfl rfl (fun _ => ?_)) | (refine TW.pl rfl rfl ?_)))
      refine TW.cv2 rfl rfl rfl (by decide) (T_copyRow (by omega) (by omega)) ?_
      rintro _ τ1 ⟨rfl, hcp⟩
      (repeat (first | (refine TW.getf rfl rfl rfl (fun _ => ?_)) | (refine TW.pl rfl rfl ?_)))
      refine TW.iald (n := 41) rfl rfl rfl (by omega) (fun _ => ?_)
      refine TW.iast (n := 41) rfl rfl rfl (by omega) (by assumption) ?_
      (iterate 2 (first | (refine TW.getf rfl rfl rfl (fun _ => ?_)) | (refine TW.pl rfl rfl ?_)))
      refine ih (k + 1) _ (by omega) (by omega) ⟨hcp.1.trans hc.1, fun j => ?_, fun j => ?_, fun a ha => ?_⟩
      · rw [ts2_ne (by decide), hcp.2]
        by_cases e : 31 * (k - 1) ≤ (j : Int) ∧ (j : Int) < 31 * (k - 1) + 31
        · rw [if_pos (by omega), hc.2.1, if_neg (by omega), if_pos (by omega)]
          exact tix (by omega)
        · rw [if_neg (by omega), hc.2.1]
          by_cases e2 : 31 * (l - 1) ≤ j ∧ (j : Int) < 31 * (k - 1)
          · rw [if_pos e2, if_pos (by omega)]
          · rw [if_neg e2, if_neg (by omega)]
      · show (if 7 = 7 ∧ j = (k - 1).toNat then τ1.2 7 k.toNat else τ1.2 7 j) = _
        have e7 : ∀ i, τ1.2 7 i = τ.2 7 i := fun i => by rw [hcp.2, if_neg (by omega)]
        rw [e7, e7]
        by_cases e : j = (k - 1).toNat
        · rw [if_pos ⟨rfl, e⟩, hc.2.2.1, if_neg (by omega), if_pos (by omega)]
          exact tix (by omega)
        · rw [if_neg (by omega), hc.2.2.1]
          by_cases e2 : l - 1 ≤ j ∧ (j : Int) < k - 1
          · rw [if_pos e2, if_pos (by omega)]
          · rw [if_neg e2, if_neg (by omega)]
      · have h6 : a ≠ 6 ∧ a ≠ 7 := by simpa using ha
        rw [← hc.2.2.2 a ha]
        funext j
        rw [ts2_ne h6.2, hcp.2, if_neg (fun z => h6.1 z.1)]
  exact loop (m - l) l σ (by omega) (by omega) ⟨rfl, fun j => by rw [if_neg (by omega)], fun j => by rw [if_neg (by omega)], fun _ _ => rfl⟩
theorem TFr.ts1 {fs as : List Nat} {τ : TS} {k : Nat} {v : Int} (h : TFr fs as σ τ) (hk : k ∈ fs) : TFr fs as σ (ts1 τ k v) := ⟨fun j hj => by rw [ts1_ne (fun z => hj (by rw [z]; exact hk))]; exact h.1 j hj, h.2⟩
theorem TFr.ts2 {fs as : List Nat} {τ : TS} {k i : Nat} {v : Int} (h : TFr fs as σ τ) (hk : k ∈ as) : TFr fs as σ (ts2 τ k i v) := ⟨h.1, fun a ha => by rw [ts2_ne (fun z => ha (by rw [z]; exact hk))]; exact h.2 a ha⟩
theorem RowIs.ts1 {τ : TS} {k : Nat} {xs : List Int} {q : Nat} {v : Int} (h : RowIs τ k xs) : RowIs (ts1 τ q v) k xs := h
theorem RowIs.ts2 {τ : TS} {k : Nat} {xs : List Int} {q i : Nat} {v : Int} (h : RowIs τ k xs) (hq : 6 ≠ q) : RowIs (ts2 τ q i v) k xs := h.fr (ts2_ne hq)
theorem OpK.row {τ : TS} {m b k : Nat} {xs : List Int} (h : OpK σ τ m b) (hr : RowIs σ k xs) (hk : b ≤ k ∧ k < m) : RowIs τ (k + 1) xs := by
  obtain ⟨h1, h2, h3⟩ := hr
  refine ⟨?_, h2, fun j hj => ?_⟩
  · rw [h.2.1, if_pos (by omega), ← h1]; exact tix (by omega)
  · rw [h.2.1, if_pos (by omega), ← h3 j hj]; exact tix (by omega)
theorem OpK.same {τ : TS} {m b : Nat} (h : OpK σ τ m b) : RSame (fun k => b < k ∧ k ≤ m) σ τ := fun j hj => by
  rw [h.2.1, if_neg (by omega)]
theorem ClK.row {τ : TS} {m l k : Nat} {xs : List Int} (h : ClK σ τ l m) (hr : RowIs σ (k + 1) xs) (hk : l - 1 ≤ k ∧ k + 1 < m) : RowIs τ k xs := by
  obtain ⟨h1, h2, h3⟩ := hr
  refine ⟨?_, h2, fun j hj => ?_⟩
  · rw [h.2.1, if_pos (by omega), ← h1]; exact tix (by omega)
  · rw [h.2.1, if_pos (by omega), ← h3 j hj]; exact tix (by omega)
theorem ClK.same {τ : TS} {m l : Nat} (h : ClK σ τ l m) : RSame (fun k => l - 1 ≤ k ∧ k + 1 < m) σ τ := fun j hj => by
  rw [h.2.1, if_neg (by omega)]
/-- a line is put behind some -/
def linIns (t : List SLine) (b : Nat) (x : SLine) : List SLine := t.take b ++ x :: t.drop b
theorem linIns_len {t : List SLine} {b : Nat} {x : SLine} (hb : b ≤ t.length) : (linIns t b x).length = t.length + 1 := by
  unfold linIns; simp; omega
theorem linIns_lt {t : List SLine} {b k : Nat} {x y : SLine} (hb : b ≤ t.length) (hk : k < b) : (linIns t b x).getD k y = t.getD k y := by
  unfold linIns
  rw [List.getD_eq_getElem?_getD, List.getD_eq_getElem?_getD, List.getElem?_append_left (by simp; omega), List.getElem?_take_of_lt hk]
theorem linIns_eq {t : List SLine} {b : Nat} {x y : SLine} (hb : b ≤ t.length) : (linIns t b x).getD b y = x := by
  unfold linIns
  rw [List.getD_eq_getElem?_getD, List.getElem?_append_right (by simp; omega)]
  simp [Nat.min_eq_left hb]
theorem linIns_gt {t : List SLine} {b k : Nat} {x y : SLine} (hb : b ≤ t.length) (hk : b < k) : (linIns t b x).getD k y = t.getD (k - 1) y := by
  unfold linIns
  rw [List.getD_eq_getElem?_getD, List.getD_eq_getElem?_getD, List.getElem?_append_right (by simp; omega)]
  rw [show k - (t.take b).length = (k - 1 - b) + 1 by simp; omega, List.getElem?_cons_succ, List.getElem?_drop]
  rw [show b + (k - 1 - b) = k - 1 by omega]
theorem T_bring {row b : Nat} {t : List SLine} {xs : List Int} {nid : Int} (ht : TextIs σ t) (hn : t.length < 40) (hb : b ≤ t.length) (hr : RowIs σ row xs) (hrow : 41 ≤ row ∧ row < 868) (hid : (σ.1 17) = nid) (hid2 : 0 ≤ nid ∧ nid < 1000000) : TM (d + 3) tk_bring [.inr 0, .inl row, .inl b] σ (fun r τ => r = none ∧ TextIs τ (linIns t b (nid, xs)) ∧ (τ.1 17) = nid + 1 ∧ RSame (fun k => k < 41) σ τ ∧ TFr [12, 17] [6, 7] σ τ) := by
  obtain ⟨t1, t2, t3⟩ := ht
  refine TM.of rfl rfl ?_
  (repeat (first | (refine TW.getf rfl rfl rfl (fun _ => ?_)) | (refine TW.pl rfl rfl ?_)))
  refine TW.cv1 rfl rfl rfl (by decide) (T_open t1 t2 hb) ?_
  rintro _ _ ⟨rfl, υ, ho, rfl⟩
  (repeat (first | (refine TW.getf rfl rfl rfl (fun _ => ?_)) | (refine TW.pl rfl rfl ?_)))
  refine TW.cv2 rfl rfl rfl (by decide) (T_copyRow (by omega) (by omega)) ?_
  rintro _ τ1 ⟨rfl, hcp⟩
  rw [Int.zero_add] at hcp
  have hn17 : τ1.1 17 = nid := by rw [hcp.1, ts1_ne (by decide), ho.1]; exact hid
  (repeat (first | (refine TW.getf rfl rfl rfl (fun _ => ?_)) | (refine TW.pl rfl rfl ?_)))
  refine TW.iast (n := 41) rfl rfl rfl (by omega) (by omega) ?_
  (repeat (first | (refine TW.getf rfl rfl rfl (fun _ => ?_)) | (refine TW.pl rfl rfl ?_)))
  refine TW.putf rfl rfl (by rw [ts2_1]; omega) ?_
  have hsr : RSame (fun k => k < 41) σ τ1 := fun j hj => by
    rw [hcp.same (n := b) rfl j (by omega), ts1_2, ho.same j (by omega)]
  refine TW.vret rfl ⟨rfl, ⟨?_, ?_, fun k hk => ?_⟩, ?_, fun j hj => ?_, ?_⟩
  · rw [linIns_len hb, ts1_ne (by decide), ts2_1, hcp.1, ts1_eq]; omega
  · rw [linIns_len hb]; omega
  · rw [linIns_len hb] at hk
    have e7 : ∀ i, τ1.2 7 i = υ.2 7 i := fun i => by rw [hcp.2, if_neg (by omega), ts1_2]
    rw [ts1_2, ts2_at, e7]
    rcases Nat.lt_trichotomy k b with z | z | z
    · rw [linIns_lt hb z, if_neg (by omega), ho.2.2.1, if_neg (by omega)]
      refine ⟨RowIs.ts1 (RowIs.ts2 ?_ (by decide)), (t3 k (by omega)).2⟩
      exact (RowIs.ts1 ((t3 k (by omega)).1.same ho.same (by omega))).same (hcp.same (n := b) rfl) (by omega)
    · subst z
      rw [linIns_eq hb, if_pos (by omega)]
      refine ⟨RowIs.ts1 (RowIs.ts2 ?_ (by decide)), hn17⟩
      exact CpK.row hcp (RowIs.ts1 (hr.same ho.same (by omega)))
    · rw [linIns_gt hb z, if_neg (by omega), ho.2.2.1, if_pos (by omega)]
      refine ⟨RowIs.ts1 (RowIs.ts2 ?_ (by decide)), (t3 (k - 1) (by omega)).2⟩
      have := ho.row (t3 (k - 1) (by omega)).1 (by omega)
      rw [show k - 1 + 1 = k by omega] at this
      exact (RowIs.ts1 this).same (hcp.same rfl) (by omega)
  · rw [ts1_eq, ts2_1, hn17]
  · rw [ts1_2, ts2_ne (by decide)]; exact hsr j hj
  · refine TFr.ts1 (TFr.ts2 ⟨fun k hk => ?_, fun a ha => ?_⟩ (by decide)) (by decide)
    · rw [hcp.1, ts1_ne (fun z => hk (by rw [z]; decide)), ho.1]
    · rw [hcp.fr.2 a (fun z => ha (by simp at z ⊢; exact Or.inl z)), ts1_2]; exact ho.2.2.2 a ha
/-- the marks: an id each, or none -/
def MarksIs (σ : TS) (m : Nat → Option Int) : Prop := ∀ k, k < 5 → (σ.2 10 (k)) = (m k).getD (-1) ∧ ∀ x, m k = some x → 0 ≤ x
def unmk (m : Nat → Option Int) (x : Int) : Nat → Option Int := fun k => if m k = some x then none else m k
theorem T_unmark {x : Int} {m : Nat → Option Int} (hm : MarksIs σ m) (hx : 0 ≤ x ∧ x < 1000000) : TM (d + 1) tk_unmark [.inr 0, .inl x] σ (fun r τ => r = none ∧ MarksIs τ (unmk m x) ∧ TFr [] [10] σ τ) := by
  refine TM.of rfl rfl ?_
  (iterate 2 (first | (refine TW.getf rfl rfl rfl (fun _ => ?_)) | (refine TW.pl rfl rfl ?_)))
  have loop : ∀ (n : Nat) (k : Int) (τ : TS), 0 ≤ k → k + n = 5 → (∀ j, j < 5 → (τ.2 10 (j)) = if (j : Int) < k then (unmk m x j).getD (-1) else (m j).getD (-1)) → TFr [] [10] σ τ → TW d tc_unmark 2 [some (.inr 0), some (.inl x), some (.inl k)] [] τ (fun r τ => r = none ∧ MarksIs τ (unmk m x) ∧ TFr [] [10] σ τ) := by
    intro n
    induction n with
    | zero =>
      intro k τ h0 hk hc hf
      (repeat (first | (refine TW.getf rfl rfl rfl (fun _ => ?_)) | (refine TW.pl rfl rfl ?_)))
      refine TW.ic_ge rfl (by omega) (by decide) (fun h3 => ?_) (fun h3 => by omega)
      refine TW.vret rfl ⟨rfl, fun j hj => ⟨?_, fun y hy => ?_⟩, hf⟩
      · rw [hc j hj, if_pos (by omega)]
      · unfold unmk at hy
        split at hy
        · cases hy
        · exact (hm j hj).2 y hy
    | succ n ih =>
      intro k τ h0 hk hc hf
      have hk5 : k.toNat < 5 := by omega
      have hck := hc k.toNat hk5
      rw [if_neg (by omega)] at hck
      (repeat (first | (refine TW.getf rfl rfl rfl (fun _ => ?_)) | (refine TW.pl rfl rfl ?_)))
      refine TW.ic_ge rfl (by omega) (by decide) (fun h3 => by omega) (fun h3 => ?_)
      (repeat (first | (refine TW.getf rfl rfl rfl (fun _ => ?_)) | (refine TW.pl rfl rfl ?_)))
      refine TW.iald (n := 5) rfl rfl rfl (by omega) (fun _ => ?_)
      (repeat (first | (refine TW.getf rfl rfl rfl (fun _ => ?_)) | (refine TW.pl rfl rfl ?_)))
      refine TW.ic_ne rfl (by assumption) (by omega) (fun h4 => ?_) (fun h4 => ?_)
      · (repeat (first | (refine TW.getf rfl rfl rfl (fun _ => ?_)) | (refine TW.pl rfl rfl ?_)))
        refine TW.iald (n := 5) rfl rfl rfl (by omega) (fun _ => ?_)
        refine TW.iast (n := 5) rfl rfl rfl (by omega) (by assumption) ?_
        (iterate 2 (first | (refine TW.getf rfl rfl rfl (fun _ => ?_)) | (refine TW.pl rfl rfl ?_)))
        refine ih (k + 1) _ (by omega) (by omega) (fun j hj => ?_) (hf.ts2 (by decide))
        rw [ts2_at]
        by_cases e : j = k.toNat
        · subst e
          rw [if_pos rfl, if_pos (by omega), hck]
          unfold unmk
          rw [if_neg (fun z => h4 (by rw [hck, z]; rfl))]
        · rw [if_neg e, hc j hj]
          by_cases e2 : (j : Int) < k
          · rw [if_pos e2, if_pos (by omega)]
          · rw [if_neg e2, if_neg (by omega)]
      · (repeat (first | (refine TW.getf rfl rfl rfl (fun _ => ?_)) | (refine TW.pl rfl rfl ?_)))
        refine TW.iast (n := 5) rfl rfl rfl (by omega) (by decide) ?_
        (iterate 2 (first | (refine TW.getf rfl rfl rfl (fun _ => ?_)) | (refine TW.pl rfl rfl ?_)))
        refine ih (k + 1) _ (by omega) (by omega) (fun j hj => ?_) (hf.ts2 (by decide))
        rw [ts2_at]
        by_cases e : j = k.toNat
        · subst e
          rw [if_pos rfl, if_pos (by omega)]
          unfold unmk
          rw [hck] at h4
          cases hmk : m k.toNat with
          | none => rfl
          | some y =>
            rw [hmk] at h4
            have h4 : y = x := h4
            rw [h4, if_pos rfl]; rfl
        · rw [if_neg e, hc j hj]
          by_cases e2 : (j : Int) < k
          · rw [if_pos e2, if_pos (by omega)]
          · rw [if_neg e2, if_neg (by omega)]
  exact loop 5 0 σ (by decide) rfl (fun j hj => by rw [if_neg (by omega)]; exact (hm j hj).1) TFr.rf
theorem MarksIs.fr {τ : TS} {m : Nat → Option Int} (h : MarksIs σ m) (hs : τ.2 10 = σ.2 10) : MarksIs τ m := by
  unfold MarksIs at h ⊢
  rw [hs]
  exact h
theorem TextIs.fr {τ : TS} {t : List SLine} (h : TextIs σ t) (h1 : τ.1 12 = σ.1 12) (h2 : τ.2 6 = σ.2 6) (h3 : τ.2 7 = σ.2 7) : TextIs τ t := by
  unfold TextIs RowIs at h ⊢
  rw [h1, h2, h3]
  exact h
theorem erase_lt {t : List SLine} {l k : Nat} {y : SLine} (hk : k < l) : (t.eraseIdx l).getD k y = t.getD k y := by
  rw [List.getD_eq_getElem?_getD, List.getD_eq_getElem?_getD, List.getElem?_eraseIdx, if_pos hk]
theorem erase_ge {t : List SLine} {l k : Nat} {y : SLine} (hk : l ≤ k) : (t.eraseIdx l).getD k y = t.getD (k + 1) y := by
  rw [List.getD_eq_getElem?_getD, List.getD_eq_getElem?_getD, List.getElem?_eraseIdx, if_neg (by omega)]
theorem TextIs.erase {τ : TS} {t : List SLine} {l : Nat} (h : TextIs σ t) (hl : 1 ≤ l ∧ l ≤ t.length) (hc : ClK σ τ l t.length) : TextIs (ts1 τ 12 ((t.length : Nat) - 1)) (t.eraseIdx (l - 1)) := by
  obtain ⟨t1, t2, t3⟩ := h
  have hlen : (t.eraseIdx (l - 1)).length = t.length - 1 := List.length_eraseIdx_of_lt (by omega)
  refine ⟨?_, by omega, fun k hk => ?_⟩
  · rw [ts1_eq, hlen]; omega
  · rw [hlen] at hk
    rw [ts1_2]
    rcases Nat.lt_or_ge k (l - 1) with z | z
    · rw [erase_lt z, hc.2.2.1, if_neg (by omega)]
      exact ⟨RowIs.ts1 ((t3 k (by omega)).1.same hc.same (by omega)), (t3 k (by omega)).2⟩
    · rw [erase_ge z, hc.2.2.1, if_pos (by omega)]
      exact ⟨RowIs.ts1 (hc.row (t3 (k + 1) (by omega)).1 (by omega)), (t3 (k + 1) (by omega)).2⟩
theorem T_goes {l : Nat} {t : List SLine} {m : Nat → Option Int} (ht : TextIs σ t) (hm : MarksIs σ m) (hl : 1 ≤ l ∧ l ≤ t.length) (hid : 0 ≤ (t.getD (l - 1) (0, [])).1 ∧ (t.getD (l - 1) (0, [])).1 < 1000000) : TM (d + 3) tk_goes [.inr 0, .inl l] σ (fun r τ => r = none ∧ TextIs τ (t.eraseIdx (l - 1)) ∧ MarksIs τ (unmk m (t.getD (l - 1) (0, [])).1) ∧ RSame (fun k => k < 41) σ τ ∧ TFr [12] [6, 7, 10] σ τ) := by
  obtain ⟨t1, t2, t3⟩ := id ht
  refine TM.of rfl rfl ?_
  (repeat (first | (refine TW.getf rfl rfl rfl (fun _ => ?_)) | (refine TW.pl rfl rfl ?_)))
  refine TW.iald (n := 41) rfl rfl rfl (by omega) (fun _ => ?_)
  have e1 : σ.2 7 ((l : Int) - 1).toNat = (t.getD (l - 1) (0, [])).1 := (tix (by omega)).trans (t3 (l - 1) (by omega)).2
  rw [e1]
  refine TW.cv1 rfl rfl rfl (by decide) (T_unmark hm hid) ?_
  rintro _ τ1 ⟨rfl, hm1, hf1⟩
  have ht1 : TextIs τ1 t := ht.fr (hf1.1 12 (by decide)) (hf1.2 6 (by decide)) (hf1.2 7 (by decide))
  (repeat (first | (refine TW.getf rfl rfl rfl (fun _ => ?_)) | (refine TW.pl rfl rfl ?_)))
  refine TW.cv1 rfl rfl rfl (by decide) (T_close ht1.1 t2 hl) ?_
  rintro _ _ ⟨rfl, υ, hc, rfl⟩
  refine TW.vret rfl ⟨rfl, ht1.erase hl hc, ?_, fun j hj => ?_, ?_⟩
  · exact hm1.fr (hc.2.2.2 10 (by decide))
  · rw [ts1_2, hc.same j (by omega), hf1.2 6 (by decide)]
  · refine TFr.ts1 ⟨fun k hk => ?_, fun a ha => ?_⟩ (by decide)
    · rw [hc.1]; exact hf1.1 k (by simp)
    · have ha2 : a ≠ 6 ∧ a ≠ 7 ∧ a ≠ 10 := by simpa using ha
      rw [hc.2.2.2 a (by simp; omega)]; exact hf1.2 a (by simpa using ha2.2.2)
/-- the line that has an id, from 1; 0 if none has -/
def linNo (t : List SLine) (x : Int) : Nat := match t.findIdx? (fun q => q.1 == x) with
  | some k => k + 1
  | none => 0
theorem T_lineWith {x : Int} {t : List SLine} (ht : TextIs σ t) (hx : inR x) : TE (d + 1) tk_lineWith [.inr 0, .inl x] σ (some (linNo t x)) σ := by
  obtain ⟨t1, t2, t3⟩ := ht
  refine TM.of rfl rfl ?_
  (iterate 2 (first | (refine TW.getf rfl rfl rfl (fun _ => ?_)) | (refine TW.pl rfl rfl ?_)))
  have loop : ∀ (n : Nat) (k : Int), 0 ≤ k → k + n = t.length → (∀ j : Nat, (j : Int) < k → (t.getD j (0, [])).1 ≠ x) → TW d tc_lineWith 2 [some (.inr 0), some (.inl x), some (.inl k)] [] σ (fun r' σ' => some ((linNo t x : Nat) : Int) = r' ∧ σ = σ') := by
    intro n
    induction n with
    | zero =>
      intro k h0 hk hn
      (repeat (first | (refine TW.getf rfl rfl rfl (fun _ => ?_)) | (refine TW.pl rfl rfl ?_)))
      refine TW.ic_ge rfl (by omega) (by omega) (fun h3 => ?_) (fun h3 => by omega)
      (repeat (first | (refine TW.getf rfl rfl rfl (fun _ => ?_)) | (refine TW.pl rfl rfl ?_)))
      refine TW.iret rfl ⟨?_, rfl⟩
      unfold linNo
      rw [List.findIdx?_eq_none_iff.mpr]
      · rfl
      · intro q hq
        obtain ⟨j, hj⟩ := List.mem_iff_getElem?.mp hq
        have := hn j (by have := (List.getElem?_eq_some_iff.mp hj).1; omega)
        rw [List.getD_eq_getElem?_getD, hj] at this
        simpa using this
    | succ n ih =>
      intro k h0 hk hn
      (repeat (first | (refine TW.getf rfl rfl rfl (fun _ => ?_)) | (refine TW.pl rfl rfl ?_)))
      refine TW.ic_ge rfl (by omega) (by omega) (fun h3 => by omega) (fun h3 => ?_)
      (repeat (first | (refine TW.getf rfl rfl rfl (fun _ => ?_)) | (refine TW.pl rfl rfl ?_)))
      refine TW.iald (n := 41) rfl rfl rfl (by omega) (fun _ => ?_)
      (repeat (first | (refine TW.getf rfl rfl rfl (fun _ => ?_)) | (refine TW.pl rfl rfl ?_)))
      have e1 := (t3 k.toNat (by omega)).2
      refine TW.ic_ne rfl (by assumption) hx (fun h4 => ?_) (fun h4 => ?_)
      · (iterate 2 (first | (refine TW.getf rfl rfl rfl (fun _ => ?_)) | (refine TW.pl rfl rfl ?_)))
        refine ih (k + 1) (by omega) (by omega) (fun j hj => ?_)
        by_cases e : (j : Int) = k
        · rw [show j = k.toNat by omega, ← e1]; exact h4
        · exact hn j (by omega)
      · (repeat (first | (refine TW.getf rfl rfl rfl (fun _ => ?_)) | (refine TW.pl rfl rfl ?_)))
        refine TW.iret rfl ⟨?_, rfl⟩
        unfold linNo
        have hf : t.findIdx? (fun q => q.1 == x) = some k.toNat := by
          rw [List.findIdx?_eq_some_iff_getElem]
          refine ⟨by omega, ?_, fun j hj => ?_⟩
          · have : (t.getD k.toNat (0, [])).1 = x := by rw [← e1]; exact h4
            rw [List.getD_eq_getElem?_getD, List.getElem?_eq_getElem (by omega)] at this
            simpa using this
          · have := hn j (by omega)
            rw [List.getD_eq_getElem?_getD, List.getElem?_eq_getElem (by omega)] at this
            simpa using this
        rw [hf]
        show some (((k.toNat + 1 : Nat) : Int)) = some (k + 1)
        congr 1
        omega
  exact loop t.length 0 (by decide) (by omega) (fun j hj => by omega)
end TLines
