set_option maxRecDepth 100000
/-! the twin's acts: rows that are copied -/
theorem getD_app9 {α : Type} {a b : List α} {i : Nat} {y : α} : (a ++ b).getD (a.length + i) y = b.getD i y := by
  rw [List.getD_eq_getElem?_getD, List.getD_eq_getElem?_getD, List.getElem?_append_right (Nat.le_add_right _ _), Nat.add_sub_cancel_left]
theorem getD_apl {α : Type} {a b : List α} {i : Nat} {y : α} (h : i < a.length) : (a ++ b).getD i y = a.getD i y := by
  rw [List.getD_eq_getElem?_getD, List.getD_eq_getElem?_getD, List.getElem?_append_left h]
theorem rowsOfL_getD {ls : List SLine} {i : Nat} : (rowsOfL ls).getD i [] = (ls.getD i (0, [])).2 := by
  unfold rowsOfL
  rw [List.getD_eq_getElem?_getD, List.getD_eq_getElem?_getD, List.getElem?_map]
  cases ls[i]? <;> rfl
theorem idsOfL_getD {ls : List SLine} {i : Nat} : (idsOfL ls).getD i 0 = (ls.getD i (0, [])).1 := by
  unfold idsOfL
  rw [List.getD_eq_getElem?_getD, List.getD_eq_getElem?_getD, List.getElem?_map]
  cases ls[i]? <;> rfl
theorem rowsOfL_len {ls : List SLine} : (rowsOfL ls).length = ls.length := List.length_map _
/-- the first j of xs stand from a row on -/
def RowsTo (σ : TS) (b : Nat) (xs : List (List Int)) (j : Nat) : Prop := ∀ i, i < j → RowIs σ (b + i) (xs.getD i [])
section TCop
variable {d : Nat} {σ τ : TS} {s l l1 : List Int} {fs as : List Nat} {pre mid post t : List SLine} {p : Nat} {h o : List (List Int)} {fi : Nat → List (List Int)} {m : Nat → Option Int} {n : Int} {rp : Bool} {rs : List (List Int)}
theorem RowsTo.all {b : Nat} (hr : RowsTo σ b rs rs.length) : RowsIs σ b rs := hr
theorem RowsTo.snoc {b j : Nat} {xs : List Int} (hr : RowsTo σ b rs j) (hx : RowIs τ (b + j) xs) (he : xs = rs.getD j []) (hs : RSame (fun k => k = b + j) σ τ) : RowsTo τ b rs (j + 1) := by
  intro i hi
  by_cases e : i = j
  · subst e; rw [← he]; exact hx
  · exact (hr i (by omega)).same hs (by omega)
theorem TextIs.midRow (ht : TextIs σ (pre ++ mid ++ post)) {i : Nat} (hi : i < mid.length) : RowIs σ (pre.length + i) (mid.getD i (0, [])).2 ∧ σ.2 7 (pre.length + i) = (mid.getD i (0, [])).1 := by
  have := ht.2.2 (pre.length + i) (by simp; omega)
  rw [List.append_assoc, getD_app9, getD_apl hi] at this
  exact this
theorem TA.lenM (hA : TA (pre ++ mid ++ post, p, h, o, fi, m, n, rp) σ) : σ.1 12 = pre.length + mid.length + post.length ∧ pre.length + mid.length + post.length ≤ 40 := by
  have h1 := hA.1.1; have h2 := hA.1.2.1
  simp at h1 h2
  omega
theorem TA.len2 (hA : TA (pre ++ post, p, h, o, fi, m, n, rp) σ) : σ.1 12 = pre.length + post.length ∧ pre.length + post.length ≤ 40 := by
  have h1 := hA.1.1; have h2 := hA.1.2.1
  simp at h1 h2
  omega
theorem TA.heldR (hA : TA (t, p, h, o, fi, m, n, rp) σ) : σ.1 14 = h.length ∧ h.length ≤ 40 ∧ RowsIs σ 82 h := hA.2.2.1.1
theorem TA.fileR (hA : TA (t, p, h, o, fi, m, n, rp) σ) {k : Nat} (hk : k < 4) : σ.2 11 k = (fi k).length ∧ (fi k).length ≤ 40 ∧ RowsIs σ (123 + 41 * k) (fi k) := hA.2.2.1.2.2 k hk
theorem TA.held {h' : List (List Int)} (hA : TA (t, p, h, o, fi, m, n, rp) σ) (hn : τ.1 14 = h'.length ∧ h'.length ≤ 40 ∧ RowsIs τ 82 h') (hf : TFr fs as σ τ) (hs : RSame (fun k => (82 ≤ k ∧ k < 123) ∨ 388 ≤ k) σ τ) (h1 : ∀ k ∈ [12, 15, 16, 17, 44], k ∉ fs) (h2 : ∀ k ∈ [7, 10, 11], k ∉ as) : TA (t, p, h', o, fi, m, n, rp) τ := by
  obtain ⟨a, b, c, e, g, i⟩ := hA
  refine ⟨a.same hf hs (h1 12 (by decide)) (h2 7 (by decide)) (fun k z => by omega), (hf.1 16 (h1 16 (by decide))).trans b, ⟨hn, ⟨(hf.1 15 (h1 15 (by decide))).trans c.2.1.1, c.2.1.2.1, c.2.1.2.2.same hs (fun k hk z => by have := c.2.1.2.1; omega)⟩, fun k hk => ?_⟩, e.fr (hf.2 10 (h2 10 (by decide))), (hf.1 17 (h1 17 (by decide))).trans g, (hf.1 44 (h1 44 (by decide))).trans i⟩
  obtain ⟨c1, c2, c3⟩ := c.2.2 k hk
  rw [hf.2 11 (h2 11 (by decide))]
  exact ⟨c1, c2, c3.same hs (fun j hj z => by omega)⟩
theorem TA.file {q : Nat} {f' : List (List Int)} (hq : q < 4) (hA : TA (t, p, h, o, fi, m, n, rp) σ) (hn : τ.2 11 q = f'.length ∧ f'.length ≤ 40 ∧ RowsIs τ (123 + 41 * q) f') (hf : TFr fs as σ τ) (hs : RSame (fun k => 123 + 41 * q ≤ k ∧ k < 164 + 41 * q) σ τ) (h1 : ∀ k ∈ [12, 14, 15, 16, 17, 44], k ∉ fs) (h2 : ∀ k ∈ [7, 10], k ∉ as) (h3 : ∀ k, k ≠ q → τ.2 11 k = σ.2 11 k) : TA (t, p, h, o, fup fi q f', m, n, rp) τ := by
  obtain ⟨a, b, c, e, g, i⟩ := hA
  refine ⟨a.same hf hs (h1 12 (by decide)) (h2 7 (by decide)) (fun k z => by omega), (hf.1 16 (h1 16 (by decide))).trans b, ⟨⟨(hf.1 14 (h1 14 (by decide))).trans c.1.1, c.1.2.1, c.1.2.2.same hs (fun k hk z => by have := c.1.2.1; omega)⟩, ⟨(hf.1 15 (h1 15 (by decide))).trans c.2.1.1, c.2.1.2.1, c.2.1.2.2.same hs (fun k hk z => by have := c.2.1.2.1; omega)⟩, fun k hk => ?_⟩, e.fr (hf.2 10 (h2 10 (by decide))), (hf.1 17 (h1 17 (by decide))).trans g, (hf.1 44 (h1 44 (by decide))).trans i⟩
  show τ.2 11 k = ((fup fi q f' k).length : Int) ∧ (fup fi q f' k).length ≤ 40 ∧ RowsIs τ (123 + 41 * k) (fup fi q f' k)
  have hfu : fup fi q f' k = if k = q then f' else fi k := rfl
  rw [hfu]
  by_cases e : k = q
  · rw [if_pos e, e]; exact hn
  · rw [if_neg e, h3 k e]
    obtain ⟨c1, c2, c3⟩ := c.2.2 k hk
    exact ⟨c1, c2, c3.same hs (fun j hj z => by omega)⟩
theorem T_fileRow {u v : Int} {k j : Nat} (hu : u = k) (hv : v = j) : TE (d + 1) tk_fileRow [.inl u, .inl v] σ (some ((123 + 41 * k + j : Nat) : Int)) σ := by
  refine TM.of rfl rfl ?_
  (repeat (first | (refine TW.getf rfl rfl rfl (fun _ => ?_)) | (refine TW.pl rfl rfl ?_)))
  refine TW.iret rfl ⟨?_, rfl⟩
  exact congrArg some (by omega)
theorem T_hold {first : Nat} (hA : TA (pre ++ mid ++ post, p, h, o, fi, m, n, rp) σ) (hfi : first ≤ h.length) (hf : (σ.1 42) = pre.length + 1) (hl : (σ.1 43) = pre.length + mid.length) : TM (d + 2) tk_hold [.inr 0, .inl first] σ (ActQ σ (if 40 < first + mid.length then .inl 4 else .inr (pre ++ mid ++ post, pre.length + mid.length, h.take first ++ rowsOfL mid, o, fi, m, n, rp))) := by
  obtain ⟨h12, h40⟩ := hA.lenM
  obtain ⟨h14, hh40, hhr⟩ := hA.heldR
  refine TM.of rfl rfl ?_
  (repeat (first | (refine TW.getf rfl rfl rfl (fun _ => ?_)) | (refine TW.pl rfl rfl ?_)))
  refine TW.br rfl rfl (by first | omega | exact b2i_R _ | exact ⟨b2i_R _, by omega⟩) (fun q1 => ?_) (fun q1 => ?_)
  · rw [if_neg (by omega)]
    (iterate 3 (first | (refine TW.getf rfl rfl rfl (fun _ => ?_)) | (refine TW.pl rfl rfl ?_)))
    have loop : ∀ (q j : Nat) (k : Int) (τ : TS), j + q = mid.length → k = pre.length + 1 + j → RowsTo τ (82 + first) (rowsOfL mid) j → RSame (fun k => 82 + first ≤ k ∧ k < 123) σ τ → TFr [] [6] σ τ → TW (d + 1) tc_hold 16 [some (.inr 0), some (.inl first), some (.inl k)] [] τ (ActQ σ (.inr (pre ++ mid ++ post, pre.length + mid.length, h.take first ++ rowsOfL mid, o, fi, m, n, rp))) := by
      intro q
      induction q with
      | zero =>
        intro j k τ hj hk hr hs hfr
        have h42 : τ.1 42 = pre.length + 1 := (hfr.1 42 (by decide)).trans hf
        have h43 : τ.1 43 = pre.length + mid.length := (hfr.1 43 (by decide)).trans hl
        have hlen : (h.take first ++ rowsOfL mid).length = first + mid.length := by rw [List.length_append, rowsOfL_len, List.length_take]; omega
        (repeat (first | (refine TW.getf rfl rfl rfl (fun _ => ?_)) | (refine TW.pl rfl rfl ?_)))
        refine TW.br rfl rfl (by first | omega | exact b2i_R _ | exact ⟨b2i_R _, by omega⟩) (fun q2 => ?_) (fun q2 => ?_)
        · (repeat (first | (refine TW.getf rfl rfl rfl (fun _ => ?_)) | (refine TW.pl rfl rfl ?_)))
          refine TW.putf rfl rfl (by omega) ?_
          (repeat (first | (refine TW.getf rfl rfl rfl (fun _ => ?_)) | (refine TW.pl rfl rfl ?_)))
          refine TW.putf rfl rfl (by omega) ?_
          (repeat (first | (refine TW.getf rfl rfl rfl (fun _ => ?_)) | (refine TW.pl rfl rfl ?_)))
          have hf2 : TFr [14, 16] [6] σ (ts1 τ 14 (first + τ.1 43 - τ.1 42 + 1)) := (hfr.mono (fs' := [14, 16]) (as' := [6]) (by decide) (by decide)).ts1 (by decide)
          refine TW.iret rfl ⟨AX.row (hf2.ts1 (by decide)) (P := fun k => 82 + first ≤ k ∧ k < 123) hs.t1.t1 (by decide) (by decide) (fun k z => by omega), rfl, TA.pres (hA.held (τ := ts1 τ 14 (first + τ.1 43 - τ.1 42 + 1)) ⟨?_, ?_, ?_⟩ ((hfr.mono (fs' := [14]) (as' := [6]) (by decide) (by decide)).ts1 (by decide)) (fun k z => hs k (fun y => z (Or.inl ⟨by omega, y.2⟩))) (by decide) (by decide)) (by rw [ts1_ne (by decide), h43]; omega)⟩
          · rw [ts1_eq, hlen]; omega
          · omega
          · intro k hk
            rw [hlen] at hk
            refine RowIs.ts1 ?_
            by_cases e : k < first
            · rw [getD_apl (by rw [List.length_take]; omega)]
              have := hhr k (by omega)
              rw [show (h.take first).getD k [] = h.getD k [] by rw [List.getD_eq_getElem?_getD, List.getElem?_take_of_lt e, ← List.getD_eq_getElem?_getD]]
              exact this.same hs (by omega)
            · have := hr (k - first) (by omega)
              rw [show 82 + first + (k - first) = 82 + k by omega] at this
              rw [show k = (h.take first).length + (k - first) by rw [List.length_take]; omega, getD_app9]
              rw [show (h.take first).length + (k - first) = k by rw [List.length_take]; omega]
              exact this
        · omega
      | succ q ih =>
        intro j k τ hj hk hr hs hfr
        have h42 : τ.1 42 = pre.length + 1 := (hfr.1 42 (by decide)).trans hf
        have h43 : τ.1 43 = pre.length + mid.length := (hfr.1 43 (by decide)).trans hl
        (repeat (first | (refine TW.getf rfl rfl rfl (fun _ => ?_)) | (refine TW.pl rfl rfl ?_)))
        refine TW.br rfl rfl (by first | omega | exact b2i_R _ | exact ⟨b2i_R _, by omega⟩) (fun q2 => ?_) (fun q2 => ?_)
        · omega
        (repeat (first | (refine TW.getf rfl rfl rfl (fun _ => ?_)) | (refine TW.pl rfl rfl ?_)))
        refine TW.cs1 rfl rfl rfl (Nat.le_of_ble_eq_true rfl) (T_textRow (k := pre.length + j) (by omega) (by omega)) ?_; rintro _ _ ⟨rfl, rfl⟩
        (repeat (first | (refine TW.getf rfl rfl rfl (fun _ => ?_)) | (refine TW.pl rfl rfl ?_)))
        refine TW.cv2 rfl rfl rfl (Nat.le_of_ble_eq_true rfl) (T_cpRow (a := pre.length + j) (b := 82 + first + j) ((hA.1.midRow (i := j) (by omega)).1.same hs (by omega)) rfl (by omega) (by omega) (by omega)) ?_
        rintro _ τ1 ⟨rfl, hr1, hs1, hf1⟩
        (iterate 2 (first | (refine TW.getf rfl rfl rfl (fun _ => ?_)) | (refine TW.pl rfl rfl ?_)))
        exact ih (j + 1) (k + 1) τ1 (by omega) (by omega) (hr.snoc hr1 rowsOfL_getD.symm hs1) (fun i hi => (hs1 i (fun z => hi (by omega))).trans (hs i hi)) (hfr.trans hf1)
    exact loop mid.length 0 _ σ (by omega) (by omega) (fun i hi => absurd hi (Nat.not_lt_zero _)) (fun _ _ => rfl) TFr.rf
  · rw [if_pos (by omega)]
    (repeat (first | (refine TW.getf rfl rfl rfl (fun _ => ?_)) | (refine TW.pl rfl rfl ?_)))
    exact TW.iret rfl ⟨AX.rf, rfl⟩
theorem T_writeFile {q0 : Nat} {u : Int} (hA : TA (pre ++ mid ++ post, p, h, o, fi, m, n, rp) σ) (hu : u = q0) (hq0 : q0 < 4) (hf : (σ.1 42) = pre.length + 1) (hl : (σ.1 43) = pre.length + mid.length) : TM (d + 2) tk_writeFile [.inr 0, .inl u] σ (ActQ σ (.inr (pre ++ mid ++ post, p, h, o, fup fi q0 (rowsOfL mid), m, n, rp))) := by
  obtain ⟨h12, h40⟩ := hA.lenM
  refine TM.of rfl rfl ?_
  (iterate 3 (first | (refine TW.getf rfl rfl rfl (fun _ => ?_)) | (refine TW.pl rfl rfl ?_)))
  have loop : ∀ (q j : Nat) (k : Int) (τ : TS), j + q = mid.length → k = pre.length + 1 + j → RowsTo τ (123 + 41 * q0) (rowsOfL mid) j → RSame (fun k => 123 + 41 * q0 ≤ k ∧ k < 164 + 41 * q0) σ τ → TFr [] [6] σ τ → TW (d + 1) tc_writeFile 3 [some (.inr 0), some (.inl u), some (.inl k)] [] τ (ActQ σ (.inr (pre ++ mid ++ post, p, h, o, fup fi q0 (rowsOfL mid), m, n, rp))) := by
    intro q
    induction q with
    | zero =>
      intro j k τ hj hk hr hs hfr
      have h42 : τ.1 42 = pre.length + 1 := (hfr.1 42 (by decide)).trans hf
      have h43 : τ.1 43 = pre.length + mid.length := (hfr.1 43 (by decide)).trans hl
      (repeat (first | (refine TW.getf rfl rfl rfl (fun _ => ?_)) | (refine TW.pl rfl rfl ?_)))
      refine TW.br rfl rfl (by first | omega | exact b2i_R _ | exact ⟨b2i_R _, by omega⟩) (fun q2 => ?_) (fun q2 => ?_)
      · (repeat (first | (refine TW.getf rfl rfl rfl (fun _ => ?_)) | (refine TW.pl rfl rfl ?_)))
        refine TW.iast (n := 4) rfl rfl rfl (by omega) (by omega) ?_
        (repeat (first | (refine TW.getf rfl rfl rfl (fun _ => ?_)) | (refine TW.pl rfl rfl ?_)))
        have e11 : ∀ k v, k ≠ q0 → (ts2 τ 11 u.toNat v).2 11 k = σ.2 11 k := fun k v hk => by rw [ts2_at, if_neg (by omega), hfr.2 11 (by decide)]
        refine TW.iret rfl ⟨AX.row ((hfr.mono (fs' := []) (as' := [6, 11]) (by decide) (by decide)).ts2 (by decide)) (P := fun k => 123 + 41 * q0 ≤ k ∧ k < 164 + 41 * q0) (fun i hi => ?_) (by decide) (by decide) (fun k z => by omega), rfl, TA.file hq0 hA ⟨?_, ?_, ?_⟩ ((hfr.mono (fs' := []) (as' := [6, 11]) (by decide) (by decide)).ts2 (by decide)) (fun i hi => ?_) (by decide) (by decide) (fun k hk => e11 k _ hk)⟩
        · rw [ts2_ne (by decide)]; exact hs i hi
        · rw [ts2_at, if_pos (by omega), rowsOfL_len]; omega
        · rw [rowsOfL_len]; omega
        · intro i hi
          rw [rowsOfL_len] at hi
          exact RowIs.ts2 (hr i (by omega)) (by decide)
        · rw [ts2_ne (by decide)]; exact hs i hi
      · omega
    | succ q ih =>
      intro j k τ hj hk hr hs hfr
      have h42 : τ.1 42 = pre.length + 1 := (hfr.1 42 (by decide)).trans hf
      have h43 : τ.1 43 = pre.length + mid.length := (hfr.1 43 (by decide)).trans hl
      (repeat (first | (refine TW.getf rfl rfl rfl (fun _ => ?_)) | (refine TW.pl rfl rfl ?_)))
      refine TW.br rfl rfl (by first | omega | exact b2i_R _ | exact ⟨b2i_R _, by omega⟩) (fun q2 => ?_) (fun q2 => ?_)
      · omega
      (repeat (first | (refine TW.getf rfl rfl rfl (fun _ => ?_)) | (refine TW.pl rfl rfl ?_)))
      refine TW.cs1 rfl rfl rfl (Nat.le_of_ble_eq_true rfl) (T_textRow (k := pre.length + j) (by omega) (by omega)) ?_; rintro _ _ ⟨rfl, rfl⟩
      (repeat (first | (refine TW.getf rfl rfl rfl (fun _ => ?_)) | (refine TW.pl rfl rfl ?_)))
      refine TW.cs2 rfl rfl rfl (Nat.le_of_ble_eq_true rfl) (T_fileRow (k := q0) (j := j) hu (by omega)) ?_; rintro _ _ ⟨rfl, rfl⟩
      (repeat (first | (refine TW.getf rfl rfl rfl (fun _ => ?_)) | (refine TW.pl rfl rfl ?_)))
      refine TW.cv2 rfl rfl rfl (Nat.le_of_ble_eq_true rfl) (T_cpRow (a := pre.length + j) (b := 123 + 41 * q0 + j) ((hA.1.midRow (i := j) (by omega)).1.same hs (by omega)) rfl rfl (by omega) (by omega)) ?_
      rintro _ τ1 ⟨rfl, hr1, hs1, hf1⟩
      (iterate 2 (first | (refine TW.getf rfl rfl rfl (fun _ => ?_)) | (refine TW.pl rfl rfl ?_)))
      exact ih (j + 1) (k + 1) τ1 (by omega) (by omega) (hr.snoc hr1 rowsOfL_getD.symm hs1) (fun i hi => (hs1 i (fun z => hi (by omega))).trans (hs i hi)) (hfr.trans hf1)
  exact loop mid.length 0 _ σ (by omega) (by omega) (fun i hi => absurd hi (Nat.not_lt_zero _)) (fun _ _ => rfl) TFr.rf
theorem T_bringHeld (hA : TA (pre ++ post, p, h, o, fi, m, n, rp) σ) (hl : (σ.1 43) = pre.length) (hn : 0 ≤ n ∧ n < 900000) : TM (d + 4) tk_bringHeld [.inr 0] σ (ActQ σ (if h = [] then .inl 5 else sIns (pre ++ post, p, h, o, fi, m, n, rp) pre.length h)) := by
  obtain ⟨h12, h40⟩ := hA.len2
  obtain ⟨h14, hh40, hhr⟩ := hA.heldR
  rw [sIns_z]
  refine TM.of rfl rfl ?_
  (repeat (first | (refine TW.getf rfl rfl rfl (fun _ => ?_)) | (refine TW.pl rfl rfl ?_)))
  refine TW.br rfl rfl (by first | omega | exact b2i_R _ | exact ⟨b2i_R _, by omega⟩) (fun q0 => ?_) (fun q0 => ?_)
  · have : h ≠ [] := fun z => by rw [z] at h14; exact q0 h14
    rw [if_neg this]
    (repeat (first | (refine TW.getf rfl rfl rfl (fun _ => ?_)) | (refine TW.pl rfl rfl ?_)))
    refine TW.br rfl rfl (by first | omega | exact b2i_R _ | exact ⟨b2i_R _, by omega⟩) (fun q1 => ?_) (fun q1 => ?_)
    · rw [if_neg (by omega)]
      (iterate 2 (first | (refine TW.getf rfl rfl rfl (fun _ => ?_)) | (refine TW.pl rfl rfl ?_)))
      have loop : ∀ (q j : Nat) (k : Int) (pre' : List SLine) (n' : Int) (τ : TS), j + q = h.length → k = j → pre'.length = pre.length + j → TA (pre' ++ post, p, h, o, fi, m, n', rp) τ → pre' ++ mkL n' (h.drop j) = pre ++ mkL n h → n' + q = n + h.length → RSame (fun k => k < 41) σ τ → TFr [12, 17] [6, 7] σ τ → TW (d + 3) tc_bringHeld 16 [some (.inr 0), some (.inl k)] [] τ (ActQ σ (.inr (pre ++ mkL n h ++ post, pre.length + h.length, h, o, fi, m, n + h.length, rp))) := by
        intro q
        induction q with
        | zero =>
          intro j k pre' n' τ hj hk hpl hA' he hn' hs hfr
          obtain ⟨h14', -, -⟩ := hA'.heldR
          have h43 : τ.1 43 = pre.length := (hfr.1 43 (by decide)).trans hl
          rw [show j = h.length by omega, List.drop_length] at he
          simp [mkL] at he hn'
          (repeat (first | (refine TW.getf rfl rfl rfl (fun _ => ?_)) | (refine TW.pl rfl rfl ?_)))
          refine TW.br rfl rfl (by first | omega | exact b2i_R _ | exact ⟨b2i_R _, by omega⟩) (fun q2 => ?_) (fun q2 => ?_)
          · (repeat (first | (refine TW.getf rfl rfl rfl (fun _ => ?_)) | (refine TW.pl rfl rfl ?_)))
            refine TW.putf rfl rfl (by omega) ?_
            (repeat (first | (refine TW.getf rfl rfl rfl (fun _ => ?_)) | (refine TW.pl rfl rfl ?_)))
            rw [← he, ← hn']
            exact TW.iret rfl ⟨AX.row ((hfr.mono (fs' := [12, 16, 17]) (as' := [6, 7]) (by decide) (by decide)).ts1 (by decide)) hs.t1 (by decide) (by decide) (fun k z => by omega), rfl, hA'.pres (by omega)⟩
          · omega
        | succ q ih =>
          intro j k pre' n' τ hj hk hpl hA' he hn' hs hfr
          obtain ⟨h14', -, hhr'⟩ := hA'.heldR
          have h43 : τ.1 43 = pre.length := (hfr.1 43 (by decide)).trans hl
          rw [dropc (y := []) (show j < h.length by omega)] at he
          (repeat (first | (refine TW.getf rfl rfl rfl (fun _ => ?_)) | (refine TW.pl rfl rfl ?_)))
          refine TW.br rfl rfl (by first | omega | exact b2i_R _ | exact ⟨b2i_R _, by omega⟩) (fun q2 => ?_) (fun q2 => ?_)
          · omega
          (repeat (first | (refine TW.getf rfl rfl rfl (fun _ => ?_)) | (refine TW.pl rfl rfl ?_)))
          refine TW.cv2 rfl rfl rfl (Nat.le_of_ble_eq_true rfl) (T_bringA (row := 82 + j) hA' (by omega) (hhr' j (by omega)) (by omega) (by omega) (by omega) (by omega)) ?_
          rintro _ τ1 ⟨rfl, hA1, hs1, hf1⟩
          (iterate 2 (first | (refine TW.getf rfl rfl rfl (fun _ => ?_)) | (refine TW.pl rfl rfl ?_)))
          exact ih (j + 1) (k + 1) (pre' ++ [(n', h.getD j [])]) (n' + 1) τ1 (by omega) (by omega) (by simp; omega) (by rw [List.append_assoc]; exact hA1) (by rw [List.append_assoc]; exact he) (by omega) (fun i hi => (hs1 i hi).trans (hs i hi)) (hfr.trans hf1)
      exact loop h.length 0 0 pre n σ (by omega) rfl (by omega) hA rfl rfl (fun _ _ => rfl) TFr.rf
    · rw [if_pos (by omega)]
      (repeat (first | (refine TW.getf rfl rfl rfl (fun _ => ?_)) | (refine TW.pl rfl rfl ?_)))
      exact TW.iret rfl ⟨AX.rf, rfl⟩
  · have : h = [] := List.length_eq_zero_iff.mp (by omega)
    rw [if_pos this]
    (repeat (first | (refine TW.getf rfl rfl rfl (fun _ => ?_)) | (refine TW.pl rfl rfl ?_)))
    exact TW.iret rfl ⟨AX.rf, rfl⟩
theorem T_readFile {q0 : Nat} {u : Int} (hA : TA (pre ++ post, p, h, o, fi, m, n, rp) σ) (hu : u = q0) (hq0 : q0 < 4) (hl : (σ.1 43) = pre.length) (hn : 0 ≤ n ∧ n < 900000) : TM (d + 4) tk_readFile [.inr 0, .inl u] σ (ActQ σ (if fi q0 = [] then .inr (pre ++ post, p, h, o, fi, m, n, rp) else sIns (pre ++ post, p, h, o, fi, m, n, rp) pre.length (fi q0))) := by
  obtain ⟨h12, h40⟩ := hA.len2
  obtain ⟨h11, hh40, hhr⟩ := hA.fileR hq0
  have hun : u.toNat = q0 := by omega
  rw [sIns_z]
  refine TM.of rfl rfl ?_
  (repeat (first | (refine TW.getf rfl rfl rfl (fun _ => ?_)) | (refine TW.pl rfl rfl ?_)))
  refine TW.iald (n := 4) rfl rfl rfl (by omega) (fun _ => ?_)
  rw [hun, h11]
  refine TW.br rfl rfl (by first | omega | exact b2i_R _ | exact ⟨b2i_R _, by omega⟩) (fun qz => ?_) (fun qz => ?_)
  · have : fi q0 ≠ [] := fun z => by rw [z] at qz; exact qz rfl
    rw [if_neg this]
    (repeat (first | (refine TW.getf rfl rfl rfl (fun _ => ?_)) | (refine TW.pl rfl rfl ?_)))
    refine TW.iald (n := 4) rfl rfl rfl (by omega) (fun _ => ?_)
    rw [hun, h11]
    (repeat (first | (refine TW.getf rfl rfl rfl (fun _ => ?_)) | (refine TW.pl rfl rfl ?_)))
    refine TW.br rfl rfl (by first | omega | exact b2i_R _ | exact ⟨b2i_R _, by omega⟩) (fun q1 => ?_) (fun q1 => ?_)
    · rw [if_neg (by omega)]
      (iterate 2 (first | (refine TW.getf rfl rfl rfl (fun _ => ?_)) | (refine TW.pl rfl rfl ?_)))
      have loop : ∀ (q j : Nat) (k : Int) (pre' : List SLine) (n' : Int) (τ : TS), j + q = (fi q0).length → k = j → pre'.length = pre.length + j → TA (pre' ++ post, p, h, o, fi, m, n', rp) τ → pre' ++ mkL n' ((fi q0).drop j) = pre ++ mkL n (fi q0) → n' + q = n + (fi q0).length → RSame (fun k => k < 41) σ τ → TFr [12, 17] [6, 7] σ τ → TW (d + 3) tc_readFile 20 [some (.inr 0), some (.inl u), some (.inl k)] [] τ (ActQ σ (.inr (pre ++ mkL n (fi q0) ++ post, pre.length + (fi q0).length, h, o, fi, m, n + (fi q0).length, rp))) := by
        intro q
        induction q with
        | zero =>
          intro j k pre' n' τ hj hk hpl hA' he hn' hs hfr
          obtain ⟨h11', -, -⟩ := hA'.fileR hq0
          have h43 : τ.1 43 = pre.length := (hfr.1 43 (by decide)).trans hl
          rw [show j = (fi q0).length by omega, List.drop_length] at he
          simp [mkL] at he hn'
          (repeat (first | (refine TW.getf rfl rfl rfl (fun _ => ?_)) | (refine TW.pl rfl rfl ?_)))
          refine TW.iald (n := 4) rfl rfl rfl (by omega) (fun _ => ?_)
          rw [hun, h11']
          refine TW.br rfl rfl (by first | omega | exact b2i_R _ | exact ⟨b2i_R _, by omega⟩) (fun q2 => ?_) (fun q2 => ?_)
          · (repeat (first | (refine TW.getf rfl rfl rfl (fun _ => ?_)) | (refine TW.pl rfl rfl ?_)))
            refine TW.iald (n := 4) rfl rfl rfl (by omega) (fun _ => ?_)
            rw [hun, h11']
            (repeat (first | (refine TW.getf rfl rfl rfl (fun _ => ?_)) | (refine TW.pl rfl rfl ?_)))
            refine TW.putf rfl rfl (by omega) ?_
            (repeat (first | (refine TW.getf rfl rfl rfl (fun _ => ?_)) | (refine TW.pl rfl rfl ?_)))
            rw [← he, ← hn']
            exact TW.iret rfl ⟨AX.row ((hfr.mono (fs' := [12, 16, 17]) (as' := [6, 7]) (by decide) (by decide)).ts1 (by decide)) hs.t1 (by decide) (by decide) (fun k z => by omega), rfl, hA'.pres (by omega)⟩
          · omega
        | succ q ih =>
          intro j k pre' n' τ hj hk hpl hA' he hn' hs hfr
          obtain ⟨h11', -, hhr'⟩ := hA'.fileR hq0
          have h43 : τ.1 43 = pre.length := (hfr.1 43 (by decide)).trans hl
          rw [dropc (y := []) (show j < (fi q0).length by omega)] at he
          (repeat (first | (refine TW.getf rfl rfl rfl (fun _ => ?_)) | (refine TW.pl rfl rfl ?_)))
          refine TW.iald (n := 4) rfl rfl rfl (by omega) (fun _ => ?_)
          rw [hun, h11']
          refine TW.br rfl rfl (by first | omega | exact b2i_R _ | exact ⟨b2i_R _, by omega⟩) (fun q2 => ?_) (fun q2 => ?_)
          · omega
          (repeat (first | (refine TW.getf rfl rfl rfl (fun _ => ?_)) | (refine TW.pl rfl rfl ?_)))
          refine TW.cs2 rfl rfl rfl (Nat.le_of_ble_eq_true rfl) (T_fileRow (k := q0) (j := j) hu hk) ?_; rintro _ _ ⟨rfl, rfl⟩
          (repeat (first | (refine TW.getf rfl rfl rfl (fun _ => ?_)) | (refine TW.pl rfl rfl ?_)))
          refine TW.cv2 rfl rfl rfl (Nat.le_of_ble_eq_true rfl) (T_bringA (row := 123 + 41 * q0 + j) hA' (by omega) (hhr' j (by omega)) rfl (by omega) (by omega) (by omega)) ?_
          rintro _ τ1 ⟨rfl, hA1, hs1, hf1⟩
          (iterate 2 (first | (refine TW.getf rfl rfl rfl (fun _ => ?_)) | (refine TW.pl rfl rfl ?_)))
          exact ih (j + 1) (k + 1) (pre' ++ [(n', (fi q0).getD j [])]) (n' + 1) τ1 (by omega) (by omega) (by simp; omega) (by rw [List.append_assoc]; exact hA1) (by rw [List.append_assoc]; exact he) (by omega) (fun i hi => (hs1 i hi).trans (hs i hi)) (hfr.trans hf1)
      exact loop (fi q0).length 0 0 pre n σ (by omega) rfl (by omega) hA rfl rfl (fun _ _ => rfl) TFr.rf
    · rw [if_pos (by omega)]
      (repeat (first | (refine TW.getf rfl rfl rfl (fun _ => ?_)) | (refine TW.pl rfl rfl ?_)))
      exact TW.iret rfl ⟨AX.rf, rfl⟩
  · have : fi q0 = [] := List.length_eq_zero_iff.mp (by omega)
    rw [if_pos this]
    (repeat (first | (refine TW.getf rfl rfl rfl (fun _ => ?_)) | (refine TW.pl rfl rfl ?_)))
    exact TW.iret rfl ⟨AX.rf, rfl, hA⟩
end TCop
