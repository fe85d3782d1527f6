set_option maxRecDepth 100000
/-! the twin's text at a place: what stands ahead, lines, what stands behind -/
section TZip
variable {d : Nat} {σ τ : TS} {s : List Int} {fs as : List Nat} {pre mid post t : List SLine} {p : Nat} {h o : List (List Int)} {fi : Nat → List (List Int)} {m : Nat → Option Int} {n : Int} {rp : Bool}
theorem zget {α : Type} {pre post : List α} {x y : α} : (pre ++ x :: post).getD pre.length y = x := by
  rw [List.getD_eq_getElem?_getD, List.getElem?_append_right (Nat.le_refl _), Nat.sub_self]; rfl
theorem zne {α : Type} {pre post : List α} {x x' y : α} {k : Nat} (h : k ≠ pre.length) : (pre ++ x' :: post).getD k y = (pre ++ x :: post).getD k y := by
  rw [List.getD_eq_getElem?_getD, List.getD_eq_getElem?_getD]
  rcases Nat.lt_or_ge k pre.length with z | z
  · rw [List.getElem?_append_left z, List.getElem?_append_left z]
  · rw [List.getElem?_append_right z, List.getElem?_append_right z]
    obtain ⟨j, hj⟩ : ∃ j, k - pre.length = j + 1 := ⟨k - pre.length - 1, by omega⟩
    rw [hj, List.getElem?_cons_succ, List.getElem?_cons_succ]
theorem zins {x : SLine} : linIns (pre ++ post) pre.length x = pre ++ x :: post := by
  unfold linIns; rw [List.take_left' rfl, List.drop_left' rfl]
theorem zera {x : SLine} : (pre ++ x :: post).eraseIdx pre.length = pre ++ post := by
  rw [List.eraseIdx_append_of_length_le (Nat.le_refl _), Nat.sub_self]; rfl
theorem zlen {x : SLine} : (pre ++ x :: post).length = pre.length + post.length + 1 := by simp; omega
theorem TextIs.atZ {x : SLine} (h : TextIs σ (pre ++ x :: post)) : RowIs σ pre.length x.2 ∧ σ.2 7 pre.length = x.1 ∧ σ.1 12 = pre.length + post.length + 1 ∧ pre.length + post.length + 1 ≤ 40 := by
  obtain ⟨h1, h2, h3⟩ := h
  have h4 := h3 pre.length (by rw [zlen]; omega)
  rw [zget] at h4
  rw [zlen] at h1 h2
  exact ⟨h4.1, h4.2, by omega, h2⟩
/-- one line is another one now -/
theorem TextIs.setZ {x x' : SLine} (h : TextIs σ (pre ++ x :: post)) (hm : τ.1 12 = σ.1 12) (hr : RowIs τ pre.length x'.2) (hid : τ.2 7 pre.length = x'.1) (hs : RSame (fun k => k = pre.length) σ τ) (hi : ∀ k, k ≠ pre.length → τ.2 7 k = σ.2 7 k) : TextIs τ (pre ++ x' :: post) := by
  obtain ⟨h1, h2, h3⟩ := h
  rw [zlen] at h1 h2 h3
  refine ⟨by rw [hm, h1, zlen], by rw [zlen]; exact h2, fun k hk => ?_⟩
  rw [zlen] at hk
  by_cases e : k = pre.length
  · subst e
    rw [zget]
    exact ⟨hr, hid⟩
  · rw [zne (x := x) e, hi k e]
    exact ⟨(h3 k hk).1.same hs e, (h3 k hk).2⟩
theorem TA.upd {P : Nat → Prop} {t' : List SLine} {m' : Nat → Option Int} {n' : Int} (hA : TA (t, p, h, o, fi, m, n, rp) σ) (ht : TextIs τ t') (hm : MarksIs τ m') (hn : τ.1 17 = n') (hf : TFr fs as σ τ) (hs : RSame P σ τ) (h1 : ∀ k ∈ [14, 15, 16, 44], k ∉ fs) (h2 : 11 ∉ as) (hP : ∀ k, P k → k < 82 ∨ 388 ≤ k) : TA (t', p, h, o, fi, m', n', rp) τ :=
  ⟨ht, (hf.1 16 (h1 16 (by decide))).trans hA.2.1, hA.2.2.1.same hf hs (fun k hk => h1 k (by simp at hk ⊢; omega)) h2 hP, hm, hn, (hf.1 44 (h1 44 (by decide))).trans hA.2.2.2.2.2⟩
theorem TA.pres {v : Nat} {w : Int} (hA : TA (t, p, h, o, fi, m, n, rp) σ) (hw : w = v) : TA (t, v, h, o, fi, m, n, rp) (ts1 σ 16 w) := by
  have hf : TFr [16] [] σ (ts1 σ 16 w) := TFr.rf.ts1 (by decide)
  obtain ⟨a, b, c, e, g, i⟩ := hA
  exact ⟨a.fr (ts1_ne (by decide)) rfl rfl, by rw [ts1_eq]; exact hw, c.same hf (RSame.no hf (by decide)) (by decide) (by decide) (fun k z => z.elim), e.fr rfl, by rw [ts1_ne (by decide)]; exact g, by rw [ts1_ne (by decide)]; exact i⟩
theorem TA.made {A : St} {w : Int} (hA : TA A σ) : TA A (ts1 σ 20 w) := hA.fr (fs := [20]) (as := []) (TFr.rf.ts1 (by decide)) (by decide) (by decide)
theorem RSame.t1 {P : Nat → Prop} {k : Nat} {v : Int} (h : RSame P σ τ) : RSame P σ (ts1 τ k v) := h
theorem MadeIs.nil : MadeIs (ts1 σ 20 0) [] := ⟨ts1_eq, fun j hj => absurd hj (Nat.not_lt_zero _)⟩
theorem MadeIs.fr {xs : List Int} (hM : MadeIs σ xs) (h1 : τ.1 20 = σ.1 20) (h2 : τ.2 19 = σ.2 19) : MadeIs τ xs := by
  unfold MadeIs at hM ⊢
  rw [h1, h2]
  exact hM
theorem T_lenR {row : Nat} {v : Int} {ys : List Int} (hr : RowIs σ row ys) (hv : v = row) (hrow : row < 868) : TE (d + 1) tk_len [.inr 0, .inl v] σ (some ys.length) σ := by
  subst hv
  have := T_len (d := d) (σ := σ) (row := row) (by omega)
  rw [show (σ.2 6 ((31 * (row : Int)).toNat)) = ys.length from (tix (by omega)).trans hr.1] at this
  exact this
theorem T_signR {row : Nat} {v k : Int} {ys : List Int} (hr : RowIs σ row ys) (hv : v = row) (hrow : row < 868) (hk : 0 ≤ k ∧ k < ys.length) : TE (d + 1) tk_sign [.inr 0, .inl v, .inl k] σ (some (ys.getD k.toNat 0)) σ := by
  subst hv
  have hl := hr.2.1
  have := T_sign (d := d) (σ := σ) (row := row) (k := k) (by omega) (by omega)
  rw [show (σ.2 6 ((31 * (row : Int) + 1 + k).toNat)) = ys.getD k.toNat 0 from (tix (by omega)).trans (hr.2.2 k.toNat (by omega))] at this
  exact this
theorem T_cpRow {a b : Nat} {u v : Int} {xs : List Int} (hr : RowIs σ a xs) (hu : u = a) (hv : v = b) (ha : a < 868) (hb : b < 868) : TM (d + 1) tk_copyRow [.inr 0, .inl u, .inl v] σ (fun r τ => r = none ∧ RowIs τ b xs ∧ RSame (fun k => k = b) σ τ ∧ TFr [] [6] σ τ) := by
  subst hu hv
  exact (T_copyRow (by omega) (by omega)).mono (Nat.le_refl _) (fun r τ q => ⟨q.1, q.2.row hr, q.2.same rfl, q.2.fr⟩)
theorem T_makesAll {row : Nat} {u v : Int} {xs ys : List Int} (hr : RowIs σ row ys) (hu : u = row) (hv : v = ys.length) (hrow : row < 868) (hM : MadeIs σ xs) (hl : xs.length < 90000) : TM (d + 2) tk_makesRow [.inr 0, .inl u, .inl 0, .inl v] σ (fun r τ => r = none ∧ MadeIs τ (xs ++ ys) ∧ TFr [20] [19] σ τ) := by
  subst hu hv
  have := T_makesRow (d := d) (u := 0) (v := ys.length) hr hrow (by omega) hM hl
  rw [show (List.drop (0 : Int).toNat ys).take ((ys.length : Int) - 0).toNat = ys by rw [show (0 : Int).toNat = 0 from rfl, List.drop_zero, List.take_of_length_le (by omega)]] at this
  exact this
/-- a new line at a place -/
theorem T_bringA {row : Nat} {v b : Int} {xs : List Int} (hA : TA (pre ++ post, p, h, o, fi, m, n, rp) σ) (hl : pre.length + post.length < 40) (hr : RowIs σ row xs) (hv : v = row) (hrow : 41 ≤ row ∧ row < 868) (hn : 0 ≤ n ∧ n < 1000000) (hb : b = pre.length) : TM (d + 3) tk_bring [.inr 0, .inl v, .inl b] σ (fun r τ => r = none ∧ TA (pre ++ (n, xs) :: post, p, h, o, fi, m, n + 1, rp) τ ∧ RSame (fun k => k < 41) σ τ ∧ TFr [12, 17] [6, 7] σ τ) := by
  subst hv hb
  refine (T_bring hA.1 (by rw [List.length_append]; exact hl) (by rw [List.length_append]; omega) hr hrow hA.2.2.2.2.1 hn).mono (Nat.le_refl _) (fun r τ q => ⟨q.1, ?_, q.2.2.2.1, q.2.2.2.2⟩)
  obtain ⟨-, q1, q2, q3, q4⟩ := q
  rw [zins] at q1
  exact hA.upd q1 (hA.2.2.2.1.fr (q4.2 10 (by decide))) q2 q4 q3 (by decide) (by decide) (fun k z => Or.inl (by omega))
theorem T_goesA {x : SLine} {v : Int} (hA : TA (pre ++ x :: post, p, h, o, fi, m, n, rp) σ) (hid : 0 ≤ x.1 ∧ x.1 < 1000000) (hv : v = pre.length + 1) : TM (d + 3) tk_goes [.inr 0, .inl v] σ (fun r τ => r = none ∧ TA (pre ++ post, p, h, o, fi, unmk m x.1, n, rp) τ ∧ RSame (fun k => k < 41) σ τ ∧ TFr [12] [6, 7, 10] σ τ) := by
  have hg : (pre ++ x :: post).getD (pre.length + 1 - 1) (0, []) = x := zget
  have := T_goes (d := d) (l := pre.length + 1) hA.1 hA.2.2.2.1 (by rw [zlen]; omega) (by rw [hg]; exact hid)
  rw [hv]
  refine this.mono (Nat.le_refl _) (fun r τ q => ⟨q.1, ?_, q.2.2.2.1, q.2.2.2.2⟩)
  obtain ⟨-, q1, q2, q3, q4⟩ := q
  rw [hg] at q2
  rw [Nat.add_sub_cancel, zera] at q1
  exact hA.upd q1 q2 ((q4.1 17 (by decide)).trans hA.2.2.2.2.1) q4 q3 (by decide) (by decide) (fun k z => Or.inl (by omega))
theorem unmL_nil : unmL m [] = m := by
  funext k
  unfold unmL
  cases m k with
  | none => rfl
  | some x => exact if_neg (by simp)
theorem unmL_cons {x : Int} {xs : List Int} : unmL (unmk m x) xs = unmL m (x :: xs) := by
  funext k
  unfold unmL unmk
  cases hk : m k with
  | none => simp
  | some y =>
    by_cases e : y = x
    · subst e; simp
    · simp [e]
theorem T_goAll (hA : TA (pre ++ mid ++ post, p, h, o, fi, m, n, rp) σ) (hid : ∀ q ∈ mid, 0 ≤ q.1 ∧ q.1 < 1000000) (hf : (σ.1 42) = pre.length + 1) (hl : (σ.1 43) = pre.length + mid.length) : TM (d + 4) tk_goAll [.inr 0] σ (fun r τ => r = none ∧ TA (pre ++ post, p, h, o, fi, unmL m (idsOfL mid), n, rp) τ ∧ RSame (fun k => k < 41) σ τ ∧ TFr [12] [6, 7, 10] σ τ) := by
  have hm40 : pre.length + mid.length + post.length ≤ 40 := by have := hA.1.2.1; simp at this; omega
  refine TM.of rfl rfl ?_
  (iterate 3 (first | (refine TW.getf rfl rfl rfl (fun _ => ?_)) | (refine TW.pl rfl rfl ?_)))
  have loop : ∀ (ms : List SLine) (k : Int) (τ : TS) (m' : Nat → Option Int), k + ms.length = pre.length + mid.length + 1 → (pre.length : Int) < k → (∀ q ∈ ms, 0 ≤ q.1 ∧ q.1 < 1000000) → TA (pre ++ ms ++ post, p, h, o, fi, m', n, rp) τ → unmL m' (idsOfL ms) = unmL m (idsOfL mid) → RSame (fun k => k < 41) σ τ → TFr [12] [6, 7, 10] σ τ → TW (d + 3) tc_goAll 3 [some (.inr 0), some (.inl k)] [] τ (fun r τ => r = none ∧ TA (pre ++ post, p, h, o, fi, unmL m (idsOfL mid), n, rp) τ ∧ RSame (fun k => k < 41) σ τ ∧ TFr [12] [6, 7, 10] σ τ) := by
    intro ms
    induction ms with
    | nil =>
      intro k τ m' hk hk0 hi hA' hu hs hfr
      have h43 : τ.1 43 = pre.length + mid.length := (hfr.1 43 (by decide)).trans hl
      simp at hk
      (repeat (first | (refine TW.getf rfl rfl rfl (fun _ => ?_)) | (refine TW.pl rfl rfl ?_)))
      refine TW.br rfl rfl (by first | omega | exact b2i_R _ | exact ⟨b2i_R _, by omega⟩) (fun q1 => ?_) (fun q1 => ?_)
      · refine TW.vret rfl ⟨rfl, ?_, hs, hfr⟩
        rw [← hu, show idsOfL [] = [] from rfl, unmL_nil]
        simpa using hA'
      · omega
    | cons x ms ih =>
      intro k τ m' hk hk0 hi hA' hu hs hfr
      have h43 : τ.1 43 = pre.length + mid.length := (hfr.1 43 (by decide)).trans hl
      have h42 : τ.1 42 = pre.length + 1 := (hfr.1 42 (by decide)).trans hf
      simp at hk
      (repeat (first | (refine TW.getf rfl rfl rfl (fun _ => ?_)) | (refine TW.pl rfl rfl ?_)))
      refine TW.br rfl rfl (by first | omega | exact b2i_R _ | exact ⟨b2i_R _, by omega⟩) (fun q1 => ?_) (fun q1 => ?_)
      · omega
      (repeat (first | (refine TW.getf rfl rfl rfl (fun _ => ?_)) | (refine TW.pl rfl rfl ?_)))
      rw [List.append_assoc, List.cons_append] at hA'
      refine TW.cv1 rfl rfl rfl (Nat.le_of_ble_eq_true rfl) (T_goesA hA' (hi x List.mem_cons_self) h42) ?_
      rintro _ τ1 ⟨rfl, hA1, hs1, hf1⟩
      (iterate 2 (first | (refine TW.getf rfl rfl rfl (fun _ => ?_)) | (refine TW.pl rfl rfl ?_)))
      refine ih (k + 1) τ1 _ (by omega) (by omega) (fun q hq => hi q (List.mem_cons_of_mem _ hq)) (by rw [List.append_assoc]; exact hA1) ?_ (fun j hj => (hs1 j hj).trans (hs j hj)) (hfr.trans hf1)
      rw [unmL_cons]
      exact hu
  rw [hf]
  exact loop mid _ σ m (by omega) (by omega) hid hA rfl (fun _ _ => rfl) TFr.rf
end TZip
