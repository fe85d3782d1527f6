set_option maxRecDepth 100000
/-! WHAT HOLDS BETWEEN CALLS: i calls were made, n signs typed -/
def LK (i n : Nat) (w : PW) : Prop := (SgO w.1 ∧ ∀ k s, w.2.1 k = some s → SgO s ∧ ∃ os, sOrders s = .inr os) ∧ PwN n w ∧ WF w.2.2.1 ∧ ((∀ q ∈ w.2.2.2.1, DqK w.2.2.1.2.2.2.2.2.2.1 q) ∧ w.2.2.2.1.length ≤ 40) ∧ (w.2.2.2.2.1 ≤ i ∧ w.2.2.1.2.2.2.2.2.2.1 ≤ 3000 * (i : Int)) ∧ n ≤ i ∧ i ≤ 24
section LKs
variable {i n : Nat} {w : PW} {A : St} {ds : List SDeed} {os : List SOrd} {tp s : List Int} {sc : Nat → Option (List Int)} {cl re : Nat} {x z : Int}
theorem LK.pk (h : LK i n w) : PwK w := by
  obtain ⟨⟨h1, h2⟩, h3, h4, ⟨h5, h6⟩, ⟨h7, h8⟩, h9, h10⟩ := h
  exact ⟨⟨h1, by have := h3.1; omega⟩, fun k s hs => ⟨⟨(h2 k s hs).1, by have := h3.2 k s hs; omega⟩, (h2 k s hs).2⟩, h4, h5, h6, by omega, by omega⟩
theorem LK.nid (h : LK i n w) : w.2.2.1.2.2.2.2.2.2.1 < 100000 := by
  obtain ⟨-, -, -, -, ⟨-, h8⟩, -, h10⟩ := h
  omega
theorem LK.same (h : LK i n w) (hi : i < 24) : LK (i + 1) n w := by
  obtain ⟨h1, h3, h4, h5, ⟨h7, h8⟩, h9, h10⟩ := h
  exact ⟨h1, h3, h4, h5, ⟨by omega, by omega⟩, by omega, by omega⟩
/-- the text and the deeds change -/
theorem LK.act (h : LK i n (tp, sc, A, ds, cl, re)) (hi : i < 24) {A' : St} {ds' : List SDeed} {cl' re' : Nat} (hw : WF A') (hn : A'.2.2.2.2.2.2.1 ≤ A.2.2.2.2.2.2.1 + 3000) (hd : ∀ q ∈ ds', DqK A'.2.2.2.2.2.2.1 q) (hl : ds'.length ≤ 40) (hc : cl' ≤ cl + 1) : LK (i + 1) n (tp, sc, A', ds', cl', re') := by
  obtain ⟨h1, h3, h4, h5, ⟨h7, h8⟩, h9, h10⟩ := h
  have h7 : cl ≤ i := h7
  have h8 : A.2.2.2.2.2.2.1 ≤ 3000 * (i : Int) := h8
  exact ⟨h1, h3, hw, ⟨hd, hl⟩, ⟨by show cl' ≤ i + 1; omega, by show A'.2.2.2.2.2.2.1 ≤ 3000 * ((i + 1 : Nat) : Int); omega⟩, by omega, by omega⟩
theorem LK.type (h : LK i n w) (hi : i < 24) : LK (i + 1) (n + 1) (pType x w).2 := by
  have hs := h.same hi
  have up : LK (i + 1) (n + 1) w := by
    obtain ⟨h1, h3, h4⟩ := hs
    obtain ⟨g1, g2, g3, g4, g5⟩ := h4
    have := h.2.2.2.2.2.1
    exact ⟨h1, ⟨by have := h3.1; omega, fun k s e => by have := h3.2 k s e; omega⟩, g1, g2, g3, by omega, g5⟩
  unfold pType
  by_cases z1 : x < 32 ∨ 126 < x
  · rw [if_pos z1]; exact up
  rw [if_neg z1]
  by_cases z2 : w.1.length = 60
  · rw [if_pos z2]; exact up
  rw [if_neg z2]
  obtain ⟨⟨h1, h2⟩, h3, h4⟩ := up
  have h60 := h1.1
  refine ⟨⟨⟨by show (w.1 ++ [x]).length ≤ 60; rw [List.length_append, List.length_singleton]; omega, fun c hc => ?_⟩, h2⟩, ⟨?_, h3.2⟩, h4⟩
  · rcases List.mem_append.mp hc with q | q
    · exact h1.2 c q
    · rw [List.mem_singleton.mp q]; omega
  · show (w.1 ++ [x]).length ≤ n + 1
    rw [List.length_append, List.length_singleton]
    have := h.2.1.1
    omega
theorem LK.wipe (h : LK i n w) (hi : i < 24) : LK (i + 1) n (pWipe w).2 := by
  obtain ⟨⟨h1, h2⟩, h3, h4⟩ := h.same hi
  exact ⟨⟨SgO.nil, h2⟩, ⟨Nat.zero_le _, h3.2⟩, h4⟩
theorem LK.keep (h : LK i n w) (hi : i < 24) : LK (i + 1) n (pKeep x w).2 := by
  have hs := h.same hi
  unfold pKeep
  by_cases z : isFo x = false
  · rw [if_pos z]; exact hs
  rw [if_neg z]
  cases e : sOrders w.1 with
  | inl k => exact hs
  | inr os =>
    obtain ⟨⟨h1, h2⟩, h3, h4⟩ := hs
    have key : ∀ k s, fup w.2.1 x.toNat (some w.1) k = some s → s = w.1 ∨ w.2.1 k = some s := fun k s hk => by
      unfold fup at hk
      split at hk
      · cases hk; exact Or.inl rfl
      · exact Or.inr hk
    refine ⟨⟨h1, fun k s hk => ?_⟩, ⟨h3.1, fun k s hk => ?_⟩, h4⟩
    · rcases key k s hk with q | q
      · rw [q]; exact ⟨h1, os, e⟩
      · exact h2 k s q
    · rcases key k s hk with q | q
      · rw [q]; exact h3.1
      · exact h3.2 k s q
theorem sAllF_wf {pl : Nat} (hos : ∀ o ∈ os, OrdOk o) (hpl : pl < 2000000) : ∀ (N k c done : Nat) (A : St) (ds : List SDeed), c ≤ 60 → WF A → (∀ q ∈ ds, DqK A.2.2.2.2.2.2.1 q) → ds.length ≤ 40 → WF (sAllF os pl N k c done A ds).2.2.1 ∧ (A.2.2.2.2.2.2.1 ≤ (sAllF os pl N k c done A ds).2.2.1.2.2.2.2.2.2.1 ∧ (sAllF os pl N k c done A ds).2.2.1.2.2.2.2.2.2.1 ≤ A.2.2.2.2.2.2.1 + 40 * (60 - (c : Int))) ∧ (∀ q ∈ (sAllF os pl N k c done A ds).2.2.2, DqK (sAllF os pl N k c done A ds).2.2.1.2.2.2.2.2.2.1 q) ∧ (sAllF os pl N k c done A ds).2.2.2.length ≤ 40 := by
  intro N
  induction N with
  | zero => intro k c done A ds hc hw hd hl; exact ⟨hw, ⟨Int.le_refl _, by show A.2.2.2.2.2.2.1 ≤ A.2.2.2.2.2.2.1 + 40 * (60 - (c : Int)); omega⟩, hd, hl⟩
  | succ N ih =>
    intro k c done A ds hc hw hd hl
    have e0 : sAllF os pl (N + 1) k c done A ds = match os[k]? with
      | none => (done, 0, A, ds)
      | some o => if c = 60 then (done, 7, A, ds) else match sOne os k o (c + 1) A with
        | .inl w => (done, w, A, ds)
        | .inr (k1, c1, A1) => sAllF os pl N k1 c1 (done + 1) A1 (if isDeedA (oAct o.1) = true then keepD ds (pl, A.1, A.2.1, A.2.2.2.2.2.1) else ds) := rfl
    have stop : ∀ (a b : Nat), WF ((a, b, A, ds) : Nat × Nat × St × List SDeed).2.2.1 ∧ (A.2.2.2.2.2.2.1 ≤ ((a, b, A, ds) : Nat × Nat × St × List SDeed).2.2.1.2.2.2.2.2.2.1 ∧ ((a, b, A, ds) : Nat × Nat × St × List SDeed).2.2.1.2.2.2.2.2.2.1 ≤ A.2.2.2.2.2.2.1 + 40 * (60 - (c : Int))) ∧ (∀ q ∈ ((a, b, A, ds) : Nat × Nat × St × List SDeed).2.2.2, DqK ((a, b, A, ds) : Nat × Nat × St × List SDeed).2.2.1.2.2.2.2.2.2.1 q) ∧ ((a, b, A, ds) : Nat × Nat × St × List SDeed).2.2.2.length ≤ 40 := fun a b => ⟨hw, ⟨Int.le_refl _, by show A.2.2.2.2.2.2.1 ≤ A.2.2.2.2.2.2.1 + 40 * (60 - (c : Int)); omega⟩, hd, hl⟩
    rw [e0]
    cases ho : os[k]? with
    | none => exact stop _ _
    | some o =>
      dsimp only
      split
      · exact stop _ _
      · rename_i hc6
        cases h1 : sOne os k o (c + 1) A with
        | inl w => exact stop _ _
        | inr q =>
          obtain ⟨k1, c1, A1⟩ := q
          obtain ⟨g1, g2, g3, g4, g5⟩ := sOne_wf (hos o (List.mem_of_getElem? ho)) hw (by omega) h1
          have hdU : ∀ q ∈ ds, DqK A1.2.2.2.2.2.2.1 q := fun q hq => (hd q hq).up g4
          have h9 := ih k1 c1 (done + 1) A1 (if isDeedA (oAct o.1) = true then keepD ds (pl, A.1, A.2.1, A.2.2.2.2.2.1) else ds) g3 g1 (fun q hq => by
            split at hq
            · rcases keepD_mem hq with y | y
              · exact hdU q y
              · rw [y]; exact (DqK.of hw hpl).up g4
            · exact hdU q hq) (by
            split
            · exact keepD_len hl
            · exact hl)
          obtain ⟨a1, ⟨a2, a3⟩, a4, a5⟩ := h9
          exact ⟨a1, ⟨Int.le_trans g4 a2, Int.le_trans a3 (by omega)⟩, a4, a5⟩
theorem LK.run0 (h : LK i n (tp, sc, A, ds, cl, re)) (hi : i < 24) (hos : sOrders s = .inr os) (hsl : s.length ≤ 24) : LK (i + 1) n (doAllW os (tp, sc, A, ds, cl, re)).2 := by
  have hw : WF A := h.2.2.1
  have hd : ∀ q ∈ ds, DqK A.2.2.2.2.2.2.1 q := h.2.2.2.1.1
  have hl : ds.length ≤ 40 := h.2.2.2.1.2
  have hcl : cl ≤ i := h.2.2.2.2.1.1
  have := sAllF_wf (os := os) (pl := cl + 1) (fun o ho => ((sOrders_K hos hsl).1 o ho).1) (by omega) 61 0 0 0 (setR A false) ds (Nat.zero_le _) (hw.setR _) (by rw [setR_nid]; exact hd) hl
  rw [setR_nid] at this
  obtain ⟨a1, ⟨a2, a3⟩, a4, a5⟩ := this
  exact h.act hi a1 (Int.le_trans a3 (by omega)) a4 a5 (Nat.le_refl _)
theorem LK.run (h : LK i n w) (hi : i < 24) : LK (i + 1) n (pRun w).2 := by
  obtain ⟨tp, sc, A, ds, cl, re⟩ := w
  unfold pRun
  dsimp only
  cases e : sOrders tp with
  | inl k => exact h.same hi
  | inr os => exact h.run0 hi e (by have := h.2.1.1; have h2 : n ≤ i := h.2.2.2.2.2.1; have this : tp.length ≤ n := this; omega)
theorem LK.play (h : LK i n w) (hi : i < 24) : LK (i + 1) n (pPlay x w).2 := by
  obtain ⟨tp, sc, A, ds, cl, re⟩ := w
  unfold pPlay
  by_cases z : isFo x = false
  · rw [if_pos z]; exact h.same hi
  rw [if_neg z]
  dsimp only
  cases e : sc x.toNat with
  | none => exact h.same hi
  | some s =>
    dsimp only
    cases e2 : sOrders s with
    | inl k => exact h.same hi
    | inr os => exact h.run0 hi e2 (by have := h.2.1.2 _ _ e; have h2 : n ≤ i := h.2.2.2.2.2.1; omega)
theorem sStream_ds {pl : Nat} : (sStream os pl A ds).2.2.2 = ds ∨ (sStream os pl A ds).2.2.2 = keepD ds (pl, A.1, A.2.1, A.2.2.2.2.2.1) := by
  obtain ⟨t, p, h, o, fi, m, n, rp⟩ := A
  have e : sStream os pl (t, p, h, o, fi, m, n, rp) ds = match stAll t.length os t.length (((0, []), true, [], [], t), (h, o, stEmpty os fi, m, n, rp), 0, 0, false, fun _ _ => (0, false, false)) with
    | .inl w => (-1, w, (t, p, h, o, fi, m, n, rp), ds)
    | .inr ((_, _, _, pu, _), (h1, o1, fi1, m1, n1, rp1), st, _) => ((st : Int), 0, (pu, pu.length, h1, o1, fi1, m1, n1, rp1), keepD ds (pl, t, p, m)) := rfl
  rw [e]
  cases stAll t.length os t.length (((0, []), true, [], [], t), (h, o, stEmpty os fi, m, n, rp), 0, 0, false, fun _ _ => (0, false, false)) with
  | inl w => exact Or.inl rfl
  | inr q =>
    obtain ⟨⟨x, g, du, pu, re'⟩, ⟨h1, o1, fi1, m1, n1, rp1⟩, st, q⟩ := q
    exact Or.inr rfl
theorem LK.stream (h : LK i n w) (hi : i < 24) (hW : WFn w.2.2.1.2.2.2.2.2.2.1 (pStream x w).2.2.2.1) : LK (i + 1) n (pStream x w).2 := by
  obtain ⟨tp, sc, A, ds, cl, re⟩ := w
  unfold pStream at hW ⊢
  by_cases z : isFo x = false
  · rw [if_pos z]; exact h.same hi
  rw [if_neg z] at hW ⊢
  dsimp only at hW ⊢
  cases e : sc x.toNat with
  | none => exact h.same hi
  | some s =>
    rw [e] at hW
    dsimp only at hW ⊢
    cases e2 : sOrders s with
    | inl k => exact h.same hi
    | inr os =>
      rw [e2] at hW
      have hW : WFn A.2.2.2.2.2.2.1 (sStream os (cl + 1) A ds).2.2.1 := hW
      obtain ⟨a1, a2, a3⟩ := hW
      have hw : WF A := h.2.2.1
      have hd : ∀ q ∈ ds, DqK A.2.2.2.2.2.2.1 q := h.2.2.2.1.1
      have hl : ds.length ≤ 40 := h.2.2.2.1.2
      have hcl : cl ≤ i := h.2.2.2.2.1.1
      refine h.act hi a1 (by omega) (fun q hq => ?_) ?_ (Nat.le_refl _)
      · rcases sStream_ds (os := os) (A := A) (ds := ds) (pl := cl + 1) with y | y
        · rw [y] at hq; exact (hd q hq).up a2
        · rw [y] at hq
          rcases keepD_mem hq with v | v
          · exact (hd q v).up a2
          · rw [v]; exact (DqK.of hw (by omega)).up a2
      · rcases sStream_ds (os := os) (A := A) (ds := ds) (pl := cl + 1) with y | y
        · rw [y]; exact hl
        · rw [y]; exact keepD_len hl
theorem undoA_wf {q : SDeed} (hw : WF A) (hq : DqK A.2.2.2.2.2.2.1 q) : WF (undoA A q) ∧ (undoA A q).2.2.2.2.2.2.1 = A.2.2.2.2.2.2.1 := by
  obtain ⟨t, p, h, o, fi, m, n, rp⟩ := A
  obtain ⟨-, h1, h2, h3, h4, h5⟩ := hq
  exact ⟨⟨h1, h2, h3, h4, h5, hw.2.2.2.2.2⟩, rfl⟩
theorem LK.undo (h : LK i n w) (hi : i < 24) : LK (i + 1) n (pUndo w).2 := by
  obtain ⟨tp, sc, A, ds, cl, re⟩ := w
  unfold pUndo
  by_cases z : ds = []
  · rw [if_pos z]; exact h.same hi
  rw [if_neg z]
  have hw : WF A := h.2.2.1
  have hd : ∀ q ∈ ds, DqK A.2.2.2.2.2.2.1 q := h.2.2.2.1.1
  have hl : ds.length ≤ 40 := h.2.2.2.1.2
  obtain ⟨a1, a2⟩ := undoA_wf hw (hd _ (lastD_mem z))
  refine h.act hi a1 (by rw [a2]; omega) (fun q hq => ?_) ?_ (Nat.le_succ _)
  · rw [a2]; exact hd q (List.mem_of_mem_take hq)
  · show (ds.take (ds.length - 1)).length ≤ 40
    rw [List.length_take]; omega
theorem undoF_wf {pl : Nat} : ∀ (N : Nat) (A : St) (ds : List SDeed), WF A → (∀ q ∈ ds, DqK A.2.2.2.2.2.2.1 q) → ds.length ≤ 40 → WF (undoF pl N A ds).2.1 ∧ (undoF pl N A ds).2.1.2.2.2.2.2.2.1 = A.2.2.2.2.2.2.1 ∧ (∀ q ∈ (undoF pl N A ds).2.2, DqK A.2.2.2.2.2.2.1 q) ∧ (undoF pl N A ds).2.2.length ≤ 40 := by
  intro N
  induction N with
  | zero => intro A ds hw hd hl; exact ⟨hw, rfl, hd, hl⟩
  | succ N ih =>
    intro A ds hw hd hl
    rw [undoF_e]
    by_cases z : ds ≠ [] ∧ (lastD ds).1 = pl
    · rw [if_pos z]
      obtain ⟨a1, a2⟩ := undoA_wf hw (hd _ (lastD_mem z.1))
      have h9 := ih (undoA A (lastD ds)) (ds.take (ds.length - 1)) a1 (fun q hq => by rw [a2]; exact hd q (List.mem_of_mem_take hq)) (by rw [List.length_take]; omega)
      rw [a2] at h9
      exact h9
    · rw [if_neg z]
      exact ⟨hw, rfl, hd, hl⟩
theorem LK.undoRun (h : LK i n w) (hi : i < 24) : LK (i + 1) n (pUndoRun w).2 := by
  obtain ⟨tp, sc, A, ds, cl, re⟩ := w
  unfold pUndoRun
  by_cases z : ds = []
  · rw [if_pos z]; exact h.same hi
  rw [if_neg z]
  have hw : WF A := h.2.2.1
  have hd : ∀ q ∈ ds, DqK A.2.2.2.2.2.2.1 q := h.2.2.2.1.1
  have hl : ds.length ≤ 40 := h.2.2.2.1.2
  obtain ⟨a1, a2, a3, a4⟩ := undoF_wf (pl := (lastD ds).1) ds.length A ds hw hd hl
  exact h.act hi a1 (by rw [a2]; omega) (by rw [a2]; exact a3) a4 (Nat.le_succ _)
theorem smpR_ok : ∀ (N : Nat) (x : Int), ∀ c ∈ (smpR N x).1, 32 ≤ c ∧ c ≤ 126 := by
  intro N
  induction N with
  | zero => intro x c hc; cases hc
  | succ N ih =>
    intro x c hc
    rw [smpR_e] at hc
    rcases List.mem_cons.mp hc with q | q
    · have := lcg_R (x := x)
      rw [q]
      split <;> omega
    · exact ih _ c q
theorem smpL_ok : ∀ (N : Nat) (x : Int), ∀ r ∈ smpL N x, RowOk r := by
  intro N
  induction N with
  | zero => intro x r hr; cases hr
  | succ N ih =>
    intro x r hr
    rw [smpL_e] at hr
    have := lcg_R (x := x)
    rcases List.mem_cons.mp hr with q | q
    · rw [q]
      exact ⟨by rw [smpR_len]; omega, smpR_ok _ _⟩
    · exact ih _ r q
theorem smpL_ne {N : Nat} (h : 0 < N) : smpL N x ≠ [] := by
  intro e
  have := smpL_len N x
  rw [e] at this
  simp at this
  omega
theorem LK.sample (h : LK i n w) (hi : i < 24) : LK (i + 1) n (pSample x z w).2 := by
  obtain ⟨tp, sc, ⟨t, p, hh, oo, fi, mks, nn, rp⟩, ds, cl, re⟩ := w
  unfold pSample
  by_cases z1 : ¬ ((0 ≤ x ∧ x ≤ 65535) ∧ 1 ≤ z ∧ z ≤ 20)
  · rw [if_pos z1]; exact h.same hi
  rw [if_neg z1]
  have z1 : (0 ≤ x ∧ x ≤ 65535) ∧ 1 ≤ z ∧ z ≤ 20 := Classical.byContradiction z1
  by_cases z2 : 40 < (t.length : Int) + z
  · rw [if_pos z2]; exact h.same hi
  rw [if_neg z2]
  have hw : WF (t, p, hh, oo, fi, mks, nn, rp) := h.2.2.1
  have hd : ∀ q ∈ ds, DqK nn q := h.2.2.2.1.1
  have hl : ds.length ≤ 40 := h.2.2.2.1.2
  have hcl : cl ≤ i := h.2.2.2.2.1.1
  have hlen : (smpL z.toNat x).length = z.toNat := smpL_len _ _
  have e : sIns (t, p, hh, oo, fi, mks, nn, rp) t.length (smpL z.toNat x) = .inr (smpA (t, p, hh, oo, fi, mks, nn, rp) (smpL z.toNat x)) := by
    show (if 40 < t.length + (smpL z.toNat x).length then _ else _) = _
    rw [if_neg (by omega), List.take_length, List.drop_length, List.append_nil]
    rfl
  obtain ⟨a1, a2, a3⟩ := wf_sIns' hw ⟨smpL_ne (by omega), smpL_ok _ _⟩ (Nat.le_refl _) e
  refine h.act hi a1 (by show _ ≤ nn + 3000; omega) (fun q hq => ?_) (keepD_len hl) (Nat.le_refl _)
  rcases keepD_mem hq with v | v
  · exact (hd q v).up a2
  · rw [v]; exact (DqK.of (A := (t, p, hh, oo, fi, mks, nn, rp)) hw (by omega)).up a2
theorem LK.clearOut (h : LK i n w) (hi : i < 24) : LK (i + 1) n (pClearOut w).2 := by
  obtain ⟨tp, sc, ⟨t, p, hh, oo, fi, mks, nn, rp⟩, ds, cl, re⟩ := w
  have hw : WF (t, p, hh, oo, fi, mks, nn, rp) := h.2.2.1
  obtain ⟨w1, w2, w3, w4, w5, w6⟩ := hw.tt
  exact h.act (A' := (t, p, hh, [], fi, mks, nn, rp)) hi ⟨w1, w2, w3, w4, w5, w6, hw.hh, ⟨Nat.zero_le _, (fun r hr => (by cases hr))⟩, hw.ff⟩ (by show nn ≤ nn + 3000; omega) h.2.2.2.1.1 h.2.2.2.1.2 (Nat.le_succ _)
theorem LK.start : LK 0 0 ([], (fun _ => none), A0, [], 0, 0) := ⟨⟨SgO.nil, (fun k s e => (by cases e))⟩, ⟨Nat.zero_le _, (fun k s e => (by cases e))⟩, ⟨⟨Nat.le_refl _, fun z => absurd rfl z⟩, Nat.zero_le _, List.nodup_nil, (fun q hq => (by cases hq)), (fun k x e => (by cases e)), Int.le_refl _, ⟨Nat.zero_le _, (fun q hq => (by cases hq))⟩, ⟨Nat.zero_le _, (fun q hq => (by cases hq))⟩, fun k => ⟨Nat.zero_le _, (fun q hq => (by cases hq))⟩⟩, ⟨(fun q hq => (by cases hq)), Nat.zero_le _⟩, ⟨Nat.le_refl _, Int.le_refl _⟩, Nat.le_refl _, Nat.zero_le _⟩
end LKs
