set_option maxRecDepth 100000
/-! the twin's acts: lines that come -/
def ActQ (σ : TS) (R : Nat ⊕ St) (r : Option Int) (τ : TS) : Prop := AX σ τ ∧ match R with
  | .inl w => r = some (w : Int)
  | .inr A => r = some 0 ∧ TA A τ
def cBar : List Int → Nat
  | [] => 0
  | c :: l => if isChr c = true ∨ c = 124 then (if c = 124 then 1 else 0) + cBar l else 0
theorem dropc {α : Type} {k : Nat} {ps : List α} {y : α} (h : k < ps.length) : ps.drop k = ps.getD k y :: ps.drop (k + 1) := by
  rw [List.drop_eq_getElem_cons h, List.getD_eq_getElem?_getD, List.getElem?_eq_getElem h]; rfl
theorem dw_hd : ∀ (l : List Int), isChr (hd (l.dropWhile isChr)) = false := by
  intro l
  induction l with
  | nil => rfl
  | cons c l ih =>
    by_cases e : isChr c = true
    · rw [List.dropWhile_cons, if_pos e]; exact ih
    · rw [List.dropWhile_cons, if_neg e]; exact Bool.eq_false_iff.mpr e
theorem cBar_drop : ∀ (l : List Int), cBar l = cBar (l.dropWhile isChr) := by
  intro l
  induction l with
  | nil => rfl
  | cons c l ih =>
    by_cases e : isChr c = true
    · rw [List.dropWhile_cons, if_pos e, ← ih]
      have : c ≠ 124 := fun z => by rw [z] at e; revert e; decide
      show (if isChr c = true ∨ c = 124 then (if c = 124 then 1 else 0) + cBar l else 0) = _
      rw [if_pos (Or.inl e), if_neg this, Nat.zero_add]
    · rw [List.dropWhile_cons, if_neg e]
theorem pRows_cons {k : Nat} {l l1 r : List Int} {rs : List (List Int)} (h : pRows k l = .inr (l1, r :: rs)) : r = l.takeWhile isChr ∧ r.length ≤ 30 ∧ ((rs = [] ∧ ¬ hd (l.dropWhile isChr) = 124 ∧ l1 = l.dropWhile isChr) ∨ (hd (l.dropWhile isChr) = 124 ∧ ∃ k', pRows k' (l.dropWhile isChr).tail = .inr (l1, rs))) := by
  unfold pRows at h
  split at h
  · cases h
  · rename_i h30
    split at h
    · rename_i h124
      cases k with
      | zero => cases h
      | succ k =>
        dsimp only at h
        cases hq : pRows k (l.dropWhile isChr).tail with
        | inl f => rw [hq] at h; cases h
        | inr q =>
          obtain ⟨l2, rs2⟩ := q
          rw [hq] at h
          cases h
          exact ⟨rfl, by omega, Or.inr ⟨h124, k, hq⟩⟩
    · rename_i h124
      cases h
      exact ⟨rfl, by omega, Or.inl ⟨rfl, h124, rfl⟩⟩
theorem pRows_nil {k : Nat} {l l1 : List Int} : ¬ pRows k l = .inr (l1, []) := by
  intro h
  unfold pRows at h
  split at h
  · cases h
  · split at h
    · cases k with
      | zero => cases h
      | succ k =>
        dsimp only at h
        cases hq : pRows k (l.dropWhile isChr).tail with
        | inl f => rw [hq] at h; cases h
        | inr q => rw [hq] at h; cases h
    · cases h
theorem pRows_bar : ∀ (rs : List (List Int)) (k : Nat) (l l1 : List Int), pRows k l = .inr (l1, rs) → rs.length = cBar l + 1 := by
  intro rs
  induction rs with
  | nil => intro k l l1 h; exact absurd h pRows_nil
  | cons r rs ih =>
    intro k l l1 h
    obtain ⟨-, -, h3⟩ := pRows_cons h
    rw [cBar_drop l]
    have hw := dw_hd l
    rcases h3 with ⟨h4, h5, -⟩ | ⟨h4, k', h5⟩
    · subst h4
      cases hq : l.dropWhile isChr with
      | nil => rfl
      | cons c q =>
        rw [hq] at h5 hw
        have hw : isChr c = false := hw
        have h5 : ¬ c = 124 := h5
        show 1 = (if isChr c = true ∨ c = 124 then _ else 0) + 1
        rw [if_neg (by rw [hw]; simp [h5])]
    · cases hq : l.dropWhile isChr with
      | nil => rw [hq] at h4; exact absurd (show (0 : Int) = 124 from h4) (by decide)
      | cons c q =>
        rw [hq] at h4 h5
        have h4 : c = 124 := h4
        show rs.length + 1 = (if isChr c = true ∨ c = 124 then (if c = 124 then 1 else 0) + cBar q else 0) + 1
        rw [if_pos (Or.inr h4), if_pos h4, ih k' q l1 h5]
        omega
theorem mkL_len : ∀ (rs : List (List Int)) (n : Int), (mkL n rs).length = rs.length := by
  intro rs
  induction rs with
  | nil => intro n; rfl
  | cons r rs ih => intro n; show (mkL (n + 1) rs).length + 1 = _; rw [ih]; rfl
section TBri
variable {d : Nat} {σ τ : TS} {s l l1 : List Int} {fs as : List Nat} {pre mid post t : List SLine} {p : Nat} {h o : List (List Int)} {fi : Nat → List (List Int)} {m : Nat → Option Int} {n : Int} {rp : Bool} {rs : List (List Int)}
theorem sIns_z : sIns (pre ++ post, p, h, o, fi, m, n, rp) pre.length rs = if 40 < pre.length + post.length + rs.length then .inl 4 else .inr (pre ++ mkL n rs ++ post, pre.length + rs.length, h, o, fi, m, n + rs.length, rp) := by
  unfold sIns
  dsimp only
  rw [List.length_append, List.take_left' rfl, List.drop_left' rfl]
theorem T_lays' {row : Nat} {v : Int} {xs : List Int} (hv : v = row) (hrow : row < 868) (hM : MadeIs σ xs) (hl : xs.length < 100000) : TM (d + 1) tk_lays [.inr 0, .inl v] σ (fun r τ => r = some (b2i (decide (xs.length ≤ 30))) ∧ (xs.length ≤ 30 → RowIs τ row xs) ∧ (30 < xs.length → τ = σ) ∧ RSame (fun k => k = row) σ τ ∧ TFr [] [6] σ τ) := by
  subst hv; exact T_lays hrow hM hl
theorem T_rowsAt {x : Int} {k : Nat} (hs : SgnIs σ s) (hx : Sfx s l x) (hp : pRows k l = .inr (l1, rs)) : TE (d + 3) tk_rowsAt [.inr 0, .inl x] σ (some rs.length) σ := by
  have hbar := pRows_bar rs k l l1 hp
  have hnn : σ.1 22 = s.length := hs.1
  have h60 := hs.2.1
  refine TM.of rfl rfl ?_
  (iterate 4 (first | (refine TW.getf rfl rfl rfl (fun _ => ?_)) | (refine TW.pl rfl rfl ?_)))
  have loop : ∀ (q : List Int) (y c : Int), Sfx s q y → c + cBar q = rs.length → 0 ≤ c → c + q.length ≤ 100 → TW (d + 2) tc_rowsAt 4 [some (.inr 0), some (.inl x), some (.inl c), some (.inl y)] [] σ (fun r' σ' => some ((rs.length : Nat) : Int) = r' ∧ σ = σ') := by
    intro q
    induction q with
    | nil =>
      intro y c hy hc h0 h1
      have hyl := hy.len
      simp [cBar] at hyl hc
      (repeat (first | (refine TW.getf rfl rfl rfl (fun _ => ?_)) | (refine TW.pl rfl rfl ?_)))
      refine TW.br rfl rfl (by first | omega | exact b2i_R _ | exact ⟨b2i_R _, by omega⟩) (fun q1 => ?_) (fun q1 => ?_)
      · (repeat (first | (refine TW.getf rfl rfl rfl (fun _ => ?_)) | (refine TW.pl rfl rfl ?_)))
        exact TW.iret rfl ⟨by rw [hc], rfl⟩
      · omega
    | cons a q ih =>
      intro y c hy hc h0 h1
      have hyl := hy.len
      simp at hyl h1
      have ha := hs.at hy (by simp)
      have hhd : hd (a :: q) = a := rfl
      rw [hhd] at ha
      have hc1 : c + ((if isChr a = true ∨ a = 124 then (if a = 124 then 1 else 0) + cBar q else 0 : Nat) : Int) = rs.length := hc
      have go : (isChr a = true ∨ a = 124) → TW (d + 2) tc_rowsAt 20 [some (.inr 0), some (.inl x), some (.inl c), some (.inl y)] [] σ (fun r' σ' => some ((rs.length : Nat) : Int) = r' ∧ σ = σ') := by
        intro hh
        rw [if_pos hh] at hc1
        (repeat (first | (refine TW.getf rfl rfl rfl (fun _ => ?_)) | (refine TW.pl rfl rfl ?_)))
        refine TW.iald (n := 60) rfl rfl rfl (by omega) (fun _ => ?_)
        rw [ha.1]
        (repeat (first | (refine TW.getf rfl rfl rfl (fun _ => ?_)) | (refine TW.pl rfl rfl ?_)))
        refine TW.br rfl rfl (by first | omega | exact b2i_R _ | exact ⟨b2i_R _, by omega⟩) (fun q3 => ?_) (fun q3 => ?_)
        · rw [if_neg q3] at hc1
          (iterate 5 (first | (refine TW.getf rfl rfl rfl (fun _ => ?_)) | (refine TW.pl rfl rfl ?_)))
          exact ih (y + 1) (c + 0) (hy.step (by simp) rfl) (by omega) (by omega) (by omega)
        · rw [if_pos q3] at hc1
          (iterate 6 (first | (refine TW.getf rfl rfl rfl (fun _ => ?_)) | (refine TW.pl rfl rfl ?_)))
          exact ih (y + 1) (c + 1) (hy.step (by simp) rfl) (by omega) (by omega) (by omega)
      (repeat (first | (refine TW.getf rfl rfl rfl (fun _ => ?_)) | (refine TW.pl rfl rfl ?_)))
      refine TW.br rfl rfl (by first | omega | exact b2i_R _ | exact ⟨b2i_R _, by omega⟩) (fun q1 => ?_) (fun q1 => ?_)
      · omega
      (repeat (first | (refine TW.getf rfl rfl rfl (fun _ => ?_)) | (refine TW.pl rfl rfl ?_)))
      refine TW.iald (n := 60) rfl rfl rfl (by omega) (fun _ => ?_)
      rw [ha.1]
      refine TW.cs1 rfl rfl rfl (Nat.le_of_ble_eq_true rfl) (T_isChar (by omega)) ?_; rintro _ _ ⟨rfl, rfl⟩
      refine TW.br rfl rfl (by first | omega | exact b2i_R _ | exact ⟨b2i_R _, by omega⟩) (fun q2 => ?_) (fun q2 => ?_)
      · exact go (Or.inl (b2i_1 q2))
      (repeat (first | (refine TW.getf rfl rfl rfl (fun _ => ?_)) | (refine TW.pl rfl rfl ?_)))
      refine TW.iald (n := 60) rfl rfl rfl (by omega) (fun _ => ?_)
      rw [ha.1]
      (repeat (first | (refine TW.getf rfl rfl rfl (fun _ => ?_)) | (refine TW.pl rfl rfl ?_)))
      refine TW.br rfl rfl (by first | omega | exact b2i_R _ | exact ⟨b2i_R _, by omega⟩) (fun q3 => ?_) (fun q3 => ?_)
      · rw [if_neg (by rw [b2i_0 q2]; simp [q3])] at hc1
        (repeat (first | (refine TW.getf rfl rfl rfl (fun _ => ?_)) | (refine TW.pl rfl rfl ?_)))
        exact TW.iret rfl ⟨by rw [← hc1]; simp, rfl⟩
      · exact go (Or.inr q3)
  have := hx.len
  exact loop l x 1 hx (by omega) (by decide) (by omega)
theorem T_makeTold {x : Int} (hs : SgnIs σ s) (hx : Sfx s l x) : TM (d + 3) tk_makeTold [.inr 0, .inl x] σ (fun r τ => (∃ y, r = some y ∧ Sfx s (l.dropWhile isChr) y) ∧ MadeIs τ (l.takeWhile isChr) ∧ TFr [20] [19] σ τ) := by
  have h60 := hs.2.1
  refine TM.of rfl rfl ?_
  (repeat (first | (refine TW.getf rfl rfl rfl (fun _ => ?_)) | (refine TW.pl rfl rfl ?_)))
  refine TW.putf rfl rfl (by omega) ?_
  have loop : ∀ (q : List Int) (y : Int) (done : List Int) (τ : TS), Sfx s q y → done ++ q.takeWhile isChr = l.takeWhile isChr → q.dropWhile isChr = l.dropWhile isChr → done.length + q.length ≤ 60 → MadeIs τ done → TFr [20] [19] σ τ → TW (d + 2) tc_makeTold 5 [some (.inr 0), some (.inl x), some (.inl y)] [] τ (fun r τ => (∃ y, r = some y ∧ Sfx s (l.dropWhile isChr) y) ∧ MadeIs τ (l.takeWhile isChr) ∧ TFr [20] [19] σ τ) := by
    intro q
    induction q with
    | nil =>
      intro y done τ hy e1 e2 hl hm hf
      have hyl := hy.len
      have hnn : τ.1 22 = s.length := (hf.1 22 (by decide)).trans hs.1
      simp at hyl e1 e2
      (repeat (first | (refine TW.getf rfl rfl rfl (fun _ => ?_)) | (refine TW.pl rfl rfl ?_)))
      refine TW.br rfl rfl (by first | omega | exact b2i_R _ | exact ⟨b2i_R _, by omega⟩) (fun q1 => ?_) (fun q1 => ?_)
      · (repeat (first | (refine TW.getf rfl rfl rfl (fun _ => ?_)) | (refine TW.pl rfl rfl ?_)))
        refine TW.iret rfl ⟨⟨y, rfl, ?_⟩, ?_, hf⟩
        · rw [e2]; exact hy
        · rw [← e1]; exact hm
      · omega
    | cons a q ih =>
      intro y done τ hy e1 e2 hl hm hf
      have hyl := hy.len
      have hnn : τ.1 22 = s.length := (hf.1 22 (by decide)).trans hs.1
      have hsτ := hs.fr hf (by decide) (by decide)
      simp at hyl hl
      have ha := hsτ.at hy (by simp)
      have hhd : hd (a :: q) = a := rfl
      rw [hhd] at ha
      (repeat (first | (refine TW.getf rfl rfl rfl (fun _ => ?_)) | (refine TW.pl rfl rfl ?_)))
      refine TW.br rfl rfl (by first | omega | exact b2i_R _ | exact ⟨b2i_R _, by omega⟩) (fun q1 => ?_) (fun q1 => ?_)
      · omega
      (repeat (first | (refine TW.getf rfl rfl rfl (fun _ => ?_)) | (refine TW.pl rfl rfl ?_)))
      refine TW.iald (n := 60) rfl rfl rfl (by omega) (fun _ => ?_)
      rw [ha.1]
      refine TW.cs1 rfl rfl rfl (Nat.le_of_ble_eq_true rfl) (T_isChar (by omega)) ?_; rintro _ _ ⟨rfl, rfl⟩
      refine TW.br rfl rfl (by first | omega | exact b2i_R _ | exact ⟨b2i_R _, by omega⟩) (fun q2 => ?_) (fun q2 => ?_)
      · obtain ⟨e3, e4⟩ := dropWhile_stop (l := a :: q) (b2i_0 q2)
        rw [e3] at e2
        rw [e4, List.append_nil] at e1
        (repeat (first | (refine TW.getf rfl rfl rfl (fun _ => ?_)) | (refine TW.pl rfl rfl ?_)))
        refine TW.iret rfl ⟨⟨y, rfl, ?_⟩, ?_, hf⟩
        · rw [← e2]; exact hy
        · rw [← e1]; exact hm
      · obtain ⟨e3, e4⟩ := dropWhile_tail (l := a :: q) (b2i_1 q2)
        (repeat (first | (refine TW.getf rfl rfl rfl (fun _ => ?_)) | (refine TW.pl rfl rfl ?_)))
        refine TW.iald (n := 60) rfl rfl rfl (by omega) (fun _ => ?_)
        rw [ha.1]
        refine TW.cv1 rfl rfl rfl (Nat.le_of_ble_eq_true rfl) (T_makes hm (by omega) (by omega)) ?_
        rintro _ τ1 ⟨rfl, hm1, hf1⟩
        (iterate 2 (first | (refine TW.getf rfl rfl rfl (fun _ => ?_)) | (refine TW.pl rfl rfl ?_)))
        refine ih (y + 1) _ τ1 (hy.step (by simp) rfl) ?_ ?_ (by simp; omega) hm1 (hf.trans hf1)
        · rw [List.append_assoc]; rw [e4] at e1; exact e1
        · rw [← e2]; exact e3
  have := hx.len
  exact loop l x [] _ hx rfl rfl (by simp; omega) MadeIs.nil (TFr.rf.ts1 (by decide))
theorem T_bringTold {x b c : Int} {k : Nat} (hs : SgnIs σ s) (hA : TA (pre ++ post, p, h, o, fi, m, n, rp) σ) (hx : Sfx s l x) (hp : pRows k l = .inr (l1, rs)) (hroom : pre.length + post.length + rs.length ≤ 40) (hn : 0 ≤ n ∧ n < 900000) (hc : c = rs.length) (hb : b = pre.length) : TM (d + 4) tk_bringTold [.inr 0, .inl x, .inl c, .inl b] σ (fun r τ => r = none ∧ TA (pre ++ mkL n rs ++ post, p, h, o, fi, m, n + rs.length, rp) τ ∧ RSame (fun k => k < 41 ∨ k = 429) σ τ ∧ TFr [12, 17, 20] [6, 7, 19] σ τ) := by
  refine TM.of rfl rfl ?_
  (iterate 4 (first | (refine TW.getf rfl rfl rfl (fun _ => ?_)) | (refine TW.pl rfl rfl ?_)))
  have loop : ∀ (rs' : List (List Int)) (pre' : List SLine) (n' j y : Int) (τ : TS), j + rs'.length = rs.length → 0 ≤ j → TA (pre' ++ post, p, h, o, fi, m, n', rp) τ → (rs' = [] ∨ ∃ kk ll l2, Sfx s ll y ∧ pRows kk ll = .inr (l2, rs')) → (pre'.length : Int) = pre.length + j → pre' ++ mkL n' rs' = pre ++ mkL n rs → n' + rs'.length = n + rs.length → RSame (fun k => k < 41 ∨ k = 429) σ τ → TFr [12, 17, 20] [6, 7, 19] σ τ → TW (d + 3) tc_bringTold 4 [some (.inr 0), some (.inl x), some (.inl c), some (.inl b), some (.inl y), some (.inl j)] [] τ (fun r τ => r = none ∧ TA (pre ++ mkL n rs ++ post, p, h, o, fi, m, n + rs.length, rp) τ ∧ RSame (fun k => k < 41 ∨ k = 429) σ τ ∧ TFr [12, 17, 20] [6, 7, 19] σ τ) := by
    intro rs'
    induction rs' with
    | nil =>
      intro pre' n' j y τ hj h0 hA' hq hpl he hn' hsm hf
      simp [mkL] at hj he hn'
      (repeat (first | (refine TW.getf rfl rfl rfl (fun _ => ?_)) | (refine TW.pl rfl rfl ?_)))
      refine TW.br rfl rfl (by first | omega | exact b2i_R _ | exact ⟨b2i_R _, by omega⟩) (fun q1 => ?_) (fun q1 => ?_)
      · refine TW.vret rfl ⟨rfl, ?_, hsm, hf⟩
        rw [← he, ← hn']
        exact hA'
      · omega
    | cons r rs' ih =>
      intro pre' n' j y τ hj h0 hA' hq hpl he hn' hsm hf
      obtain ⟨kk, ll, l2, hy, hpp⟩ := hq.resolve_left (by simp)
      obtain ⟨hr, hr30, hnx⟩ := pRows_cons hpp
      have hsτ := hs.fr hf (by decide) (by decide)
      simp at hj hn'
      (repeat (first | (refine TW.getf rfl rfl rfl (fun _ => ?_)) | (refine TW.pl rfl rfl ?_)))
      refine TW.br rfl rfl (by first | omega | exact b2i_R _ | exact ⟨b2i_R _, by omega⟩) (fun q1 => ?_) (fun q1 => ?_)
      · omega
      (repeat (first | (refine TW.getf rfl rfl rfl (fun _ => ?_)) | (refine TW.pl rfl rfl ?_)))
      refine TW.cv1 rfl rfl rfl (Nat.le_of_ble_eq_true rfl) (T_makeTold hsτ hy) ?_
      rintro _ τ1 ⟨⟨y1, rfl, hy1⟩, hm1, hf1⟩
      rw [← hr] at hm1
      have hA1 : TA (pre' ++ post, p, h, o, fi, m, n', rp) τ1 := hA'.fr hf1 (by decide) (by decide)
      (repeat (first | (refine TW.getf rfl rfl rfl (fun _ => ?_)) | (refine TW.pl rfl rfl ?_)))
      refine TW.cv1 rfl rfl rfl (Nat.le_of_ble_eq_true rfl) (T_lays' (row := 429) rfl (by decide) hm1 (by omega)) ?_
      rintro _ τ2 ⟨rfl, hr2, -, hs2, hf2⟩
      have hA2 : TA (pre' ++ post, p, h, o, fi, m, n', rp) τ2 := hA1.rs hf2 hs2 (by decide) (by decide) (fun k z => by omega)
      (repeat (first | (refine TW.getf rfl rfl rfl (fun _ => ?_)) | (refine TW.pl rfl rfl ?_)))
      refine TW.cv2 rfl rfl rfl (Nat.le_of_ble_eq_true rfl) (T_bringA (row := 429) hA2 (by omega) (hr2 hr30) rfl (by decide) (by omega) (by omega)) ?_
      rintro _ τ3 ⟨rfl, hA3, hs3, hf3⟩
      (iterate 2 (first | (refine TW.getf rfl rfl rfl (fun _ => ?_)) | (refine TW.pl rfl rfl ?_)))
      refine ih (pre' ++ [(n', r)]) (n' + 1) (j + 1) (y1 + 1) τ3 (by omega) (by omega) (by rw [List.append_assoc]; exact hA3) ?_ (by simp; omega) ?_ (by omega) ?_ ?_
      · rcases hnx with ⟨z, _⟩ | ⟨h124, k', hp'⟩
        · exact Or.inl z
        · exact Or.inr ⟨k', _, l2, hy1.step (hd_ne h124 (by decide)) rfl, hp'⟩
      · rw [List.append_assoc]; exact he
      · intro q hq
        rw [hs3 q (fun z => hq (Or.inl z)), hs2 q (fun z => hq (Or.inr z)), hf1.2 6 (by decide)]
        exact hsm q hq
      · exact hf.trans ((hf1.mono (by decide) (by decide)).trans ((hf2.mono (by decide) (by decide)).trans (hf3.mono (by decide) (by decide))))
  subst hc
  exact loop rs pre n 0 x σ (by omega) (by decide) hA (Or.inr ⟨k, l, l1, hx, hp⟩) (by omega) rfl rfl (fun _ _ => rfl) TFr.rf
theorem T_append {x b : Int} {k : Nat} (hs : SgnIs σ s) (hA : TA (pre ++ post, p, h, o, fi, m, n, rp) σ) (hx : Sfx s l x) (hp : pRows k l = .inr (l1, rs)) (hn : 0 ≤ n ∧ n < 900000) (hb : b = pre.length) : TM (d + 5) tk_append [.inr 0, .inl x, .inl b] σ (ActQ σ (sIns (pre ++ post, p, h, o, fi, m, n, rp) pre.length rs)) := by
  have hm : σ.1 12 = pre.length + post.length := by have := hA.1.1; simp at this; exact this
  have h40 : pre.length + post.length ≤ 40 := by have := hA.1.2.1; simp at this; exact this
  have hrl : rs.length ≤ 1000 := by
    have h1 := pRows_bar rs k l l1 hp
    have h2 : ∀ q : List Int, cBar q ≤ q.length := by
      intro q
      induction q with
      | nil => exact Nat.le_refl _
      | cons a q ih =>
        show (if isChr a = true ∨ a = 124 then (if a = 124 then 1 else 0) + cBar q else 0) ≤ q.length + 1
        split <;> (try split) <;> omega
    have := h2 l
    have := hx.len
    have := hs.2.1
    omega
  rw [sIns_z]
  refine TM.of rfl rfl ?_
  (repeat (first | (refine TW.getf rfl rfl rfl (fun _ => ?_)) | (refine TW.pl rfl rfl ?_)))
  refine TW.cv1 rfl rfl rfl (Nat.le_of_ble_eq_true rfl) (T_rowsAt hs hx hp) ?_; rintro _ _ ⟨rfl, rfl⟩
  (repeat (first | (refine TW.getf rfl rfl rfl (fun _ => ?_)) | (refine TW.pl rfl rfl ?_)))
  refine TW.br rfl rfl (by first | omega | exact b2i_R _ | exact ⟨b2i_R _, by omega⟩) (fun q1 => ?_) (fun q1 => ?_)
  · rw [if_neg (by omega)]
    (repeat (first | (refine TW.getf rfl rfl rfl (fun _ => ?_)) | (refine TW.pl rfl rfl ?_)))
    refine TW.cv3 rfl rfl rfl (Nat.le_of_ble_eq_true rfl) (T_bringTold hs hA hx hp (by omega) hn rfl hb) ?_
    rintro _ τ1 ⟨rfl, hA1, hs1, hf1⟩
    (repeat (first | (refine TW.getf rfl rfl rfl (fun _ => ?_)) | (refine TW.pl rfl rfl ?_)))
    refine TW.putf rfl rfl (by omega) ?_
    (repeat (first | (refine TW.getf rfl rfl rfl (fun _ => ?_)) | (refine TW.pl rfl rfl ?_)))
    refine TW.iret rfl ⟨?_, rfl, hA1.pres (by omega)⟩
    exact AX.row ((hf1.mono (fs' := [12, 16, 17, 20]) (as' := [6, 7, 19]) (by decide) (by decide)).ts1 (by decide)) hs1.t1 (by decide) (by decide) (fun k z => by omega)
  · rw [if_pos (by omega)]
    (repeat (first | (refine TW.getf rfl rfl rfl (fun _ => ?_)) | (refine TW.pl rfl rfl ?_)))
    exact TW.iret rfl ⟨AX.rf, rfl⟩
theorem T_change {x : Int} {k : Nat} (hs : SgnIs σ s) (hA : TA (pre ++ mid ++ post, p, h, o, fi, m, n, rp) σ) (hid : ∀ q ∈ mid, 0 ≤ q.1 ∧ q.1 < 1000000) (hf : (σ.1 42) = pre.length + 1) (hl : (σ.1 43) = pre.length + mid.length) (hx : Sfx s l x) (hp : pRows k l = .inr (l1, rs)) (hn : 0 ≤ n ∧ n < 900000) (hrl : rs.length ≤ 1000) : TM (d + 5) tk_change [.inr 0, .inl x] σ (ActQ σ (sIns (pre ++ post, p, h, o, fi, unmL m (idsOfL mid), n, rp) pre.length rs)) := by
  have hm : σ.1 12 = pre.length + mid.length + post.length := by have := hA.1.1; simp at this; omega
  have h40 : pre.length + mid.length + post.length ≤ 40 := by have := hA.1.2.1; simp at this; omega
  rw [sIns_z]
  refine TM.of rfl rfl ?_
  (repeat (first | (refine TW.getf rfl rfl rfl (fun _ => ?_)) | (refine TW.pl rfl rfl ?_)))
  refine TW.cv1 rfl rfl rfl (Nat.le_of_ble_eq_true rfl) (T_rowsAt hs hx hp) ?_; rintro _ _ ⟨rfl, rfl⟩
  (repeat (first | (refine TW.getf rfl rfl rfl (fun _ => ?_)) | (refine TW.pl rfl rfl ?_)))
  refine TW.br rfl rfl (by first | omega | exact b2i_R _ | exact ⟨b2i_R _, by omega⟩) (fun q1 => ?_) (fun q1 => ?_)
  · rw [if_neg (by omega)]
    (repeat (first | (refine TW.getf rfl rfl rfl (fun _ => ?_)) | (refine TW.pl rfl rfl ?_)))
    refine TW.cv0 rfl rfl rfl (Nat.le_of_ble_eq_true rfl) (T_goAll hA hid hf hl) ?_
    rintro _ τ1 ⟨rfl, hA1, hs1, hf1⟩
    have h42 : τ1.1 42 = pre.length + 1 := (hf1.1 42 (by decide)).trans hf
    (repeat (first | (refine TW.getf rfl rfl rfl (fun _ => ?_)) | (refine TW.pl rfl rfl ?_)))
    refine TW.cv3 rfl rfl rfl (Nat.le_of_ble_eq_true rfl) (T_bringTold (hs.fr hf1 (by decide) (by decide)) hA1 hx hp (by omega) hn rfl (by omega)) ?_
    rintro _ τ2 ⟨rfl, hA2, hs2, hf2⟩
    have h42' : τ2.1 42 = pre.length + 1 := (hf2.1 42 (by decide)).trans h42
    (repeat (first | (refine TW.getf rfl rfl rfl (fun _ => ?_)) | (refine TW.pl rfl rfl ?_)))
    refine TW.putf rfl rfl (by omega) ?_
    (repeat (first | (refine TW.getf rfl rfl rfl (fun _ => ?_)) | (refine TW.pl rfl rfl ?_)))
    refine TW.iret rfl ⟨?_, rfl, hA2.pres (by omega)⟩
    refine AX.row (((hf1.mono (fs' := [12, 16, 17, 20]) (as' := [6, 7, 10, 19]) (by decide) (by decide)).trans (hf2.mono (by decide) (by decide))).ts1 (by decide)) (P := fun k => k < 41 ∨ k = 429) (fun q hq => ?_) (by decide) (by decide) (fun k z => by omega)
    rw [ts1_2, hs2 q hq, hs1 q (fun z => hq (Or.inl z))]
  · rw [if_pos (by omega)]
    (repeat (first | (refine TW.getf rfl rfl rfl (fun _ => ?_)) | (refine TW.pl rfl rfl ?_)))
    exact TW.iret rfl ⟨AX.rf, rfl⟩
theorem T_delete (hA : TA (pre ++ mid ++ post, p, h, o, fi, m, n, rp) σ) (hid : ∀ q ∈ mid, 0 ≤ q.1 ∧ q.1 < 1000000) (hf : (σ.1 42) = pre.length + 1) (hl : (σ.1 43) = pre.length + mid.length) : TM (d + 5) tk_delete [.inr 0] σ (ActQ σ (.inr (pre ++ post, min (pre.length + 1) (pre.length + post.length), h, o, fi, unmL m (idsOfL mid), n, rp))) := by
  have h40 : pre.length + mid.length + post.length ≤ 40 := by have := hA.1.2.1; simp at this; omega
  refine TM.of rfl rfl ?_
  (repeat (first | (refine TW.getf rfl rfl rfl (fun _ => ?_)) | (refine TW.pl rfl rfl ?_)))
  refine TW.cv0 rfl rfl rfl (Nat.le_of_ble_eq_true rfl) (T_goAll hA hid hf hl) ?_
  rintro _ τ1 ⟨rfl, hA1, hs1, hf1⟩
  have h42 : τ1.1 42 = pre.length + 1 := (hf1.1 42 (by decide)).trans hf
  have hm1 : τ1.1 12 = pre.length + post.length := by have := hA1.1.1; simp at this; exact this
  have fr : ∀ v, AX σ (ts1 τ1 16 v) := fun v => AX.row ((hf1.mono (fs' := [12, 16]) (as' := [6, 7, 10]) (by decide) (by decide)).ts1 (by decide)) hs1.t1 (by decide) (by decide) (fun k z => by omega)
  (repeat (first | (refine TW.getf rfl rfl rfl (fun _ => ?_)) | (refine TW.pl rfl rfl ?_)))
  refine TW.br rfl rfl (by first | omega | exact b2i_R _ | exact ⟨b2i_R _, by omega⟩) (fun q1 => ?_) (fun q1 => ?_)
  · (repeat (first | (refine TW.getf rfl rfl rfl (fun _ => ?_)) | (refine TW.pl rfl rfl ?_)))
    refine TW.putf rfl rfl (by omega) ?_
    (repeat (first | (refine TW.getf rfl rfl rfl (fun _ => ?_)) | (refine TW.pl rfl rfl ?_)))
    exact TW.iret rfl ⟨fr _, rfl, hA1.pres (by omega)⟩
  · (repeat (first | (refine TW.getf rfl rfl rfl (fun _ => ?_)) | (refine TW.pl rfl rfl ?_)))
    refine TW.putf rfl rfl (by omega) ?_
    (repeat (first | (refine TW.getf rfl rfl rfl (fun _ => ?_)) | (refine TW.pl rfl rfl ?_)))
    exact TW.iret rfl ⟨fr _, rfl, hA1.pres (by omega)⟩
end TBri
