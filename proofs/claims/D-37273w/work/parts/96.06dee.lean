set_option maxRecDepth 100000
/-! saving, coming back, deeds -/
def TA0 (A : St) (σ : TS) : Prop := TextIs σ A.1 ∧ (σ.1 16) = A.2.1 ∧ TR σ A.2.2.1 A.2.2.2.1 A.2.2.2.2.1 ∧ MarksIs σ A.2.2.2.2.2.1 ∧ (σ.1 17) = A.2.2.2.2.2.2.1
def SavIs (σ0 τ : TS) : Prop := (∀ j, j < 12028 → τ.2 6 (14880 + j) = σ0.2 6 j) ∧ (∀ j, j < 41 → τ.2 47 j = σ0.2 7 j) ∧ (∀ j, j < 5 → τ.2 48 j = σ0.2 10 j) ∧ (∀ j, j < 4 → τ.2 49 j = σ0.2 11 j) ∧ τ.1 50 = σ0.1 12 ∧ τ.1 51 = σ0.1 14 ∧ τ.1 52 = σ0.1 15 ∧ τ.1 53 = σ0.1 16 ∧ τ.1 54 = σ0.1 17
def SavA (A : St) (τ : TS) : Prop := ∃ σ0, TA0 A σ0 ∧ SavIs σ0 τ
/-- what a deed is: its call, text, present line, marks -/
def RowA (σ : TS) (a b : Nat) (xs : List Int) : Prop := σ.2 a b = xs.length ∧ xs.length ≤ 30 ∧ ∀ j, j < xs.length → σ.2 a (b + 1 + j) = xs.getD j 0
def DeedAt (σ : TS) (d : Nat) (q : SDeed) : Prop := (σ.2 60 (d)) = q.1 ∧ ((σ.2 58 (d)) = q.2.1.length ∧ q.2.1.length ≤ 40) ∧ (σ.2 59 (d)) = q.2.2.1 ∧ (∀ k, k < q.2.1.length → RowA σ 55 (1240 * d + 31 * k) (q.2.1.getD k (0, [])).2 ∧ (σ.2 56 (40 * d + k)) = (q.2.1.getD k (0, [])).1) ∧ ∀ k, k < 5 → (σ.2 57 (5 * d + k)) = (q.2.2.2 k).getD (-1) ∧ ∀ x, q.2.2.2 k = some x → 0 ≤ x
def DeedsIs (σ : TS) (ds : List SDeed) : Prop := (σ.1 62) = ds.length ∧ ds.length ≤ 40 ∧ ∃ fd : Nat, (σ.1 61) = fd ∧ fd < 40 ∧ ∀ i, i < ds.length → DeedAt σ ((fd + i) % 40) (ds.getD i (0, [], 0, fun _ => none))
section TDee
variable {d : Nat} {σ τ σ0 : TS} {s l l1 l2 : List Int} {A : St} {fs as : List Nat} {t : List SLine} {p : Nat} {h o : List (List Int)} {fi : Nat → List (List Int)} {m : Nat → Option Int} {n : Int} {rp : Bool} {ds : List SDeed}
theorem TA.t0 (h : TA A σ) : TA0 A σ := ⟨h.1, h.2.1, h.2.2.1, h.2.2.2.1, h.2.2.2.2.1⟩
theorem TA0.ta (h : TA0 A σ) (hr : (σ.1 44) = b2i A.2.2.2.2.2.2.2) : TA A σ := ⟨h.1, h.2.1, h.2.2.1, h.2.2.2.1, h.2.2.2.2, hr⟩
theorem TA0.setR (h : TA0 A σ) (b : Bool) : TA0 (setR A b) σ := by obtain ⟨t, p, hh, o, fi, m, n, rp⟩ := A; exact h
theorem TA0.fr (h : TA0 A σ) (hf : TFr fs as σ τ) (h1 : ∀ k ∈ [12, 14, 15, 16, 17], k ∉ fs) (h2 : ∀ k ∈ [6, 7, 10, 11], k ∉ as) : TA0 A τ := by
  obtain ⟨a, b, c, e, g⟩ := h
  exact ⟨a.fr (hf.1 12 (h1 12 (by decide))) (hf.2 6 (h2 6 (by decide))) (hf.2 7 (h2 7 (by decide))), by rw [hf.1 16 (h1 16 (by decide))]; exact b, c.same hf (RSame.no hf (h2 6 (by decide))) (fun k hk => h1 k (by simp at hk ⊢; omega)) (h2 11 (by decide)) (fun k z => z.elim), e.fr (hf.2 10 (h2 10 (by decide))), by rw [hf.1 17 (h1 17 (by decide))]; exact g⟩
/-- the cells that a state is kept in -/
theorem TA0.cells (h : TA0 A σ) (h6 : ∀ j, j < 12028 → τ.2 6 j = σ.2 6 j) (h7 : ∀ j, j < 41 → τ.2 7 j = σ.2 7 j) (h10 : ∀ j, j < 5 → τ.2 10 j = σ.2 10 j) (h11 : ∀ j, j < 4 → τ.2 11 j = σ.2 11 j) (hf : ∀ k ∈ [12, 14, 15, 16, 17], τ.1 k = σ.1 k) : TA0 A τ := by
  have row : ∀ (k : Nat) (xs : List Int), k < 388 → RowIs σ k xs → RowIs τ k xs := fun k xs hk hr => by
    have := hr.2.1
    exact ⟨by rw [h6 _ (by omega)]; exact hr.1, hr.2.1, fun j hj => by rw [h6 _ (by omega)]; exact hr.2.2 j hj⟩
  obtain ⟨⟨a1, a2, a3⟩, b, ⟨⟨c1, c2, c3⟩, ⟨e1, e2, e3⟩, g⟩, i, u⟩ := h
  refine ⟨⟨(hf 12 (by decide)).trans a1, a2, fun k hk => ⟨row _ _ (by omega) (a3 k hk).1, by rw [h7 k (by omega)]; exact (a3 k hk).2⟩⟩, (hf 16 (by decide)).trans b, ⟨⟨(hf 14 (by decide)).trans c1, c2, fun k hk => row _ _ (by omega) (c3 k hk)⟩, ⟨(hf 15 (by decide)).trans e1, e2, fun k hk => row _ _ (by omega) (e3 k hk)⟩, fun k hk => ?_⟩, fun k hk => by rw [h10 k hk]; exact i k hk, (hf 17 (by decide)).trans u⟩
  obtain ⟨g1, g2, g3⟩ := g k hk
  rw [h11 k hk]
  exact ⟨g1, g2, fun j hj => row _ _ (by omega) (g3 j hj)⟩
theorem SavIs.fr (h : SavIs σ0 σ) (hf : TFr fs as σ τ) (hs : RSame (fun k => k < 480) σ τ) (h1 : ∀ k ∈ [50, 51, 52, 53, 54], k ∉ fs) (h2 : ∀ k ∈ [47, 48, 49], k ∉ as) : SavIs σ0 τ := by
  obtain ⟨a, b, c, e, g1, g2, g3, g4, g5⟩ := h
  exact ⟨fun j hj => by rw [hs _ (by omega)]; exact a j hj, fun j hj => by rw [hf.2 47 (h2 47 (by decide))]; exact b j hj, fun j hj => by rw [hf.2 48 (h2 48 (by decide))]; exact c j hj, fun j hj => by rw [hf.2 49 (h2 49 (by decide))]; exact e j hj, (hf.1 50 (h1 50 (by decide))).trans g1, (hf.1 51 (h1 51 (by decide))).trans g2, (hf.1 52 (h1 52 (by decide))).trans g3, (hf.1 53 (h1 53 (by decide))).trans g4, (hf.1 54 (h1 54 (by decide))).trans g5⟩
theorem SavA.fr (h : SavA A σ) (hf : TFr fs as σ τ) (hs : RSame (fun k => k < 480) σ τ) (h1 : ∀ k ∈ [50, 51, 52, 53, 54], k ∉ fs) (h2 : ∀ k ∈ [47, 48, 49], k ∉ as) : SavA A τ := by
  obtain ⟨σ0, a, b⟩ := h
  exact ⟨σ0, a, b.fr hf hs h1 h2⟩
theorem T_save : TM (d + 1) tk_save [.inr 0] σ (fun r τ => r = none ∧ SavIs σ τ ∧ RSame (fun k => 480 ≤ k) σ τ ∧ TFr [50, 51, 52, 53, 54] [6, 47, 48, 49] σ τ) := by
  refine TM.of rfl rfl ?_
  (iterate 2 (first | (refine TW.getf rfl rfl rfl (fun _ => ?_)) | (refine TW.pl rfl rfl ?_)))
  refine L_sav0 (fun τ1 k1 _ c1 => ?_)
  (iterate 2 (first | (refine TW.getf rfl rfl rfl (fun _ => ?_)) | (refine TW.pl rfl rfl ?_)))
  refine L_sav1 (fun τ2 k2 _ c2 => ?_)
  (iterate 2 (first | (refine TW.getf rfl rfl rfl (fun _ => ?_)) | (refine TW.pl rfl rfl ?_)))
  refine L_sav2 (fun τ3 k3 _ c3 => ?_)
  (iterate 2 (first | (refine TW.getf rfl rfl rfl (fun _ => ?_)) | (refine TW.pl rfl rfl ?_)))
  refine L_sav3 (fun τ4 k4 _ c4 => ?_)
  have e1 : τ4.1 = σ.1 := by rw [c4.1, c3.1, c2.1, c1.1]
  (repeat (first | (refine TW.getf rfl rfl rfl (fun _ => ?_)) | (refine TW.pl rfl rfl ?_)))
  refine TW.putf rfl rfl (by omega) ?_
  (repeat (first | (refine TW.getf rfl rfl rfl (fun _ => ?_)) | (refine TW.pl rfl rfl ?_)))
  refine TW.putf rfl rfl (by omega) ?_
  (repeat (first | (refine TW.getf rfl rfl rfl (fun _ => ?_)) | (refine TW.pl rfl rfl ?_)))
  refine TW.putf rfl rfl (by omega) ?_
  (repeat (first | (refine TW.getf rfl rfl rfl (fun _ => ?_)) | (refine TW.pl rfl rfl ?_)))
  refine TW.putf rfl rfl (by omega) ?_
  (repeat (first | (refine TW.getf rfl rfl rfl (fun _ => ?_)) | (refine TW.pl rfl rfl ?_)))
  refine TW.putf rfl rfl (by omega) ?_
  refine TW.vret rfl ⟨rfl, ⟨fun j hj => ?_, fun j hj => ?_, fun j hj => ?_, fun j hj => ?_, ?_, ?_, ?_, ?_, ?_⟩, fun j hj => ?_, ?_⟩
  · show τ4.2 6 (14880 + j) = _
    rw [c4.fr.2 6 (by decide), c3.fr.2 6 (by decide), c2.fr.2 6 (by decide), c1.at hj rfl, Nat.zero_add]
  · show τ4.2 47 j = _
    rw [c4.fr.2 47 (by decide), c3.fr.2 47 (by decide), c2.at hj (by omega), Nat.zero_add, c1.fr.2 7 (by decide)]
  · show τ4.2 48 j = _
    rw [c4.fr.2 48 (by decide), c3.at hj (by omega), Nat.zero_add, c2.fr.2 10 (by decide), c1.fr.2 10 (by decide)]
  · show τ4.2 49 j = _
    rw [c4.at hj (by omega), Nat.zero_add, c3.fr.2 11 (by decide), c2.fr.2 11 (by decide), c1.fr.2 11 (by decide)]
  · rw [ts1_ne (by decide), ts1_ne (by decide), ts1_ne (by decide), ts1_ne (by decide), ts1_eq, e1]
  · rw [ts1_ne (by decide), ts1_ne (by decide), ts1_ne (by decide), ts1_eq, ts1_ne (by decide), e1]
  · rw [ts1_ne (by decide), ts1_ne (by decide), ts1_eq, ts1_ne (by decide), ts1_ne (by decide), e1]
  · rw [ts1_ne (by decide), ts1_eq, ts1_ne (by decide), ts1_ne (by decide), ts1_ne (by decide), e1]
  · rw [ts1_eq, ts1_ne (by decide), ts1_ne (by decide), ts1_ne (by decide), ts1_ne (by decide), e1]
  · show τ4.2 6 j = _
    rw [c4.fr.2 6 (by decide), c3.fr.2 6 (by decide), c2.fr.2 6 (by decide), c1.2, if_neg (by omega)]
  · have f4 : TFr [50, 51, 52, 53, 54] [6, 47, 48, 49] σ τ4 := (c1.fr.mono (by decide) (by decide)).trans ((c2.fr.mono (by decide) (by decide)).trans ((c3.fr.mono (by decide) (by decide)).trans (c4.fr.mono (by decide) (by decide))))
    exact ((((f4.ts1 (by decide)).ts1 (by decide)).ts1 (by decide)).ts1 (by decide)).ts1 (by decide)
theorem T_comeBack (hS : SavA A σ) : TM (d + 1) tk_comeBack [.inr 0] σ (fun r τ => r = none ∧ TA0 A τ ∧ RSame (fun k => k < 388) σ τ ∧ TFr [12, 14, 15, 16, 17] [6, 7, 10, 11] σ τ) := by
  obtain ⟨σ0, hA, a, b, c, e, g1, g2, g3, g4, g5⟩ := hS
  refine TM.of rfl rfl ?_
  (iterate 2 (first | (refine TW.getf rfl rfl rfl (fun _ => ?_)) | (refine TW.pl rfl rfl ?_)))
  refine L_com0 (fun τ1 k1 _ c1 => ?_)
  (iterate 2 (first | (refine TW.getf rfl rfl rfl (fun _ => ?_)) | (refine TW.pl rfl rfl ?_)))
  refine L_com1 (fun τ2 k2 _ c2 => ?_)
  (iterate 2 (first | (refine TW.getf rfl rfl rfl (fun _ => ?_)) | (refine TW.pl rfl rfl ?_)))
  refine L_com2 (fun τ3 k3 _ c3 => ?_)
  (iterate 2 (first | (refine TW.getf rfl rfl rfl (fun _ => ?_)) | (refine TW.pl rfl rfl ?_)))
  refine L_com3 (fun τ4 k4 _ c4 => ?_)
  have e1 : τ4.1 = σ.1 := by rw [c4.1, c3.1, c2.1, c1.1]
  (repeat (first | (refine TW.getf rfl rfl rfl (fun _ => ?_)) | (refine TW.pl rfl rfl ?_)))
  refine TW.putf rfl rfl (by omega) ?_
  (repeat (first | (refine TW.getf rfl rfl rfl (fun _ => ?_)) | (refine TW.pl rfl rfl ?_)))
  refine TW.putf rfl rfl (by omega) ?_
  (repeat (first | (refine TW.getf rfl rfl rfl (fun _ => ?_)) | (refine TW.pl rfl rfl ?_)))
  refine TW.putf rfl rfl (by omega) ?_
  (repeat (first | (refine TW.getf rfl rfl rfl (fun _ => ?_)) | (refine TW.pl rfl rfl ?_)))
  refine TW.putf rfl rfl (by omega) ?_
  (repeat (first | (refine TW.getf rfl rfl rfl (fun _ => ?_)) | (refine TW.pl rfl rfl ?_)))
  refine TW.putf rfl rfl (by omega) ?_
  refine TW.vret rfl ⟨rfl, hA.cells (fun j hj => ?_) (fun j hj => ?_) (fun j hj => ?_) (fun j hj => ?_) (fun k hk => ?_), fun j hj => ?_, ?_⟩
  · show τ4.2 6 j = _
    rw [c4.fr.2 6 (by decide), c3.fr.2 6 (by decide), c2.fr.2 6 (by decide), c1.at hj (by omega), a j hj]
  · show τ4.2 7 j = _
    rw [c4.fr.2 7 (by decide), c3.fr.2 7 (by decide), c2.at hj (by omega), Nat.zero_add, c1.fr.2 47 (by decide), b j hj]
  · show τ4.2 10 j = _
    rw [c4.fr.2 10 (by decide), c3.at hj (by omega), Nat.zero_add, c2.fr.2 48 (by decide), c1.fr.2 48 (by decide), c j hj]
  · show τ4.2 11 j = _
    rw [c4.at hj (by omega), Nat.zero_add, c3.fr.2 49 (by decide), c2.fr.2 49 (by decide), c1.fr.2 49 (by decide), e j hj]
  · have h50 : τ4.1 50 = σ0.1 12 := by rw [e1]; exact g1
    have h51 : τ4.1 51 = σ0.1 14 := by rw [e1]; exact g2
    have h52 : τ4.1 52 = σ0.1 15 := by rw [e1]; exact g3
    have h53 : τ4.1 53 = σ0.1 16 := by rw [e1]; exact g4
    have h54 : τ4.1 54 = σ0.1 17 := by rw [e1]; exact g5
    have hk : k = 12 ∨ k = 14 ∨ k = 15 ∨ k = 16 ∨ k = 17 := by simpa using hk
    rcases hk with rfl | rfl | rfl | rfl | rfl
    · rw [ts1_ne (by decide), ts1_ne (by decide), ts1_ne (by decide), ts1_ne (by decide), ts1_eq]; exact h50
    · rw [ts1_ne (by decide), ts1_ne (by decide), ts1_ne (by decide), ts1_eq, ts1_ne (by decide)]; exact h51
    · rw [ts1_ne (by decide), ts1_ne (by decide), ts1_eq, ts1_ne (by decide), ts1_ne (by decide)]; exact h52
    · rw [ts1_ne (by decide), ts1_eq, ts1_ne (by decide), ts1_ne (by decide), ts1_ne (by decide)]; exact h53
    · rw [ts1_eq, ts1_ne (by decide), ts1_ne (by decide), ts1_ne (by decide), ts1_ne (by decide)]; exact h54
  · show τ4.2 6 j = _
    rw [c4.fr.2 6 (by decide), c3.fr.2 6 (by decide), c2.fr.2 6 (by decide), c1.2, if_neg (by omega)]
  · have f4 : TFr [12, 14, 15, 16, 17] [6, 7, 10, 11] σ τ4 := (c1.fr.mono (by decide) (by decide)).trans ((c2.fr.mono (by decide) (by decide)).trans ((c3.fr.mono (by decide) (by decide)).trans (c4.fr.mono (by decide) (by decide))))
    exact ((((f4.ts1 (by decide)).ts1 (by decide)).ts1 (by decide)).ts1 (by decide)).ts1 (by decide)
theorem T_latestDeed {k : Nat} (h1 : (σ.1 61) + (σ.1 62) - 1 = k) (hk : k < 100000) : TE (d + 1) tk_latestDeed [.inr 0] σ (some ((k % 40 : Nat) : Int)) σ := by
  refine TM.of rfl rfl ?_
  (repeat (first | (refine TW.getf rfl rfl rfl (fun _ => ?_)) | (refine TW.pl rfl rfl ?_)))
  rw [h1]
  refine TW.irem rfl (by omega) ?_
  exact TW.iret rfl ⟨congrArg some (by omega), rfl⟩
/-- a deed is apart from the others -/
theorem DeedAt.fr {D E : Nat} {q : SDeed} (h : DeedAt σ D q) (hne : D ≠ E) (h58 : ∀ k, k ≠ E → τ.2 58 k = σ.2 58 k) (h59 : ∀ k, k ≠ E → τ.2 59 k = σ.2 59 k) (h60 : ∀ k, k ≠ E → τ.2 60 k = σ.2 60 k) (h55 : ∀ k, ¬ (1240 * E ≤ k ∧ k < 1240 * E + 1240) → τ.2 55 k = σ.2 55 k) (h56 : ∀ k, ¬ (40 * E ≤ k ∧ k < 40 * E + 40) → τ.2 56 k = σ.2 56 k) (h57 : ∀ k, ¬ (5 * E ≤ k ∧ k < 5 * E + 5) → τ.2 57 k = σ.2 57 k) : DeedAt τ D q := by
  obtain ⟨a, ⟨b, b2⟩, c, e, g⟩ := h
  refine ⟨by rw [h60 D hne]; exact a, ⟨by rw [h58 D hne]; exact b, b2⟩, by rw [h59 D hne]; exact c, fun k hk => ?_, fun k hk => by rw [h57 _ (by omega)]; exact g k hk⟩
  obtain ⟨⟨e1, e2, e3⟩, e4⟩ := e k hk
  exact ⟨⟨by rw [h55 _ (by omega)]; exact e1, e2, fun j hj => by rw [h55 _ (by omega)]; exact e3 j hj⟩, by rw [h56 _ (by omega)]; exact e4⟩
theorem DeedAt.same {D : Nat} {q : SDeed} (h : DeedAt σ D q) (hf : TFr fs as σ τ) (h2 : ∀ k ∈ [55, 56, 57, 58, 59, 60], k ∉ as) : DeedAt τ D q := by
  unfold DeedAt RowA at h ⊢
  rw [hf.2 55 (h2 55 (by decide)), hf.2 56 (h2 56 (by decide)), hf.2 57 (h2 57 (by decide)), hf.2 58 (h2 58 (by decide)), hf.2 59 (h2 59 (by decide)), hf.2 60 (h2 60 (by decide))]
  exact h
theorem DeedsIs.same (h : DeedsIs σ ds) (hf : TFr fs as σ τ) (h1 : ∀ k ∈ [61, 62], k ∉ fs) (h2 : ∀ k ∈ [55, 56, 57, 58, 59, 60], k ∉ as) : DeedsIs τ ds := by
  obtain ⟨a, b, fd, c, e, g⟩ := h
  exact ⟨(hf.1 62 (h1 62 (by decide))).trans a, b, fd, (hf.1 61 (h1 61 (by decide))).trans c, e, fun i hi => (g i hi).same hf h2⟩
theorem T_noteDeed {cl : Nat} (hS : SavA A σ) (hd : DeedsIs σ ds) (hc : (σ.1 63) = cl) : TM (d + 1) tk_noteDeed [.inr 0] σ (fun r τ => r = none ∧ DeedsIs τ (keepD ds (cl, A.1, A.2.1, A.2.2.2.2.2.1)) ∧ TFr [61, 62] [55, 56, 57, 58, 59, 60] σ τ) := by
  obtain ⟨σ0, hA, a, b, c, e, g1, g2, g3, g4, g5⟩ := hS
  obtain ⟨hn, h40, fd, hfd, hfd40, hat⟩ := hd
  have hM40 : A.1.length ≤ 40 := hA.1.2.1
  have hM0 : σ.1 50 = A.1.length := g1.trans hA.1.1
  have hP0 : σ.1 53 = A.2.1 := g4.trans hA.2.1
  -- the place D of the new deed
  have main : ∀ (D : Nat) (fd' : Nat) (ds' : List SDeed) (σ1 : TS), D < 40 → fd' < 40 → TFr [61, 62] [] σ σ1 → (σ1.1 61) = fd' → (σ1.1 62) = (ds'.length + 1 : Nat) → ds'.length ≤ 39 → D = (fd' + ds'.length) % 40 → (∀ i, i < ds'.length → DeedAt σ1 ((fd' + i) % 40) (ds'.getD i (0, [], 0, fun _ => none))) → keepD ds (cl, A.1, A.2.1, A.2.2.2.2.2.1) = ds' ++ [(cl, A.1, A.2.1, A.2.2.2.2.2.1)] → TW d tc_noteDeed 27 [some (.inr 0), some (.inl D), none] [] σ1 (fun r τ => r = none ∧ DeedsIs τ (keepD ds (cl, A.1, A.2.1, A.2.2.2.2.2.1)) ∧ TFr [61, 62] [55, 56, 57, 58, 59, 60] σ τ) := by
    intro D fd' ds' σ1 hD hfd' hf1 h61 h62 hl39 hDe hat' hke
    have hM : σ1.1 50 = A.1.length := (hf1.1 50 (by decide)).trans hM0
    (iterate 2 (first | (refine TW.getf rfl rfl rfl (fun _ => ?_)) | (refine TW.pl rfl rfl ?_)))
    refine L_not0 (M := A.1.length) hD hM hM40 (fun τ1 k1 _ c1 => ?_)
    (iterate 2 (first | (refine TW.getf rfl rfl rfl (fun _ => ?_)) | (refine TW.pl rfl rfl ?_)))
    refine L_not1 (M := A.1.length) hD (by rw [c1.1]; exact hM) hM40 (fun τ2 k2 _ c2 => ?_)
    (iterate 2 (first | (refine TW.getf rfl rfl rfl (fun _ => ?_)) | (refine TW.pl rfl rfl ?_)))
    refine L_not2 hD (fun τ3 k3 _ c3 => ?_)
    have e1 : τ3.1 = σ1.1 := by rw [c3.1, c2.1, c1.1]
    have e50 : τ3.1 50 = A.1.length := by rw [e1]; exact hM
    have e53 : τ3.1 53 = A.2.1 := by rw [e1, hf1.1 53 (by decide)]; exact hP0
    have e63 : τ3.1 63 = cl := by rw [e1, hf1.1 63 (by decide)]; exact hc
    (repeat (first | (refine TW.getf rfl rfl rfl (fun _ => ?_)) | (refine TW.pl rfl rfl ?_)))
    refine TW.iast (n := 40) rfl rfl rfl (by omega) (by omega) ?_
    (repeat (first | (refine TW.getf rfl rfl rfl (fun _ => ?_)) | (refine TW.pl rfl rfl ?_)))
    refine TW.iast (n := 40) rfl rfl rfl (by omega) (by omega) ?_
    (repeat (first | (refine TW.getf rfl rfl rfl (fun _ => ?_)) | (refine TW.pl rfl rfl ?_)))
    refine TW.iast (n := 40) rfl rfl rfl (by omega) (by omega) ?_
    have hfr : TFr [61, 62] [55, 56, 57, 58, 59, 60] σ (ts2 (ts2 (ts2 τ3 58 (D : Int).toNat (τ3.1 50)) 59 (D : Int).toNat ((ts2 τ3 58 (D : Int).toNat (τ3.1 50)).1 53)) 60 (D : Int).toNat ((ts2 (ts2 τ3 58 (D : Int).toNat (τ3.1 50)) 59 (D : Int).toNat ((ts2 τ3 58 (D : Int).toNat (τ3.1 50)).1 53)).1 63)) := ((((hf1.mono (by decide) (by decide)).trans ((c1.fr.mono (by decide) (by decide)).trans ((c2.fr.mono (by decide) (by decide)).trans (c3.fr.mono (by decide) (by decide))))).ts2 (by decide)).ts2 (by decide)).ts2 (by decide)
    rw [show ((D : Nat) : Int).toNat = D from Int.toNat_natCast D] at hfr ⊢
    have E58 : ∀ k, (ts2 (ts2 (ts2 τ3 58 D (τ3.1 50)) 59 D (τ3.1 53)) 60 D (τ3.1 63)).2 58 k = if k = D then (A.1.length : Int) else σ1.2 58 k := fun k => by
      rw [ts2_ne (by decide), ts2_ne (by decide), ts2_at, e50, c3.fr.2 58 (by decide), c2.fr.2 58 (by decide), c1.fr.2 58 (by decide)]
    have E59 : ∀ k, (ts2 (ts2 (ts2 τ3 58 D (τ3.1 50)) 59 D (τ3.1 53)) 60 D (τ3.1 63)).2 59 k = if k = D then (A.2.1 : Int) else σ1.2 59 k := fun k => by
      rw [ts2_ne (by decide), ts2_at, e53, ts2_ne (by decide), c3.fr.2 59 (by decide), c2.fr.2 59 (by decide), c1.fr.2 59 (by decide)]
    have E60 : ∀ k, (ts2 (ts2 (ts2 τ3 58 D (τ3.1 50)) 59 D (τ3.1 53)) 60 D (τ3.1 63)).2 60 k = if k = D then (cl : Int) else σ1.2 60 k := fun k => by
      rw [ts2_at, e63, ts2_ne (by decide), ts2_ne (by decide), c3.fr.2 60 (by decide), c2.fr.2 60 (by decide), c1.fr.2 60 (by decide)]
    have E55 : (ts2 (ts2 (ts2 τ3 58 D (τ3.1 50)) 59 D (τ3.1 53)) 60 D (τ3.1 63)).2 55 = τ1.2 55 := by
      rw [ts2_ne (by decide), ts2_ne (by decide), ts2_ne (by decide), c3.fr.2 55 (by decide), c2.fr.2 55 (by decide)]
    have E56 : (ts2 (ts2 (ts2 τ3 58 D (τ3.1 50)) 59 D (τ3.1 53)) 60 D (τ3.1 63)).2 56 = τ2.2 56 := by
      rw [ts2_ne (by decide), ts2_ne (by decide), ts2_ne (by decide), c3.fr.2 56 (by decide)]
    have E57 : (ts2 (ts2 (ts2 τ3 58 D (τ3.1 50)) 59 D (τ3.1 53)) 60 D (τ3.1 63)).2 57 = τ3.2 57 := by
      rw [ts2_ne (by decide), ts2_ne (by decide), ts2_ne (by decide)]
    refine TW.vret rfl ⟨rfl, ?_, hfr⟩
    rw [hke]
    refine ⟨?_, by simp; omega, fd', ?_, hfd', fun i hi => ?_⟩
    · show τ3.1 62 = _
      rw [e1, h62]; simp
    · show τ3.1 61 = _
      rw [e1, h61]
    · show DeedAt (ts2 (ts2 (ts2 τ3 58 D (τ3.1 50)) 59 D (τ3.1 53)) 60 D (τ3.1 63)) _ _
      simp at hi
      by_cases ei : i < ds'.length
      · rw [getD_apl ei]
        refine (hat' i ei).fr (E := D) (by omega) (fun k hk => by rw [E58, if_neg hk]) (fun k hk => by rw [E59, if_neg hk]) (fun k hk => by rw [E60, if_neg hk]) (fun k hk => ?_) (fun k hk => ?_) (fun k hk => ?_)
        · rw [E55, c1.2, if_neg (by omega)]
        · rw [E56, c2.2, if_neg (by omega), c1.fr.2 56 (by decide)]
        · rw [E57, c3.2, if_neg (by omega), c2.fr.2 57 (by decide), c1.fr.2 57 (by decide)]
      · have ei2 : i = ds'.length := by omega
        subst ei2
        rw [show (ds' ++ [(cl, A.1, A.2.1, A.2.2.2.2.2.1)]).getD ds'.length (0, [], 0, fun _ => none) = (cl, A.1, A.2.1, A.2.2.2.2.2.1) from zget, ← hDe]
        have sR : ∀ j, j < 12028 → σ1.2 6 (14880 + j) = σ0.2 6 j := fun j hj => by rw [hf1.2 6 (by decide)]; exact a j hj
        refine ⟨by rw [E60, if_pos rfl], ⟨by rw [E58, if_pos rfl], hM40⟩, by rw [E59, if_pos rfl], fun k hk => ⟨⟨?_, ?_, fun j hj => ?_⟩, ?_⟩, fun k hk => ?_⟩
        · have := (hA.1.2.2 k hk).1
          rw [E55, c1.at (j := 31 * k) (by have : k < A.1.length := hk; omega) rfl, sR _ (by have : k < A.1.length := hk; omega)]
          exact this.1
        · exact (hA.1.2.2 k hk).1.2.1
        · have := (hA.1.2.2 k hk).1
          have h30 := this.2.1
          have hj : j < (A.1.getD k (0, [])).2.length := hj
          rw [E55, c1.at (j := 31 * k + 1 + j) (by have : k < A.1.length := hk; omega) (by omega), sR _ (by have : k < A.1.length := hk; omega)]
          exact this.2.2 j hj
        · rw [E56, c2.at (j := k) hk rfl, Nat.zero_add, c1.fr.2 47 (by decide), hf1.2 47 (by decide), b k (by have : k < A.1.length := hk; omega)]
          exact (hA.1.2.2 k hk).2
        · rw [E57, c3.at (j := k) hk rfl, Nat.zero_add, c2.fr.2 48 (by decide), c1.fr.2 48 (by decide), hf1.2 48 (by decide), c k hk]
          exact hA.2.2.2.1 k hk
  refine TM.of rfl rfl ?_
  (repeat (first | (refine TW.getf rfl rfl rfl (fun _ => ?_)) | (refine TW.pl rfl rfl ?_)))
  refine TW.irem rfl (by omega) ?_
  have hDm : (σ.1 61 + σ.1 62) % 40 = (((fd + ds.length) % 40 : Nat) : Int) := by omega
  rw [hDm]
  (repeat (first | (refine TW.getf rfl rfl rfl (fun _ => ?_)) | (refine TW.pl rfl rfl ?_)))
  refine TW.br rfl rfl (by first | omega | exact b2i_R _ | exact ⟨b2i_R _, by omega⟩) (fun q1 => ?_) (fun q1 => ?_)
  · have hlt : ds.length ≤ 39 := by omega
    (repeat (first | (refine TW.getf rfl rfl rfl (fun _ => ?_)) | (refine TW.pl rfl rfl ?_)))
    refine TW.putf rfl rfl (by omega) ?_
    refine main ((fd + ds.length) % 40) fd ds _ (Nat.mod_lt _ (by decide)) hfd40 (TFr.rf.ts1 (by decide)) (by rw [ts1_ne (by decide)]; exact hfd) (by rw [ts1_eq]; omega) hlt rfl (fun i hi => (hat i hi).same (fs := [62]) (as := []) (TFr.rf.ts1 (by decide)) (by decide)) ?_
    unfold keepD
    rw [if_neg (by omega)]
  · have heq : ds.length = 40 := by omega
    (repeat (first | (refine TW.getf rfl rfl rfl (fun _ => ?_)) | (refine TW.pl rfl rfl ?_)))
    refine TW.irem rfl (by omega) ?_
    refine TW.putf rfl rfl (by omega) ?_
    (iterate 1 (first | (refine TW.getf rfl rfl rfl (fun _ => ?_)) | (refine TW.pl rfl rfl ?_)))
    have h61 : (ts1 σ 61 ((σ.1 61 + 1) % 40)).1 61 = (((fd + 1) % 40 : Nat) : Int) := by rw [ts1_eq]; omega
    refine main ((fd + ds.length) % 40) ((fd + 1) % 40) (ds.drop 1) _ (Nat.mod_lt _ (by decide)) (Nat.mod_lt _ (by decide)) (TFr.rf.ts1 (by decide)) h61 (by rw [ts1_ne (by decide), hn]; simp; omega) (by simp; omega) (by simp; omega) (fun i hi => ?_) ?_
    · simp at hi
      have := (hat (i + 1) (by omega)).same (fs := [61]) (as := []) (τ := ts1 σ 61 ((σ.1 61 + 1) % 40)) (TFr.rf.ts1 (by decide)) (by decide)
      rw [show (fd + (i + 1)) % 40 = ((fd + 1) % 40 + i) % 40 by omega] at this
      rw [show (ds.drop 1).getD i (0, [], 0, fun _ => none) = ds.getD (i + 1) (0, [], 0, fun _ => none) by rw [List.getD_eq_getElem?_getD, List.getD_eq_getElem?_getD, List.getElem?_drop, Nat.add_comm]]
      exact this
    · unfold keepD
      rw [if_pos heq]
theorem T_undoLatest {q : SDeed} (hd : DeedsIs σ (ds ++ [q])) : TM (d + 2) tk_undoLatest [.inr 0] σ (fun r τ => r = none ∧ TextIs τ q.2.1 ∧ (τ.1 16) = q.2.2.1 ∧ MarksIs τ q.2.2.2 ∧ DeedsIs τ ds ∧ RSame (fun k => k < 41) σ τ ∧ TFr [12, 16, 62] [6, 7, 10] σ τ) := by
  obtain ⟨hn, h40, fd, hfd, hfd40, hat⟩ := hd
  simp at hn h40
  have hq := hat ds.length (by simp)
  rw [show (ds ++ [q]).getD ds.length (0, [], 0, fun _ => none) = q from zget] at hq
  obtain ⟨a, ⟨b, b40⟩, c, e, g⟩ := hq
  obtain ⟨D, hD⟩ : ∃ D, D = (fd + ds.length) % 40 := ⟨_, rfl⟩
  have hD40 : D < 40 := by rw [hD]; exact Nat.mod_lt _ (by decide)
  rw [← hD] at a b c e g
  refine TM.of rfl rfl ?_
  (repeat (first | (refine TW.getf rfl rfl rfl (fun _ => ?_)) | (refine TW.pl rfl rfl ?_)))
  refine TW.cv0 rfl rfl rfl (Nat.le_of_ble_eq_true rfl) (T_latestDeed (k := fd + ds.length) (by omega) (by omega)) ?_; rintro _ _ ⟨rfl, rfl⟩
  rw [← hD]
  (repeat (first | (refine TW.getf rfl rfl rfl (fun _ => ?_)) | (refine TW.pl rfl rfl ?_)))
  refine TW.putf rfl rfl (by omega) ?_
  (repeat (first | (refine TW.getf rfl rfl rfl (fun _ => ?_)) | (refine TW.pl rfl rfl ?_)))
  refine TW.iald (n := 40) rfl rfl rfl (by omega) (fun _ => ?_)
  refine TW.putf rfl rfl (by omega) ?_
  (repeat (first | (refine TW.getf rfl rfl rfl (fun _ => ?_)) | (refine TW.pl rfl rfl ?_)))
  refine TW.iald (n := 40) rfl rfl rfl (by omega) (fun _ => ?_)
  refine TW.putf rfl rfl (by omega) ?_
  rw [show ((D : Nat) : Int).toNat = D from Int.toNat_natCast D]
  have f0 : TFr [12, 16, 62] [] σ (ts1 (ts1 (ts1 σ 62 (σ.1 62 - 1)) 12 (σ.2 58 D)) 16 (σ.2 59 D)) := ((TFr.rf.ts1 (by decide)).ts1 (by decide)).ts1 (by decide)
  have h12 : (ts1 (ts1 (ts1 σ 62 (σ.1 62 - 1)) 12 (σ.2 58 D)) 16 (σ.2 59 D)).1 12 = q.2.1.length := by rw [ts1_ne (by decide), ts1_eq]; exact b
  have h16 : (ts1 (ts1 (ts1 σ 62 (σ.1 62 - 1)) 12 (σ.2 58 D)) 16 (σ.2 59 D)).1 16 = q.2.2.1 := by rw [ts1_eq]; exact c
  have h62 : (ts1 (ts1 (ts1 σ 62 (σ.1 62 - 1)) 12 (σ.2 58 D)) 16 (σ.2 59 D)).1 62 = ds.length := by rw [ts1_ne (by decide), ts1_ne (by decide), ts1_eq]; omega
  show TW (d + 1) tc_undoLatest _ _ _ (ts1 (ts1 (ts1 σ 62 (σ.1 62 - 1)) 12 (σ.2 58 D)) 16 (σ.2 59 D)) _
  generalize ts1 (ts1 (ts1 σ 62 (σ.1 62 - 1)) 12 (σ.2 58 D)) 16 (σ.2 59 D) = σ1 at f0 h12 h16 h62 ⊢
  (iterate 2 (first | (refine TW.getf rfl rfl rfl (fun _ => ?_)) | (refine TW.pl rfl rfl ?_)))
  refine L_und0 (M := q.2.1.length) hD40 h12 b40 (fun τ1 k1 _ c1 => ?_)
  (iterate 2 (first | (refine TW.getf rfl rfl rfl (fun _ => ?_)) | (refine TW.pl rfl rfl ?_)))
  refine L_und1 (M := q.2.1.length) hD40 (by rw [c1.1]; exact h12) b40 (fun τ2 k2 _ c2 => ?_)
  (iterate 2 (first | (refine TW.getf rfl rfl rfl (fun _ => ?_)) | (refine TW.pl rfl rfl ?_)))
  refine L_und2 hD40 (fun τ3 k3 _ c3 => ?_)
  have e1 : τ3.1 = σ1.1 := by rw [c3.1, c2.1, c1.1]
  have hfr : TFr [12, 16, 62] [6, 7, 10] σ τ3 := (f0.mono (by decide) (by decide)).trans ((c1.fr.mono (by decide) (by decide)).trans ((c2.fr.mono (by decide) (by decide)).trans (c3.fr.mono (by decide) (by decide))))
  have E6 : τ3.2 6 = τ1.2 6 := by rw [c3.fr.2 6 (by decide), c2.fr.2 6 (by decide)]
  refine TW.vret rfl ⟨rfl, ⟨by rw [e1]; exact h12, b40, fun k hk => ⟨⟨?_, ?_, fun j hj => ?_⟩, ?_⟩⟩, by rw [e1]; exact h16, fun k hk => ?_, ⟨by rw [e1]; exact h62, by omega, fd, ?_, hfd40, fun i hi => ?_⟩, fun j hj => ?_, hfr⟩
  · have := (e k hk).1
    rw [E6, c1.at (j := 31 * k) (by omega) (by omega), f0.2 55 (by decide)]
    exact this.1
  · exact (e k hk).1.2.1
  · have := (e k hk).1
    have h30 := this.2.1
    rw [E6, c1.at (j := 31 * k + 1 + j) (by omega) (by omega), f0.2 55 (by decide), show 1240 * D + (31 * k + 1 + j) = 1240 * D + 31 * k + 1 + j by omega]
    exact this.2.2 j hj
  · rw [c3.fr.2 7 (by decide), c2.at (j := k) hk (by omega), c1.fr.2 56 (by decide), f0.2 56 (by decide)]
    exact (e k hk).2
  · rw [c3.at (j := k) hk (by omega), c2.fr.2 57 (by decide), c1.fr.2 57 (by decide), f0.2 57 (by decide)]
    exact g k hk
  · rw [e1, f0.1 61 (by decide)]; exact hfd
  · have := hat i (by simp; omega)
    rw [getD_apl hi] at this
    exact this.same hfr (by decide)
  · rw [E6, c1.2, if_neg (by omega), f0.2 6 (by decide)]
end TDee
