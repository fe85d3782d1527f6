set_option maxRecDepth 100000
/-! the twin's streams: its state, what is put, what is due -/
def PutIs (σ : TS) (pu : List SLine) : Prop := (σ.1 13) = pu.length ∧ pu.length ≤ 40 ∧ ∀ k, k < pu.length → RowIs σ (41 + k) (pu.getD k (0, [])).2 ∧ (σ.2 8 (k)) = (pu.getD k (0, [])).1
def DueIs (σ : TS) (du : List (List Int)) : Prop := (σ.1 72) = du.length ∧ ∀ k, k < du.length → k < 41 → RowIs σ (388 + k) (du.getD k [])
def WrkIs (σ : TS) (x : SLine) (g : Bool) (nr : Nat) : Prop := (σ.1 70) = b2i (!g) ∧ (g = false → RowIs σ 429 x.2 ∧ (σ.1 67) = x.1 ∧ (σ.1 68) = nr)
def ResIs (σ : TS) (t re : List SLine) : Prop := TextIs σ t ∧ (σ.1 65) = t.length ∧ (σ.1 66) = ((t.length - re.length : Nat) : Int) ∧ re = t.drop (t.length - re.length) ∧ re.length ≤ t.length ∧ ∃ p : Nat, (σ.1 16) = p
/-- the lines that there are -/
def allL (W : WG) : List SLine := W.2.2.2.1 ++ (if W.2.1 = true then [] else [W.1]) ++ W.2.2.2.2
def MrkIs (σ : TS) (m : Nat → Option Int) (is : List Int) (n : Int) : Prop := ∃ mT gone, MarksIs σ mT ∧ m = unmL mT gone ∧ ∀ z ∈ gone, z ∉ is ∧ z < n
def TWB (σ : TS) (t : List SLine) (W : WG) (B : BG) : Prop := ResIs σ t W.2.2.2.2 ∧ PutIs σ W.2.2.2.1 ∧ DueIs σ W.2.2.1 ∧ WrkIs σ W.1 W.2.1 (t.length - W.2.2.2.2.length) ∧ TR σ B.1 B.2.1 B.2.2.1 ∧ MrkIs σ B.2.2.2.1 (idsOfL (allL W)) B.2.2.2.2.1 ∧ (σ.1 17) = B.2.2.2.2.1 ∧ (σ.1 44) = b2i B.2.2.2.2.2
abbrev fS : List Nat := [13, 14, 15, 17, 20, 33, 34, 35, 36, 37, 40, 41, 44, 66, 67, 68, 70, 72]
abbrev aS : List Nat := [6, 8, 10, 11, 19, 31, 32, 38, 39]
def SF (σ τ : TS) : Prop := TFr fS aS σ τ ∧ RSame (fun k => k < 480) σ τ
section TStr
variable {d : Nat} {σ τ : TS} {s l l1 l2 : List Int} {t pu re : List SLine} {du : List (List Int)} {x : SLine} {g : Bool} {W : WG} {B : BG} {fs as : List Nat} {rs : List (List Int)} {xs : List Int} {n : Int}
theorem SF.rf : SF σ σ := ⟨TFr.rf, fun _ _ => rfl⟩
theorem SF.trans {υ : TS} (h : SF σ τ) (h2 : SF τ υ) : SF σ υ := ⟨h.1.trans h2.1, fun j hj => (h2.2 j hj).trans (h.2 j hj)⟩
theorem SF.fr (h : TFr fs as σ τ) (h1 : ∀ k ∈ fs, k ∈ fS) (h2 : ∀ k ∈ as, k ∈ aS) (h6 : 6 ∉ as) : SF σ τ := ⟨h.mono h1 h2, fun j _ => by rw [h.2 6 h6]⟩
theorem SF.row {P : Nat → Prop} (h : TFr fs as σ τ) (hs : RSame P σ τ) (h1 : ∀ k ∈ fs, k ∈ fS) (h2 : ∀ k ∈ as, k ∈ aS) (hP : ∀ k, P k → k < 480) : SF σ τ := ⟨h.mono h1 h2, fun j hj => hs j (fun z => hj (hP _ z))⟩
theorem SF.sg (h : SF σ τ) (hs : SgnIs σ s) : SgnIs τ s := hs.fr h.1 (by decide) (by decide)
theorem PutIs.same {P : Nat → Prop} (h : PutIs σ pu) (hf : TFr fs as σ τ) (hs : RSame P σ τ) (h1 : 13 ∉ fs) (h2 : 8 ∉ as) (hP : ∀ k, P k → k < 41 ∨ 82 ≤ k) : PutIs τ pu := by
  obtain ⟨a, b, c⟩ := h
  exact ⟨(hf.1 13 h1).trans a, b, fun k hk => ⟨(c k hk).1.same hs (fun z => by have := hP _ z; omega), by rw [hf.2 8 h2]; exact (c k hk).2⟩⟩
theorem DueIs.same {P : Nat → Prop} (h : DueIs σ du) (hf : TFr fs as σ τ) (hs : RSame P σ τ) (h1 : 72 ∉ fs) (hP : ∀ k, P k → k < 388 ∨ 429 ≤ k) : DueIs τ du := ⟨(hf.1 72 h1).trans h.1, fun k hk hk2 => (h.2 k hk hk2).same hs (fun z => by have := hP _ z; omega)⟩
theorem WrkIs.same {P : Nat → Prop} {nr : Nat} (h : WrkIs σ x g nr) (hf : TFr fs as σ τ) (hs : RSame P σ τ) (h1 : ∀ k ∈ [67, 68, 70], k ∉ fs) (hP : ¬ P 429) : WrkIs τ x g nr := ⟨(hf.1 70 (h1 70 (by decide))).trans h.1, fun hg => ⟨(h.2 hg).1.same hs hP, (hf.1 67 (h1 67 (by decide))).trans (h.2 hg).2.1, (hf.1 68 (h1 68 (by decide))).trans (h.2 hg).2.2⟩⟩
theorem ResIs.same {P : Nat → Prop} (h : ResIs σ t re) (hf : TFr fs as σ τ) (hs : RSame P σ τ) (h1 : ∀ k ∈ [12, 16, 65, 66], k ∉ fs) (h2 : 7 ∉ as) (hP : ∀ k, P k → 40 ≤ k) : ResIs τ t re := ⟨h.1.same hf hs (h1 12 (by decide)) h2 hP, (hf.1 65 (h1 65 (by decide))).trans h.2.1, (hf.1 66 (h1 66 (by decide))).trans h.2.2.1, h.2.2.2.1, h.2.2.2.2.1, h.2.2.2.2.2.elim (fun p hp => ⟨p, (hf.1 16 (h1 16 (by decide))).trans hp⟩)⟩
theorem MrkIs.same {m : Nat → Option Int} {is : List Int} (h : MrkIs σ m is n) (hs : τ.2 10 = σ.2 10) : MrkIs τ m is n := by
  obtain ⟨mT, gone, a, b, c⟩ := h
  exact ⟨mT, gone, a.fr hs, b, c⟩
/-- rows aside alone have changed -/
theorem TWB.asd {P : Nat → Prop} (h : TWB σ t W B) (hf : TFr fs as σ τ) (hs : RSame P σ τ) (h1 : ∀ k ∈ [12, 13, 14, 15, 16, 17, 44, 65, 66, 67, 68, 70, 72], k ∉ fs) (h2 : ∀ k ∈ [7, 8, 10, 11], k ∉ as) (hP : ∀ k, P k → 430 ≤ k) : TWB τ t W B := by
  obtain ⟨a, b, c, e, f, g, i, j⟩ := h
  exact ⟨a.same hf hs (fun k hk => h1 k (by simp at hk ⊢; omega)) (h2 7 (by decide)) (fun k z => by have := hP _ z; omega), b.same hf hs (h1 13 (by decide)) (h2 8 (by decide)) (fun k z => by have := hP _ z; omega), c.same hf hs (h1 72 (by decide)) (fun k z => by have := hP _ z; omega), e.same hf hs (fun k hk => h1 k (by simp at hk ⊢; omega)) (fun z => by have := hP _ z; omega), f.same hf hs (fun k hk => h1 k (by simp at hk ⊢; omega)) (h2 11 (by decide)) (fun k z => by have := hP _ z; omega), g.same (hf.2 10 (h2 10 (by decide))), (hf.1 17 (h1 17 (by decide))).trans i, (hf.1 44 (h1 44 (by decide))).trans j⟩
theorem TWB.fr (h : TWB σ t W B) (hf : TFr fs as σ τ) (h1 : ∀ k ∈ [12, 13, 14, 15, 16, 17, 44, 65, 66, 67, 68, 70, 72], k ∉ fs) (h2 : ∀ k ∈ [6, 7, 8, 10, 11], k ∉ as) : TWB τ t W B := h.asd hf (RSame.no hf (h2 6 (by decide))) h1 (fun k hk => h2 k (by simp at hk ⊢; omega)) (fun k z => z.elim)
theorem T_dueR {row : Nat} {v : Int} (hD : DueIs σ du) (hr : RowIs σ row xs) (hv : v = row) (hrow : row < 868) (hl : du.length < 1000000) : TM (d + 2) tk_due [.inr 0, .inl v] σ (fun r τ => r = none ∧ DueIs τ (du ++ [xs]) ∧ RSame (fun k => 388 ≤ k ∧ k < 429) σ τ ∧ TFr [72] [6] σ τ) := by
  obtain ⟨h72, hdr⟩ := hD
  refine TM.of rfl rfl ?_
  have fin : ∀ (τ : TS), TFr [] [6] σ τ → RSame (fun k => 388 ≤ k ∧ k < 429) σ τ → (∀ k, k < (du ++ [xs]).length → k < 41 → RowIs τ (388 + k) ((du ++ [xs]).getD k [])) → TW (d + 1) tc_due 11 [some (.inr 0), some (.inl v)] [] τ (fun r τ => r = none ∧ DueIs τ (du ++ [xs]) ∧ RSame (fun k => 388 ≤ k ∧ k < 429) σ τ ∧ TFr [72] [6] σ τ) := by
    intro τ hf hs hR
    have h72' : τ.1 72 = du.length := (hf.1 72 (by decide)).trans h72
    (repeat (first | (refine TW.getf rfl rfl rfl (fun _ => ?_)) | (refine TW.pl rfl rfl ?_)))
    refine TW.putf rfl rfl (by omega) ?_
    exact TW.vret rfl ⟨rfl, ⟨by rw [ts1_eq]; simp; omega, hR⟩, hs, (hf.mono (by decide) (by decide)).ts1 (by decide)⟩
  (repeat (first | (refine TW.getf rfl rfl rfl (fun _ => ?_)) | (refine TW.pl rfl rfl ?_)))
  refine TW.br rfl rfl (by first | omega | exact b2i_R _ | exact ⟨b2i_R _, by omega⟩) (fun q1 => ?_) (fun q1 => ?_)
  · refine fin σ TFr.rf (fun _ _ => rfl) (fun k hk hk2 => ?_)
    simp at hk
    rw [getD_apl (by omega)]
    exact hdr k (by omega) hk2
  · (repeat (first | (refine TW.getf rfl rfl rfl (fun _ => ?_)) | (refine TW.pl rfl rfl ?_)))
    refine TW.cv2 rfl rfl rfl (Nat.le_of_ble_eq_true rfl) (T_cpRow (a := row) (b := 388 + du.length) hr hv (by omega) hrow (by omega)) ?_
    rintro _ τ ⟨rfl, hr1, hs1, hf1⟩
    refine fin τ hf1 (fun i hi => hs1 i (fun z => hi (by omega))) (fun k hk hk2 => ?_)
    simp at hk
    by_cases e : k < du.length
    · rw [getD_apl e]; exact (hdr k e hk2).same hs1 (by omega)
    · rw [show k = du.length + 0 by omega, getD_app9]; exact hr1
theorem T_putR {row : Nat} {v id : Int} (hP : PutIs σ pu) (hr : RowIs σ row xs) (hv : v = row) (hrow : row < 868) (hid : inR id) : TM (d + 2) tk_put [.inr 0, .inl v, .inl id] σ (fun r τ => (TFr [13] [6, 8] σ τ ∧ RSame (fun k => 41 ≤ k ∧ k < 82) σ τ) ∧ (pu.length = 40 → r = some 4) ∧ (¬ pu.length = 40 → r = some 0 ∧ PutIs τ (pu ++ [(id, xs)]))) := by
  obtain ⟨h13, h40, hpr⟩ := hP
  refine TM.of rfl rfl ?_
  (repeat (first | (refine TW.getf rfl rfl rfl (fun _ => ?_)) | (refine TW.pl rfl rfl ?_)))
  refine TW.br rfl rfl (by first | omega | exact b2i_R _ | exact ⟨b2i_R _, by omega⟩) (fun q1 => ?_) (fun q1 => ?_)
  · (repeat (first | (refine TW.getf rfl rfl rfl (fun _ => ?_)) | (refine TW.pl rfl rfl ?_)))
    refine TW.cv2 rfl rfl rfl (Nat.le_of_ble_eq_true rfl) (T_cpRow (a := row) (b := 41 + pu.length) hr hv (by omega) hrow (by omega)) ?_
    rintro _ τ ⟨rfl, hr1, hs1, hf1⟩
    have h13' : τ.1 13 = pu.length := (hf1.1 13 (by decide)).trans h13
    (repeat (first | (refine TW.getf rfl rfl rfl (fun _ => ?_)) | (refine TW.pl rfl rfl ?_)))
    refine TW.iast (n := 41) rfl rfl rfl (by omega) (by omega) ?_
    (repeat (first | (refine TW.getf rfl rfl rfl (fun _ => ?_)) | (refine TW.pl rfl rfl ?_)))
    refine TW.putf rfl rfl (by rw [ts2_1]; omega) ?_
    (repeat (first | (refine TW.getf rfl rfl rfl (fun _ => ?_)) | (refine TW.pl rfl rfl ?_)))
    refine TW.iret rfl ⟨⟨((hf1.mono (by decide) (by decide)).ts2 (by decide)).ts1 (by decide), fun i hi => ?_⟩, fun z => absurd z (by omega), fun _ => ⟨rfl, ?_, ?_, fun k hk => ?_⟩⟩
    · rw [ts1_2, ts2_ne (by decide)]; exact hs1 i (fun z => hi (by omega))
    · rw [ts1_eq, ts2_1]; simp; omega
    · simp; omega
    · simp at hk
      rw [ts1_2, ts2_at]
      by_cases e : k < pu.length
      · rw [getD_apl e, if_neg (by omega), hf1.2 8 (by decide)]
        exact ⟨RowIs.ts1 (RowIs.ts2 ((hpr k e).1.same hs1 (by omega)) (by decide)), (hpr k e).2⟩
      · have ek : k = pu.length := by omega
        subst ek
        rw [zget, if_pos (by omega)]
        exact ⟨RowIs.ts1 (RowIs.ts2 hr1 (by decide)), rfl⟩
  · (repeat (first | (refine TW.getf rfl rfl rfl (fun _ => ?_)) | (refine TW.pl rfl rfl ?_)))
    exact TW.iret rfl ⟨⟨TFr.rf, fun _ _ => rfl⟩, fun _ => rfl, fun z => absurd (show pu.length = 40 by omega) z⟩
theorem T_putNewR {row : Nat} {v : Int} (hP : PutIs σ pu) (hr : RowIs σ row xs) (hv : v = row) (hrow : row < 868) (hn : (σ.1 17) = n) (hnR : 0 ≤ n ∧ n < 1000000) : TM (d + 3) tk_putNew [.inr 0, .inl v] σ (fun r τ => (TFr [13, 17] [6, 8] σ τ ∧ RSame (fun k => 41 ≤ k ∧ k < 82) σ τ) ∧ (pu.length = 40 → r = some 4) ∧ (¬ pu.length = 40 → r = some 0 ∧ PutIs τ (pu ++ [(n, xs)]) ∧ (τ.1 17) = n + 1)) := by
  refine TM.of rfl rfl ?_
  (repeat (first | (refine TW.getf rfl rfl rfl (fun _ => ?_)) | (refine TW.pl rfl rfl ?_)))
  rw [hn]
  refine TW.cv2 rfl rfl rfl (Nat.le_of_ble_eq_true rfl) (T_putR hP hr hv hrow (by omega)) ?_
  rintro r τ ⟨⟨hf, hs⟩, hq⟩
  have h17 : τ.1 17 = n := (hf.1 17 (by decide)).trans hn
  by_cases h40 : pu.length = 40
  · have hq := hq.1 h40
    subst hq
    (repeat (first | (refine TW.getf rfl rfl rfl (fun _ => ?_)) | (refine TW.pl rfl rfl ?_)))
    refine TW.br rfl rfl (by first | omega | exact b2i_R _ | exact ⟨b2i_R _, by omega⟩) (fun q1 => ?_) (fun q1 => ?_)
    · (repeat (first | (refine TW.getf rfl rfl rfl (fun _ => ?_)) | (refine TW.pl rfl rfl ?_)))
      refine TW.putf rfl rfl (by omega) ?_
      (repeat (first | (refine TW.getf rfl rfl rfl (fun _ => ?_)) | (refine TW.pl rfl rfl ?_)))
      exact TW.iret rfl ⟨⟨(hf.mono (by decide) (by decide)).ts1 (by decide), hs⟩, fun _ => rfl, fun z => absurd h40 z⟩
    · exact absurd q1 (by decide)
  · obtain ⟨rfl, hP1⟩ := hq.2 h40
    (repeat (first | (refine TW.getf rfl rfl rfl (fun _ => ?_)) | (refine TW.pl rfl rfl ?_)))
    refine TW.br rfl rfl (by first | omega | exact b2i_R _ | exact ⟨b2i_R _, by omega⟩) (fun q1 => ?_) (fun q1 => ?_)
    · exact absurd rfl q1
    · (repeat (first | (refine TW.getf rfl rfl rfl (fun _ => ?_)) | (refine TW.pl rfl rfl ?_)))
      refine TW.putf rfl rfl (by omega) ?_
      (repeat (first | (refine TW.getf rfl rfl rfl (fun _ => ?_)) | (refine TW.pl rfl rfl ?_)))
      exact TW.iret rfl ⟨⟨(hf.mono (by decide) (by decide)).ts1 (by decide), hs⟩, fun z => absurd z h40, fun _ => ⟨rfl, hP1.same (fs := [17]) (as := []) (P := fun _ => False) (TFr.rf.ts1 (by decide)) (fun _ _ => rfl) (by decide) (by decide) (fun k z => z.elim), by rw [ts1_eq, h17]⟩⟩
def PuQ (σ : TS) (pu : List SLine) (n : Int) (rs : List (List Int)) (r : Option Int) (τ : TS) : Prop := (TFr [13, 17, 20] [6, 8, 19] σ τ ∧ RSame (fun k => (41 ≤ k ∧ k < 82) ∨ k = 431) σ τ) ∧ if 40 < pu.length + rs.length then r = some 4 else r = some 0 ∧ PutIs τ (pu ++ mkL n rs) ∧ (τ.1 17) = n + rs.length
theorem T_putTold {x0 c : Int} {k : Nat} (hs : SgnIs σ s) (hP : PutIs σ pu) (hx : Sfx s l x0) (hp : rs = [] ∨ pRows k l = .inr (l1, rs)) (hc : c = rs.length) (hn : (σ.1 17) = n) (hnR : 0 ≤ n ∧ n < 900000) (hrl : rs.length ≤ 1000) : TM (d + 4) tk_putTold [.inr 0, .inl x0, .inl c] σ (PuQ σ pu n rs) := by
  have h40 := hP.2.1
  refine TM.of rfl rfl ?_
  (iterate 6 (first | (refine TW.getf rfl rfl rfl (fun _ => ?_)) | (refine TW.pl rfl rfl ?_)))
  have loop : ∀ (rs' : List (List Int)) (pu' : List SLine) (n' j y : Int) (τ : TS), j + rs'.length = rs.length → 0 ≤ j → PutIs τ pu' → (τ.1 17) = n' → (rs' = [] ∨ ∃ kk ll l2, Sfx s ll y ∧ pRows kk ll = .inr (l2, rs')) → (pu'.length : Int) = pu.length + j → pu' ++ mkL n' rs' = pu ++ mkL n rs → n' + rs'.length = n + rs.length → n ≤ n' → n' ≤ n + j → RSame (fun k => (41 ≤ k ∧ k < 82) ∨ k = 431) σ τ → TFr [13, 17, 20] [6, 8, 19] σ τ → TW (d + 3) tc_putTold 6 [some (.inr 0), some (.inl x0), some (.inl c), some (.inl y), some (.inl 0), some (.inl j)] [] τ (PuQ σ pu n rs) := by
    intro rs'
    induction rs' with
    | nil =>
      intro pu' n' j y τ hj h0 hP' hn' hq hpl he hnn hge hle hsm hf
      simp [mkL] at hj he hnn
      have h40' := hP'.2.1
      (repeat (first | (refine TW.getf rfl rfl rfl (fun _ => ?_)) | (refine TW.pl rfl rfl ?_)))
      refine TW.br rfl rfl (by first | omega | exact b2i_R _ | exact ⟨b2i_R _, by omega⟩) (fun q1 => ?_) (fun q1 => ?_)
      · (repeat (first | (refine TW.getf rfl rfl rfl (fun _ => ?_)) | (refine TW.pl rfl rfl ?_)))
        refine TW.iret rfl ⟨⟨hf, hsm⟩, ?_⟩
        rw [if_neg (by omega)]
        exact ⟨rfl, by rw [← he]; exact hP', by rw [hn', hnn]⟩
      · omega
    | cons r rs' ih =>
      intro pu' n' j y τ hj h0 hP' hn' hq hpl he hnn hge hle hsm hf
      obtain ⟨kk, ll, l2, hy, hpp⟩ := hq.resolve_left (by simp)
      obtain ⟨hr, hr30, hnx⟩ := pRows_cons hpp
      have hsτ := hs.fr hf (by decide) (by decide)
      simp at hj hnn
      (repeat (first | (refine TW.getf rfl rfl rfl (fun _ => ?_)) | (refine TW.pl rfl rfl ?_)))
      refine TW.br rfl rfl (by first | omega | exact b2i_R _ | exact ⟨b2i_R _, by omega⟩) (fun q1 => ?_) (fun q1 => ?_)
      · omega
      (repeat (first | (refine TW.getf rfl rfl rfl (fun _ => ?_)) | (refine TW.pl rfl rfl ?_)))
      refine TW.br rfl rfl (by first | omega | exact b2i_R _ | exact ⟨b2i_R _, by omega⟩) (fun q2 => ?_) (fun q2 => ?_)
      · exact absurd rfl q2
      (repeat (first | (refine TW.getf rfl rfl rfl (fun _ => ?_)) | (refine TW.pl rfl rfl ?_)))
      refine TW.cv1 rfl rfl rfl (Nat.le_of_ble_eq_true rfl) (T_makeTold hsτ hy) ?_
      rintro _ τ1 ⟨⟨y1, rfl, hy1⟩, hm1, hf1⟩
      rw [← hr] at hm1
      (repeat (first | (refine TW.getf rfl rfl rfl (fun _ => ?_)) | (refine TW.pl rfl rfl ?_)))
      refine TW.cv1 rfl rfl rfl (Nat.le_of_ble_eq_true rfl) (T_lays' (row := 431) rfl (by decide) hm1 (by omega)) ?_
      rintro _ τ2 ⟨rfl, hr2, -, hs2, hf2⟩
      have hP2 : PutIs τ2 pu' := (hP'.same hf1 (RSame.no hf1 (by decide)) (by decide) (by decide) (fun k z => z.elim)).same hf2 hs2 (by decide) (by decide) (fun k z => by omega)
      have hn2 : τ2.1 17 = n' := by rw [hf2.1 17 (by decide), hf1.1 17 (by decide)]; exact hn'
      (repeat (first | (refine TW.getf rfl rfl rfl (fun _ => ?_)) | (refine TW.pl rfl rfl ?_)))
      refine TW.cv1 rfl rfl rfl (Nat.le_of_ble_eq_true rfl) (T_putNewR (row := 431) hP2 (hr2 hr30) rfl (by decide) hn2 (by omega)) ?_
      rintro r3 τ3 ⟨⟨hf3, hs3⟩, hq3⟩
      have hsm3 : RSame (fun k => (41 ≤ k ∧ k < 82) ∨ k = 431) σ τ3 := fun i hi => by
        rw [hs3 i (fun z => hi (Or.inl z)), hs2 i (fun z => hi (Or.inr z)), hf1.2 6 (by decide)]
        exact hsm i hi
      have hf4 : TFr [13, 17, 20] [6, 8, 19] σ τ3 := hf.trans ((hf1.mono (by decide) (by decide)).trans ((hf2.mono (by decide) (by decide)).trans (hf3.mono (by decide) (by decide))))
      by_cases hfull : pu'.length = 40
      · have hq3 := hq3.1 hfull
        subst hq3
        have stop : ∀ (j' : Int), 0 ≤ j' → j' ≤ 1001 → TW (d + 3) tc_putTold 6 [some (.inr 0), some (.inl x0), some (.inl c), some (.inl (y1 + 1)), some (.inl 4), some (.inl j')] [] τ3 (PuQ σ pu n rs) := by
          intro j' hj0 hj1
          have fin : PuQ σ pu n rs (some 4) τ3 := ⟨⟨hf4, hsm3⟩, by rw [if_pos (by omega)]⟩
          (repeat (first | (refine TW.getf rfl rfl rfl (fun _ => ?_)) | (refine TW.pl rfl rfl ?_)))
          refine TW.br rfl rfl (by first | omega | exact b2i_R _ | exact ⟨b2i_R _, by omega⟩) (fun q3 => ?_) (fun q3 => ?_)
          · (repeat (first | (refine TW.getf rfl rfl rfl (fun _ => ?_)) | (refine TW.pl rfl rfl ?_)))
            exact TW.iret rfl fin
          · (repeat (first | (refine TW.getf rfl rfl rfl (fun _ => ?_)) | (refine TW.pl rfl rfl ?_)))
            refine TW.br rfl rfl (by first | omega | exact b2i_R _ | exact ⟨b2i_R _, by omega⟩) (fun q4 => ?_) (fun q4 => ?_)
            · (repeat (first | (refine TW.getf rfl rfl rfl (fun _ => ?_)) | (refine TW.pl rfl rfl ?_)))
              exact TW.iret rfl fin
            · exact absurd q4 (by decide)
        (iterate 3 (first | (refine TW.getf rfl rfl rfl (fun _ => ?_)) | (refine TW.pl rfl rfl ?_)))
        exact stop (j + 1) (by omega) (by omega)
      · obtain ⟨rfl, hP3, hn3⟩ := hq3.2 hfull
        (iterate 3 (first | (refine TW.getf rfl rfl rfl (fun _ => ?_)) | (refine TW.pl rfl rfl ?_)))
        refine ih (pu' ++ [(n', r)]) (n' + 1) (j + 1) (y1 + 1) τ3 (by omega) (by omega) hP3 hn3 ?_ (by simp; omega) (by rw [List.append_assoc]; exact he) (by omega) (by omega) (by omega) hsm3 hf4
        rcases hnx with ⟨z, _⟩ | ⟨h124, k', hp'⟩
        · exact Or.inl z
        · exact Or.inr ⟨k', _, l2, hy1.step (hd_ne h124 (by decide)) rfl, hp'⟩
  subst hc
  exact loop rs pu n 0 x0 σ (by omega) (by decide) hP hn (hp.imp id (fun z => ⟨k, l, l1, hx, z⟩)) (by omega) rfl rfl (Int.le_refl _) (by omega) (fun _ _ => rfl) TFr.rf
theorem T_dueTold {x0 : Int} {k : Nat} (hs : SgnIs σ s) (hD : DueIs σ du) (hx : Sfx s l x0) (hp : pRows k l = .inr (l1, rs)) (hl : du.length + rs.length < 1000000) : TM (d + 4) tk_dueTold [.inr 0, .inl x0] σ (fun r τ => r = some 0 ∧ DueIs τ (du ++ rs) ∧ RSame (fun k => (388 ≤ k ∧ k < 429) ∨ k = 431) σ τ ∧ TFr [20, 72] [6, 19] σ τ) := by
  refine TM.of rfl rfl ?_
  (repeat (first | (refine TW.getf rfl rfl rfl (fun _ => ?_)) | (refine TW.pl rfl rfl ?_)))
  refine TW.cv1 rfl rfl rfl (Nat.le_of_ble_eq_true rfl) (T_rowsAt hs hx hp) ?_; rintro _ _ ⟨rfl, rfl⟩
  (iterate 5 (first | (refine TW.getf rfl rfl rfl (fun _ => ?_)) | (refine TW.pl rfl rfl ?_)))
  have loop : ∀ (rs' : List (List Int)) (du' : List (List Int)) (j y : Int) (τ : TS), j + rs'.length = rs.length → 0 ≤ j → DueIs τ du' → (rs' = [] ∨ ∃ kk ll l2, Sfx s ll y ∧ pRows kk ll = .inr (l2, rs')) → du' ++ rs' = du ++ rs → RSame (fun k => (388 ≤ k ∧ k < 429) ∨ k = 431) σ τ → TFr [20, 72] [6, 19] σ τ → TW (d + 3) tc_dueTold 8 [some (.inr 0), some (.inl x0), some (.inl rs.length), some (.inl y), some (.inl j)] [] τ (fun r τ => r = some 0 ∧ DueIs τ (du ++ rs) ∧ RSame (fun k => (388 ≤ k ∧ k < 429) ∨ k = 431) σ τ ∧ TFr [20, 72] [6, 19] σ τ) := by
    intro rs'
    induction rs' with
    | nil =>
      intro du' j y τ hj h0 hD' hq he hsm hf
      simp at hj he
      (repeat (first | (refine TW.getf rfl rfl rfl (fun _ => ?_)) | (refine TW.pl rfl rfl ?_)))
      refine TW.br rfl rfl (by first | omega | exact b2i_R _ | exact ⟨b2i_R _, by omega⟩) (fun q1 => ?_) (fun q1 => ?_)
      · (repeat (first | (refine TW.getf rfl rfl rfl (fun _ => ?_)) | (refine TW.pl rfl rfl ?_)))
        exact TW.iret rfl ⟨rfl, by rw [← he]; exact hD', hsm, hf⟩
      · omega
    | cons r rs' ih =>
      intro du' j y τ hj h0 hD' hq he hsm hf
      obtain ⟨kk, ll, l2, hy, hpp⟩ := hq.resolve_left (by simp)
      obtain ⟨hr, hr30, hnx⟩ := pRows_cons hpp
      have hsτ := hs.fr hf (by decide) (by decide)
      have hle := congrArg List.length he
      simp at hj hle
      (repeat (first | (refine TW.getf rfl rfl rfl (fun _ => ?_)) | (refine TW.pl rfl rfl ?_)))
      refine TW.br rfl rfl (by first | omega | exact b2i_R _ | exact ⟨b2i_R _, by omega⟩) (fun q1 => ?_) (fun q1 => ?_)
      · omega
      (repeat (first | (refine TW.getf rfl rfl rfl (fun _ => ?_)) | (refine TW.pl rfl rfl ?_)))
      refine TW.cv1 rfl rfl rfl (Nat.le_of_ble_eq_true rfl) (T_makeTold hsτ hy) ?_
      rintro _ τ1 ⟨⟨y1, rfl, hy1⟩, hm1, hf1⟩
      rw [← hr] at hm1
      (repeat (first | (refine TW.getf rfl rfl rfl (fun _ => ?_)) | (refine TW.pl rfl rfl ?_)))
      refine TW.cv1 rfl rfl rfl (Nat.le_of_ble_eq_true rfl) (T_lays' (row := 431) rfl (by decide) hm1 (by omega)) ?_
      rintro _ τ2 ⟨rfl, hr2, -, hs2, hf2⟩
      have hD2 : DueIs τ2 du' := (hD'.same hf1 (RSame.no hf1 (by decide)) (by decide) (fun k z => z.elim)).same hf2 hs2 (by decide) (fun k z => by omega)
      (repeat (first | (refine TW.getf rfl rfl rfl (fun _ => ?_)) | (refine TW.pl rfl rfl ?_)))
      refine TW.cv1 rfl rfl rfl (Nat.le_of_ble_eq_true rfl) (T_dueR (row := 431) hD2 (hr2 hr30) rfl (by decide) (by omega)) ?_
      rintro _ τ3 ⟨rfl, hD3, hs3, hf3⟩
      (iterate 2 (first | (refine TW.getf rfl rfl rfl (fun _ => ?_)) | (refine TW.pl rfl rfl ?_)))
      refine ih (du' ++ [r]) (j + 1) (y1 + 1) τ3 (by omega) (by omega) hD3 ?_ (by rw [List.append_assoc]; exact he) (fun i hi => ?_) (hf.trans ((hf1.mono (by decide) (by decide)).trans ((hf2.mono (by decide) (by decide)).trans (hf3.mono (by decide) (by decide)))))
      · rcases hnx with ⟨z, _⟩ | ⟨h124, k', hp'⟩
        · exact Or.inl z
        · exact Or.inr ⟨k', _, l2, hy1.step (hd_ne h124 (by decide)) rfl, hp'⟩
      · rw [hs3 i (fun z => hi (Or.inl z)), hs2 i (fun z => hi (Or.inr z)), hf1.2 6 (by decide)]
        exact hsm i hi
  have hrl : rs.length ≤ 1000 := by
    have h1 := pRows_bar rs k l l1 hp
    have h2 : ∀ q : List Int, cBar q ≤ q.length := by
      intro q
      induction q with
      | nil => exact Nat.le_refl _
      | cons a q ih =>
        show (if isChr a = true ∨ a = 124 then (if a = 124 then 1 else 0) + cBar q else 0) ≤ q.length + 1
        split <;> (try split) <;> omega
    have := h2 l
    have := hx.len
    have := hs.2.1
    omega
  exact loop rs du 0 x0 σ (by omega) (by decide) hD (Or.inr ⟨k, l, l1, hx, hp⟩) rfl (fun _ _ => rfl) TFr.rf
theorem T_dueRows {b0 : Nat} {u v : Int} (hD : DueIs σ du) (hR : RowsIs σ b0 rs) (hu : u = b0) (hv : v = rs.length) (hb : b0 + rs.length ≤ 388) (hl : du.length + rs.length < 1000000) : TM (d + 3) tk_dueRows [.inr 0, .inl u, .inl v] σ (fun r τ => r = some 0 ∧ DueIs τ (du ++ rs) ∧ RSame (fun k => 388 ≤ k ∧ k < 429) σ τ ∧ TFr [72] [6] σ τ) := by
  refine TM.of rfl rfl ?_
  (iterate 2 (first | (refine TW.getf rfl rfl rfl (fun _ => ?_)) | (refine TW.pl rfl rfl ?_)))
  have loop : ∀ (q j : Nat) (k : Int) (τ : TS), j + q = rs.length → k = j → DueIs τ (du ++ rs.take j) → RSame (fun k => 388 ≤ k ∧ k < 429) σ τ → TFr [72] [6] σ τ → TW (d + 2) tc_dueRows 2 [some (.inr 0), some (.inl u), some (.inl v), some (.inl k)] [] τ (fun r τ => r = some 0 ∧ DueIs τ (du ++ rs) ∧ RSame (fun k => 388 ≤ k ∧ k < 429) σ τ ∧ TFr [72] [6] σ τ) := by
    intro q
    induction q with
    | zero =>
      intro j k τ hj hk hD' hs hf
      rw [List.take_of_length_le (by omega)] at hD'
      (repeat (first | (refine TW.getf rfl rfl rfl (fun _ => ?_)) | (refine TW.pl rfl rfl ?_)))
      refine TW.br rfl rfl (by first | omega | exact b2i_R _ | exact ⟨b2i_R _, by omega⟩) (fun q1 => ?_) (fun q1 => ?_)
      · (repeat (first | (refine TW.getf rfl rfl rfl (fun _ => ?_)) | (refine TW.pl rfl rfl ?_)))
        exact TW.iret rfl ⟨rfl, hD', hs, hf⟩
      · omega
    | succ q ih =>
      intro j k τ hj hk hD' hs hf
      have hlt : (du ++ rs.take j).length < 1000000 := by rw [List.length_append, List.length_take]; omega
      (repeat (first | (refine TW.getf rfl rfl rfl (fun _ => ?_)) | (refine TW.pl rfl rfl ?_)))
      refine TW.br rfl rfl (by first | omega | exact b2i_R _ | exact ⟨b2i_R _, by omega⟩) (fun q1 => ?_) (fun q1 => ?_)
      · omega
      (repeat (first | (refine TW.getf rfl rfl rfl (fun _ => ?_)) | (refine TW.pl rfl rfl ?_)))
      refine TW.cv1 rfl rfl rfl (Nat.le_of_ble_eq_true rfl) (T_dueR (row := b0 + j) hD' ((hR j (by omega)).same hs (by omega)) (by omega) (by omega) hlt) ?_
      rintro _ τ1 ⟨rfl, hD1, hs1, hf1⟩
      (iterate 2 (first | (refine TW.getf rfl rfl rfl (fun _ => ?_)) | (refine TW.pl rfl rfl ?_)))
      refine ih (j + 1) (k + 1) τ1 (by omega) (by omega) ?_ (fun i hi => (hs1 i hi).trans (hs i hi)) (hf.trans hf1)
      rw [List.take_add_one, List.getElem?_eq_getElem (by omega), ← List.append_assoc]
      rw [List.getD_eq_getElem?_getD, List.getElem?_eq_getElem (by omega)] at hD1
      exact hD1
  exact loop rs.length 0 0 σ (by omega) rfl (by rw [List.take_zero, List.append_nil]; exact hD) (fun _ _ => rfl) TFr.rf
end TStr
