set_option maxRecDepth 100000
/-! the twin's public methods against the specification of calls -/
def TpT (σ : TS) (tp : List Int) : Prop := (σ.1 2) = tp.length ∧ ∀ j, j < tp.length → (σ.2 1 (j)) = tp.getD j 0
def ScT (σ : TS) (sc : Nat → Option (List Int)) : Prop := ∀ k, k < 4 → (sc k = none → (σ.2 5 (k)) = 0) ∧ ∀ s, sc k = some s → (σ.2 5 (k)) = 1 ∧ (σ.2 4 (k)) = s.length ∧ ∀ j, j < s.length → (σ.2 3 (60 * k + j)) = s.getD j 0
def TwI (w : PW) (σ : TS) : Prop := TpT σ w.1 ∧ ScT σ w.2.1 ∧ TA0 w.2.2.1 σ ∧ DeedsIs σ w.2.2.2.1 ∧ (σ.1 63) = w.2.2.2.2.1 ∧ (σ.1 18) = w.2.2.2.2.2 ∧ GS σ
def TwQ (P : PA) (r : Option Int) (τ : TS) : Prop := TwI P.2 τ ∧ match P.1 with
  | .inl k => (τ.1 0) = (k : Int) ∧ ∃ v, r = some v
  | .inr v => (τ.1 0) = 0 ∧ r = some v
section TPU
variable {d k : Nat} {σ τ υ : TS} {s tp ys : List Int} {A : St} {os : List SOrd} {ds : List SDeed} {fs as : List Nat} {w : PW} {x z v : Int} {P : PA} {rows : List (List Int)} {sc : Nat → Option (List Int)}
theorem TpT.fr (h : TpT σ tp) (hf : TFr fs as σ τ) (h1 : 2 ∉ fs) (h2 : 1 ∉ as) : TpT τ tp := ⟨(hf.1 2 h1).trans h.1, fun j hj => by rw [hf.2 1 h2]; exact h.2 j hj⟩
theorem ScT.fr (h : ScT σ sc) (hf : TFr fs as σ τ) (h2 : ∀ k ∈ [3, 4, 5], k ∉ as) : ScT τ sc := by
  unfold ScT at h ⊢
  rw [hf.2 3 (h2 3 (by decide)), hf.2 4 (h2 4 (by decide)), hf.2 5 (h2 5 (by decide))]
  exact h
theorem TwI.frG (h : TwI w σ) (hf : TFr fs as σ τ) (hg : GS τ) (h1 : ∀ k ∈ [2, 12, 14, 15, 16, 17, 18, 61, 62, 63], k ∉ fs) (h2 : ∀ k ∈ [1, 3, 4, 5, 6, 7, 10, 11, 55, 56, 57, 58, 59, 60], k ∉ as) : TwI w τ := by
  obtain ⟨a, b, c, e, g, i, j⟩ := h
  exact ⟨a.fr hf (h1 2 (by decide)) (h2 1 (by decide)), b.fr hf (fun k hk => h2 k (by simp at hk ⊢; omega)), c.fr hf (fun k hk => h1 k (by simp at hk ⊢; omega)) (fun k hk => h2 k (by simp at hk ⊢; omega)), e.same hf (fun k hk => h1 k (by simp at hk ⊢; omega)) (fun k hk => h2 k (by simp at hk ⊢; omega)), (hf.1 63 (h1 63 (by decide))).trans g, (hf.1 18 (h1 18 (by decide))).trans i, hg⟩
theorem TwI.fr (h : TwI w σ) (hf : TFr fs as σ τ) (h1 : ∀ k ∈ [2, 12, 14, 15, 16, 17, 18, 25, 26, 61, 62, 63], k ∉ fs) (h2 : ∀ k ∈ [1, 3, 4, 5, 6, 7, 10, 11, 55, 56, 57, 58, 59, 60], k ∉ as) : TwI w τ := by
  refine h.frG hf ?_ (fun k hk => h1 k (by simp at hk ⊢; omega)) h2
  have hg := h.2.2.2.2.2.2
  unfold GS at hg ⊢
  rw [hf.1 25 (h1 25 (by decide)), hf.1 26 (h1 26 (by decide))]
  exact hg
theorem TwI.thr (h : TwI w σ) : TwI w (ts1 σ 0 v) := h.fr (fs := [0]) (as := []) (TFr.rf.ts1 (by decide)) (by decide) (by decide)
theorem TwQ.ok (h : TwI P.2 τ) (h0 : (τ.1 0) = 0) (hR : P.1 = .inr v) : TwQ P (some v) τ := by
  refine ⟨h, ?_⟩
  rw [hR]
  exact ⟨h0, rfl⟩
theorem TwQ.no (h : TwI P.2 τ) (h0 : (τ.1 0) = (k : Int)) (hR : P.1 = .inl k) : TwQ P (some v) τ := by
  refine ⟨h, ?_⟩
  rw [hR]
  exact ⟨h0, _, rfl⟩
theorem T_isFour (hx : inR x) : TE (d + 1) tk_isFour [.inl x] σ (some (b2i (isFo x))) σ := by
  refine TM.of rfl rfl ?_
  by_cases h : 0 ≤ x ∧ x < 4
  · have e : isFo x = true := isFo_t.mpr h
    rw [e]
    (repeat (first | (refine TW.getf rfl rfl rfl (fun _ => ?_)) | (refine TW.pl rfl rfl ?_)))
    refine TW.br rfl rfl (by first | omega | exact b2i_R _ | exact ⟨b2i_R _, by omega⟩) (fun q => by first | (exfalso; omega) | exact absurd q (by decide)) (fun q => ?_)
    (repeat (first | (refine TW.getf rfl rfl rfl (fun _ => ?_)) | (refine TW.pl rfl rfl ?_)))
    refine TW.br rfl rfl (by first | omega | exact b2i_R _ | exact ⟨b2i_R _, by omega⟩) (fun q2 => by first | (exfalso; omega) | exact absurd q2 (by decide)) (fun q2 => ?_)
    (repeat (first | (refine TW.getf rfl rfl rfl (fun _ => ?_)) | (refine TW.pl rfl rfl ?_)))
    exact TW.zret rfl (Or.inr rfl) ⟨rfl, rfl⟩
  · have e : isFo x = false := isFo_f.mpr h
    rw [e]
    (repeat (first | (refine TW.getf rfl rfl rfl (fun _ => ?_)) | (refine TW.pl rfl rfl ?_)))
    by_cases h1 : x < 0
    · refine TW.br rfl rfl (by first | omega | exact b2i_R _ | exact ⟨b2i_R _, by omega⟩) (fun q => ?_) (fun q => by first | (exfalso; omega) | exact absurd q (by decide))
      (repeat (first | (refine TW.getf rfl rfl rfl (fun _ => ?_)) | (refine TW.pl rfl rfl ?_)))
      exact TW.zret rfl (Or.inl rfl) ⟨rfl, rfl⟩
    · refine TW.br rfl rfl (by first | omega | exact b2i_R _ | exact ⟨b2i_R _, by omega⟩) (fun q => by first | (exfalso; omega) | exact absurd q (by decide)) (fun q => ?_)
      (repeat (first | (refine TW.getf rfl rfl rfl (fun _ => ?_)) | (refine TW.pl rfl rfl ?_)))
      refine TW.br rfl rfl (by first | omega | exact b2i_R _ | exact ⟨b2i_R _, by omega⟩) (fun q2 => ?_) (fun q2 => by first | (exfalso; omega) | exact absurd q2 (by decide))
      (repeat (first | (refine TW.getf rfl rfl rfl (fun _ => ?_)) | (refine TW.pl rfl rfl ?_)))
      exact TW.zret rfl (Or.inl rfl) ⟨rfl, rfl⟩
theorem T_isLine9 {M : Nat} (hx : inR x) (hm : (σ.1 12) = M) : TE (d + 1) tk_isLine [.inr 0, .inl x] σ (some (b2i (isNr x M))) σ := by
  refine TM.of rfl rfl ?_
  by_cases h1 : x < 1
  · have e : isNr x M = false := isNr_f.mpr (by omega)
    rw [e]
    (repeat (first | (refine TW.getf rfl rfl rfl (fun _ => ?_)) | (refine TW.pl rfl rfl ?_)))
    refine TW.br rfl rfl (by first | omega | exact b2i_R _ | exact ⟨b2i_R _, by omega⟩) (fun q => ?_) (fun q => by first | (exfalso; omega) | exact absurd q (by decide))
    (repeat (first | (refine TW.getf rfl rfl rfl (fun _ => ?_)) | (refine TW.pl rfl rfl ?_)))
    exact TW.zret rfl (Or.inl rfl) ⟨rfl, rfl⟩
  (repeat (first | (refine TW.getf rfl rfl rfl (fun _ => ?_)) | (refine TW.pl rfl rfl ?_)))
  refine TW.br rfl rfl (by first | omega | exact b2i_R _ | exact ⟨b2i_R _, by omega⟩) (fun q => by first | (exfalso; omega) | exact absurd q (by decide)) (fun q => ?_)
  (repeat (first | (refine TW.getf rfl rfl rfl (fun _ => ?_)) | (refine TW.pl rfl rfl ?_)))
  by_cases h2 : x ≤ M
  · have e : isNr x M = true := isNr_t.mpr (by omega)
    rw [e]
    refine TW.br rfl rfl (by first | omega | exact b2i_R _ | exact ⟨b2i_R _, by omega⟩) (fun q2 => by first | (exfalso; omega) | exact absurd q2 (by decide)) (fun q2 => ?_)
    (repeat (first | (refine TW.getf rfl rfl rfl (fun _ => ?_)) | (refine TW.pl rfl rfl ?_)))
    exact TW.zret rfl (Or.inr rfl) ⟨rfl, rfl⟩
  · have e : isNr x M = false := isNr_f.mpr (by omega)
    rw [e]
    refine TW.br rfl rfl (by first | omega | exact b2i_R _ | exact ⟨b2i_R _, by omega⟩) (fun q2 => ?_) (fun q2 => by first | (exfalso; omega) | exact absurd q2 (by decide))
    (repeat (first | (refine TW.getf rfl rfl rfl (fun _ => ?_)) | (refine TW.pl rfl rfl ?_)))
    exact TW.zret rfl (Or.inl rfl) ⟨rfl, rfl⟩
theorem T_loadTape (ht : TpT σ tp) (hs : SgO tp) : TM (d + 1) tk_loadTape [.inr 0] σ (fun r τ => r = none ∧ SgnIs τ tp ∧ TFr [22] [21] σ τ) := by
  obtain ⟨h2, hj⟩ := ht
  have h60 := hs.1
  refine TM.of rfl rfl ?_
  (repeat (first | (refine TW.getf rfl rfl rfl (fun _ => ?_)) | (refine TW.pl rfl rfl ?_)))
  refine TW.putf rfl rfl (by omega) ?_
  (iterate 2 (first | (refine TW.getf rfl rfl rfl (fun _ => ?_)) | (refine TW.pl rfl rfl ?_)))
  have loop : ∀ (n j : Nat) (υ : TS), j + n = tp.length → TFr [22] [21] σ υ → (υ.1 22) = tp.length → (∀ k, k < j → (υ.2 21 (k)) = tp.getD k 0) → TW d tc_loadTape 6 [some (.inr 0), some (.inl j)] [] υ (fun r τ => r = none ∧ SgnIs τ tp ∧ TFr [22] [21] σ τ) := by
    intro n
    induction n with
    | zero =>
      intro j υ hjn hf hn hk
      have e2 : υ.1 2 = tp.length := (hf.1 2 (by decide)).trans h2
      (repeat (first | (refine TW.getf rfl rfl rfl (fun _ => ?_)) | (refine TW.pl rfl rfl ?_)))
      refine TW.br rfl rfl (by first | omega | exact b2i_R _ | exact ⟨b2i_R _, by omega⟩) (fun q => ?_) (fun q => by first | (exfalso; omega) | exact absurd q (by decide))
      exact TW.vret rfl ⟨rfl, ⟨hn, h60, fun k hk9 => hk k (by omega), hs.2⟩, hf⟩
    | succ n ih =>
      intro j υ hjn hf hn hk
      have e2 : υ.1 2 = tp.length := (hf.1 2 (by decide)).trans h2
      have ev : υ.2 1 j = tp.getD j 0 := by rw [hf.2 1 (by decide)]; exact hj j (by omega)
      have ej : ((j : Nat) : Int).toNat = j := Int.toNat_natCast j
      (repeat (first | (refine TW.getf rfl rfl rfl (fun _ => ?_)) | (refine TW.pl rfl rfl ?_)))
      refine TW.br rfl rfl (by first | omega | exact b2i_R _ | exact ⟨b2i_R _, by omega⟩) (fun q => by first | (exfalso; omega) | exact absurd q (by decide)) (fun q => ?_)
      (repeat (first | (refine TW.getf rfl rfl rfl (fun _ => ?_)) | (refine TW.pl rfl rfl ?_)))
      refine TW.iald (n := 60) rfl rfl rfl (by omega) (fun _ => ?_)
      rw [ej, ev]
      have hR := hs.2 (tp.getD j 0) (by rw [List.getD_eq_getElem?_getD, List.getElem?_eq_getElem (by omega)]; exact List.getElem_mem _)
      refine TW.iast (n := 60) rfl rfl rfl (by omega) (by omega) ?_
      rw [ej]
      (iterate 2 (first | (refine TW.getf rfl rfl rfl (fun _ => ?_)) | (refine TW.pl rfl rfl ?_)))
      have e1 : (j : Int) + 1 = ((j + 1 : Nat) : Int) := by omega
      show TW d tc_loadTape 6 [some (.inr 0), some (.inl ((j : Int) + 1))] [] _ _
      rw [e1]
      refine ih (j + 1) _ (by omega) (hf.ts2 (by decide)) hn (fun k hk9 => ?_)
      rw [ts2_at]
      split
      · rename_i e; rw [e]
      · exact hk k (by omega)
  refine loop tp.length 0 _ (Nat.zero_add _) (TFr.rf.ts1 (by decide)) ?_ (fun k hk => absurd hk (Nat.not_lt_zero _))
  rw [ts1_eq]
  exact h2
theorem T_loadScript (ht : ScT σ sc) (hk4 : k < 4) (hsk : sc k = some s) (hs : SgO s) : TM (d + 1) tk_loadScript [.inr 0, .inl k] σ (fun r τ => r = none ∧ SgnIs τ s ∧ TFr [22] [21] σ τ) := by
  obtain ⟨-, hl, hj⟩ := (ht k hk4).2 s hsk
  have h60 := hs.1
  have ek : ((k : Nat) : Int).toNat = k := Int.toNat_natCast k
  refine TM.of rfl rfl ?_
  (repeat (first | (refine TW.getf rfl rfl rfl (fun _ => ?_)) | (refine TW.pl rfl rfl ?_)))
  refine TW.iald (n := 4) rfl rfl rfl (by omega) (fun _ => ?_)
  rw [ek, hl]
  refine TW.putf rfl rfl (by omega) ?_
  (iterate 2 (first | (refine TW.getf rfl rfl rfl (fun _ => ?_)) | (refine TW.pl rfl rfl ?_)))
  have loop : ∀ (n j : Nat) (υ : TS), j + n = s.length → TFr [22] [21] σ υ → (υ.1 22) = s.length → (∀ k, k < j → (υ.2 21 (k)) = s.getD k 0) → TW d tc_loadScript 8 [some (.inr 0), some (.inl k), some (.inl j)] [] υ (fun r τ => r = none ∧ SgnIs τ s ∧ TFr [22] [21] σ τ) := by
    intro n
    induction n with
    | zero =>
      intro j υ hjn hf hn hk
      (repeat (first | (refine TW.getf rfl rfl rfl (fun _ => ?_)) | (refine TW.pl rfl rfl ?_)))
      refine TW.br rfl rfl (by first | omega | exact b2i_R _ | exact ⟨b2i_R _, by omega⟩) (fun q => ?_) (fun q => by first | (exfalso; omega) | exact absurd q (by decide))
      exact TW.vret rfl ⟨rfl, ⟨hn, h60, fun k hk9 => hk k (by omega), hs.2⟩, hf⟩
    | succ n ih =>
      intro j υ hjn hf hn hk
      have ev : υ.2 3 (60 * k + j) = s.getD j 0 := by rw [hf.2 3 (by decide)]; exact hj j (by omega)
      have ej : ((j : Nat) : Int).toNat = j := Int.toNat_natCast j
      have eij : (60 * (k : Int) + (j : Int)).toNat = 60 * k + j := by omega
      (repeat (first | (refine TW.getf rfl rfl rfl (fun _ => ?_)) | (refine TW.pl rfl rfl ?_)))
      refine TW.br rfl rfl (by first | omega | exact b2i_R _ | exact ⟨b2i_R _, by omega⟩) (fun q => by first | (exfalso; omega) | exact absurd q (by decide)) (fun q => ?_)
      (repeat (first | (refine TW.getf rfl rfl rfl (fun _ => ?_)) | (refine TW.pl rfl rfl ?_)))
      refine TW.iald (n := 240) rfl rfl rfl (by omega) (fun _ => ?_)
      rw [eij, ev]
      have hR := hs.2 (s.getD j 0) (by rw [List.getD_eq_getElem?_getD, List.getElem?_eq_getElem (by omega)]; exact List.getElem_mem _)
      refine TW.iast (n := 60) rfl rfl rfl (by omega) (by omega) ?_
      rw [ej]
      (iterate 2 (first | (refine TW.getf rfl rfl rfl (fun _ => ?_)) | (refine TW.pl rfl rfl ?_)))
      have e1 : (j : Int) + 1 = ((j + 1 : Nat) : Int) := by omega
      show TW d tc_loadScript 8 [some (.inr 0), some (.inl k), some (.inl ((j : Int) + 1))] [] _ _
      rw [e1]
      refine ih (j + 1) _ (by omega) (hf.ts2 (by decide)) hn (fun k hk9 => ?_)
      rw [ts2_at]
      split
      · rename_i e; rw [e]
      · exact hk k (by omega)
  refine loop s.length 0 _ (Nat.zero_add _) (TFr.rf.ts1 (by decide)) ?_ (fun k hk => absurd hk (Nat.not_lt_zero _))
  rw [ts1_eq]
/-! methods that tell one field -/
theorem T_reason (h : TwI w σ) : TM (d + 1) tk_reason [.inr 0] σ (TwQ (pReason w)) := by
  refine TM.of rfl rfl ?_
  (repeat (first | (refine TW.getf rfl rfl rfl (fun _ => ?_)) | (refine TW.pl rfl rfl ?_)))
  refine TW.putf rfl rfl (by omega) ?_
  (repeat (first | (refine TW.getf rfl rfl rfl (fun _ => ?_)) | (refine TW.pl rfl rfl ?_)))
  refine TW.iret rfl (TwQ.ok h.thr ts1_eq ?_)
  rw [ts1_ne (by decide), h.2.2.2.2.2.1]
  rfl
theorem T_deeds (h : TwI w σ) : TM (d + 1) tk_deeds [.inr 0] σ (TwQ (pDeeds w)) := by
  refine TM.of rfl rfl ?_
  (repeat (first | (refine TW.getf rfl rfl rfl (fun _ => ?_)) | (refine TW.pl rfl rfl ?_)))
  refine TW.putf rfl rfl (by omega) ?_
  (repeat (first | (refine TW.getf rfl rfl rfl (fun _ => ?_)) | (refine TW.pl rfl rfl ?_)))
  refine TW.iret rfl (TwQ.ok h.thr ts1_eq ?_)
  rw [ts1_ne (by decide), h.2.2.2.1.1]
  rfl
theorem T_lines (h : TwI w σ) : TM (d + 1) tk_lines [.inr 0] σ (TwQ (pLines w)) := by
  refine TM.of rfl rfl ?_
  (repeat (first | (refine TW.getf rfl rfl rfl (fun _ => ?_)) | (refine TW.pl rfl rfl ?_)))
  refine TW.putf rfl rfl (by omega) ?_
  (repeat (first | (refine TW.getf rfl rfl rfl (fun _ => ?_)) | (refine TW.pl rfl rfl ?_)))
  refine TW.iret rfl (TwQ.ok h.thr ts1_eq ?_)
  rw [ts1_ne (by decide), h.2.2.1.1.1]
  rfl
theorem T_present (h : TwI w σ) : TM (d + 1) tk_present [.inr 0] σ (TwQ (pPresent w)) := by
  refine TM.of rfl rfl ?_
  (repeat (first | (refine TW.getf rfl rfl rfl (fun _ => ?_)) | (refine TW.pl rfl rfl ?_)))
  refine TW.putf rfl rfl (by omega) ?_
  (repeat (first | (refine TW.getf rfl rfl rfl (fun _ => ?_)) | (refine TW.pl rfl rfl ?_)))
  refine TW.iret rfl (TwQ.ok h.thr ts1_eq ?_)
  rw [ts1_ne (by decide), h.2.2.1.2.1]
  rfl
theorem T_held (h : TwI w σ) : TM (d + 1) tk_held [.inr 0] σ (TwQ (pHeld w)) := by
  refine TM.of rfl rfl ?_
  (repeat (first | (refine TW.getf rfl rfl rfl (fun _ => ?_)) | (refine TW.pl rfl rfl ?_)))
  refine TW.putf rfl rfl (by omega) ?_
  (repeat (first | (refine TW.getf rfl rfl rfl (fun _ => ?_)) | (refine TW.pl rfl rfl ?_)))
  refine TW.iret rfl (TwQ.ok h.thr ts1_eq ?_)
  rw [ts1_ne (by decide), h.2.2.1.2.2.1.1.1]
  rfl
theorem T_outs (h : TwI w σ) : TM (d + 1) tk_outs [.inr 0] σ (TwQ (pOuts w)) := by
  refine TM.of rfl rfl ?_
  (repeat (first | (refine TW.getf rfl rfl rfl (fun _ => ?_)) | (refine TW.pl rfl rfl ?_)))
  refine TW.putf rfl rfl (by omega) ?_
  (repeat (first | (refine TW.getf rfl rfl rfl (fun _ => ?_)) | (refine TW.pl rfl rfl ?_)))
  refine TW.iret rfl (TwQ.ok h.thr ts1_eq ?_)
  rw [ts1_ne (by decide), h.2.2.1.2.2.1.2.1.1]
  rfl
theorem T_type (h : TwI w σ) (hx : inR x) (h60 : w.1.length ≤ 60) : TM (d + 1) tk_type [.inr 0, .inl x] σ (TwQ (pType x w)) := by
  have h2 := h.1.1
  have thr : ∀ (k : Nat), k = 1 ∨ k = 2 → pType x w = (.inl k, w) → TW d tc_type 16 [some (.inr 0), some (.inl x)] [.inl (k : Int), .inr 0] σ (TwQ (pType x w)) := fun k hk e => by
    refine TW.putf rfl rfl (by omega) ?_
    (repeat (first | (refine TW.getf rfl rfl rfl (fun _ => ?_)) | (refine TW.pl rfl rfl ?_)))
    rw [ts1_eq]
    refine TW.br rfl rfl (by first | omega | exact b2i_R _ | exact ⟨b2i_R _, by omega⟩) (fun q => by first | (exfalso; omega) | exact absurd q (by decide)) (fun q => ?_)
    (repeat (first | (refine TW.getf rfl rfl rfl (fun _ => ?_)) | (refine TW.pl rfl rfl ?_)))
    exact TW.iret rfl (TwQ.no (k := k) (by rw [e]; exact h.thr) ts1_eq (by rw [e]))
  refine TM.of rfl rfl ?_
  by_cases z1 : x < 32
  · have e : pType x w = (.inl 1, w) := by unfold pType; rw [if_pos (Or.inl z1)]
    (repeat (first | (refine TW.getf rfl rfl rfl (fun _ => ?_)) | (refine TW.pl rfl rfl ?_)))
    refine TW.br rfl rfl (by first | omega | exact b2i_R _ | exact ⟨b2i_R _, by omega⟩) (fun q => ?_) (fun q => by first | (exfalso; omega) | exact absurd q (by decide))
    (repeat (first | (refine TW.getf rfl rfl rfl (fun _ => ?_)) | (refine TW.pl rfl rfl ?_)))
    exact thr 1 (Or.inl rfl) e
  (repeat (first | (refine TW.getf rfl rfl rfl (fun _ => ?_)) | (refine TW.pl rfl rfl ?_)))
  refine TW.br rfl rfl (by first | omega | exact b2i_R _ | exact ⟨b2i_R _, by omega⟩) (fun q => by first | (exfalso; omega) | exact absurd q (by decide)) (fun q => ?_)
  by_cases z2 : 126 < x
  · have e : pType x w = (.inl 1, w) := by unfold pType; rw [if_pos (Or.inr z2)]
    (repeat (first | (refine TW.getf rfl rfl rfl (fun _ => ?_)) | (refine TW.pl rfl rfl ?_)))
    refine TW.br rfl rfl (by first | omega | exact b2i_R _ | exact ⟨b2i_R _, by omega⟩) (fun q2 => by first | (exfalso; omega) | exact absurd q2 (by decide)) (fun q2 => ?_)
    (repeat (first | (refine TW.getf rfl rfl rfl (fun _ => ?_)) | (refine TW.pl rfl rfl ?_)))
    exact thr 1 (Or.inl rfl) e
  (repeat (first | (refine TW.getf rfl rfl rfl (fun _ => ?_)) | (refine TW.pl rfl rfl ?_)))
  refine TW.br rfl rfl (by first | omega | exact b2i_R _ | exact ⟨b2i_R _, by omega⟩) (fun q2 => ?_) (fun q2 => by first | (exfalso; omega) | exact absurd q2 (by decide))
  by_cases z3 : w.1.length = 60
  · have e : pType x w = (.inl 2, w) := by unfold pType; rw [if_neg (by omega), if_pos z3]
    (repeat (first | (refine TW.getf rfl rfl rfl (fun _ => ?_)) | (refine TW.pl rfl rfl ?_)))
    refine TW.br rfl rfl (by first | omega | exact b2i_R _ | exact ⟨b2i_R _, by omega⟩) (fun q3 => by first | (exfalso; omega) | exact absurd q3 (by decide)) (fun q3 => ?_)
    (repeat (first | (refine TW.getf rfl rfl rfl (fun _ => ?_)) | (refine TW.pl rfl rfl ?_)))
    exact thr 2 (Or.inr rfl) e
  have e : pType x w = (.inr ((w.1.length + 1 : Nat) : Int), w.1 ++ [x], w.2) := by unfold pType; rw [if_neg (by omega), if_neg z3]
  (repeat (first | (refine TW.getf rfl rfl rfl (fun _ => ?_)) | (refine TW.pl rfl rfl ?_)))
  refine TW.br rfl rfl (by first | omega | exact b2i_R _ | exact ⟨b2i_R _, by omega⟩) (fun q3 => ?_) (fun q3 => by first | (exfalso; omega) | exact absurd q3 (by decide))
  (repeat (first | (refine TW.getf rfl rfl rfl (fun _ => ?_)) | (refine TW.pl rfl rfl ?_)))
  refine TW.putf rfl rfl (by omega) ?_
  (repeat (first | (refine TW.getf rfl rfl rfl (fun _ => ?_)) | (refine TW.pl rfl rfl ?_)))
  rw [ts1_eq]
  refine TW.br rfl rfl (by first | omega | exact b2i_R _ | exact ⟨b2i_R _, by omega⟩) (fun q4 => ?_) (fun q4 => by first | (exfalso; omega) | exact absurd q4 (by decide))
  (repeat (first | (refine TW.getf rfl rfl rfl (fun _ => ?_)) | (refine TW.pl rfl rfl ?_)))
  have e2 : (ts1 σ 0 0).1 2 = w.1.length := by rw [ts1_ne (by decide)]; exact h2
  rw [e2]
  have ej : ((w.1.length : Nat) : Int).toNat = w.1.length := Int.toNat_natCast _
  refine TW.iast (n := 60) rfl rfl rfl (by omega) (by omega) ?_
  rw [ej]
  (repeat (first | (refine TW.getf rfl rfl rfl (fun _ => ?_)) | (refine TW.pl rfl rfl ?_)))
  have e3 : (ts2 (ts1 σ 0 0) 1 w.1.length x).1 2 = w.1.length := e2
  rw [e3]
  refine TW.putf rfl rfl (by omega) ?_
  (repeat (first | (refine TW.getf rfl rfl rfl (fun _ => ?_)) | (refine TW.pl rfl rfl ?_)))
  rw [ts1_eq]
  obtain ⟨⟨a1, a2⟩, b⟩ := h.thr (v := 0)
  have f1 : TFr [2] [1] (ts1 σ 0 0) (ts1 (ts2 (ts1 σ 0 0) 1 w.1.length x) 2 ((w.1.length : Int) + 1)) := (TFr.rf.ts2 (by decide)).ts1 (by decide)
  refine TW.iret rfl (TwQ.ok ?_ rfl (by rw [e]; rfl))
  rw [e]
  obtain ⟨c1, c2, c3, c4, c5, c6⟩ := b
  refine ⟨⟨?_, fun j hj => ?_⟩, c1.fr f1 (by decide), c2.fr f1 (by decide) (by decide), c3.same f1 (by decide) (by decide), (f1.1 63 (by decide)).trans c4, (f1.1 18 (by decide)).trans c5, c6⟩
  · rw [ts1_eq]; simp
  · have hj : j < (w.1 ++ [x]).length := hj
    rw [List.length_append, List.length_singleton] at hj
    show (ts2 (ts1 σ 0 0) 1 w.1.length x).2 1 j = (w.1 ++ [x]).getD j 0
    rw [ts2_at, getD_app w.1 x 0 j (by omega)]
    split
    · rfl
    · exact a2 j (by omega)
theorem T_wipe (h : TwI w σ) : TM (d + 1) tk_wipe [.inr 0] σ (TwQ (pWipe w)) := by
  refine TM.of rfl rfl ?_
  (repeat (first | (refine TW.getf rfl rfl rfl (fun _ => ?_)) | (refine TW.pl rfl rfl ?_)))
  refine TW.putf rfl rfl (by omega) ?_
  (repeat (first | (refine TW.getf rfl rfl rfl (fun _ => ?_)) | (refine TW.pl rfl rfl ?_)))
  have e2 : (ts1 σ 0 0).1 2 = w.1.length := by rw [ts1_ne (by decide)]; exact h.1.1
  rw [e2]
  refine TW.putf rfl rfl (by omega) ?_
  (repeat (first | (refine TW.getf rfl rfl rfl (fun _ => ?_)) | (refine TW.pl rfl rfl ?_)))
  obtain ⟨-, c1, c2, c3, c4, c5, c6⟩ := h.thr (v := 0)
  have f : TFr [2] [] (ts1 σ 0 0) (ts1 (ts1 σ 0 0) 2 0) := TFr.rf.ts1 (by decide)
  exact TW.iret rfl (TwQ.ok ⟨⟨ts1_eq, fun j hj => absurd hj (Nat.not_lt_zero _)⟩, c1.fr f (by decide), c2.fr f (by decide) (by decide), c3.same f (by decide) (by decide), (f.1 63 (by decide)).trans c4, (f.1 18 (by decide)).trans c5, c6⟩ rfl rfl)
theorem T_clearOut (h : TwI w σ) : TM (d + 1) tk_clearOut [.inr 0] σ (TwQ (pClearOut w)) := by
  obtain ⟨tp, sc, ⟨t, p, hh, oo, fi, mks, nn, rp⟩, ds, cl, re⟩ := w
  refine TM.of rfl rfl ?_
  (repeat (first | (refine TW.getf rfl rfl rfl (fun _ => ?_)) | (refine TW.pl rfl rfl ?_)))
  refine TW.putf rfl rfl (by omega) ?_
  (repeat (first | (refine TW.getf rfl rfl rfl (fun _ => ?_)) | (refine TW.pl rfl rfl ?_)))
  have e15 : (ts1 σ 0 0).1 15 = oo.length := by rw [ts1_ne (by decide)]; exact h.2.2.1.2.2.1.2.1.1
  rw [e15]
  refine TW.putf rfl rfl (by omega) ?_
  (repeat (first | (refine TW.getf rfl rfl rfl (fun _ => ?_)) | (refine TW.pl rfl rfl ?_)))
  obtain ⟨c0, c1, ⟨a1, a2, ⟨a3, a4, a5⟩, a6, a7⟩, c3, c4, c5, c6⟩ := h.thr (v := 0)
  have f : TFr [15] [] (ts1 σ 0 0) (ts1 (ts1 σ 0 0) 15 0) := TFr.rf.ts1 (by decide)
  have c2 : TA0 (t, p, hh, [], fi, mks, nn, rp) (ts1 (ts1 σ 0 0) 15 0) := ⟨a1, a2, ⟨a3, ⟨ts1_eq, Nat.zero_le _, fun k hk => absurd hk (Nat.not_lt_zero _)⟩, a5⟩, a6, a7⟩
  exact TW.iret rfl (TwQ.ok (P := pClearOut (tp, sc, (t, p, hh, oo, fi, mks, nn, rp), ds, cl, re)) ⟨c0.fr f (by decide) (by decide), c1.fr f (by decide), c2, c3.same f (by decide) (by decide), (f.1 63 (by decide)).trans c4, (f.1 18 (by decide)).trans c5, c6⟩ rfl rfl)
/-! orders -/
theorem sFault_flt {α : Type} {R : Nat ⊕ α} : sFault R = flt R := by cases R <;> rfl
theorem flt_inr {α : Type} {v : α} : flt (.inr v : Nat ⊕ α) = -1 := rfl
theorem flt_inl {α : Type} {k : Nat} : flt (.inl k : Nat ⊕ α) = k := rfl
theorem T_fault (h : TwI w σ) (hs : SgO w.1) : TM (d + 15) tk_fault [.inr 0] σ (TwQ (pFault w)) := by
  refine TM.of rfl rfl ?_
  (repeat (first | (refine TW.getf rfl rfl rfl (fun _ => ?_)) | (refine TW.pl rfl rfl ?_)))
  refine TW.putf rfl rfl (by omega) ?_
  (repeat (first | (refine TW.getf rfl rfl rfl (fun _ => ?_)) | (refine TW.pl rfl rfl ?_)))
  refine TW.cv0 rfl rfl rfl (Nat.le_of_ble_eq_true rfl) (T_loadTape (d := d + 13) (h.thr (v := 0)).1 hs) ?_
  rintro r τ ⟨rfl, hsg, hf⟩
  have h1 := (h.thr (v := 0)).fr hf (by decide) (by decide)
  (repeat (first | (refine TW.getf rfl rfl rfl (fun _ => ?_)) | (refine TW.pl rfl rfl ?_)))
  refine TW.cv0 rfl rfl rfl (Nat.le_of_ble_eq_true rfl) (T_ordersFault (d := d) hsg h1.2.2.2.2.2.2) ?_
  rintro r υ ⟨rfl, hf2, hs2, hg2⟩
  refine TW.iret rfl (TwQ.ok (h1.frG hf2 hg2 (by decide) (by decide)) ?_ ?_)
  · rw [hf2.1 0 (by decide), hf.1 0 (by decide), ts1_eq]
  · rw [sFault_flt]; rfl
theorem T_patternFault (h : TwI w σ) (hs : SgO w.1) : TM (d + 15) tk_patternFault [.inr 0] σ (TwQ (pPFault w)) := by
  refine TM.of rfl rfl ?_
  (repeat (first | (refine TW.getf rfl rfl rfl (fun _ => ?_)) | (refine TW.pl rfl rfl ?_)))
  refine TW.putf rfl rfl (by omega) ?_
  (repeat (first | (refine TW.getf rfl rfl rfl (fun _ => ?_)) | (refine TW.pl rfl rfl ?_)))
  refine TW.cv0 rfl rfl rfl (Nat.le_of_ble_eq_true rfl) (T_loadTape (d := d + 13) (h.thr (v := 0)).1 hs) ?_
  rintro r τ ⟨rfl, hsg, hf⟩
  have h1 := (h.thr (v := 0)).fr hf (by decide) (by decide)
  (repeat (first | (refine TW.getf rfl rfl rfl (fun _ => ?_)) | (refine TW.pl rfl rfl ?_)))
  refine TW.cv0 rfl rfl rfl (Nat.le_of_ble_eq_true rfl) (T_patternsFault (d := d + 6) hsg h1.2.2.2.2.2.2) ?_
  rintro r υ ⟨rfl, hf2, hs2, hg2⟩
  refine TW.iret rfl (TwQ.ok (h1.frG hf2 hg2 (by decide) (by decide)) ?_ ?_)
  · rw [hf2.1 0 (by decide), hf.1 0 (by decide), ts1_eq]
  · rw [sFault_flt]; rfl
/-- doAll from its call on -/
theorem T_doAllW (h : TwI w σ) (hw : PwK w) (hs : SgnIs σ s) (hos : sOrders s = .inr os) (h0 : (σ.1 0) = 0) (hn : w.2.2.1.2.2.2.2.2.2.1 < 890000) : TM (d + 19) tk_doAll [.inr 0] σ (TwQ (doAllW os w)) := by
  obtain ⟨tp, sc, A, ds, cl, re⟩ := w
  obtain ⟨c0, c1, c2, c3, c4, c5, c6⟩ := h
  obtain ⟨-, -, k3, k4, k5, k6, k7⟩ := hw
  have k6 : cl < 1000 := k6
  refine TM.mono (T_doAll (d := d) hs c6 c2 k3 hos c3 c4 (by omega) hn) (Nat.le_refl _) (fun r τ ⟨⟨hf, hg, hc⟩, hr, hre, hA, hD⟩ => ?_)
  subst hr
  exact TwQ.ok (P := doAllW os (tp, sc, A, ds, cl, re)) ⟨c0.fr hf (by decide) (by decide), c1.fr hf (by decide), hA, hD, hc, hre, hg⟩ ((hf.1 0 (by decide)).trans h0) rfl
theorem sOrders_le {s : List Int} {k : Nat} (h : sOrders s = .inl k) : k ≤ s.length := by
  unfold sOrders at h
  split at h
  · cases h; omega
  · split at h
    · cases h
    · cases h; omega
theorem T_run (h : TwI w σ) (hw : PwK w) (hn : w.2.2.1.2.2.2.2.2.2.1 < 890000) : TM (d + 20) tk_run [.inr 0] σ (TwQ (pRun w)) := by
  have hs : SgO w.1 := hw.1.1
  refine TM.of rfl rfl ?_
  (repeat (first | (refine TW.getf rfl rfl rfl (fun _ => ?_)) | (refine TW.pl rfl rfl ?_)))
  refine TW.cv0 rfl rfl rfl (Nat.le_of_ble_eq_true rfl) (T_loadTape (d := d + 18) h.1 hs) ?_
  rintro r τ ⟨rfl, hsg, hf⟩
  have h1 := h.fr hf (by decide) (by decide)
  (repeat (first | (refine TW.getf rfl rfl rfl (fun _ => ?_)) | (refine TW.pl rfl rfl ?_)))
  refine TW.cv0 rfl rfl rfl (Nat.le_of_ble_eq_true rfl) (T_ordersFault (d := d + 5) hsg h1.2.2.2.2.2.2) ?_
  rintro r υ ⟨rfl, hf2, hs2, hg2⟩
  have h2 := h1.frG hf2 hg2 (by decide) (by decide)
  rw [sFault_flt]
  cases hos : sOrders w.1 with
  | inl k9 =>
    have hk9 := sOrders_le hos
    have hs60 : w.1.length ≤ 60 := hs.1
    have e : pRun w = (.inl 1, w) := by unfold pRun; rw [hos]
    rw [flt_inl]
    refine TW.br rfl rfl (by first | omega | exact b2i_R _ | exact ⟨b2i_R _, by omega⟩) (fun q => by first | (exfalso; omega) | exact absurd q (by decide)) (fun q => ?_)
    (repeat (first | (refine TW.getf rfl rfl rfl (fun _ => ?_)) | (refine TW.pl rfl rfl ?_)))
    refine TW.putf rfl rfl (by omega) ?_
    (repeat (first | (refine TW.getf rfl rfl rfl (fun _ => ?_)) | (refine TW.pl rfl rfl ?_)))
    rw [ts1_eq]
    refine TW.br rfl rfl (by first | omega | exact b2i_R _ | exact ⟨b2i_R _, by omega⟩) (fun q2 => by first | (exfalso; omega) | exact absurd q2 (by decide)) (fun q2 => ?_)
    (repeat (first | (refine TW.getf rfl rfl rfl (fun _ => ?_)) | (refine TW.pl rfl rfl ?_)))
    exact TW.iret rfl (TwQ.no (k := 1) (by rw [e]; exact h2.thr) ts1_eq (by rw [e]))
  | inr os =>
    have e : pRun w = doAllW os w := by unfold pRun; rw [hos]
    rw [flt_inr, e]
    refine TW.br rfl rfl (by first | omega | exact b2i_R _ | exact ⟨b2i_R _, by omega⟩) (fun q => ?_) (fun q => by first | (exfalso; omega) | exact absurd q (by decide))
    (repeat (first | (refine TW.getf rfl rfl rfl (fun _ => ?_)) | (refine TW.pl rfl rfl ?_)))
    refine TW.putf rfl rfl (by omega) ?_
    (repeat (first | (refine TW.getf rfl rfl rfl (fun _ => ?_)) | (refine TW.pl rfl rfl ?_)))
    rw [ts1_eq]
    refine TW.br rfl rfl (by first | omega | exact b2i_R _ | exact ⟨b2i_R _, by omega⟩) (fun q2 => ?_) (fun q2 => by first | (exfalso; omega) | exact absurd q2 (by decide))
    (repeat (first | (refine TW.getf rfl rfl rfl (fun _ => ?_)) | (refine TW.pl rfl rfl ?_)))
    have hs3 : SgnIs (ts1 υ 0 0) w.1 := hs2
    refine TW.cv0 rfl rfl rfl (Nat.le_of_ble_eq_true rfl) (T_doAllW (d := d) h2.thr hw hs3 hos ts1_eq hn) ?_
    rintro r ρ hq
    obtain ⟨g1, g2, g3⟩ := hq
    subst g3
    exact TW.iret rfl ⟨g1, g2, rfl⟩
theorem isFo_lt (h : isFo x = true) : ∃ k : Nat, x = k ∧ k < 4 := by
  have := isFo_t.mp h
  exact ⟨x.toNat, by omega, by omega⟩
theorem T_play (h : TwI w σ) (hx : inR x) (hw : PwK w) (hn : w.2.2.1.2.2.2.2.2.2.1 < 890000) : TM (d + 20) tk_play [.inr 0, .inl x] σ (TwQ (pPlay x w)) := by
  have thr : ∀ (k : Nat), k = 1 ∨ k = 2 → pPlay x w = (.inl k, w) → TW (d + 19) tc_play 14 [some (.inr 0), some (.inl x)] [.inl (k : Int), .inr 0] σ (TwQ (pPlay x w)) := fun k hk e => by
    refine TW.putf rfl rfl (by omega) ?_
    (repeat (first | (refine TW.getf rfl rfl rfl (fun _ => ?_)) | (refine TW.pl rfl rfl ?_)))
    rw [ts1_eq]
    refine TW.br rfl rfl (by first | omega | exact b2i_R _ | exact ⟨b2i_R _, by omega⟩) (fun q => by first | (exfalso; omega) | exact absurd q (by decide)) (fun q => ?_)
    (repeat (first | (refine TW.getf rfl rfl rfl (fun _ => ?_)) | (refine TW.pl rfl rfl ?_)))
    exact TW.iret rfl (TwQ.no (k := k) (by rw [e]; exact h.thr) ts1_eq (by rw [e]))
  refine TM.of rfl rfl ?_
  (repeat (first | (refine TW.getf rfl rfl rfl (fun _ => ?_)) | (refine TW.pl rfl rfl ?_)))
  refine TW.cs1 rfl rfl rfl (Nat.le_of_ble_eq_true rfl) (T_isFour (d := d + 18) hx) ?_; rintro _ _ ⟨rfl, rfl⟩
  cases hf4 : isFo x with
  | false =>
    have e : pPlay x w = (.inl 1, w) := by unfold pPlay; rw [if_pos hf4]
    refine TW.br rfl rfl (by first | omega | exact b2i_R _ | exact ⟨b2i_R _, by omega⟩) (fun q => by first | (exfalso; omega) | exact absurd q (by decide)) (fun q => ?_)
    (repeat (first | (refine TW.getf rfl rfl rfl (fun _ => ?_)) | (refine TW.pl rfl rfl ?_)))
    exact thr 1 (Or.inl rfl) e
  | true =>
    have hn4 : ¬ isFo x = false := by rw [hf4]; decide
    obtain ⟨k, rfl, hk4⟩ := isFo_lt hf4
    have ek : ((k : Nat) : Int).toNat = k := Int.toNat_natCast k
    refine TW.br rfl rfl (by first | omega | exact b2i_R _ | exact ⟨b2i_R _, by omega⟩) (fun q => ?_) (fun q => by first | (exfalso; omega) | exact absurd q (by decide))
    (repeat (first | (refine TW.getf rfl rfl rfl (fun _ => ?_)) | (refine TW.pl rfl rfl ?_)))
    refine TW.bald (n := 4) rfl rfl rfl (by omega) (fun _ => ?_)
    rw [ek]
    cases hsk : w.2.1 k with
    | none =>
      have e : pPlay k w = (.inl 2, w) := by unfold pPlay; rw [if_neg hn4, ek, hsk]
      rw [(h.2.1 k hk4).1 hsk]
      refine TW.br rfl rfl (by first | omega | exact b2i_R _ | exact ⟨b2i_R _, by omega⟩) (fun q2 => by first | (exfalso; omega) | exact absurd q2 (by decide)) (fun q2 => ?_)
      (repeat (first | (refine TW.getf rfl rfl rfl (fun _ => ?_)) | (refine TW.pl rfl rfl ?_)))
      exact thr 2 (Or.inr rfl) e
    | some s =>
      obtain ⟨⟨hso, -⟩, os, hos⟩ := hw.2.1 k s hsk
      have e : pPlay k w = doAllW os w := by unfold pPlay; rw [if_neg hn4, ek, hsk]; dsimp only; rw [hos]
      rw [((h.2.1 k hk4).2 s hsk).1, e]
      refine TW.br rfl rfl (by first | omega | exact b2i_R _ | exact ⟨b2i_R _, by omega⟩) (fun q2 => ?_) (fun q2 => by first | (exfalso; omega) | exact absurd q2 (by decide))
      (repeat (first | (refine TW.getf rfl rfl rfl (fun _ => ?_)) | (refine TW.pl rfl rfl ?_)))
      refine TW.putf rfl rfl (by omega) ?_
      (repeat (first | (refine TW.getf rfl rfl rfl (fun _ => ?_)) | (refine TW.pl rfl rfl ?_)))
      rw [ts1_eq]
      refine TW.br rfl rfl (by first | omega | exact b2i_R _ | exact ⟨b2i_R _, by omega⟩) (fun q3 => ?_) (fun q3 => by first | (exfalso; omega) | exact absurd q3 (by decide))
      (repeat (first | (refine TW.getf rfl rfl rfl (fun _ => ?_)) | (refine TW.pl rfl rfl ?_)))
      refine TW.cv1 rfl rfl rfl (Nat.le_of_ble_eq_true rfl) (T_loadScript (d := d + 18) (h.thr (v := 0)).2.1 hk4 hsk hso) ?_
      rintro r τ ⟨rfl, hsg, hf⟩
      have h1 := (h.thr (v := 0)).fr hf (by decide) (by decide)
      (repeat (first | (refine TW.getf rfl rfl rfl (fun _ => ?_)) | (refine TW.pl rfl rfl ?_)))
      refine TW.cv0 rfl rfl rfl (Nat.le_of_ble_eq_true rfl) (T_doAllW (d := d) h1 hw hsg hos ((hf.1 0 (by decide)).trans ts1_eq) hn) ?_
      rintro r ρ hq
      obtain ⟨g1, g2, g3⟩ := hq
      subst g3
      exact TW.iret rfl ⟨g1, g2, rfl⟩
theorem T_stream (h : TwI w σ) (hx : inR x) (hz : ZR σ) (hw : PwK w) (hn : w.2.2.1.2.2.2.2.2.2.1 < 890000) : TM (d + 24) tk_stream [.inr 0, .inl x] σ (fun r τ => TwQ (pStream x w) r τ ∧ WFn w.2.2.1.2.2.2.2.2.2.1 (pStream x w).2.2.2.1) := by
  have thr : ∀ (k : Nat), k = 1 ∨ k = 2 → pStream x w = (.inl k, w) → TW (d + 23) tc_stream 14 [some (.inr 0), some (.inl x)] [.inl (k : Int), .inr 0] σ (fun r τ => TwQ (pStream x w) r τ ∧ WFn w.2.2.1.2.2.2.2.2.2.1 (pStream x w).2.2.2.1) := fun k hk e => by
    refine TW.putf rfl rfl (by omega) ?_
    (repeat (first | (refine TW.getf rfl rfl rfl (fun _ => ?_)) | (refine TW.pl rfl rfl ?_)))
    rw [ts1_eq]
    refine TW.br rfl rfl (by first | omega | exact b2i_R _ | exact ⟨b2i_R _, by omega⟩) (fun q => by first | (exfalso; omega) | exact absurd q (by decide)) (fun q => ?_)
    (repeat (first | (refine TW.getf rfl rfl rfl (fun _ => ?_)) | (refine TW.pl rfl rfl ?_)))
    exact TW.iret rfl ⟨TwQ.no (k := k) (by rw [e]; exact h.thr) ts1_eq (by rw [e]), by rw [e]; exact ⟨hw.2.2.1, Int.le_refl _, by dsimp only; omega⟩⟩
  refine TM.of rfl rfl ?_
  (repeat (first | (refine TW.getf rfl rfl rfl (fun _ => ?_)) | (refine TW.pl rfl rfl ?_)))
  refine TW.cs1 rfl rfl rfl (Nat.le_of_ble_eq_true rfl) (T_isFour (d := d + 22) hx) ?_; rintro _ _ ⟨rfl, rfl⟩
  cases hf4 : isFo x with
  | false =>
    have e : pStream x w = (.inl 1, w) := by unfold pStream; rw [if_pos hf4]
    refine TW.br rfl rfl (by first | omega | exact b2i_R _ | exact ⟨b2i_R _, by omega⟩) (fun q => by first | (exfalso; omega) | exact absurd q (by decide)) (fun q => ?_)
    (repeat (first | (refine TW.getf rfl rfl rfl (fun _ => ?_)) | (refine TW.pl rfl rfl ?_)))
    exact thr 1 (Or.inl rfl) e
  | true =>
    have hn4 : ¬ isFo x = false := by rw [hf4]; decide
    obtain ⟨k, rfl, hk4⟩ := isFo_lt hf4
    have ek : ((k : Nat) : Int).toNat = k := Int.toNat_natCast k
    refine TW.br rfl rfl (by first | omega | exact b2i_R _ | exact ⟨b2i_R _, by omega⟩) (fun q => ?_) (fun q => by first | (exfalso; omega) | exact absurd q (by decide))
    (repeat (first | (refine TW.getf rfl rfl rfl (fun _ => ?_)) | (refine TW.pl rfl rfl ?_)))
    refine TW.bald (n := 4) rfl rfl rfl (by omega) (fun _ => ?_)
    rw [ek]
    cases hsk : w.2.1 k with
    | none =>
      have e : pStream k w = (.inl 2, w) := by unfold pStream; rw [if_neg hn4, ek, hsk]
      rw [(h.2.1 k hk4).1 hsk]
      refine TW.br rfl rfl (by first | omega | exact b2i_R _ | exact ⟨b2i_R _, by omega⟩) (fun q2 => by first | (exfalso; omega) | exact absurd q2 (by decide)) (fun q2 => ?_)
      (repeat (first | (refine TW.getf rfl rfl rfl (fun _ => ?_)) | (refine TW.pl rfl rfl ?_)))
      exact thr 2 (Or.inr rfl) e
    | some s =>
      obtain ⟨⟨hso, h24⟩, os, hos⟩ := hw.2.1 k s hsk
      have e : pStream k w = strW os w := by unfold pStream; rw [if_neg hn4, ek, hsk]; dsimp only; rw [hos]
      rw [((h.2.1 k hk4).2 s hsk).1, e]
      refine TW.br rfl rfl (by first | omega | exact b2i_R _ | exact ⟨b2i_R _, by omega⟩) (fun q2 => ?_) (fun q2 => by first | (exfalso; omega) | exact absurd q2 (by decide))
      (repeat (first | (refine TW.getf rfl rfl rfl (fun _ => ?_)) | (refine TW.pl rfl rfl ?_)))
      refine TW.putf rfl rfl (by omega) ?_
      (repeat (first | (refine TW.getf rfl rfl rfl (fun _ => ?_)) | (refine TW.pl rfl rfl ?_)))
      rw [ts1_eq]
      refine TW.br rfl rfl (by first | omega | exact b2i_R _ | exact ⟨b2i_R _, by omega⟩) (fun q3 => ?_) (fun q3 => by first | (exfalso; omega) | exact absurd q3 (by decide))
      (repeat (first | (refine TW.getf rfl rfl rfl (fun _ => ?_)) | (refine TW.pl rfl rfl ?_)))
      refine TW.cv1 rfl rfl rfl (Nat.le_of_ble_eq_true rfl) (T_loadScript (d := d + 22) (h.thr (v := 0)).2.1 hk4 hsk hso) ?_
      rintro r τ ⟨rfl, hsg, hf⟩
      have h1 := (h.thr (v := 0)).fr hf (by decide) (by decide)
      obtain ⟨b, hb⟩ := hz.rp
      have hb2 : (τ.1 44) = b2i b := by rw [hf.1 44 (by decide), ts1_ne (by decide)]; exact hb
      obtain ⟨tp, sc, A, ds, cl, re⟩ := w
      obtain ⟨c0, c1, c2, c3, c4, c5, c6⟩ := h1
      obtain ⟨-, -, k3, k4, k5, k6, k7⟩ := hw
      have k3 : WF A := k3
      have k6 : cl < 1000 := k6
      obtain ⟨r1, r2, ⟨b', r3⟩, r4⟩ := sStream_rp (os := os) (A := A) (ds := ds) (pl := cl + 1) b
      have hA : TA (setR A b) τ := (c2.setR b).ta (by obtain ⟨_, _, _, _, _, _, _, _⟩ := A; exact hb2)
      have hwA : WF (setR A b) := k3.setR b
      have hnA : (setR A b).2.2.2.2.2.2.1 = A.2.2.2.2.2.2.1 := setR_nid
      (repeat (first | (refine TW.getf rfl rfl rfl (fun _ => ?_)) | (refine TW.pl rfl rfl ?_)))
      refine TW.cv0 rfl rfl rfl (Nat.le_of_ble_eq_true rfl) (T_playLines (d := d) (t := (setR A b).1) (p := (setR A b).2.1) (h := (setR A b).2.2.1) (o := (setR A b).2.2.2.1) (fi := (setR A b).2.2.2.2.1) (m := (setR A b).2.2.2.2.2.1) (n := (setR A b).2.2.2.2.2.2.1) (rp := (setR A b).2.2.2.2.2.2.2) hsg (by omega) c6 hA hwA hos c3 c4 (by omega) (by rw [hnA]; exact hn)) ?_
      rintro r ρ ⟨⟨hf9, hg9, hc9⟩, hr9, hre9, hA9, hD9, hW9⟩
      have r1 : (sStream os (cl + 1) ((setR A b).1, (setR A b).2.1, (setR A b).2.2.1, (setR A b).2.2.2.1, (setR A b).2.2.2.2.1, (setR A b).2.2.2.2.2.1, (setR A b).2.2.2.2.2.2.1, (setR A b).2.2.2.2.2.2.2) ds).1 = _ := r1
      rw [r1] at hr9
      have r2 : (sStream os (cl + 1) ((setR A b).1, (setR A b).2.1, (setR A b).2.2.1, (setR A b).2.2.2.1, (setR A b).2.2.2.2.1, (setR A b).2.2.2.2.2.1, (setR A b).2.2.2.2.2.2.1, (setR A b).2.2.2.2.2.2.2) ds).2.1 = _ := r2
      rw [r2] at hre9
      have r3 : (sStream os (cl + 1) ((setR A b).1, (setR A b).2.1, (setR A b).2.2.1, (setR A b).2.2.2.1, (setR A b).2.2.2.2.1, (setR A b).2.2.2.2.2.1, (setR A b).2.2.2.2.2.2.1, (setR A b).2.2.2.2.2.2.2) ds).2.2.1 = _ := r3
      rw [r3] at hA9 hW9
      have r4 : (sStream os (cl + 1) ((setR A b).1, (setR A b).2.1, (setR A b).2.2.1, (setR A b).2.2.2.1, (setR A b).2.2.2.2.1, (setR A b).2.2.2.2.2.1, (setR A b).2.2.2.2.2.2.1, (setR A b).2.2.2.2.2.2.2) ds).2.2.2 = _ := r4
      rw [r4] at hD9
      subst hr9
      have hA9 : TA0 (sStream os (cl + 1) A ds).2.2.1 ρ := by
        generalize (sStream os (cl + 1) A ds).2.2.1 = A9 at hA9
        obtain ⟨_, _, _, _, _, _, _, _⟩ := A9
        exact hA9
      have hW9 : WFn A.2.2.2.2.2.2.1 (sStream os (cl + 1) A ds).2.2.1 := by
        have hW9 : WFn (setR A b).2.2.2.2.2.2.1 (setR (sStream os (cl + 1) A ds).2.2.1 b') := hW9
        rw [hnA] at hW9
        generalize (sStream os (cl + 1) A ds).2.2.1 = A9 at hW9
        obtain ⟨_, _, _, _, _, _, _, _⟩ := A9
        exact hW9
      exact TW.iret rfl ⟨TwQ.ok (P := strW os (tp, sc, A, ds, cl, re)) ⟨c0.fr hf9 (by decide) (by decide), c1.fr hf9 (by decide), hA9, hD9, hc9, hre9, hg9⟩ (by rw [hf9.1 0 (by decide), hf.1 0 (by decide), ts1_eq]) rfl, hW9⟩
end TPU
