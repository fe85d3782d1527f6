set_option maxRecDepth 100000
/-! THE TWIN READS -/
/-- one rule for all branches -/
def tbr (op : Nat) (b : Int) (st : List TV) : Option (Prop × Prop × Prop × List TV) :=
  match op, st with
  | 18, .inl x :: st => match b with
    | 0 => some (inR x, x = 0, ¬ x = 0, st)
    | 1 => some (inR x, ¬ x = 0, x = 0, st)
    | 2 => some (inR x, x < 0, 0 ≤ x, st)
    | 3 => some (inR x, 0 ≤ x, x < 0, st)
    | 4 => some (inR x, 0 < x, x ≤ 0, st)
    | 5 => some (inR x, x ≤ 0, 0 < x, st)
    | _ => none
  | 19, .inl y :: .inl x :: st => match b with
    | 0 => some (inR x ∧ inR y, x = y, ¬ x = y, st)
    | 1 => some (inR x ∧ inR y, ¬ x = y, x = y, st)
    | 2 => some (inR x ∧ inR y, x < y, y ≤ x, st)
    | 3 => some (inR x ∧ inR y, y ≤ x, x < y, st)
    | 4 => some (inR x ∧ inR y, y < x, x ≤ y, st)
    | 5 => some (inR x ∧ inR y, x ≤ y, y < x, st)
    | _ => none
  | _, _ => none
theorem TW.br {d i a op : Nat} {b : Int} {C : List TI} {ls : TL} {st st' : List TV} {σ : TS} {Q : Option Int → TS → Prop} {R P N : Prop} (hC : C[i]? = some (op, a, b)) (ht : tbr op b st = some (R, P, N, st')) (hR : R) (kt : P → TW d C a ls st' σ Q) (kf : N → TW d C (i + 1) ls st' σ Q) : TW d C i ls st σ Q := by
  unfold tbr at ht
  split at ht
  · split at ht <;> cases ht
    · exact TW.if_eq hC hR kt kf
    · exact TW.if_ne hC hR kt kf
    · exact TW.if_lt hC hR kt kf
    · exact TW.if_ge hC hR kt kf
    · exact TW.if_gt hC hR kt kf
    · exact TW.if_le hC hR kt kf
  · split at ht <;> cases ht
    · exact TW.ic_eq hC hR.1 hR.2 kt kf
    · exact TW.ic_ne hC hR.1 hR.2 kt kf
    · exact TW.ic_lt hC hR.1 hR.2 kt kf
    · exact TW.ic_ge hC hR.1 hR.2 kt kf
    · exact TW.ic_gt hC hR.1 hR.2 kt kf
    · exact TW.ic_le hC hR.1 hR.2 kt kf
  · cases ht
/-- the signs that are read -/
def SgnIs (σ : TS) (s : List Int) : Prop := (σ.1 22) = s.length ∧ s.length ≤ 60 ∧ (∀ k, k < s.length → (σ.2 21 (k)) = s.getD k 0) ∧ ∀ c ∈ s, 32 ≤ c ∧ c ≤ 126
/-- what is left -/
def At (σ : TS) (s l : List Int) : Prop := ∃ k : Nat, (σ.1 23) = k ∧ k ≤ s.length ∧ s.drop k = l
theorem At_hd {s l : List Int} {k : Nat} (h : s.drop k = l) : hd l = s.getD k 0 := by
  rw [← h]
  unfold hd
  rw [List.headD_eq_head?_getD, List.head?_drop, List.getD_eq_getElem?_getD]
theorem hd_ne {l : List Int} {c : Int} (h : hd l = c) (hc : c ≠ 0) : l ≠ [] := fun z => by rw [z] at h; exact hc h.symm
theorem hd_nil : hd [] = 0 := rfl
theorem hd_chr {l : List Int} (h : isChr (hd l) = true) : l ≠ [] := fun z => by rw [z] at h; cases h
theorem hd_dig9 {l : List Int} (h : isDig (hd l) = true) : l ≠ [] := fun z => by rw [z] at h; cases h
theorem At.len {σ : TS} {s l : List Int} (h : At σ s l) : (σ.1 23) = ((s.length - l.length : Nat) : Int) ∧ l.length ≤ s.length := by
  obtain ⟨k, h1, h2, h3⟩ := h
  have : l.length = s.length - k := by rw [← h3]; simp
  rw [h1]
  omega
theorem At.step {σ τ : TS} {s l : List Int} (h : At σ s l) (hl : l ≠ []) (hp : (τ.1 23) = (σ.1 23) + 1) : At τ s l.tail := by
  obtain ⟨k, h1, h2, h3⟩ := h
  have h4 : k < s.length := by
    rcases Nat.lt_or_ge k s.length with z | z
    · exact z
    · exact absurd (by rw [← h3, List.drop_eq_nil_of_le z]) hl
  exact ⟨k + 1, by rw [hp, h1]; rfl, by omega, by rw [← h3, List.tail_drop]⟩
theorem At.fr {σ τ : TS} {s l : List Int} (h : At σ s l) (hp : (τ.1 23) = (σ.1 23)) : At τ s l := by
  unfold At at h ⊢
  rw [hp]
  exact h
theorem SgnIs.fr {σ τ : TS} {s : List Int} {fs as : List Nat} (h : SgnIs σ s) (hf : TFr fs as σ τ) (h1 : 22 ∉ fs) (h2 : 21 ∉ as) : SgnIs τ s := by
  unfold SgnIs at h ⊢
  rw [hf.1 22 h1, hf.2 21 h2]
  exact h
theorem SgnIs.hdR {σ : TS} {s l : List Int} (h : SgnIs σ s) (ha : At σ s l) : 0 ≤ hd l ∧ hd l ≤ 126 ∧ (l ≠ [] → 32 ≤ hd l) := by
  obtain ⟨k, h1, h2, h3⟩ := ha
  cases hl : l with
  | nil => exact ⟨by decide, by decide, fun z => absurd rfl z⟩
  | cons c r =>
    have hm : c ∈ s := List.mem_of_mem_drop (i := k) (by rw [h3, hl]; exact List.mem_cons_self)
    have := h.2.2.2 c hm
    exact ⟨by show 0 ≤ c; omega, by show c ≤ 126; omega, fun _ => this.1⟩
/-- the part that every state while reading has; a good state; a state with a fault -/
def PZ (fs : List Nat) (σ0 : TS) (s : List Int) (σ : TS) : Prop := (∀ k, 23 ≤ k → k ≤ 26 → k ∈ fs) ∧ TFr fs [] σ0 σ ∧ SgnIs σ s
def PG (fs : List Nat) (σ0 : TS) (s : List Int) (m : Int) (gr st : Nat) (l : List Int) (σ : TS) : Prop := PZ fs σ0 s σ ∧ At σ s l ∧ (σ.1 24) = -1 ∧ ((σ.1 25) = gr ∧ gr ≤ m) ∧ (σ.1 26) = st ∧ st ≤ m
def PB (fs : List Nat) (σ0 : TS) (s : List Int) (m : Int) (f : List Int) (σ : TS) : Prop := PZ fs σ0 s σ ∧ (∃ l, At σ s l) ∧ (σ.1 24) = ((s.length - f.length : Nat) : Int) ∧ (0 ≤ (σ.1 25) ∧ (σ.1 25) ≤ m) ∧ 0 ≤ (σ.1 26) ∧ (σ.1 26) ≤ m
def PX (fs : List Nat) (σ0 : TS) (s : List Int) (m : Int) {α : Type} (R : PR α) (K : List Int → α → TS → Prop) (r : Option Int) (τ : TS) : Prop := r = none ∧ match R with
  | .inl f => PB fs σ0 s m f τ
  | .inr (l, v) => K l v τ
section TPar
variable {d : Nat} {σ σ0 : TS} {s l f : List Int} {fs : List Nat} {gr st : Nat} {m : Int}
theorem PZ.ts1 (h : PZ fs σ0 s σ) {k : Nat} {v : Int} (h1 : 23 ≤ k) (h2 : k ≤ 26) : PZ fs σ0 s (ts1 σ k v) := ⟨h.1, h.2.1.ts1 (h.1 k h1 h2), by
  have := h.2.2
  unfold SgnIs at this ⊢
  rw [ts1_ne (by omega)]
  exact this⟩
theorem PG.step (h : PG fs σ0 s m gr st l σ) (hl : l ≠ []) {v : Int} (hv : v = (σ.1 23) + 1) : PG fs σ0 s m gr st l.tail (ts1 σ 23 v) := ⟨h.1.ts1 (by decide) (by decide), h.2.1.step hl (by rw [ts1_eq, hv]), by rw [ts1_ne (by decide)]; exact h.2.2.1, by rw [ts1_ne (by decide)]; exact h.2.2.2.1, by rw [ts1_ne (by decide)]; exact h.2.2.2.2⟩
theorem PG.sta (h : PG fs σ0 s m gr st l σ) {k : Nat} {v : Int} (hv : v = k) (hk : k ≤ m) : PG fs σ0 s m gr k l (ts1 σ 26 v) := ⟨h.1.ts1 (by decide) (by decide), h.2.1.fr (ts1_ne (by decide)), by rw [ts1_ne (by decide)]; exact h.2.2.1, by rw [ts1_ne (by decide)]; exact h.2.2.2.1, by rw [ts1_eq, hv], hk⟩
theorem PG.gro (h : PG fs σ0 s m gr st l σ) {k : Nat} {v : Int} (hv : v = k) (hk : k ≤ m) : PG fs σ0 s m k st l (ts1 σ 25 v) := ⟨h.1.ts1 (by decide) (by decide), h.2.1.fr (ts1_ne (by decide)), by rw [ts1_ne (by decide)]; exact h.2.2.1, ⟨by rw [ts1_eq, hv], hk⟩, by rw [ts1_ne (by decide)]; exact h.2.2.2.2⟩
theorem PB.sta (h : PB fs σ0 s m f σ) {m' v : Int} (hv : 0 ≤ v ∧ v ≤ m') (hm : m ≤ m') : PB fs σ0 s m' f (ts1 σ 26 v) := ⟨h.1.ts1 (by decide) (by decide), h.2.1.elim fun l a => ⟨l, a.fr (ts1_ne (by decide))⟩, by rw [ts1_ne (by decide)]; exact h.2.2.1, by rw [ts1_ne (by decide)]; have := h.2.2.2.1; omega, by rw [ts1_eq]; omega⟩
theorem PB.gro (h : PB fs σ0 s m f σ) {m' v : Int} (hv : 0 ≤ v ∧ v ≤ m') (hm : m ≤ m') : PB fs σ0 s m' f (ts1 σ 25 v) := ⟨h.1.ts1 (by decide) (by decide), h.2.1.elim fun l a => ⟨l, a.fr (ts1_ne (by decide))⟩, by rw [ts1_ne (by decide)]; exact h.2.2.1, by rw [ts1_eq]; omega, by rw [ts1_ne (by decide)]; have := h.2.2.2.2; omega⟩
theorem PB.mono (h : PB fs σ0 s m f σ) {m' : Int} (hm : m ≤ m') : PB fs σ0 s m' f σ := ⟨h.1, h.2.1, h.2.2.1, by have := h.2.2.2.1; omega, by have := h.2.2.2.2; omega⟩
theorem PG.mono (h : PG fs σ0 s m gr st l σ) {m' : Int} (hm : m ≤ m') : PG fs σ0 s m' gr st l σ := ⟨h.1, h.2.1, h.2.2.1, by have := h.2.2.2.1; omega, by have := h.2.2.2.2; omega⟩
theorem PX.mono {α : Type} {R : PR α} {K : List Int → α → TS → Prop} {r : Option Int} {τ : TS} (h : PX fs σ0 s m R K r τ) {m' : Int} (hm : m ≤ m') : PX fs σ0 s m' R K r τ := by
  refine ⟨h.1, ?_⟩
  have := h.2
  cases R with
  | inl f => exact PB.mono this hm
  | inr q => exact this
theorem PG.hdR (h : PG fs σ0 s m gr st l σ) : (0 ≤ hd l ∧ hd l ≤ 126 ∧ (l ≠ [] → 32 ≤ hd l)) ∧ (σ.1 23) = ((s.length - l.length : Nat) : Int) ∧ l.length ≤ s.length ∧ s.length ≤ 60 ∧ (σ.1 22) = s.length := ⟨h.1.2.2.hdR h.2.1, h.2.1.len.1, h.2.1.len.2, h.1.2.2.2.1, h.1.2.2.1⟩
theorem b2i_R (b : Bool) : inR (b2i b) := by unfold b2i; split <;> decide
theorem b2i_1 {b : Bool} (h : ¬ b2i b = 0) : b = true := by cases b; exact absurd rfl h; rfl
theorem b2i_0 {b : Bool} (h : b2i b = 0) : b = false := by cases b; rfl; cases h
theorem T_c' (hs : SgnIs σ s) (ha : At σ s l) : TE (d + 1) tk_c [.inr 0] σ (some (hd l)) σ := by
  obtain ⟨k, h1, h2, h3⟩ := id ha
  refine TM.of rfl rfl ?_
  (repeat (first | (refine TW.getf rfl rfl rfl (fun _ => ?_)) | (refine TW.pl rfl rfl ?_)))
  have hn := hs.1
  refine TW.br rfl rfl (by first | omega | exact b2i_R _ | exact ⟨b2i_R _, by omega⟩) (fun h4 => ?_) (fun h4 => ?_)
  · (repeat (first | (refine TW.getf rfl rfl rfl (fun _ => ?_)) | (refine TW.pl rfl rfl ?_)))
    refine TW.iret rfl ⟨?_, rfl⟩
    rw [← h3, List.drop_eq_nil_of_le (by omega)]
    rfl
  · have := hs.2.1
    (repeat (first | (refine TW.getf rfl rfl rfl (fun _ => ?_)) | (refine TW.pl rfl rfl ?_)))
    refine TW.iald (n := 60) rfl rfl rfl (by omega) (fun _ => ?_)
    (repeat (first | (refine TW.getf rfl rfl rfl (fun _ => ?_)) | (refine TW.pl rfl rfl ?_)))
    refine TW.iret rfl ⟨?_, rfl⟩
    rw [At_hd h3]
    congr 1
    rw [tix (show (σ.1 23).toNat = k by omega), hs.2.2.1 k (by omega)]
theorem T_c (h : PG fs σ0 s m gr st l σ) : TE (d + 1) tk_c [.inr 0] σ (some (hd l)) σ := T_c' h.1.2.2 h.2.1
theorem T_isChar {c : Int} (h : inR c) : TE (d + 2) tk_isChar [.inl c] σ (some (b2i (isChr c))) σ := by
  refine TM.of rfl rfl ?_
  have fin1 : isChr c = true → TW (d + 1) tc_isChar 12 [some (.inl c)] [] σ (fun r' σ' => some (b2i (isChr c)) = r' ∧ σ = σ') := by
    intro h1
    (repeat (first | (refine TW.getf rfl rfl rfl (fun _ => ?_)) | (refine TW.pl rfl rfl ?_)))
    exact TW.zret rfl (Or.inr rfl) ⟨by rw [h1]; rfl, rfl⟩
  have mid : ¬ (97 ≤ c ∧ c ≤ 122) → TW (d + 1) tc_isChar 6 [some (.inl c)] [] σ (fun r' σ' => some (b2i (isChr c)) = r' ∧ σ = σ') := by
    intro hn
    (repeat (first | (refine TW.getf rfl rfl rfl (fun _ => ?_)) | (refine TW.pl rfl rfl ?_)))
    refine TW.cs1 rfl rfl rfl (Nat.le_of_ble_eq_true rfl) (T_isDigit h) ?_; rintro _ _ ⟨rfl, rfl⟩
    refine TW.br rfl rfl (by first | omega | exact b2i_R _ | exact ⟨b2i_R _, by omega⟩) (fun h2 => ?_) (fun h2 => ?_)
    · refine fin1 ?_
      unfold isChr; rw [b2i_1 h2]; simp
    · (repeat (first | (refine TW.getf rfl rfl rfl (fun _ => ?_)) | (refine TW.pl rfl rfl ?_)))
      refine TW.br rfl rfl (by first | omega | exact b2i_R _ | exact ⟨b2i_R _, by omega⟩) (fun h3 => ?_) (fun h3 => ?_)
      · (repeat (first | (refine TW.getf rfl rfl rfl (fun _ => ?_)) | (refine TW.pl rfl rfl ?_)))
        refine TW.zret rfl (Or.inl rfl) ⟨?_, rfl⟩
        have : isChr c = false := by unfold isChr; rw [b2i_0 h2, decide_eq_false hn, decide_eq_false h3]; rfl
        rw [this]; rfl
      · refine fin1 ?_
        unfold isChr; rw [decide_eq_true h3]; simp
  (repeat (first | (refine TW.getf rfl rfl rfl (fun _ => ?_)) | (refine TW.pl rfl rfl ?_)))
  refine TW.br rfl rfl (by first | omega | exact b2i_R _ | exact ⟨b2i_R _, by omega⟩) (fun h1 => ?_) (fun h1 => ?_)
  · exact mid (by omega)
  · (repeat (first | (refine TW.getf rfl rfl rfl (fun _ => ?_)) | (refine TW.pl rfl rfl ?_)))
    refine TW.br rfl rfl (by first | omega | exact b2i_R _ | exact ⟨b2i_R _, by omega⟩) (fun h2 => ?_) (fun h2 => ?_)
    · refine fin1 ?_
      unfold isChr; rw [decide_eq_true ⟨h1, h2⟩]; rfl
    · exact mid (by omega)
theorem T_isMark {c : Int} (h : inR c) : TE (d + 1) tk_isMark [.inl c] σ (some (b2i (isMrk c))) σ := by
  refine TM.of rfl rfl ?_
  (repeat (first | (refine TW.getf rfl rfl rfl (fun _ => ?_)) | (refine TW.pl rfl rfl ?_)))
  refine TW.br rfl rfl (by first | omega | exact b2i_R _ | exact ⟨b2i_R _, by omega⟩) (fun h1 => ?_) (fun h1 => ?_)
  · (repeat (first | (refine TW.getf rfl rfl rfl (fun _ => ?_)) | (refine TW.pl rfl rfl ?_)))
    exact TW.zret rfl (Or.inl rfl) ⟨by simp [isMrk, b2i]; omega, rfl⟩
  · (repeat (first | (refine TW.getf rfl rfl rfl (fun _ => ?_)) | (refine TW.pl rfl rfl ?_)))
    refine TW.br rfl rfl (by first | omega | exact b2i_R _ | exact ⟨b2i_R _, by omega⟩) (fun h2 => ?_) (fun h2 => ?_)
    · (repeat (first | (refine TW.getf rfl rfl rfl (fun _ => ?_)) | (refine TW.pl rfl rfl ?_)))
      exact TW.zret rfl (Or.inl rfl) ⟨by simp [isMrk, b2i]; omega, rfl⟩
    · (repeat (first | (refine TW.getf rfl rfl rfl (fun _ => ?_)) | (refine TW.pl rfl rfl ?_)))
      exact TW.zret rfl (Or.inr rfl) ⟨by simp [isMrk, b2i]; omega, rfl⟩
theorem T_isLabel {c : Int} (h : inR c) : TE (d + 1) tk_isLabel [.inl c] σ (some (b2i (isLab c))) σ := by
  refine TM.of rfl rfl ?_
  (repeat (first | (refine TW.getf rfl rfl rfl (fun _ => ?_)) | (refine TW.pl rfl rfl ?_)))
  refine TW.br rfl rfl (by first | omega | exact b2i_R _ | exact ⟨b2i_R _, by omega⟩) (fun h1 => ?_) (fun h1 => ?_)
  · (repeat (first | (refine TW.getf rfl rfl rfl (fun _ => ?_)) | (refine TW.pl rfl rfl ?_)))
    exact TW.zret rfl (Or.inl rfl) ⟨by simp [isLab, b2i]; omega, rfl⟩
  · (repeat (first | (refine TW.getf rfl rfl rfl (fun _ => ?_)) | (refine TW.pl rfl rfl ?_)))
    refine TW.br rfl rfl (by first | omega | exact b2i_R _ | exact ⟨b2i_R _, by omega⟩) (fun h2 => ?_) (fun h2 => ?_)
    · (repeat (first | (refine TW.getf rfl rfl rfl (fun _ => ?_)) | (refine TW.pl rfl rfl ?_)))
      exact TW.zret rfl (Or.inl rfl) ⟨by simp [isLab, b2i]; omega, rfl⟩
    · (repeat (first | (refine TW.getf rfl rfl rfl (fun _ => ?_)) | (refine TW.pl rfl rfl ?_)))
      exact TW.zret rfl (Or.inr rfl) ⟨by simp [isLab, b2i]; omega, rfl⟩
/-- a fault is noted once -/
theorem T_fail : TE (d + 1) tk_fail [.inr 0] σ none (ts1 σ 24 (if σ.1 24 < 0 then σ.1 23 else σ.1 24)) := by
  refine TM.of rfl rfl ?_
  (repeat (first | (refine TW.getf rfl rfl rfl (fun _ => ?_)) | (refine TW.pl rfl rfl ?_)))
  refine TW.br rfl rfl (by first | omega | exact b2i_R _ | exact ⟨b2i_R _, by omega⟩) (fun h => ?_) (fun h => ?_)
  · (repeat (first | (refine TW.getf rfl rfl rfl (fun _ => ?_)) | (refine TW.pl rfl rfl ?_)))
    refine TW.putf rfl rfl (by assumption) ?_
    exact TW.vret rfl ⟨rfl, by rw [if_neg (by omega)]⟩
  · (repeat (first | (refine TW.getf rfl rfl rfl (fun _ => ?_)) | (refine TW.pl rfl rfl ?_)))
    refine TW.putf rfl rfl (by assumption) ?_
    exact TW.vret rfl ⟨rfl, by rw [if_pos h]⟩
theorem T_failG (h : PG fs σ0 s m gr st l σ) : TM (d + 1) tk_fail [.inr 0] σ (fun r τ => r = none ∧ PB fs σ0 s m l τ) := by
  refine T_fail.mono (Nat.le_refl _) ?_
  rintro _ _ ⟨rfl, rfl⟩
  have := h.hdR
  have h2 := h.2
  refine ⟨rfl, h.1.ts1 (by decide) (by decide), ⟨l, h.2.1.fr (ts1_ne (by decide))⟩, ?_, ?_, ?_⟩
  · rw [ts1_eq, if_pos (by omega)]; omega
  · rw [ts1_ne (by decide)]; omega
  · rw [ts1_ne (by decide)]; omega
theorem PB.bad0 (h : PB fs σ0 s m f σ) : 0 ≤ (σ.1 24) := by rw [h.2.2.1]; omega
theorem T_failB (h : PB fs σ0 s m f σ) : TM (d + 1) tk_fail [.inr 0] σ (fun r τ => r = none ∧ PB fs σ0 s m f τ) := by
  refine T_fail.mono (Nat.le_refl _) ?_
  rintro _ _ ⟨rfl, rfl⟩
  have := h.bad0
  refine ⟨rfl, h.1.ts1 (by decide) (by decide), h.2.1.elim fun l a => ⟨l, a.fr (ts1_ne (by decide))⟩, ?_, ?_, ?_⟩
  · rw [ts1_eq, if_neg (by omega)]; exact h.2.2.1
  · rw [ts1_ne (by decide)]; exact h.2.2.2.1
  · rw [ts1_ne (by decide)]; exact h.2.2.2.2
theorem T_takeIf {b : Bool} (h : PG fs σ0 s m gr st l σ) (hl : b = true → l ≠ []) : TM (d + 2) tk_takeIf [.inr 0, .inl (b2i b)] σ (fun r τ => r = none ∧ (b = true → PG fs σ0 s m gr st l.tail τ) ∧ (b = false → PB fs σ0 s m l τ)) := by
  have hp := h.hdR
  have h2 := h.2
  refine TM.of rfl rfl ?_
  (repeat (first | (refine TW.getf rfl rfl rfl (fun _ => ?_)) | (refine TW.pl rfl rfl ?_)))
  refine TW.br rfl rfl (by first | omega | exact b2i_R _ | exact ⟨b2i_R _, by omega⟩) (fun h3 => ?_) (fun h3 => ?_)
  · omega
  (repeat (first | (refine TW.getf rfl rfl rfl (fun _ => ?_)) | (refine TW.pl rfl rfl ?_)))
  refine TW.br rfl rfl (by first | omega | exact b2i_R _ | exact ⟨b2i_R _, by omega⟩) (fun h4 => ?_) (fun h4 => ?_)
  · (repeat (first | (refine TW.getf rfl rfl rfl (fun _ => ?_)) | (refine TW.pl rfl rfl ?_)))
    refine TW.cv0 rfl rfl rfl (Nat.le_of_ble_eq_true rfl) (T_failG h) ?_
    rintro _ τ ⟨rfl, hp⟩
    exact TW.vret rfl ⟨rfl, fun z => (by rw [b2i_0 h4] at z; cases z), fun _ => hp⟩
  · have hbt := b2i_1 h4
    (repeat (first | (refine TW.getf rfl rfl rfl (fun _ => ?_)) | (refine TW.pl rfl rfl ?_)))
    refine TW.putf rfl rfl (by omega) ?_
    (repeat (first | (refine TW.getf rfl rfl rfl (fun _ => ?_)) | (refine TW.pl rfl rfl ?_)))
    exact TW.vret rfl ⟨rfl, fun z => h.step (hl z) rfl, fun z => by rw [hbt] at z; cases z⟩
theorem T_takeIfB {b : Bool} (h : PB fs σ0 s m f σ) : TM (d + 2) tk_takeIf [.inr 0, .inl (b2i b)] σ (fun r τ => r = none ∧ PB fs σ0 s m f τ) := by
  have := h.bad0
  refine TM.of rfl rfl ?_
  (repeat (first | (refine TW.getf rfl rfl rfl (fun _ => ?_)) | (refine TW.pl rfl rfl ?_)))
  refine TW.br rfl rfl (by first | omega | exact b2i_R _ | exact ⟨b2i_R _, by omega⟩) (fun h1 => ?_) (fun h1 => ?_)
  · (repeat (first | (refine TW.getf rfl rfl rfl (fun _ => ?_)) | (refine TW.pl rfl rfl ?_)))
    refine TW.cv0 rfl rfl rfl (Nat.le_of_ble_eq_true rfl) (T_failB h) ?_
    rintro _ τ ⟨rfl, hp⟩
    exact TW.vret rfl ⟨rfl, hp⟩
  · omega
theorem T_take {c : Int} (h : PG fs σ0 s m gr st l σ) (hc : 0 < c ∧ c < 1000) : TM (d + 3) tk_take [.inr 0, .inl c] σ (fun r τ => r = none ∧ (hd l = c → PG fs σ0 s m gr st l.tail τ) ∧ (¬ hd l = c → PB fs σ0 s m l τ)) := by
  have hdr := h.hdR
  refine TM.of rfl rfl ?_
  (repeat (first | (refine TW.getf rfl rfl rfl (fun _ => ?_)) | (refine TW.pl rfl rfl ?_)))
  refine TW.cv0 rfl rfl rfl (Nat.le_of_ble_eq_true rfl) (T_c h) ?_; rintro _ _ ⟨rfl, rfl⟩
  (repeat (first | (refine TW.getf rfl rfl rfl (fun _ => ?_)) | (refine TW.pl rfl rfl ?_)))
  have key : ∀ b : Bool, b = decide (hd l = c) → TW (d + 2) tc_take 8 [some (.inr 0), some (.inl c)] [.inl (b2i b), .inr 0] σ (fun r τ => r = none ∧ (hd l = c → PG fs σ0 s m gr st l.tail τ) ∧ (¬ hd l = c → PB fs σ0 s m l τ)) := by
    intro b hb
    refine TW.cv1 rfl rfl rfl (Nat.le_of_ble_eq_true rfl) (T_takeIf h (fun z => by rw [hb] at z; exact hd_ne (of_decide_eq_true z) (by omega))) ?_
    rintro _ τ ⟨rfl, p1, p2⟩
    exact TW.vret rfl ⟨rfl, fun z => p1 (by rw [hb, decide_eq_true z]), fun z => p2 (by rw [hb, decide_eq_false z])⟩
  refine TW.br rfl rfl (by first | omega | exact b2i_R _ | exact ⟨b2i_R _, by omega⟩) (fun h1 => ?_) (fun h1 => ?_)
  · (iterate 1 (first | (refine TW.getf rfl rfl rfl (fun _ => ?_)) | (refine TW.pl rfl rfl ?_)))
    exact key false (decide_eq_false h1).symm
  · (iterate 2 (first | (refine TW.getf rfl rfl rfl (fun _ => ?_)) | (refine TW.pl rfl rfl ?_)))
    exact key true (decide_eq_true h1).symm
theorem T_takeB {c : Int} (h : PB fs σ0 s m f σ) (hc : 0 < c ∧ c < 1000) : TM (d + 3) tk_take [.inr 0, .inl c] σ (fun r τ => r = none ∧ PB fs σ0 s m f τ) := by
  obtain ⟨l, ha⟩ := h.2.1
  have hdr := h.1.2.2.hdR ha
  refine TM.of rfl rfl ?_
  (repeat (first | (refine TW.getf rfl rfl rfl (fun _ => ?_)) | (refine TW.pl rfl rfl ?_)))
  refine TW.cv0 rfl rfl rfl (Nat.le_of_ble_eq_true rfl) (T_c' h.1.2.2 ha) ?_; rintro _ _ ⟨rfl, rfl⟩
  (repeat (first | (refine TW.getf rfl rfl rfl (fun _ => ?_)) | (refine TW.pl rfl rfl ?_)))
  have key : ∀ b : Bool, TW (d + 2) tc_take 8 [some (.inr 0), some (.inl c)] [.inl (b2i b), .inr 0] σ (fun r τ => r = none ∧ PB fs σ0 s m f τ) := by
    intro b
    refine TW.cv1 rfl rfl rfl (Nat.le_of_ble_eq_true rfl) (T_takeIfB h) ?_
    rintro _ τ ⟨rfl, hp⟩
    exact TW.vret rfl ⟨rfl, hp⟩
  refine TW.br rfl rfl (by first | omega | exact b2i_R _ | exact ⟨b2i_R _, by omega⟩) (fun h1 => ?_) (fun h1 => ?_)
  · (iterate 1 (first | (refine TW.getf rfl rfl rfl (fun _ => ?_)) | (refine TW.pl rfl rfl ?_)))
    exact key false
  · (iterate 2 (first | (refine TW.getf rfl rfl rfl (fun _ => ?_)) | (refine TW.pl rfl rfl ?_)))
    exact key true
theorem T_number (h : PG fs σ0 s m gr st l σ) : TM (d + 3) tk_number [.inr 0] σ (PX fs σ0 s m (pNum l) (fun l1 _ => PG fs σ0 s m gr st l1)) := by
  have hdr := h.hdR
  refine TM.of rfl rfl ?_
  (repeat (first | (refine TW.getf rfl rfl rfl (fun _ => ?_)) | (refine TW.pl rfl rfl ?_)))
  refine TW.cv0 rfl rfl rfl (Nat.le_of_ble_eq_true rfl) (T_c h) ?_; rintro _ _ ⟨rfl, rfl⟩
  refine TW.cs1 rfl rfl rfl (Nat.le_of_ble_eq_true rfl) (T_isDigit (by omega)) ?_; rintro _ _ ⟨rfl, rfl⟩
  refine TW.cv1 rfl rfl rfl (Nat.le_of_ble_eq_true rfl) (T_takeIf h hd_dig9) ?_
  rintro _ τ ⟨rfl, p1, p2⟩
  unfold pNum
  cases hd1 : isDig (hd l) with
  | true =>
    have hn := hd_dig9 hd1
    have h1 := p1 hd1
    have hdr1 := h1.hdR
    have hb1 := h1.2.2.1
    rw [if_pos ⟨rfl, hn⟩]
    (repeat (first | (refine TW.getf rfl rfl rfl (fun _ => ?_)) | (refine TW.pl rfl rfl ?_)))
    refine TW.br rfl rfl (by first | omega | exact b2i_R _ | exact ⟨b2i_R _, by omega⟩) (fun h3 => ?_) (fun h3 => ?_)
    · omega
    (repeat (first | (refine TW.getf rfl rfl rfl (fun _ => ?_)) | (refine TW.pl rfl rfl ?_)))
    refine TW.cv0 rfl rfl rfl (Nat.le_of_ble_eq_true rfl) (T_c h1) ?_; rintro _ _ ⟨rfl, rfl⟩
    refine TW.cs1 rfl rfl rfl (Nat.le_of_ble_eq_true rfl) (T_isDigit (by omega)) ?_; rintro _ _ ⟨rfl, rfl⟩
    refine TW.br rfl rfl (by first | omega | exact b2i_R _ | exact ⟨b2i_R _, by omega⟩) (fun h2 => ?_) (fun h2 => ?_)
    · rw [if_neg (fun z => by rw [b2i_0 h2] at z; cases z.1)]
      exact TW.vret rfl ⟨rfl, h1⟩
    · have h4 := b2i_1 h2
      rw [if_pos ⟨h4, hd_dig9 h4⟩]
      (repeat (first | (refine TW.getf rfl rfl rfl (fun _ => ?_)) | (refine TW.pl rfl rfl ?_)))
      refine TW.putf rfl rfl (by omega) ?_
      exact TW.vret rfl ⟨rfl, h1.step (hd_dig9 h4) rfl⟩
  | false =>
    have h1 := p2 hd1
    have := h1.bad0
    rw [if_neg (fun z => by cases z.1)]
    (repeat (first | (refine TW.getf rfl rfl rfl (fun _ => ?_)) | (refine TW.pl rfl rfl ?_)))
    refine TW.br rfl rfl (by first | omega | exact b2i_R _ | exact ⟨b2i_R _, by omega⟩) (fun h3 => ?_) (fun h3 => ?_)
    · exact TW.vret rfl ⟨rfl, h1⟩
    · omega
/-- a sign that is known is passed -/
theorem dropWhile_tail {l : List Int} (h : isChr (hd l) = true) : l.tail.dropWhile isChr = l.dropWhile isChr ∧ l.takeWhile isChr = hd l :: l.tail.takeWhile isChr := by
  cases l with
  | nil => cases h
  | cons c r =>
    have h : isChr c = true := h
    simp [List.dropWhile_cons, List.takeWhile_cons, h, hd]
theorem dropWhile_stop {l : List Int} (h : isChr (hd l) = false) : l.dropWhile isChr = l ∧ l.takeWhile isChr = [] := by
  cases l with
  | nil => exact ⟨rfl, rfl⟩
  | cons c r =>
    have h : isChr c = false := h
    simp [List.dropWhile_cons, List.takeWhile_cons, h]
end TPar
