set_option maxRecDepth 100000
/-! THE TWIN'S STATE; its addresses -/
def RowsIs (σ : TS) (b : Nat) (rs : List (List Int)) : Prop := ∀ k, k < rs.length → RowIs σ (b + k) (rs.getD k [])
/-- held, out, files -/
def TR (σ : TS) (h o : List (List Int)) (fi : Nat → List (List Int)) : Prop := ((σ.1 14) = h.length ∧ h.length ≤ 40 ∧ RowsIs σ 82 h) ∧ ((σ.1 15) = o.length ∧ o.length ≤ 100 ∧ RowsIs σ 287 o) ∧ ∀ k, k < 4 → (σ.2 11 (k)) = (fi k).length ∧ (fi k).length ≤ 40 ∧ RowsIs σ (123 + 41 * k) (fi k)
def TA (A : St) (σ : TS) : Prop := TextIs σ A.1 ∧ (σ.1 16) = A.2.1 ∧ TR σ A.2.2.1 A.2.2.2.1 A.2.2.2.2.1 ∧ MarksIs σ A.2.2.2.2.2.1 ∧ (σ.1 17) = A.2.2.2.2.2.2.1 ∧ (σ.1 44) = b2i A.2.2.2.2.2.2.2
def RowOk (r : List Int) : Prop := r.length ≤ 30 ∧ ∀ c ∈ r, 32 ≤ c ∧ c ≤ 126
/-- what holds of every state -/
def WF (A : St) : Prop := (A.2.1 ≤ A.1.length ∧ (A.1 ≠ [] → 1 ≤ A.2.1)) ∧ A.1.length ≤ 40 ∧ (idsOfL A.1).Nodup ∧ (∀ q ∈ A.1, (0 ≤ q.1 ∧ q.1 < A.2.2.2.2.2.2.1) ∧ RowOk q.2) ∧ (∀ k x, A.2.2.2.2.2.1 k = some x → x ∈ idsOfL A.1) ∧ 0 ≤ A.2.2.2.2.2.2.1 ∧ (A.2.2.1.length ≤ 40 ∧ ∀ r ∈ A.2.2.1, RowOk r) ∧ (A.2.2.2.1.length ≤ 100 ∧ ∀ r ∈ A.2.2.2.1, RowOk r) ∧ ∀ k, (A.2.2.2.2.1 k).length ≤ 40 ∧ ∀ r ∈ A.2.2.2.2.1 k, RowOk r
/-- what acts may change -/
abbrev fA : List Nat := [12, 14, 15, 16, 17, 20, 33, 34, 35, 36, 37, 40, 41, 42, 43, 44]
abbrev aA : List Nat := [6, 7, 9, 10, 11, 19, 31, 32, 38, 39]
def AF (σ τ : TS) : Prop := TFr fA aA σ τ ∧ RSame (fun k => k < 480) σ τ
/-- the same, but f and l -/
abbrev fX : List Nat := [12, 14, 15, 16, 17, 20, 33, 34, 35, 36, 37, 40, 41, 44]
def AX (σ τ : TS) : Prop := TFr fX aA σ τ ∧ RSame (fun k => k < 480) σ τ
theorem AX.af {σ τ : TS} (h : AX σ τ) : AF σ τ := ⟨h.1.mono (by decide) (by decide), h.2⟩
theorem AX.rf {σ : TS} : AX σ σ := ⟨TFr.rf, fun _ _ => rfl⟩
theorem AX.trans {σ τ υ : TS} (h : AX σ τ) (h2 : AX τ υ) : AX σ υ := ⟨h.1.trans h2.1, fun j hj => (h2.2 j hj).trans (h.2 j hj)⟩
theorem AX.fr {σ τ : TS} {fs as : List Nat} (h : TFr fs as σ τ) (h1 : ∀ k ∈ fs, k ∈ fX) (h2 : ∀ k ∈ as, k ∈ aA) (h6 : 6 ∉ as) : AX σ τ := ⟨h.mono h1 h2, fun j _ => by rw [h.2 6 h6]⟩
theorem AX.row {σ τ : TS} {fs as : List Nat} {P : Nat → Prop} (h : TFr fs as σ τ) (hs : RSame P σ τ) (h1 : ∀ k ∈ fs, k ∈ fX) (h2 : ∀ k ∈ as, k ∈ aA) (hP : ∀ k, P k → k < 480) : AX σ τ := ⟨h.mono h1 h2, fun j hj => hs j (fun z => hj (hP _ z))⟩
section TSta
variable {d : Nat} {σ τ : TS} {s l l1 : List Int} {A : St} {fs as : List Nat}
theorem AF.rf : AF σ σ := ⟨TFr.rf, fun _ _ => rfl⟩
theorem AF.trans {υ : TS} (h : AF σ τ) (h2 : AF τ υ) : AF σ υ := ⟨h.1.trans h2.1, fun j hj => (h2.2 j hj).trans (h.2 j hj)⟩
theorem AF.fr (h : TFr fs as σ τ) (h1 : ∀ k ∈ fs, k ∈ fA) (h2 : ∀ k ∈ as, k ∈ aA) (h6 : 6 ∉ as) : AF σ τ := ⟨h.mono h1 h2, fun j _ => by rw [h.2 6 h6]⟩
theorem AF.row {P : Nat → Prop} (h : TFr fs as σ τ) (hs : RSame P σ τ) (h1 : ∀ k ∈ fs, k ∈ fA) (h2 : ∀ k ∈ as, k ∈ aA) (hP : ∀ k, P k → k < 480) : AF σ τ := ⟨h.mono h1 h2, fun j hj => hs j (fun z => hj (hP _ z))⟩
theorem RowsIs.same {P : Nat → Prop} {b : Nat} {rs : List (List Int)} (h : RowsIs σ b rs) (hs : RSame P σ τ) (hP : ∀ k, k < rs.length → ¬ P (b + k)) : RowsIs τ b rs := fun k hk => (h k hk).same hs (hP k hk)
theorem TR.same {P : Nat → Prop} {h o : List (List Int)} {fi : Nat → List (List Int)} (hr : TR σ h o fi) (hf : TFr fs as σ τ) (hs : RSame P σ τ) (h1 : ∀ k ∈ [14, 15], k ∉ fs) (h2 : 11 ∉ as) (hP : ∀ k, P k → k < 82 ∨ 388 ≤ k) : TR τ h o fi := by
  obtain ⟨⟨a1, a2, a3⟩, ⟨b1, b2, b3⟩, c⟩ := hr
  refine ⟨⟨by rw [hf.1 14 (h1 14 (by decide))]; exact a1, a2, a3.same hs (fun k hk z => by have := hP _ z; omega)⟩, ⟨by rw [hf.1 15 (h1 15 (by decide))]; exact b1, b2, b3.same hs (fun k hk z => by have := hP _ z; omega)⟩, fun k hk => ?_⟩
  rw [hf.2 11 h2]
  obtain ⟨c1, c2, c3⟩ := c k hk
  exact ⟨c1, c2, c3.same hs (fun j hj z => by have := hP _ z; omega)⟩
theorem RSame.no (h : TFr fs as σ τ) (h6 : 6 ∉ as) : RSame (fun _ => False) σ τ := fun j _ => by rw [h.2 6 h6]
theorem TA.fr (h : TA A σ) (hf : TFr fs as σ τ) (h1 : ∀ k ∈ [12, 14, 15, 16, 17, 44], k ∉ fs) (h2 : ∀ k ∈ [6, 7, 10, 11], k ∉ as) : TA A τ := by
  obtain ⟨a, b, c, e, g, i⟩ := h
  exact ⟨a.fr (hf.1 12 (h1 12 (by decide))) (hf.2 6 (h2 6 (by decide))) (hf.2 7 (h2 7 (by decide))), by rw [hf.1 16 (h1 16 (by decide))]; exact b, c.same hf (RSame.no hf (h2 6 (by decide))) (fun k hk => h1 k (by simp at hk ⊢; omega)) (h2 11 (by decide)) (fun k z => z.elim), e.fr (hf.2 10 (h2 10 (by decide))), by rw [hf.1 17 (h1 17 (by decide))]; exact g, by rw [hf.1 44 (h1 44 (by decide))]; exact i⟩
theorem TextIs.same {P : Nat → Prop} {t : List SLine} (h : TextIs σ t) (hf : TFr fs as σ τ) (hs : RSame P σ τ) (h1 : 12 ∉ fs) (h2 : 7 ∉ as) (hP : ∀ k, P k → 40 ≤ k) : TextIs τ t := by
  obtain ⟨a, b, c⟩ := h
  refine ⟨by rw [hf.1 12 h1]; exact a, b, fun k hk => ?_⟩
  rw [hf.2 7 h2]
  exact ⟨(c k hk).1.same hs (fun z => by have := hP _ z; omega), (c k hk).2⟩
/-- rows behind 387 alone have changed -/
theorem TA.rs {P : Nat → Prop} (h : TA A σ) (hf : TFr fs as σ τ) (hs : RSame P σ τ) (h1 : ∀ k ∈ [12, 14, 15, 16, 17, 44], k ∉ fs) (h2 : ∀ k ∈ [7, 10, 11], k ∉ as) (hP : ∀ k, P k → 388 ≤ k) : TA A τ := by
  obtain ⟨a, b, c, e, g, i⟩ := h
  exact ⟨a.same hf hs (h1 12 (by decide)) (h2 7 (by decide)) (fun k z => by have := hP _ z; omega), by rw [hf.1 16 (h1 16 (by decide))]; exact b, c.same hf hs (fun k hk => h1 k (by simp at hk ⊢; omega)) (h2 11 (by decide)) (fun k z => Or.inr (hP _ z)), e.fr (hf.2 10 (h2 10 (by decide))), by rw [hf.1 17 (h1 17 (by decide))]; exact g, by rw [hf.1 44 (h1 44 (by decide))]; exact i⟩
theorem T_textRow {v : Int} {k : Nat} (h : v = k + 1) (hk : k < 1000) : TE (d + 1) tk_textRow [.inl v] σ (some k) σ := by
  refine TM.of rfl rfl ?_
  (repeat (first | (refine TW.getf rfl rfl rfl (fun _ => ?_)) | (refine TW.pl rfl rfl ?_)))
  refine TW.iret rfl ⟨?_, rfl⟩
  exact congrArg some (by omega)
theorem pNum_out {v : Int} (h : pNum l = .inr (l1, v)) : l ≠ [] ∧ isDig (hd l) = true ∧ ((isDig (hd l.tail) = true ∧ l.tail ≠ [] ∧ l1 = l.tail.tail ∧ v = 10 * (hd l - 48) + hd l.tail - 48) ∨ (¬ (isDig (hd l.tail) = true ∧ l.tail ≠ []) ∧ l1 = l.tail ∧ v = hd l - 48)) := by
  unfold pNum at h
  split at h
  · rename_i h1
    refine ⟨h1.2, h1.1, ?_⟩
    split at h
    · rename_i h2
      cases h
      exact Or.inl ⟨h2.1, h2.2, rfl, rfl⟩
    · rename_i h2
      cases h
      exact Or.inr ⟨h2, rfl, rfl⟩
  · cases h
theorem isDig_R {c : Int} (h : isDig c = true) : 48 ≤ c ∧ c ≤ 57 := of_decide_eq_true h
theorem pNum_R9 {v : Int} (h : pNum l = .inr (l1, v)) : 0 ≤ v ∧ v ≤ 99 := by
  obtain ⟨h1, h2, h3⟩ := pNum_out h
  have := isDig_R h2
  rcases h3 with ⟨h4, -, -, h5⟩ | ⟨-, -, h5⟩
  · have := isDig_R h4; omega
  · omega
theorem Sfx.nil_iff {x : Int} (h : Sfx s l x) : l = [] ↔ x = s.length := by
  have := h.len
  constructor
  · intro z; rw [z] at this; simp at this; omega
  · intro z; exact List.length_eq_zero_iff.mp (by omega)
theorem T_numberAt {x v : Int} (hs : SgnIs σ s) (hx : Sfx s l x) (h : pNum l = .inr (l1, v)) : TE (d + 2) tk_numberAt [.inr 0, .inl x] σ (some v) σ := by
  obtain ⟨h1, h2, h3⟩ := pNum_out h
  have hd1 := isDig_R h2
  have ha := hs.at hx h1
  have hn : (σ.1 22) = s.length := hs.1
  have h60 := hs.2.1
  have hx1 : Sfx s l.tail (x + 1) := hx.step h1 rfl
  have hnil := hx1.nil_iff
  have hll := hx1.len
  refine TM.of rfl rfl ?_
  (repeat (first | (refine TW.getf rfl rfl rfl (fun _ => ?_)) | (refine TW.pl rfl rfl ?_)))
  refine TW.iald (n := 60) rfl rfl rfl (by omega) (fun _ => ?_)
  rw [ha.1]
  (repeat (first | (refine TW.getf rfl rfl rfl (fun _ => ?_)) | (refine TW.pl rfl rfl ?_)))
  refine TW.br rfl rfl (by first | omega | exact b2i_R _ | exact ⟨b2i_R _, by omega⟩) (fun q1 => ?_) (fun q1 => ?_)
  · (repeat (first | (refine TW.getf rfl rfl rfl (fun _ => ?_)) | (refine TW.pl rfl rfl ?_)))
    refine TW.iret rfl ⟨?_, rfl⟩
    rcases h3 with ⟨_, h5, _⟩ | ⟨_, _, h5⟩
    · exact absurd (hnil.mpr (by omega)) h5
    · rw [h5]
  · have ht0 : l.tail ≠ [] := fun z => by have := hnil.mp z; omega
    have hb := hs.at hx1 ht0
    (repeat (first | (refine TW.getf rfl rfl rfl (fun _ => ?_)) | (refine TW.pl rfl rfl ?_)))
    refine TW.iald (n := 60) rfl rfl rfl (by omega) (fun _ => ?_)
    rw [hb.1]
    refine TW.cs1 rfl rfl rfl (Nat.le_of_ble_eq_true rfl) (T_isDigit (by omega)) ?_; rintro _ _ ⟨rfl, rfl⟩
    refine TW.br rfl rfl (by first | omega | exact b2i_R _ | exact ⟨b2i_R _, by omega⟩) (fun q2 => ?_) (fun q2 => ?_)
    · (repeat (first | (refine TW.getf rfl rfl rfl (fun _ => ?_)) | (refine TW.pl rfl rfl ?_)))
      refine TW.iret rfl ⟨?_, rfl⟩
      rcases h3 with ⟨h4, _⟩ | ⟨_, _, h5⟩
      · rw [h4] at q2; exact absurd q2 (by decide)
      · rw [h5]
    · (repeat (first | (refine TW.getf rfl rfl rfl (fun _ => ?_)) | (refine TW.pl rfl rfl ?_)))
      refine TW.iald (n := 60) rfl rfl rfl (by omega) (fun _ => ?_)
      rw [hb.1]
      (repeat (first | (refine TW.getf rfl rfl rfl (fun _ => ?_)) | (refine TW.pl rfl rfl ?_)))
      refine TW.iret rfl ⟨?_, rfl⟩
      rcases h3 with ⟨_, _, _, h5⟩ | ⟨h4, _⟩
      · rw [h5]
      · exact absurd ⟨b2i_1 q2, ht0⟩ h4
theorem T_behindNumber {x v : Int} (hs : SgnIs σ s) (hx : Sfx s l x) (h : pNum l = .inr (l1, v)) : TM (d + 2) tk_behindNumber [.inr 0, .inl x] σ (fun r τ => (∃ y, r = some y ∧ Sfx s l1 y) ∧ τ = σ) := by
  obtain ⟨h1, h2, h3⟩ := pNum_out h
  have ha := hs.at hx h1
  have hn : (σ.1 22) = s.length := hs.1
  have h60 := hs.2.1
  have hx1 : Sfx s l.tail (x + 1) := hx.step h1 rfl
  have hnil := hx1.nil_iff
  have hll := hx1.len
  refine TM.of rfl rfl ?_
  (repeat (first | (refine TW.getf rfl rfl rfl (fun _ => ?_)) | (refine TW.pl rfl rfl ?_)))
  refine TW.br rfl rfl (by first | omega | exact b2i_R _ | exact ⟨b2i_R _, by omega⟩) (fun q1 => ?_) (fun q1 => ?_)
  · (repeat (first | (refine TW.getf rfl rfl rfl (fun _ => ?_)) | (refine TW.pl rfl rfl ?_)))
    refine TW.iret rfl ⟨⟨_, rfl, ?_⟩, rfl⟩
    rcases h3 with ⟨_, h5, _⟩ | ⟨_, h5, _⟩
    · exact absurd (hnil.mpr (by omega)) h5
    · rw [h5]; exact hx1
  · have ht0 : l.tail ≠ [] := fun z => by have := hnil.mp z; omega
    have hb := hs.at hx1 ht0
    (repeat (first | (refine TW.getf rfl rfl rfl (fun _ => ?_)) | (refine TW.pl rfl rfl ?_)))
    refine TW.iald (n := 60) rfl rfl rfl (by omega) (fun _ => ?_)
    rw [hb.1]
    refine TW.cs1 rfl rfl rfl (Nat.le_of_ble_eq_true rfl) (T_isDigit (by omega)) ?_; rintro _ _ ⟨rfl, rfl⟩
    refine TW.br rfl rfl (by first | omega | exact b2i_R _ | exact ⟨b2i_R _, by omega⟩) (fun q2 => ?_) (fun q2 => ?_)
    · (repeat (first | (refine TW.getf rfl rfl rfl (fun _ => ?_)) | (refine TW.pl rfl rfl ?_)))
      refine TW.iret rfl ⟨⟨_, rfl, ?_⟩, rfl⟩
      rcases h3 with ⟨h4, _⟩ | ⟨_, h5, _⟩
      · rw [h4] at q2; exact absurd q2 (by decide)
      · rw [h5]; exact hx1
    · (repeat (first | (refine TW.getf rfl rfl rfl (fun _ => ?_)) | (refine TW.pl rfl rfl ?_)))
      refine TW.iret rfl ⟨⟨_, rfl, ?_⟩, rfl⟩
      rcases h3 with ⟨_, _, h5, _⟩ | ⟨h4, _⟩
      · rw [h5]; exact hx1.step ht0 (by omega)
      · exact absurd ⟨b2i_1 q2, ht0⟩ h4
theorem turn_back {p m k : Nat} (hp : 1 ≤ p) (hk : k ≤ m) : ((p : Int) - 1 - k + 2 * m) % m + 1 = ((sTurn true p m k - 1 : Nat) : Int) + 1 := by
  unfold sTurn
  rw [if_pos rfl, show ((p : Int) - 1 - k + 2 * m) = ((p + m - 1 - k : Nat) : Int) + m by omega, Int.add_emod_right]
  rw [Nat.add_sub_cancel, Int.natCast_emod]
theorem turn_on {p m k : Nat} (hp : 1 ≤ p) : ((p : Int) - 1 + k) % m + 1 = ((sTurn false p m k - 1 : Nat) : Int) + 1 := by
  unfold sTurn
  rw [if_neg (by decide), show ((p : Int) - 1 + k) = ((p - 1 + k : Nat) : Int) by omega]
  rw [Nat.add_sub_cancel, Int.natCast_emod]
theorem sTurn_R {back : Bool} {p m k : Nat} (hm : 0 < m) : 1 ≤ sTurn back p m k ∧ sTurn back p m k ≤ m := by
  unfold sTurn
  have h1 := Nat.mod_lt (p + m - 1 - k) hm
  have h2 := Nat.mod_lt (p - 1 + k) hm
  split <;> omega
theorem T_seek {t : List SLine} {p : Nat} {pt : SPat} {back : Bool} (hs : SgnIs σ s) (hc : CmpIs σ s pt) (hw : wfp 0 false pt.1) (ht : TextIs σ t) (hp : (σ.1 16) = p) (hp1 : p ≤ t.length ∧ (t ≠ [] → 1 ≤ p)) : TM (d + 6) tk_seek [.inr 0, .inl (b2i back)] σ (fun r τ => r = some ((sSeek t p pt back : Nat) : Int) ∧ TFr [40, 41] [38, 39] σ τ) := by
  obtain ⟨t1, t2, t3⟩ := id ht
  refine TM.of rfl rfl ?_
  (iterate 2 (first | (refine TW.getf rfl rfl rfl (fun _ => ?_)) | (refine TW.pl rfl rfl ?_)))
  have loop : ∀ (n k : Nat) (τ : TS) (o3 : Option TV), 1 ≤ k → k + n = t.length + 1 → TFr [40, 41] [38, 39] σ τ → TW (d + 5) tc_seek 2 [some (.inr 0), some (.inl (b2i back)), some (.inl k), o3] [] τ (fun r τ => r = some ((sSeekF t p pt back n k : Nat) : Int) ∧ TFr [40, 41] [38, 39] σ τ) := by
    intro n
    induction n with
    | zero =>
      intro k τ o3 h1 hk hf
      have hm : τ.1 12 = t.length := by rw [hf.1 12 (by decide)]; exact t1
      (repeat (first | (refine TW.getf rfl rfl rfl (fun _ => ?_)) | (refine TW.pl rfl rfl ?_)))
      refine TW.br rfl rfl (by first | omega | exact b2i_R _ | exact ⟨b2i_R _, by omega⟩) (fun q1 => ?_) (fun q1 => ?_)
      · (repeat (first | (refine TW.getf rfl rfl rfl (fun _ => ?_)) | (refine TW.pl rfl rfl ?_)))
        exact TW.iret rfl ⟨rfl, hf⟩
      · omega
    | succ n ih =>
      intro k τ o3 h1 hk hf
      have hm : τ.1 12 = t.length := by rw [hf.1 12 (by decide)]; exact t1
      have hpp : τ.1 16 = p := by rw [hf.1 16 (by decide)]; exact hp
      have hl0 : 0 < t.length := by omega
      have hp2 := hp1.2 (List.length_pos_iff.mp hl0)
      have htr := sTurn_R (back := back) (p := p) (k := k) hl0
      have go : ∀ v : Int, v = ((sTurn back p t.length k - 1 : Nat) : Int) + 1 → TW (d + 5) tc_seek 36 [some (.inr 0), some (.inl (b2i back)), some (.inl k), o3] [.inl v] τ (fun r τ => r = some ((sSeekF t p pt back (n + 1) k : Nat) : Int) ∧ TFr [40, 41] [38, 39] σ τ) := by
        intro v hv
        (repeat (first | (refine TW.getf rfl rfl rfl (fun _ => ?_)) | (refine TW.pl rfl rfl ?_)))
        refine TW.cs1 rfl rfl rfl (Nat.le_of_ble_eq_true rfl) (T_textRow hv (by omega)) ?_; rintro _ _ ⟨rfl, rfl⟩
        (repeat (first | (refine TW.getf rfl rfl rfl (fun _ => ?_)) | (refine TW.pl rfl rfl ?_)))
        have hrow : RowIs σ (sTurn back p t.length k - 1) (rowAt t (sTurn back p t.length k - 1)) := (t3 (sTurn back p t.length k - 1) (by omega)).1
        refine TW.cv2 rfl rfl rfl (Nat.le_of_ble_eq_true rfl) (T_finds (place := 0) (hs.fr hf (by decide) (by decide)) (hc.fr hf (by decide) (by decide)) hw (hrow.fr (hf.2 6 (by decide))) (by omega) (by omega)) ?_
        rintro r τ1 ⟨hf1, hq⟩
        have hf2 := hf.trans hf1
        unfold sSeekF
        revert hq
        cases hA : mFind pt (rowAt t (sTurn back p t.length k - 1)) 0 with
        | none =>
          intro hq
          have hq : r = some 0 := hq
          subst hq
          refine TW.br rfl rfl (by first | omega | exact b2i_R _ | exact ⟨b2i_R _, by omega⟩) (fun q2 => ?_) (fun q2 => ?_)
          · (iterate 2 (first | (refine TW.getf rfl rfl rfl (fun _ => ?_)) | (refine TW.pl rfl rfl ?_)))
            exact ih (k + 1) τ1 _ (by omega) (by omega) hf2
          · exact absurd rfl q2
        | some q =>
          rintro ⟨rfl, -⟩
          refine TW.br rfl rfl (by first | omega | exact b2i_R _ | exact ⟨b2i_R _, by omega⟩) (fun q2 => ?_) (fun q2 => ?_)
          · exact absurd q2 (by decide)
          · (repeat (first | (refine TW.getf rfl rfl rfl (fun _ => ?_)) | (refine TW.pl rfl rfl ?_)))
            refine TW.iret rfl ⟨?_, hf2⟩
            show some v = some ((sTurn back p t.length k : Nat) : Int)
            rw [hv]
            exact congrArg some (by omega)
      (repeat (first | (refine TW.getf rfl rfl rfl (fun _ => ?_)) | (refine TW.pl rfl rfl ?_)))
      refine TW.br rfl rfl (by first | omega | exact b2i_R _ | exact ⟨b2i_R _, by omega⟩) (fun q1 => ?_) (fun q1 => ?_)
      · omega
      have hkm : k ≤ t.length := by omega
      (repeat (first | (refine TW.getf rfl rfl rfl (fun _ => ?_)) | (refine TW.pl rfl rfl ?_)))
      cases back with
      | true =>
        refine TW.br rfl rfl (by first | omega | exact b2i_R _ | exact ⟨b2i_R _, by omega⟩) (fun q2 => ?_) (fun q2 => ?_)
        · exact absurd q2 (by decide)
        (repeat (first | (refine TW.getf rfl rfl rfl (fun _ => ?_)) | (refine TW.pl rfl rfl ?_)))
        rw [hpp, hm]
        refine TW.irem rfl (by omega) ?_
        (iterate 3 (first | (refine TW.getf rfl rfl rfl (fun _ => ?_)) | (refine TW.pl rfl rfl ?_)))
        exact go _ (turn_back hp2 hkm)
      | false =>
        refine TW.br rfl rfl (by first | omega | exact b2i_R _ | exact ⟨b2i_R _, by omega⟩) (fun q2 => ?_) (fun q2 => ?_)
        · (repeat (first | (refine TW.getf rfl rfl rfl (fun _ => ?_)) | (refine TW.pl rfl rfl ?_)))
          rw [hpp, hm]
          refine TW.irem rfl (by omega) ?_
          (iterate 2 (first | (refine TW.getf rfl rfl rfl (fun _ => ?_)) | (refine TW.pl rfl rfl ?_)))
          exact go _ (turn_on hp2)
        · exact absurd rfl q2
  exact loop t.length 1 σ none (by decide) (by omega) TFr.rf
end TSta
