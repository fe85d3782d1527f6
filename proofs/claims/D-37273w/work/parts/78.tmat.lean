set_option maxRecDepth 100000
/-! the twin matches -/
/-- a part as the twin keeps it: kind and argument -/
def PartIs (s : List Int) (p : SPart) (k a : Int) : Prop :=
  if p.1 = 0 then k = 1 ∧ p.2.2.1 = [a] ∧ p.2.2.2 = false
  else if p.1 = 1 then k = 2
  else if p.1 = 2 then k = 3
  else if p.1 = 3 then k = 4 ∧ ∃ r, Sfx s r a ∧ r.length ≤ s.length ∧ (p.2.2.2 = decide (hd r = 94)) ∧ p.2.2.1 = (if decide (hd r = 94) = true then r.tail else r).takeWhile isChr ∧ hd ((if decide (hd r = 94) = true then r.tail else r).dropWhile isChr) = 93
  else if p.1 = 4 then k = 5 ∧ a = p.2.1
  else if p.1 = 5 then k = 6 ∧ a = p.2.1
  else k = 7 ∧ p.1 = 6 ∧ a = p.2.1
def CmpIs (σ : TS) (s : List Int) (pt : SPat) : Prop := (σ.1 33) = pt.1.length ∧ pt.1.length ≤ 60 ∧ (∀ k, k < pt.1.length → PartIs s (pt.1.getD k (0, 0, [], false)) (σ.2 31 (k)) (σ.2 32 (k))) ∧ (σ.1 34) = stars pt.1 ∧ (σ.1 35) = b2i pt.2.1 ∧ (σ.1 36) = b2i pt.2.2
theorem TW.wR {d i : Nat} {C : List TI} {ls : TL} {st : List TV} {σ : TS} {Q : Option Int → TS → Prop} (h : InR σ → TW d C i ls st σ Q) : TW d C i ls st σ Q := fun hR => h hR hR
section TMat
variable {d : Nat} {σ σ0 : TS} {s l f : List Int} {pt : SPat}
theorem CmpIs.fr {τ : TS} {fs as : List Nat} (h : CmpIs σ s pt) (hf : TFr fs as σ τ) (h1 : ∀ k ∈ [33, 34, 35, 36], k ∉ fs) (h2 : ∀ k ∈ [31, 32], k ∉ as) : CmpIs τ s pt := by
  unfold CmpIs at h ⊢
  rw [hf.1 33 (h1 33 (by decide)), hf.1 34 (h1 34 (by decide)), hf.1 35 (h1 35 (by decide)), hf.1 36 (h1 36 (by decide)), hf.2 31 (h2 31 (by decide)), hf.2 32 (h2 32 (by decide))]
  exact h
theorem Sfx.hdx {x : Int} (h : Sfx s l x) : hd l = s.getD x.toNat 0 := by
  obtain ⟨k, h1, h2, h3⟩ := h
  rw [At_hd h3, show x.toNat = k by omega]
theorem Sfx.step {x y : Int} (h : Sfx s l x) (hl : l ≠ []) (hy : y = x + 1) : Sfx s l.tail y := by
  obtain ⟨k, h1, h2, h3⟩ := h
  have h4 : k < s.length := by
    rcases Nat.lt_or_ge k s.length with z | z
    · exact z
    · exact absurd (by rw [← h3, List.drop_eq_nil_of_le z]) hl
  exact ⟨k + 1, by omega, by omega, by rw [← h3, List.tail_drop]⟩
theorem Sfx.len {x : Int} (h : Sfx s l x) : x + l.length = s.length ∧ 0 ≤ x := by
  obtain ⟨k, h1, h2, h3⟩ := h
  have : l.length = s.length - k := by rw [← h3]; simp
  omega
/-- the sign at a place -/
theorem SgnIs.at {x : Int} (hs : SgnIs σ s) (hx : Sfx s l x) (hl : l ≠ []) : (σ.2 21 (x.toNat)) = hd l ∧ 0 ≤ x ∧ x < 60 ∧ x < (σ.1 22) ∧ 32 ≤ hd l ∧ hd l ≤ 126 := by
  have h1 := hx.len
  have h2 := List.length_pos_iff.mpr hl
  have h3 := hs.1
  have h4 := hs.2.1
  have h5 : hd l = s.getD x.toNat 0 := hx.hdx
  have h6 : hd l ∈ s := by
    obtain ⟨k, k1, k2, k3⟩ := hx
    cases l with
    | nil => exact absurd rfl hl
    | cons c r => exact List.mem_of_mem_drop (i := k) (by rw [k3]; exact List.mem_cons_self)
  have h7 := hs.2.2.2 _ h6
  exact ⟨by rw [hs.2.2.1 x.toNat (by omega), h5], by omega, by omega, by omega, h7.1, h7.2⟩
theorem T_isInClass {x c : Int} {r : List Int} (hs : SgnIs σ s) (hx : Sfx s r x) (hc : inR c) (h93 : hd ((if decide (hd r = 94) = true then r.tail else r).dropWhile isChr) = 93) : TE (d + 1) tk_isInClass [.inr 0, .inl x, .inl c] σ (some (b2i (((if decide (hd r = 94) = true then r.tail else r).takeWhile isChr).contains c != decide (hd r = 94)))) σ := by
  have hr0 : r ≠ [] := fun z => by rw [z] at h93; revert h93; decide
  have ha := hs.at hx hr0
  refine TM.of rfl rfl ?_
  (repeat (first | (refine TW.getf rfl rfl rfl (fun _ => ?_)) | (refine TW.pl rfl rfl ?_)))
  refine TW.iald (n := 60) rfl rfl rfl (by omega) (fun _ => ?_)
  have loop : ∀ (n : Nat) (neg : Bool) (q : List Int) (y : Int) (is : Bool), q.length ≤ n → Sfx s q y → hd (q.dropWhile isChr) = 93 → TW d tc_isInClass 20 [some (.inr 0), some (.inl x), some (.inl c), some (.inl (b2i neg)), some (.inl y), some (.inl (b2i is))] [] σ (fun r' σ' => some (b2i ((is || (q.takeWhile isChr).contains c) != neg)) = r' ∧ σ = σ') := by
    intro n
    induction n with
    | zero =>
      intro neg q y is hn hq hd1
      have hq0 : q = [] := List.length_eq_zero_iff.mp (by omega)
      rw [hq0] at hd1
      exact absurd hd1 (by decide)
    | succ n ih =>
      intro neg q y is hn hq hd1
      have hq0 : q ≠ [] := fun z => by rw [z] at hd1; revert hd1; decide
      have hll := List.length_pos_iff.mpr hq0
      have hb := hs.at hq hq0
      have hin := b2i_R is
      have hnn := b2i_R neg
      (repeat (first | (refine TW.getf rfl rfl rfl (fun _ => ?_)) | (refine TW.pl rfl rfl ?_)))
      refine TW.iald (n := 60) rfl rfl rfl (by omega) (fun _ => ?_)
      (repeat (first | (refine TW.getf rfl rfl rfl (fun _ => ?_)) | (refine TW.pl rfl rfl ?_)))
      refine TW.br rfl rfl (by first | omega | exact b2i_R _ | exact ⟨b2i_R _, by omega⟩) (fun h1 => ?_) (fun h1 => ?_)
      · have hst := dropWhile_stop (l := q) (by rw [← hb.1, h1]; rfl)
        (repeat (first | (refine TW.getf rfl rfl rfl (fun _ => ?_)) | (refine TW.pl rfl rfl ?_)))
        refine TW.br rfl rfl (by first | omega | exact b2i_R _ | exact ⟨b2i_R _, by omega⟩) (fun h2 => ?_) (fun h2 => ?_)
        · (repeat (first | (refine TW.getf rfl rfl rfl (fun _ => ?_)) | (refine TW.pl rfl rfl ?_)))
          refine TW.zret rfl (Or.inl rfl) ⟨?_, rfl⟩
          rw [hst.2]
          revert h2
          cases is <;> cases neg <;> simp [b2i]
        · (repeat (first | (refine TW.getf rfl rfl rfl (fun _ => ?_)) | (refine TW.pl rfl rfl ?_)))
          refine TW.zret rfl (Or.inr rfl) ⟨?_, rfl⟩
          rw [hst.2]
          revert h2
          cases is <;> cases neg <;> simp [b2i]
      · have hch : isChr (hd q) = true := by
          cases hz : isChr (hd q) with
          | true => rfl
          | false =>
            rw [(dropWhile_stop hz).1, ← hb.1] at hd1
            exact absurd hd1 h1
        have hdt := dropWhile_tail hch
        have nx : ∀ is', is' = (is || (hd q == c)) → TW d tc_isInClass 37 [some (.inr 0), some (.inl x), some (.inl c), some (.inl (b2i neg)), some (.inl y), some (.inl (b2i is))] [.inl (b2i is')] σ (fun r' σ' => some (b2i ((is || (q.takeWhile isChr).contains c) != neg)) = r' ∧ σ = σ') := by
          intro is' e
          (iterate 3 (first | (refine TW.getf rfl rfl rfl (fun _ => ?_)) | (refine TW.pl rfl rfl ?_)))
          have L := ih neg q.tail (y + 1) is' (by simp; omega) (hq.step hq0 rfl) (by rw [hdt.1]; exact hd1)
          rw [hdt.2, List.contains_cons, ← Bool.or_assoc]
          rw [e] at L
          rw [show (c == hd q) = (hd q == c) from Bool.beq_comm]
          rw [e]
          exact L
        (repeat (first | (refine TW.getf rfl rfl rfl (fun _ => ?_)) | (refine TW.pl rfl rfl ?_)))
        refine TW.br rfl rfl (by first | omega | exact b2i_R _ | exact ⟨b2i_R _, by omega⟩) (fun h2 => ?_) (fun h2 => ?_)
        · (iterate 2 (first | (refine TW.getf rfl rfl rfl (fun _ => ?_)) | (refine TW.pl rfl rfl ?_)))
          exact nx true (by rw [b2i_1 h2]; rfl)
        (repeat (first | (refine TW.getf rfl rfl rfl (fun _ => ?_)) | (refine TW.pl rfl rfl ?_)))
        refine TW.iald (n := 60) rfl rfl rfl (by omega) (fun _ => ?_)
        (repeat (first | (refine TW.getf rfl rfl rfl (fun _ => ?_)) | (refine TW.pl rfl rfl ?_)))
        refine TW.br rfl rfl (by first | omega | exact b2i_R _ | exact ⟨b2i_R _, by omega⟩) (fun h3 => ?_) (fun h3 => ?_)
        · (iterate 1 (first | (refine TW.getf rfl rfl rfl (fun _ => ?_)) | (refine TW.pl rfl rfl ?_)))
          exact nx false (by rw [b2i_0 h2, beq_eq_false_iff_ne.mpr (fun z => h3 (by rw [hb.1, z]))]; rfl)
        · (iterate 2 (first | (refine TW.getf rfl rfl rfl (fun _ => ?_)) | (refine TW.pl rfl rfl ?_)))
          exact nx true (by rw [b2i_0 h2, ← h3, hb.1]; simp)
  (repeat (first | (refine TW.getf rfl rfl rfl (fun _ => ?_)) | (refine TW.pl rfl rfl ?_)))
  refine TW.br rfl rfl (by first | omega | exact b2i_R _ | exact ⟨b2i_R _, by omega⟩) (fun h1 => ?_) (fun h1 => ?_)
  · have hn : ¬ hd r = 94 := fun z => h1 (by rw [ha.1, z])
    rw [decide_eq_false hn, if_neg (by decide)] at h93 ⊢
    (repeat (first | (refine TW.getf rfl rfl rfl (fun _ => ?_)) | (refine TW.pl rfl rfl ?_)))
    refine TW.br rfl rfl (by first | omega | exact b2i_R _ | exact ⟨b2i_R _, by omega⟩) (fun h2 => ?_) (fun h2 => ?_)
    · (iterate 5 (first | (refine TW.getf rfl rfl rfl (fun _ => ?_)) | (refine TW.pl rfl rfl ?_)))
      have L := loop r.length false r x false (Nat.le_refl _) hx h93
      rw [Bool.false_or] at L
      rw [show x + 0 = x by omega]
      exact L
    · omega
  · have hn : hd r = 94 := by rw [← ha.1, h1]
    rw [decide_eq_true hn, if_pos rfl] at h93 ⊢
    (repeat (first | (refine TW.getf rfl rfl rfl (fun _ => ?_)) | (refine TW.pl rfl rfl ?_)))
    refine TW.br rfl rfl (by first | omega | exact b2i_R _ | exact ⟨b2i_R _, by omega⟩) (fun h2 => ?_) (fun h2 => ?_)
    · omega
    · (iterate 6 (first | (refine TW.getf rfl rfl rfl (fun _ => ?_)) | (refine TW.pl rfl rfl ?_)))
      have L := loop r.tail.length true r.tail (x + 1) false (Nat.le_refl _) (hx.step hr0 rfl) h93
      rw [Bool.false_or] at L
      exact L
theorem T_isBack {row at' g : Nat} {ys : List Int} (hr : RowIs σ row ys) (hrow : row < 868) (hg : g < 3) (hb : 0 ≤ (σ.2 38 (g)) ∧ (σ.2 38 (g)) ≤ (σ.2 39 (g)) ∧ (σ.2 39 (g)) ≤ at') (ha : at' ≤ ys.length) : TE (d + 2) tk_isBack [.inr 0, .inl row, .inl at', .inl g] σ (some (b2i (mTold ys at' (σ.2 38 (g)) (σ.2 39 (g))))) σ := by
  have h30 := hr.2.1
  refine TM.of rfl rfl ?_
  have hgg : ((g : Nat) : Int).toNat = g := by omega
  (repeat (first | (refine TW.getf rfl rfl rfl (fun _ => ?_)) | (refine TW.pl rfl rfl ?_)))
  refine TW.iald (n := 3) rfl rfl rfl (by omega) (fun _ => ?_)
  (repeat (first | (refine TW.getf rfl rfl rfl (fun _ => ?_)) | (refine TW.pl rfl rfl ?_)))
  refine TW.iald (n := 3) rfl rfl rfl (by omega) (fun _ => ?_)
  rw [hgg]
  generalize hx : σ.2 38 g = x at hb
  generalize hy : σ.2 39 g = y at hb
  have loop : ∀ (n : Nat) (k : Nat) (is : Bool), ((k : Int) + n = y - x) → is = (decide (at' + (y - x) ≤ ys.length) && decide (∀ j : Nat, j < k → ys.getD (at' + j) 0 = ys.getD (x.toNat + j) 0)) → TW (d + 1) tc_isBack 23 [some (.inr 0), some (.inl row), some (.inl at'), some (.inl g), some (.inl (y - x)), some (.inl (b2i is)), some (.inl k)] [] σ (fun r' σ' => some (b2i (mTold ys at' x y)) = r' ∧ σ = σ') := by
    intro n
    induction n with
    | zero =>
      intro k is hk his
      have hi := b2i_R is
      (repeat (first | (refine TW.getf rfl rfl rfl (fun _ => ?_)) | (refine TW.pl rfl rfl ?_)))
      refine TW.br rfl rfl (by first | omega | exact b2i_R _ | exact ⟨b2i_R _, by omega⟩) (fun h1 => ?_) (fun h1 => ?_)
      · (repeat (first | (refine TW.getf rfl rfl rfl (fun _ => ?_)) | (refine TW.pl rfl rfl ?_)))
        refine TW.zret rfl (by cases is; exact Or.inl rfl; exact Or.inr rfl) ⟨?_, rfl⟩
        rw [his]
        unfold mTold
        rw [show (y - x).toNat = k by omega]
      · omega
    | succ n ih =>
      intro k is hk his
      have hi := b2i_R is
      (repeat (first | (refine TW.getf rfl rfl rfl (fun _ => ?_)) | (refine TW.pl rfl rfl ?_)))
      refine TW.br rfl rfl (by first | omega | exact b2i_R _ | exact ⟨b2i_R _, by omega⟩) (fun h1 => ?_) (fun h1 => ?_)
      · omega
      (repeat (first | (refine TW.getf rfl rfl rfl (fun _ => ?_)) | (refine TW.pl rfl rfl ?_)))
      refine TW.br rfl rfl (by first | omega | exact b2i_R _ | exact ⟨b2i_R _, by omega⟩) (fun h2 => ?_) (fun h2 => ?_)
      · have hz := b2i_0 h2
        rw [hz]
        (repeat (first | (refine TW.getf rfl rfl rfl (fun _ => ?_)) | (refine TW.pl rfl rfl ?_)))
        refine TW.zret rfl (Or.inl rfl) ⟨?_, rfl⟩
        unfold mTold
        rw [hz] at his
        have : (decide (at' + (y - x) ≤ ys.length) && decide (∀ j : Nat, j < (y - x).toNat → ys.getD (at' + j) 0 = ys.getD (x.toNat + j) 0)) = false := by
          rw [Bool.and_eq_false_iff]
          rcases Bool.and_eq_false_iff.mp his.symm with z | z
          · exact Or.inl z
          · refine Or.inr (decide_eq_false (fun w => ?_))
            exact of_decide_eq_false z (fun j hj => w j (by omega))
        rw [this]
      · have hz := b2i_1 h2
        rw [hz] at his
        have hz2 := Bool.and_eq_true_iff.mp his.symm
        have hz3 := of_decide_eq_true hz2.1
        have hz4 := of_decide_eq_true hz2.2
        have e1 : σ.2 6 (31 * (row : Int) + 1 + (at' + k)).toNat = ys.getD (at' + k) 0 := by
          rw [← hr.2.2 (at' + k) (by omega)]
          exact tix (by omega)
        have e2 : σ.2 6 (31 * (row : Int) + 1 + (x + k)).toNat = ys.getD (x.toNat + k) 0 := by
          rw [← hr.2.2 (x.toNat + k) (by omega)]
          exact tix (by omega)
        (repeat (first | (refine TW.getf rfl rfl rfl (fun _ => ?_)) | (refine TW.pl rfl rfl ?_)))
        refine TW.cv2 rfl rfl rfl (Nat.le_of_ble_eq_true rfl) (T_sign (row := (row : Int)) (k := (at' : Int) + k) (by omega) (by omega)) ?_; rintro _ _ ⟨rfl, rfl⟩
        (repeat (first | (refine TW.getf rfl rfl rfl (fun _ => ?_)) | (refine TW.pl rfl rfl ?_)))
        refine TW.iald (n := 3) rfl rfl rfl (by omega) (fun _ => ?_)
        rw [hgg, hx]
        (repeat (first | (refine TW.getf rfl rfl rfl (fun _ => ?_)) | (refine TW.pl rfl rfl ?_)))
        refine TW.cv2 rfl rfl rfl (Nat.le_of_ble_eq_true rfl) (T_sign (row := (row : Int)) (k := x + (k : Int)) (by omega) (by omega)) ?_; rintro _ _ ⟨rfl, rfl⟩
        rw [e1, e2]
        refine TW.wR (fun hR => ?_)
        have hRa : inR (ys.getD (at' + k) 0) := by rw [← e1]; exact hR.2 _ _
        have hRb : inR (ys.getD (x.toNat + k) 0) := by rw [← e2]; exact hR.2 _ _
        have nx : ∀ b : Bool, b = decide (ys.getD (at' + k) 0 = ys.getD (x.toNat + k) 0) → TW (d + 1) tc_isBack 47 [some (.inr 0), some (.inl row), some (.inl at'), some (.inl g), some (.inl (y - x)), some (.inl (b2i is)), some (.inl k)] [.inl (b2i b)] σ (fun r' σ' => some (b2i (mTold ys at' x y)) = r' ∧ σ = σ') := by
          intro b hbd
          (iterate 3 (first | (refine TW.getf rfl rfl rfl (fun _ => ?_)) | (refine TW.pl rfl rfl ?_)))
          refine ih (k + 1) b (by omega) ?_
          rw [hz2.1, Bool.true_and, hbd]
          by_cases hq : ys.getD (at' + k) 0 = ys.getD (x.toNat + k) 0
          · rw [decide_eq_true hq]
            refine (decide_eq_true (fun j hj => ?_)).symm
            rcases Nat.lt_or_ge j k with w | w
            · exact hz4 j w
            · rw [show j = k by omega]; exact hq
          · rw [decide_eq_false hq]
            exact (decide_eq_false (fun w => hq (w k (by omega)))).symm
        refine TW.br rfl rfl (by first | omega | exact b2i_R _ | exact ⟨b2i_R _, by omega⟩) (fun h3 => ?_) (fun h3 => ?_)
        · (iterate 1 (first | (refine TW.getf rfl rfl rfl (fun _ => ?_)) | (refine TW.pl rfl rfl ?_)))
          exact nx false (decide_eq_false h3).symm
        · (iterate 2 (first | (refine TW.getf rfl rfl rfl (fun _ => ?_)) | (refine TW.pl rfl rfl ?_)))
          exact nx true (decide_eq_true h3).symm
  (repeat (first | (refine TW.getf rfl rfl rfl (fun _ => ?_)) | (refine TW.pl rfl rfl ?_)))
  have el : σ.2 6 (31 * (row : Int)).toNat = ys.length := by rw [← hr.1]; exact tix (by omega)
  refine TW.cv1 rfl rfl rfl (Nat.le_of_ble_eq_true rfl) (T_len (row := (row : Int)) (by omega)) ?_; rintro _ _ ⟨rfl, rfl⟩
  rw [el]
  refine TW.br rfl rfl (by first | omega | exact b2i_R _ | exact ⟨b2i_R _, by omega⟩) (fun h1 => ?_) (fun h1 => ?_)
  · (iterate 4 (first | (refine TW.getf rfl rfl rfl (fun _ => ?_)) | (refine TW.pl rfl rfl ?_)))
    exact loop (y - x).toNat 0 false (by omega) (by rw [decide_eq_false (by omega)]; rfl)
  · (iterate 5 (first | (refine TW.getf rfl rfl rfl (fun _ => ?_)) | (refine TW.pl rfl rfl ?_)))
    exact loop (y - x).toNat 0 true (by omega) (by rw [decide_eq_true (show (at' : Int) + (y - x) ≤ ys.length by omega)]; simp)
def FitQ (σ : TS) (lst : Bool) (len : Nat) (R : Option (Nat × MG × MG)) (r : Option Int) (τ : TS) : Prop := TFr [41] [38, 39] σ τ ∧ match R with
  | none => r = some 0
  | some (a, b, e) => r = some (b2i (!lst || decide (a = len))) ∧ (τ.1 41) = a ∧ τ.2 38 = b ∧ τ.2 39 = e
theorem gst_ts2 {τ : TS} {q n : Nat} {v : Int} : (ts2 τ q n v).2 q = gst (τ.2 q) n v := by funext k; rw [ts2_at]; rfl
theorem drop_cons {k : Nat} {ps : List SPart} (h : k < ps.length) : ps.drop k = ps.getD k (0, 0, [], false) :: ps.drop (k + 1) := by
  rw [List.drop_eq_getElem_cons h, List.getD_eq_getElem?_getD, List.getElem?_eq_getElem h]; rfl
theorem T_fits {row place one other : Nat} {ys : List Int} (hs : SgnIs σ s) (hc : CmpIs σ s pt) (hw : wfp 0 false pt.1) (hr : RowIs σ row ys) (hrow : row < 868) (hpl : place ≤ ys.length) (h1 : one ≤ 30) (h2 : other ≤ 30) : TM (d + 3) tk_fits [.inr 0, .inl row, .inl place, .inl one, .inl other] σ (FitQ σ pt.2.2 ys.length (mRun ys one other pt.1 0 place (σ.2 38) (σ.2 39))) := by
  have h30 := hr.2.1
  have h60 := hc.2.1
  refine TM.of rfl rfl ?_
  have el : σ.2 6 (31 * (row : Int)).toNat = ys.length := by rw [← hr.1]; exact tix (by omega)
  have loop : ∀ (n k S i a : Nat) (o : Bool) (τ : TS) (y9 y10 : Option TV), k + n = pt.1.length → wfp S o (pt.1.drop k) → S ≤ 2 → GOk S o (τ.2 38) (τ.2 39) a → a ≤ ys.length → i ≤ k → TFr [] [38, 39] σ τ → TW (d + 2) tc_fits 10 [some (.inr 0), some (.inl row), some (.inl place), some (.inl one), some (.inl other), some (.inl a), some (.inl i), some (.inl (ys.length : Int)), some (.inl k), y9, y10] [] τ (FitQ σ pt.2.2 ys.length (mRun ys one other (pt.1.drop k) i a (τ.2 38) (τ.2 39))) := by
    intro n
    induction n with
    | zero =>
      intro k S i a o τ y9 y10 hk hw hS hG ha hi hf
      have hcτ := hc.fr hf (by decide) (by decide)
      have he := hcτ.1
      have hen : (τ.1 36) = b2i pt.2.2 := hcτ.2.2.2.2.2
      rw [List.drop_eq_nil_of_le (by omega)]
      unfold mRun
      (repeat (first | (refine TW.getf rfl rfl rfl (fun _ => ?_)) | (refine TW.pl rfl rfl ?_)))
      refine TW.br rfl rfl (by first | omega | exact b2i_R _ | exact ⟨b2i_R _, by omega⟩) (fun h3 => ?_) (fun h3 => ?_)
      · (repeat (first | (refine TW.getf rfl rfl rfl (fun _ => ?_)) | (refine TW.pl rfl rfl ?_)))
        refine TW.putf rfl rfl (by omega) ?_
        (repeat (first | (refine TW.getf rfl rfl rfl (fun _ => ?_)) | (refine TW.pl rfl rfl ?_)))
        have hen2 : (ts1 τ 41 (a : Int)).1 36 = b2i pt.2.2 := by rw [ts1_ne (by decide)]; exact hen
        have hfr : TFr [41] [38, 39] σ (ts1 τ 41 (a : Int)) := (hf.mono (by simp) (fun _ h => h)).ts1 (by decide)
        refine TW.br rfl rfl (by first | omega | exact b2i_R _ | exact ⟨b2i_R _, by omega⟩) (fun h4 => ?_) (fun h4 => ?_)
        · (repeat (first | (refine TW.getf rfl rfl rfl (fun _ => ?_)) | (refine TW.pl rfl rfl ?_)))
          refine TW.zret rfl (Or.inr rfl) ⟨hfr, ?_, ts1_eq, rfl, rfl⟩
          rw [hen2] at h4
          rw [b2i_0 h4]; rfl
        · rw [hen2] at h4
          (repeat (first | (refine TW.getf rfl rfl rfl (fun _ => ?_)) | (refine TW.pl rfl rfl ?_)))
          refine TW.br rfl rfl (by first | omega | exact b2i_R _ | exact ⟨b2i_R _, by omega⟩) (fun h5 => ?_) (fun h5 => ?_)
          · (repeat (first | (refine TW.getf rfl rfl rfl (fun _ => ?_)) | (refine TW.pl rfl rfl ?_)))
            refine TW.zret rfl (Or.inl rfl) ⟨hfr, ?_, ts1_eq, rfl, rfl⟩
            rw [b2i_1 h4, decide_eq_false (by omega)]; rfl
          · (repeat (first | (refine TW.getf rfl rfl rfl (fun _ => ?_)) | (refine TW.pl rfl rfl ?_)))
            refine TW.zret rfl (Or.inr rfl) ⟨hfr, ?_, ts1_eq, rfl, rfl⟩
            rw [b2i_1 h4, decide_eq_true (by omega)]; rfl
      · omega
    | succ n ih =>
      intro k S i a o τ y9 y10 hk hw hS hG ha hi hf
      have hcτ := hc.fr hf (by decide) (by decide)
      have he := hcτ.1
      have hp := hcτ.2.2.1 k (by omega)
      have hsτ := hs.fr hf (by decide) (by decide)
      have hrτ := hr.fr (hf.2 6 (by decide))
      have elτ : τ.2 6 (31 * (row : Int)).toNat = ys.length := by rw [hf.2 6 (by decide)]; exact el
      have hkk : ((k : Nat) : Int).toNat = k := by omega
      rw [drop_cons (show k < pt.1.length by omega)] at hw ⊢
      generalize pt.1.getD k (0, 0, [], false) = part at hp hw ⊢
      obtain ⟨kd, nr, sg, neg⟩ := part
      unfold PartIs at hp
      unfold mRun
      unfold wfp at hw
      dsimp only at hp
      have next : ∀ (S' i' a' : Nat) (o' : Bool) (τ' : TS) (y y' : Option TV), wfp S' o' (pt.1.drop (k + 1)) → S' ≤ 2 → GOk S' o' (τ'.2 38) (τ'.2 39) a' → a' ≤ ys.length → i' ≤ k + 1 → TFr [] [38, 39] σ τ' → TW (d + 2) tc_fits 130 [some (.inr 0), some (.inl row), some (.inl place), some (.inl one), some (.inl other), some (.inl a'), some (.inl i'), some (.inl (ys.length : Int)), some (.inl k), y, y'] [] τ' (FitQ σ pt.2.2 ys.length (mRun ys one other (pt.1.drop (k + 1)) i' a' (τ'.2 38) (τ'.2 39))) := by
        intro S' i' a' o' τ' y y' g1 g2 g3 g4 g5 g6
        (repeat (first | (refine TW.getf rfl rfl rfl (fun _ => ?_)) | (refine TW.pl rfl rfl ?_)))
        refine TW.br rfl rfl (by first | omega | exact b2i_R _ | exact ⟨b2i_R _, by omega⟩) (fun h3 => ?_) (fun h3 => ?_)
        · (iterate 2 (first | (refine TW.getf rfl rfl rfl (fun _ => ?_)) | (refine TW.pl rfl rfl ?_)))
          exact ih (k + 1) S' i' a' o' τ' y y' (by omega) g1 g2 g3 g4 g5 g6
        · omega
      have hfW : TFr [41] [38, 39] σ τ := hf.mono (by simp) (fun _ h => h)
      (repeat (first | (refine TW.getf rfl rfl rfl (fun _ => ?_)) | (refine TW.pl rfl rfl ?_)))
      refine TW.br rfl rfl (by first | omega | exact b2i_R _ | exact ⟨b2i_R _, by omega⟩) (fun h3 => ?_) (fun h3 => ?_)
      · omega
      (repeat (first | (refine TW.getf rfl rfl rfl (fun _ => ?_)) | (refine TW.pl rfl rfl ?_)))
      refine TW.iald (n := 64) rfl rfl rfl (by omega) (fun _ => ?_)
      rw [hkk]
      (repeat (first | (refine TW.getf rfl rfl rfl (fun _ => ?_)) | (refine TW.pl rfl rfl ?_)))
      by_cases k4 : kd = 4
      · subst k4
        obtain ⟨hp1, hp2⟩ := hp
        rw [if_pos rfl] at hw ⊢
        obtain ⟨⟨w1, w2, w3⟩, hw⟩ := hw
        subst w1 w2
        refine TW.br rfl rfl (by first | omega | exact b2i_R _ | exact ⟨b2i_R _, by omega⟩) (fun q1 => ?_) (fun q1 => ?_)
        · omega
        (repeat (first | (refine TW.getf rfl rfl rfl (fun _ => ?_)) | (refine TW.pl rfl rfl ?_)))
        refine TW.iald (n := 64) rfl rfl rfl (by omega) (fun _ => ?_)
        (repeat (first | (refine TW.getf rfl rfl rfl (fun _ => ?_)) | (refine TW.pl rfl rfl ?_)))
        rw [hkk]
        refine TW.iast (n := 3) rfl rfl rfl (by omega) (by omega) ?_
        (iterate 1 (first | (refine TW.getf rfl rfl rfl (fun _ => ?_)) | (refine TW.pl rfl rfl ?_)))
        have e38 : (ts2 τ 38 (τ.2 32 k).toNat (a : Int)).2 38 = gst (τ.2 38) (S + 1) a := by rw [gst_ts2, show (τ.2 32 k).toNat = S + 1 by omega]
        have e39 : (ts2 τ 38 (τ.2 32 k).toNat (a : Int)).2 39 = τ.2 39 := ts2_ne (by decide)
        have N := next S i a true (ts2 τ 38 (τ.2 32 k).toNat (a : Int)) (some (.inl (τ.2 31 k))) y10 hw hS (by rw [e38, e39]; exact hG.opn) ha (by omega) (hf.ts2 (by decide))
        rw [e38, e39] at N
        exact N
      rw [if_neg k4] at hw ⊢
      by_cases k5 : kd = 5
      · subst k5
        obtain ⟨hp1, hp2⟩ := hp
        rw [if_pos rfl] at hw ⊢
        obtain ⟨⟨w1, w2, w3⟩, hw⟩ := hw
        subst w1 w2
        refine TW.br rfl rfl (by first | omega | exact b2i_R _ | exact ⟨b2i_R _, by omega⟩) (fun q1 => ?_) (fun q1 => ?_)
        rotate_left
        · omega
        (repeat (first | (refine TW.getf rfl rfl rfl (fun _ => ?_)) | (refine TW.pl rfl rfl ?_)))
        refine TW.br rfl rfl (by first | omega | exact b2i_R _ | exact ⟨b2i_R _, by omega⟩) (fun q2 => ?_) (fun q2 => ?_)
        · omega
        (repeat (first | (refine TW.getf rfl rfl rfl (fun _ => ?_)) | (refine TW.pl rfl rfl ?_)))
        refine TW.iald (n := 64) rfl rfl rfl (by omega) (fun _ => ?_)
        (repeat (first | (refine TW.getf rfl rfl rfl (fun _ => ?_)) | (refine TW.pl rfl rfl ?_)))
        rw [hkk]
        refine TW.iast (n := 3) rfl rfl rfl (by omega) (by omega) ?_
        (iterate 1 (first | (refine TW.getf rfl rfl rfl (fun _ => ?_)) | (refine TW.pl rfl rfl ?_)))
        have e39 : (ts2 τ 39 (τ.2 32 k).toNat (a : Int)).2 39 = gst (τ.2 39) (S + 1) a := by rw [gst_ts2, show (τ.2 32 k).toNat = S + 1 by omega]
        have e38 : (ts2 τ 39 (τ.2 32 k).toNat (a : Int)).2 38 = τ.2 38 := ts2_ne (by decide)
        have N := next (S + 1) i a false (ts2 τ 39 (τ.2 32 k).toNat (a : Int)) (some (.inl (τ.2 31 k))) y10 hw (by omega) (by rw [e38, e39]; exact hG.cls) ha (by omega) (hf.ts2 (by decide))
        rw [e38, e39] at N
        exact N
      rw [if_neg k5] at hw ⊢
      by_cases k2 : kd = 2
      · subst k2
        have hp : τ.2 31 k = 3 := hp
        rw [if_neg (by decide)] at hw
        rw [if_pos rfl]
        refine TW.br rfl rfl (by first | omega | exact b2i_R _ | exact ⟨b2i_R _, by omega⟩) (fun q1 => ?_) (fun q1 => ?_)
        rotate_left
        · omega
        (repeat (first | (refine TW.getf rfl rfl rfl (fun _ => ?_)) | (refine TW.pl rfl rfl ?_)))
        refine TW.br rfl rfl (by first | omega | exact b2i_R _ | exact ⟨b2i_R _, by omega⟩) (fun q2 => ?_) (fun q2 => ?_)
        rotate_left
        · omega
        (repeat (first | (refine TW.getf rfl rfl rfl (fun _ => ?_)) | (refine TW.pl rfl rfl ?_)))
        refine TW.br rfl rfl (by first | omega | exact b2i_R _ | exact ⟨b2i_R _, by omega⟩) (fun q3 => ?_) (fun q3 => ?_)
        · omega
        (repeat (first | (refine TW.getf rfl rfl rfl (fun _ => ?_)) | (refine TW.pl rfl rfl ?_)))
        have fin : ∀ (v : Nat), v = (if i = 0 then one else other) → TW (d + 2) tc_fits 52 [some (.inr 0), some (.inl row), some (.inl place), some (.inl one), some (.inl other), some (.inl a), some (.inl i), some (.inl (ys.length : Int)), some (.inl k), some (.inl (τ.2 31 k)), y10] [.inl v, .inl a] τ (FitQ σ pt.2.2 ys.length (if a + (if i = 0 then one else other) ≤ ys.length then mRun ys one other (pt.1.drop (k + 1)) (i + 1) (a + (if i = 0 then one else other)) (τ.2 38) (τ.2 39) else none)) := by
          intro v hv
          have hv30 : v ≤ 30 := by rw [hv]; split <;> omega
          rw [← hv]
          by_cases hle : a + v ≤ ys.length
          · rw [if_pos hle]
            (iterate 4 (first | (refine TW.getf rfl rfl rfl (fun _ => ?_)) | (refine TW.pl rfl rfl ?_)))
            exact next S (i + 1) (a + v) o τ _ _ hw hS (hG.le (by omega)) hle (by omega) hf
          · rw [if_neg hle]
            (repeat (first | (refine TW.getf rfl rfl rfl (fun _ => ?_)) | (refine TW.pl rfl rfl ?_)))
            refine TW.br rfl rfl (by first | omega | exact b2i_R _ | exact ⟨b2i_R _, by omega⟩) (fun q4 => ?_) (fun q4 => ?_)
            · omega
            · (repeat (first | (refine TW.getf rfl rfl rfl (fun _ => ?_)) | (refine TW.pl rfl rfl ?_)))
              exact TW.zret rfl (Or.inl rfl) ⟨hfW, rfl⟩
        refine TW.br rfl rfl (by first | omega | exact b2i_R _ | exact ⟨b2i_R _, by omega⟩) (fun q4 => ?_) (fun q4 => ?_)
        · (iterate 1 (first | (refine TW.getf rfl rfl rfl (fun _ => ?_)) | (refine TW.pl rfl rfl ?_)))
          exact fin other (by rw [if_neg (by omega)])
        · (iterate 2 (first | (refine TW.getf rfl rfl rfl (fun _ => ?_)) | (refine TW.pl rfl rfl ?_)))
          exact fin one (by rw [if_pos (by omega)])
      rw [if_neg k2]
      by_cases k6 : kd = 6
      · subst k6
        obtain ⟨hp1, -, hp2⟩ := hp
        rw [if_pos rfl] at hw ⊢
        obtain ⟨⟨w1, w2, w3⟩, hw⟩ := hw
        have hg := hG.1 nr w2 w3
        refine TW.br rfl rfl (by first | omega | exact b2i_R _ | exact ⟨b2i_R _, by omega⟩) (fun q1 => ?_) (fun q1 => ?_)
        rotate_left
        · omega
        (repeat (first | (refine TW.getf rfl rfl rfl (fun _ => ?_)) | (refine TW.pl rfl rfl ?_)))
        refine TW.br rfl rfl (by first | omega | exact b2i_R _ | exact ⟨b2i_R _, by omega⟩) (fun q2 => ?_) (fun q2 => ?_)
        rotate_left
        · omega
        (repeat (first | (refine TW.getf rfl rfl rfl (fun _ => ?_)) | (refine TW.pl rfl rfl ?_)))
        refine TW.br rfl rfl (by first | omega | exact b2i_R _ | exact ⟨b2i_R _, by omega⟩) (fun q3 => ?_) (fun q3 => ?_)
        rotate_left
        · omega
        (repeat (first | (refine TW.getf rfl rfl rfl (fun _ => ?_)) | (refine TW.pl rfl rfl ?_)))
        refine TW.br rfl rfl (by first | omega | exact b2i_R _ | exact ⟨b2i_R _, by omega⟩) (fun q4 => ?_) (fun q4 => ?_)
        · omega
        (repeat (first | (refine TW.getf rfl rfl rfl (fun _ => ?_)) | (refine TW.pl rfl rfl ?_)))
        refine TW.iald (n := 64) rfl rfl rfl (by omega) (fun _ => ?_)
        rw [hkk, hp2]
        refine TW.cv3 rfl rfl rfl (Nat.le_of_ble_eq_true rfl) (T_isBack (g := nr) hrτ hrow (by omega) (by omega) ha) ?_; rintro _ _ ⟨rfl, rfl⟩
        refine TW.br rfl rfl (by first | omega | exact b2i_R _ | exact ⟨b2i_R _, by omega⟩) (fun q5 => ?_) (fun q5 => ?_)
        · rw [if_pos (b2i_1 q5)]
          have hz := b2i_1 q5
          unfold mTold at hz
          have hz := of_decide_eq_true (Bool.and_eq_true_iff.mp hz).1
          (repeat (first | (refine TW.getf rfl rfl rfl (fun _ => ?_)) | (refine TW.pl rfl rfl ?_)))
          refine TW.iald (n := 64) rfl rfl rfl (by omega) (fun _ => ?_)
          rw [hkk, hp2]
          refine TW.iald (n := 3) rfl rfl rfl (by omega) (fun _ => ?_)
          (repeat (first | (refine TW.getf rfl rfl rfl (fun _ => ?_)) | (refine TW.pl rfl rfl ?_)))
          refine TW.iald (n := 64) rfl rfl rfl (by omega) (fun _ => ?_)
          rw [hkk, hp2]
          refine TW.iald (n := 3) rfl rfl rfl (by omega) (fun _ => ?_)
          rw [show ((nr : Nat) : Int).toNat = nr by omega]
          (iterate 4 (first | (refine TW.getf rfl rfl rfl (fun _ => ?_)) | (refine TW.pl rfl rfl ?_)))
          have ea : (a : Int) + (τ.2 39 nr - τ.2 38 nr) = ((a + (τ.2 39 nr - τ.2 38 nr).toNat : Nat) : Int) := by omega
          rw [ea]
          exact next S i (a + (τ.2 39 nr - τ.2 38 nr).toNat) o τ _ _ hw hS (hG.le (by omega)) (by omega) (by omega) hf
        · rw [if_neg (by rw [b2i_0 q5]; decide)]
          (repeat (first | (refine TW.getf rfl rfl rfl (fun _ => ?_)) | (refine TW.pl rfl rfl ?_)))
          exact TW.zret rfl (Or.inl rfl) ⟨hfW, rfl⟩
      rw [if_neg k6] at hw ⊢
      rw [if_neg k4, if_neg k5] at hp
      have hk3 : kd = 0 ∨ kd = 1 ∨ kd = 3 := by
        by_cases z0 : kd = 0
        · exact Or.inl z0
        · by_cases z1 : kd = 1
          · exact Or.inr (Or.inl z1)
          · by_cases z3 : kd = 3
            · exact Or.inr (Or.inr z3)
            · rw [if_neg z0, if_neg z1, if_neg k2, if_neg z3] at hp
              exact absurd hp.2.1 k6
      have hkr : τ.2 31 k = 1 ∨ τ.2 31 k = 2 ∨ τ.2 31 k = 4 := by
        rcases hk3 with z | z | z
        · rw [if_pos z] at hp; exact Or.inl hp.1
        · rw [if_neg (by omega), if_pos z] at hp; exact Or.inr (Or.inl hp)
        · rw [if_neg (by omega), if_neg (by omega), if_neg k2, if_pos z] at hp; exact Or.inr (Or.inr hp.1)
      refine TW.br rfl rfl (by first | omega | exact b2i_R _ | exact ⟨b2i_R _, by omega⟩) (fun q1 => ?_) (fun q1 => ?_)
      rotate_left
      · omega
      (repeat (first | (refine TW.getf rfl rfl rfl (fun _ => ?_)) | (refine TW.pl rfl rfl ?_)))
      refine TW.br rfl rfl (by first | omega | exact b2i_R _ | exact ⟨b2i_R _, by omega⟩) (fun q2 => ?_) (fun q2 => ?_)
      rotate_left
      · omega
      (repeat (first | (refine TW.getf rfl rfl rfl (fun _ => ?_)) | (refine TW.pl rfl rfl ?_)))
      refine TW.br rfl rfl (by first | omega | exact b2i_R _ | exact ⟨b2i_R _, by omega⟩) (fun q3 => ?_) (fun q3 => ?_)
      rotate_left
      · omega
      (repeat (first | (refine TW.getf rfl rfl rfl (fun _ => ?_)) | (refine TW.pl rfl rfl ?_)))
      refine TW.br rfl rfl (by first | omega | exact b2i_R _ | exact ⟨b2i_R _, by omega⟩) (fun q4 => ?_) (fun q4 => ?_)
      rotate_left
      · omega
      have fin : ∀ b : Bool, b = decide (a < ys.length ∧ mFit kd sg neg (ys.getD a 0) = true) → TW (d + 2) tc_fits 124 [some (.inr 0), some (.inl row), some (.inl place), some (.inl one), some (.inl other), some (.inl a), some (.inl i), some (.inl (ys.length : Int)), some (.inl k), some (.inl (τ.2 31 k)), y10] [.inl (b2i b)] τ (FitQ σ pt.2.2 ys.length (if a < ys.length ∧ mFit kd sg neg (ys.getD a 0) = true then mRun ys one other (pt.1.drop (k + 1)) i (a + 1) (τ.2 38) (τ.2 39) else none)) := by
        intro b hb
        (repeat (first | (refine TW.getf rfl rfl rfl (fun _ => ?_)) | (refine TW.pl rfl rfl ?_)))
        cases b with
        | true =>
          have hz := of_decide_eq_true hb.symm
          rw [if_pos hz]
          refine TW.br rfl rfl (by first | omega | exact b2i_R _ | exact ⟨b2i_R _, by omega⟩) (fun q5 => ?_) (fun q5 => ?_)
          · (iterate 1 (first | (refine TW.getf rfl rfl rfl (fun _ => ?_)) | (refine TW.pl rfl rfl ?_)))
            exact next S i (a + 1) o τ _ _ hw hS (hG.le (by omega)) (by omega) (by omega) hf
          · exact absurd q5 (by decide)
        | false =>
          rw [if_neg (of_decide_eq_false hb.symm)]
          refine TW.br rfl rfl (by first | omega | exact b2i_R _ | exact ⟨b2i_R _, by omega⟩) (fun q5 => ?_) (fun q5 => ?_)
          · exact absurd rfl q5
          · (repeat (first | (refine TW.getf rfl rfl rfl (fun _ => ?_)) | (refine TW.pl rfl rfl ?_)))
            exact TW.zret rfl (Or.inl rfl) ⟨hfW, rfl⟩
      (repeat (first | (refine TW.getf rfl rfl rfl (fun _ => ?_)) | (refine TW.pl rfl rfl ?_)))
      refine TW.br rfl rfl (by first | omega | exact b2i_R _ | exact ⟨b2i_R _, by omega⟩) (fun q5 => ?_) (fun q5 => ?_)
      · (iterate 1 (first | (refine TW.getf rfl rfl rfl (fun _ => ?_)) | (refine TW.pl rfl rfl ?_)))
        exact fin false (decide_eq_false (fun z => by omega)).symm
      have esg : τ.2 6 (31 * (row : Int) + 1 + a).toNat = ys.getD a 0 := by
        rw [← hrτ.2.2 a (by omega)]
        exact tix (by omega)
      refine TW.wR (fun hR => ?_)
      have hRa : inR (ys.getD a 0) := by rw [← esg]; exact hR.2 _ _
      have hRk : inR (τ.2 32 k) := hR.2 _ _
      (repeat (first | (refine TW.getf rfl rfl rfl (fun _ => ?_)) | (refine TW.pl rfl rfl ?_)))
      rcases hk3 with z | z | z
      · subst z
        rw [if_pos rfl] at hp
        obtain ⟨p1, p2, p3⟩ := hp
        have hm : mFit 0 sg neg (ys.getD a 0) = (ys.getD a 0 == τ.2 32 k) := by
          unfold mFit
          rw [if_neg (by decide), p2, p3, List.contains_cons]
          cases (ys.getD a 0 == τ.2 32 k) <;> rfl
        refine TW.br rfl rfl (by first | omega | exact b2i_R _ | exact ⟨b2i_R _, by omega⟩) (fun q6 => ?_) (fun q6 => ?_)
        · omega
        (repeat (first | (refine TW.getf rfl rfl rfl (fun _ => ?_)) | (refine TW.pl rfl rfl ?_)))
        refine TW.br rfl rfl (by first | omega | exact b2i_R _ | exact ⟨b2i_R _, by omega⟩) (fun q7 => ?_) (fun q7 => ?_)
        · omega
        (repeat (first | (refine TW.getf rfl rfl rfl (fun _ => ?_)) | (refine TW.pl rfl rfl ?_)))
        refine TW.cv2 rfl rfl rfl (Nat.le_of_ble_eq_true rfl) (T_sign (row := (row : Int)) (k := (a : Int)) (by omega) (by omega)) ?_; rintro _ _ ⟨rfl, rfl⟩
        rw [esg]
        (repeat (first | (refine TW.getf rfl rfl rfl (fun _ => ?_)) | (refine TW.pl rfl rfl ?_)))
        refine TW.iald (n := 64) rfl rfl rfl (by omega) (fun _ => ?_)
        rw [hkk]
        refine TW.br rfl rfl (by first | omega | exact b2i_R _ | exact ⟨b2i_R _, by omega⟩) (fun q8 => ?_) (fun q8 => ?_)
        · (iterate 2 (first | (refine TW.getf rfl rfl rfl (fun _ => ?_)) | (refine TW.pl rfl rfl ?_)))
          exact fin true (decide_eq_true ⟨by omega, by rw [hm, q8]; simp⟩).symm
        · (repeat (first | (refine TW.getf rfl rfl rfl (fun _ => ?_)) | (refine TW.pl rfl rfl ?_)))
          refine TW.br rfl rfl (by first | omega | exact b2i_R _ | exact ⟨b2i_R _, by omega⟩) (fun q9 => ?_) (fun q9 => ?_)
          · (iterate 1 (first | (refine TW.getf rfl rfl rfl (fun _ => ?_)) | (refine TW.pl rfl rfl ?_)))
            exact fin false (decide_eq_false (fun z => by rw [hm] at z; exact q8 (by simpa using z.2))).symm
          · omega
      · subst z
        refine TW.br rfl rfl (by first | omega | exact b2i_R _ | exact ⟨b2i_R _, by omega⟩) (fun q6 => ?_) (fun q6 => ?_)
        · (iterate 2 (first | (refine TW.getf rfl rfl rfl (fun _ => ?_)) | (refine TW.pl rfl rfl ?_)))
          exact fin true (decide_eq_true ⟨by omega, rfl⟩).symm
        · rw [if_neg (by decide), if_pos rfl] at hp
          omega
      · subst z
        rw [if_neg (by decide), if_neg (by decide), if_neg (by decide), if_pos rfl] at hp
        obtain ⟨p1, r, r1, r2, r3, r4, r5⟩ := hp
        have hm : mFit 3 sg neg (ys.getD a 0) = (((if decide (hd r = 94) = true then r.tail else r).takeWhile isChr).contains (ys.getD a 0) != decide (hd r = 94)) := by
          unfold mFit
          rw [if_neg (by decide), ← r4, ← r3]
        refine TW.br rfl rfl (by first | omega | exact b2i_R _ | exact ⟨b2i_R _, by omega⟩) (fun q6 => ?_) (fun q6 => ?_)
        · omega
        (repeat (first | (refine TW.getf rfl rfl rfl (fun _ => ?_)) | (refine TW.pl rfl rfl ?_)))
        refine TW.br rfl rfl (by first | omega | exact b2i_R _ | exact ⟨b2i_R _, by omega⟩) (fun q7 => ?_) (fun q7 => ?_)
        rotate_left
        · omega
        (repeat (first | (refine TW.getf rfl rfl rfl (fun _ => ?_)) | (refine TW.pl rfl rfl ?_)))
        refine TW.br rfl rfl (by first | omega | exact b2i_R _ | exact ⟨b2i_R _, by omega⟩) (fun q8 => ?_) (fun q8 => ?_)
        · omega
        (repeat (first | (refine TW.getf rfl rfl rfl (fun _ => ?_)) | (refine TW.pl rfl rfl ?_)))
        refine TW.iald (n := 64) rfl rfl rfl (by omega) (fun _ => ?_)
        rw [hkk]
        (repeat (first | (refine TW.getf rfl rfl rfl (fun _ => ?_)) | (refine TW.pl rfl rfl ?_)))
        refine TW.cv2 rfl rfl rfl (Nat.le_of_ble_eq_true rfl) (T_sign (row := (row : Int)) (k := (a : Int)) (by omega) (by omega)) ?_; rintro _ _ ⟨rfl, rfl⟩
        rw [esg]
        refine TW.cv2 rfl rfl rfl (Nat.le_of_ble_eq_true rfl) (T_isInClass hsτ r1 hRa r5) ?_; rintro _ _ ⟨rfl, rfl⟩
        refine TW.br rfl rfl (by first | omega | exact b2i_R _ | exact ⟨b2i_R _, by omega⟩) (fun q9 => ?_) (fun q9 => ?_)
        · (iterate 1 (first | (refine TW.getf rfl rfl rfl (fun _ => ?_)) | (refine TW.pl rfl rfl ?_)))
          exact fin false (decide_eq_false (fun z => by rw [hm, b2i_0 q9] at z; cases z.2)).symm
        · (iterate 2 (first | (refine TW.getf rfl rfl rfl (fun _ => ?_)) | (refine TW.pl rfl rfl ?_)))
          exact fin true (decide_eq_true ⟨by omega, by rw [hm, b2i_1 q9]⟩).symm
  (repeat (first | (refine TW.getf rfl rfl rfl (fun _ => ?_)) | (refine TW.pl rfl rfl ?_)))
  refine TW.cv1 rfl rfl rfl (Nat.le_of_ble_eq_true rfl) (T_len (row := (row : Int)) (by omega)) ?_; rintro _ _ ⟨rfl, rfl⟩
  rw [el]
  (iterate 3 (first | (refine TW.getf rfl rfl rfl (fun _ => ?_)) | (refine TW.pl rfl rfl ?_)))
  exact loop pt.1.length 0 0 0 place false σ _ _ (by omega) hw (by decide) ⟨fun n h1 h2 => by omega, fun z => by cases z⟩ hpl (by omega) TFr.rf
end TMat
