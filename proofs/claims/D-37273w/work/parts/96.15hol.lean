set_option maxRecDepth 100000
/-! the twin's where with a work -/
theorem pSpot_out {l la : List Int} {kd nr : Int} {pt : SPat} (h : pSpot l = .inr (la, kd, nr, pt)) : l ≠ [] ∧ ((isDig (hd l) = true ∧ kd = 48 ∧ pNum l = .inr (la, nr)) ∨ (isDig (hd l) = false ∧ kd = hd l ∧ ((hd l = 36 ∧ la = l.tail) ∨ (hd l = 46 ∧ la = l.tail) ∨ (hd l = 39 ∧ isMrk (hd l.tail) = true ∧ nr = hd l.tail - 97 ∧ la = l.tail.tail) ∨ ((hd l = 47 ∨ hd l = 63) ∧ ∃ l2 g, pPat (hd l) l.tail = .inr (l2, g, pt) ∧ hd l2 = hd l ∧ la = l2.tail)))) := by
  have hl0 : l ≠ [] := fun z => by rw [z] at h; have e : pSpot [] = .inl [] := rfl; rw [e] at h; cases h
  refine ⟨hl0, ?_⟩
  unfold pSpot at h
  by_cases hd1 : isDig (hd l) = true
  · rw [if_pos hd1] at h
    cases hp : pNum l with
    | inl f => rw [hp] at h; cases h
    | inr q =>
      obtain ⟨l1, v⟩ := q
      rw [hp] at h
      cases h
      exact Or.inl ⟨hd1, rfl, rfl⟩
  rw [if_neg hd1] at h
  refine Or.inr ⟨Bool.eq_false_iff.mpr hd1, ?_⟩
  by_cases h39 : hd l = 39
  · rw [if_pos h39] at h
    by_cases hm : isMrk (hd l.tail) = true
    · rw [if_pos hm] at h
      cases h
      exact ⟨h39.symm, Or.inr (Or.inr (Or.inl ⟨h39, hm, rfl, rfl⟩))⟩
    · rw [if_neg hm] at h; cases h
  rw [if_neg h39] at h
  by_cases h47 : hd l = 47 ∨ hd l = 63
  · rw [if_pos h47] at h
    cases hp : pPat (hd l) l.tail with
    | inl f => rw [hp] at h; cases h
    | inr q =>
      obtain ⟨l2, g, pt2⟩ := q
      rw [hp] at h
      dsimp only at h
      split at h
      · rename_i he
        cases h
        exact ⟨rfl, Or.inr (Or.inr (Or.inr ⟨h47, l2, g, rfl, he, rfl⟩))⟩
      · cases h
  rw [if_neg h47] at h
  by_cases h46 : hd l = 46 ∨ hd l = 36
  · rw [if_pos h46] at h
    cases h
    refine ⟨rfl, ?_⟩
    rcases h46 with z | z
    · exact Or.inr (Or.inl ⟨z, rfl⟩)
    · exact Or.inl ⟨z, rfl⟩
  · rw [if_neg h46] at h; cases h
theorem pAdr_out {l l' : List Int} {a : SAdr} (h : pAdr l = .inr (l', a)) : ∃ la, pSpot l = .inr (la, a.1, a.2.1, a.2.2.1) ∧ pMore la.length 0 false la = .inr (l', a.2.2.2.1, a.2.2.2.2) := by
  unfold pAdr at h
  cases hp : pSpot l with
  | inl f => rw [hp] at h; cases h
  | inr q =>
    obtain ⟨la, kd, nr, pt⟩ := q
    rw [hp] at h
    dsimp only at h
    cases hm : pMore la.length 0 false la with
    | inl f => rw [hm] at h; cases h
    | inr q =>
      obtain ⟨lb, mo, has⟩ := q
      rw [hm] at h
      cases h
      exact ⟨la, rfl, hm⟩
theorem pMore_has : ∀ (k : Nat) (v : Int) (has : Bool) (l l1 : List Int) (v1 : Int) (has1 : Bool), pMore k v has l = .inr (l1, v1, has1) → has1 = (has || decide (hd l = 43 ∨ hd l = 45)) := by
  intro k
  induction k with
  | zero =>
    intro v has l l1 v1 has1 h
    unfold pMore at h
    split at h
    · cases h
    · rename_i hc
      cases h
      rw [decide_eq_false hc, Bool.or_false]
  | succ k ih =>
    intro v has l l1 v1 has1 h
    unfold pMore at h
    split at h
    · rename_i hc
      dsimp only at h
      cases hp : pNum l.tail with
      | inl f => rw [hp] at h; cases h
      | inr q =>
        obtain ⟨l2, x⟩ := q
        rw [hp] at h
        have := ih _ _ _ _ _ _ h
        rw [this, decide_eq_true hc, Bool.or_true, Bool.true_or]
    · rename_i hc
      cases h
      rw [decide_eq_false hc, Bool.or_false]
abbrev fH : List Nat := [33, 34, 35, 36, 37, 40, 41]
abbrev aH : List Nat := [31, 32, 38, 39]
section THol
variable {d : Nat} {σ τ : TS} {s l l1 l2 l' : List Int} {t pu re : List SLine} {du : List (List Int)} {x : SLine} {W : WG} {B : BG} {fs as : List Nat} {rs : List (List Int)} {xs : List Int} {h o : List (List Int)} {fi : Nat → List (List Int)} {m : Nat → Option Int} {n n0 : Int} {rp : Bool} {od : SOrd0} {a b : SAdr}
theorem T_isNumeric {c : Int} (h : inR c) : TE (d + 2) tk_isNumeric [.inl c] σ (some (b2i (isDig c || decide (c = 36)))) σ := by
  refine TM.of rfl rfl ?_
  (repeat (first | (refine TW.getf rfl rfl rfl (fun _ => ?_)) | (refine TW.pl rfl rfl ?_)))
  refine TW.cs1 rfl rfl rfl (Nat.le_of_ble_eq_true rfl) (T_isDigit h) ?_; rintro _ _ ⟨rfl, rfl⟩
  refine TW.br rfl rfl (by first | omega | exact b2i_R _ | exact ⟨b2i_R _, by omega⟩) (fun q1 => ?_) (fun q1 => ?_)
  · have e := b2i_1 q1
    (repeat (first | (refine TW.getf rfl rfl rfl (fun _ => ?_)) | (refine TW.pl rfl rfl ?_)))
    exact TW.zret rfl (Or.inr rfl) ⟨by rw [e]; rfl, rfl⟩
  · have e := b2i_0 q1
    (repeat (first | (refine TW.getf rfl rfl rfl (fun _ => ?_)) | (refine TW.pl rfl rfl ?_)))
    refine TW.br rfl rfl (by first | omega | exact b2i_R _ | exact ⟨b2i_R _, by omega⟩) (fun q2 => ?_) (fun q2 => ?_)
    · (repeat (first | (refine TW.getf rfl rfl rfl (fun _ => ?_)) | (refine TW.pl rfl rfl ?_)))
      exact TW.zret rfl (Or.inl rfl) ⟨by rw [e, decide_eq_false q2]; rfl, rfl⟩
    · (repeat (first | (refine TW.getf rfl rfl rfl (fun _ => ?_)) | (refine TW.pl rfl rfl ?_)))
      exact TW.zret rfl (Or.inr rfl) ⟨by rw [e, decide_eq_true q2]; rfl, rfl⟩
theorem numr_hd (hp : pAdr l = .inr (l', a)) : (isDig (hd l) || decide (hd l = 36)) = stNumr a := by
  obtain ⟨la, h1, h2⟩ := pAdr_out hp
  obtain ⟨-, h3⟩ := pSpot_out h1
  unfold stNumr
  rcases h3 with ⟨e1, e2, -⟩ | ⟨e1, e2, e3⟩
  · rw [e1, e2]; rfl
  · rw [e1, e2, Bool.false_or]
    have h48 : ¬ hd l = 48 := fun z => by rw [z] at e1; revert e1; decide
    by_cases h36 : hd l = 36
    · rw [decide_eq_true h36, decide_eq_true (Or.inr h36)]
    · rw [decide_eq_false h36, decide_eq_false (by omega)]
theorem T_numericAt {x0 : Int} {L : Nat} (hs : SgnIs σ s) (hx : Sfx s l x0) (hp : pAdr l = .inr (l', a)) (hnum : stNumr a = true) (hL : (σ.1 65) = L) (hL40 : L ≤ 40) : TE (d + 4) tk_numericAt [.inr 0, .inl x0] σ (some (stVal L a)) σ := by
  obtain ⟨la, h1, h2⟩ := pAdr_out hp
  obtain ⟨hl0, h3⟩ := pSpot_out h1
  have ha := hs.at hx hl0
  have h60 := hs.2.1
  have hnn : σ.1 22 = s.length := hs.1
  refine TM.of rfl rfl ?_
  have loop : ∀ (k : Nat) (q : List Int) (y v acc : Int) (hb : Bool), q.length ≤ k → Sfx s q y → pMore k acc hb q = .inr (l', a.2.2.2.1, a.2.2.2.2) → v + a.2.2.2.1 - acc = stVal L a → TW (d + 3) tc_numericAt 27 [some (.inr 0), some (.inl x0), some (.inl v), some (.inl y)] [] σ (fun r' σ' => some (stVal L a) = r' ∧ σ = σ') := by
    intro k
    have fin : ∀ (y v : Int), v = stVal L a → TW (d + 3) tc_numericAt 71 [some (.inr 0), some (.inl x0), some (.inl v), some (.inl y)] [] σ (fun r' σ' => some (stVal L a) = r' ∧ σ = σ') := by
      intro y v hv
      (repeat (first | (refine TW.getf rfl rfl rfl (fun _ => ?_)) | (refine TW.pl rfl rfl ?_)))
      exact TW.iret rfl ⟨by rw [hv], rfl⟩
    induction k with
    | zero =>
      intro q y v acc hb hq hy hm he
      have hq0 : q = [] := List.length_eq_zero_iff.mp (by omega)
      subst hq0
      have hyl := hy.len
      simp at hyl
      unfold pMore at hm
      rw [if_neg (by decide)] at hm
      have hm1 : acc = a.2.2.2.1 := (Prod.mk.inj (Prod.mk.inj (Sum.inr.inj hm)).2).1
      (repeat (first | (refine TW.getf rfl rfl rfl (fun _ => ?_)) | (refine TW.pl rfl rfl ?_)))
      refine TW.br rfl rfl (by first | omega | exact b2i_R _ | exact ⟨b2i_R _, by omega⟩) (fun q1 => ?_) (fun q1 => ?_)
      · exact fin y v (by omega)
      · omega
    | succ k ih =>
      intro q y v acc hb hq hy hm he
      have hyl := hy.len
      unfold pMore at hm
      (repeat (first | (refine TW.getf rfl rfl rfl (fun _ => ?_)) | (refine TW.pl rfl rfl ?_)))
      refine TW.br rfl rfl (by first | omega | exact b2i_R _ | exact ⟨b2i_R _, by omega⟩) (fun q1 => ?_) (fun q1 => ?_)
      · have hq0 : q = [] := hy.nil_iff.mpr (by omega)
        subst hq0
        rw [if_neg (by decide)] at hm
        have hm1 : acc = a.2.2.2.1 := (Prod.mk.inj (Prod.mk.inj (Sum.inr.inj hm)).2).1
        exact fin y v (by omega)
      have hq0 : q ≠ [] := fun z => by have := hy.nil_iff.mp z; omega
      have hb' := hs.at hy hq0
      have hy1 : Sfx s q.tail (y + 1) := hy.step hq0 rfl
      have go : (hd q = 43 ∨ hd q = 45) → TW (d + 3) tc_numericAt 43 [some (.inr 0), some (.inl x0), some (.inl v), some (.inl y)] [] σ (fun r' σ' => some (stVal L a) = r' ∧ σ = σ') := by
        intro hc
        rw [if_pos hc] at hm
        dsimp only at hm
        cases hpn : pNum q.tail with
        | inl f => rw [hpn] at hm; cases hm
        | inr w =>
        obtain ⟨q2, z⟩ := w
        rw [hpn] at hm
        dsimp only at hm
        have hlt : q2.length ≤ k := by
          obtain ⟨_, _, e⟩ := pNum_out hpn
          rcases e with ⟨_, _, e, _⟩ | ⟨_, e, _⟩ <;> rw [e] <;> simp <;> omega
        (repeat (first | (refine TW.getf rfl rfl rfl (fun _ => ?_)) | (refine TW.pl rfl rfl ?_)))
        refine TW.iald (n := 60) rfl rfl rfl (by omega) (fun _ => ?_)
        rw [hb'.1]
        (repeat (first | (refine TW.getf rfl rfl rfl (fun _ => ?_)) | (refine TW.pl rfl rfl ?_)))
        refine TW.br rfl rfl (by first | omega | exact b2i_R _ | exact ⟨b2i_R _, by omega⟩) (fun qm => ?_) (fun qm => ?_)
        · (repeat (first | (refine TW.getf rfl rfl rfl (fun _ => ?_)) | (refine TW.pl rfl rfl ?_)))
          refine TW.cv1 rfl rfl rfl (Nat.le_of_ble_eq_true rfl) (T_numberAt hs hy1 hpn) ?_; rintro _ _ ⟨rfl, rfl⟩
          (repeat (first | (refine TW.getf rfl rfl rfl (fun _ => ?_)) | (refine TW.pl rfl rfl ?_)))
          refine TW.cv1 rfl rfl rfl (Nat.le_of_ble_eq_true rfl) (T_behindNumber hs hy1 hpn) ?_
          rintro _ _ ⟨⟨y2, rfl, hy2⟩, rfl⟩
          (iterate 2 (first | (refine TW.getf rfl rfl rfl (fun _ => ?_)) | (refine TW.pl rfl rfl ?_)))
          rw [if_neg qm] at hm
          exact ih q2 y2 _ _ true hlt hy2 hm (by omega)
        · (repeat (first | (refine TW.getf rfl rfl rfl (fun _ => ?_)) | (refine TW.pl rfl rfl ?_)))
          refine TW.cv1 rfl rfl rfl (Nat.le_of_ble_eq_true rfl) (T_numberAt hs hy1 hpn) ?_; rintro _ _ ⟨rfl, rfl⟩
          (repeat (first | (refine TW.getf rfl rfl rfl (fun _ => ?_)) | (refine TW.pl rfl rfl ?_)))
          refine TW.cv1 rfl rfl rfl (Nat.le_of_ble_eq_true rfl) (T_behindNumber hs hy1 hpn) ?_
          rintro _ _ ⟨⟨y2, rfl, hy2⟩, rfl⟩
          (iterate 2 (first | (refine TW.getf rfl rfl rfl (fun _ => ?_)) | (refine TW.pl rfl rfl ?_)))
          rw [if_pos qm] at hm
          exact ih q2 y2 _ _ true hlt hy2 hm (by omega)
      (repeat (first | (refine TW.getf rfl rfl rfl (fun _ => ?_)) | (refine TW.pl rfl rfl ?_)))
      refine TW.iald (n := 60) rfl rfl rfl (by omega) (fun _ => ?_)
      rw [hb'.1]
      (repeat (first | (refine TW.getf rfl rfl rfl (fun _ => ?_)) | (refine TW.pl rfl rfl ?_)))
      refine TW.br rfl rfl (by first | omega | exact b2i_R _ | exact ⟨b2i_R _, by omega⟩) (fun q2 => ?_) (fun q2 => ?_)
      · exact go (Or.inl q2)
      (repeat (first | (refine TW.getf rfl rfl rfl (fun _ => ?_)) | (refine TW.pl rfl rfl ?_)))
      refine TW.iald (n := 60) rfl rfl rfl (by omega) (fun _ => ?_)
      rw [hb'.1]
      (repeat (first | (refine TW.getf rfl rfl rfl (fun _ => ?_)) | (refine TW.pl rfl rfl ?_)))
      refine TW.br rfl rfl (by first | omega | exact b2i_R _ | exact ⟨b2i_R _, by omega⟩) (fun q3 => ?_) (fun q3 => ?_)
      · rw [if_neg (by omega)] at hm
        have hm1 : acc = a.2.2.2.1 := (Prod.mk.inj (Prod.mk.inj (Sum.inr.inj hm)).2).1
        exact fin y v (by omega)
      · exact go (Or.inr (by omega))
  have hnm : a.1 = 48 ∨ a.1 = 36 := of_decide_eq_true hnum
  (repeat (first | (refine TW.getf rfl rfl rfl (fun _ => ?_)) | (refine TW.pl rfl rfl ?_)))
  refine TW.iald (n := 60) rfl rfl rfl (by omega) (fun _ => ?_)
  rw [ha.1]
  (repeat (first | (refine TW.getf rfl rfl rfl (fun _ => ?_)) | (refine TW.pl rfl rfl ?_)))
  rcases h3 with ⟨e1, e2, e3⟩ | ⟨e1, e2, e3⟩
  · have hR := isDig_R e1
    have hz := pNum_R9 e3
    refine TW.br rfl rfl (by first | omega | exact b2i_R _ | exact ⟨b2i_R _, by omega⟩) (fun q1 => ?_) (fun q1 => ?_)
    · (repeat (first | (refine TW.getf rfl rfl rfl (fun _ => ?_)) | (refine TW.pl rfl rfl ?_)))
      refine TW.cv1 rfl rfl rfl (Nat.le_of_ble_eq_true rfl) (T_numberAt hs hx e3) ?_; rintro _ _ ⟨rfl, rfl⟩
      (repeat (first | (refine TW.getf rfl rfl rfl (fun _ => ?_)) | (refine TW.pl rfl rfl ?_)))
      refine TW.iald (n := 60) rfl rfl rfl (by omega) (fun _ => ?_)
      rw [ha.1]
      (repeat (first | (refine TW.getf rfl rfl rfl (fun _ => ?_)) | (refine TW.pl rfl rfl ?_)))
      refine TW.br rfl rfl (by first | omega | exact b2i_R _ | exact ⟨b2i_R _, by omega⟩) (fun q2 => ?_) (fun q2 => ?_)
      · (repeat (first | (refine TW.getf rfl rfl rfl (fun _ => ?_)) | (refine TW.pl rfl rfl ?_)))
        refine TW.cv1 rfl rfl rfl (Nat.le_of_ble_eq_true rfl) (T_behindNumber hs hx e3) ?_
        rintro _ _ ⟨⟨y2, rfl, hy2⟩, rfl⟩
        (iterate 1 (first | (refine TW.getf rfl rfl rfl (fun _ => ?_)) | (refine TW.pl rfl rfl ?_)))
        refine loop la.length la y2 _ 0 false (Nat.le_refl _) hy2 h2 ?_
        unfold stVal
        rw [if_neg (by omega)]
        omega
      · omega
    · omega
  · have h36 : hd l = 36 := by
      have hn48 : ¬ hd l = 48 := fun z => by rw [z] at e1; revert e1; decide
      rcases hnm with z | z
      · exact absurd (e2.symm.trans z) hn48
      · exact e2.symm.trans z
    have hla : la = l.tail := by
      rcases e3 with ⟨_, z⟩ | ⟨z, _⟩ | ⟨z, _⟩ | ⟨z | z, _⟩
      · exact z
      · exact absurd (h36.symm.trans z) (by decide)
      · exact absurd (h36.symm.trans z) (by decide)
      · exact absurd (h36.symm.trans z) (by decide)
      · exact absurd (h36.symm.trans z) (by decide)
    subst hla
    refine TW.br rfl rfl (by first | omega | exact b2i_R _ | exact ⟨b2i_R _, by omega⟩) (fun q1 => ?_) (fun q1 => ?_)
    · exact absurd h36 q1
    · (repeat (first | (refine TW.getf rfl rfl rfl (fun _ => ?_)) | (refine TW.pl rfl rfl ?_)))
      rw [hL]
      (repeat (first | (refine TW.getf rfl rfl rfl (fun _ => ?_)) | (refine TW.pl rfl rfl ?_)))
      refine TW.iald (n := 60) rfl rfl rfl (by omega) (fun _ => ?_)
      rw [ha.1]
      (repeat (first | (refine TW.getf rfl rfl rfl (fun _ => ?_)) | (refine TW.pl rfl rfl ?_)))
      refine TW.br rfl rfl (by first | omega | exact b2i_R _ | exact ⟨b2i_R _, by omega⟩) (fun q2 => ?_) (fun q2 => ?_)
      · exact absurd h36 q2
      · (iterate 5 (first | (refine TW.getf rfl rfl rfl (fun _ => ?_)) | (refine TW.pl rfl rfl ?_)))
        refine loop l.tail.length l.tail _ _ 0 false (Nat.le_refl _) (hx.step hl0 rfl) h2 ?_
        unfold stVal
        rw [if_pos (by omega)]
        omega
def HolQ (σ : TS) (b : Bool) (r : Option Int) (τ : TS) : Prop := TFr fH aH σ τ ∧ r = some (b2i b)
theorem T_holds {x0 : Int} (hs : SgnIs σ s) (hB : TWB σ t (x, false, du, pu, re) (h, o, fi, m, n, rp)) (hw : WS n0 (x, false, du, pu, re) (h, o, fi, m, n, rp)) (hx : Sfx s l x0) (hp : pAdr l = .inr (l', a)) (hn0 : n0 < 890000) : TM (d + 6) tk_holds [.inr 0, .inl x0] σ (HolQ σ (stAt t.length (x, false, du, pu, re) (h, o, fi, m, n, rp) a)) := by
  obtain ⟨la, h1, h2⟩ := pAdr_out hp
  obtain ⟨hl0, h3⟩ := pSpot_out h1
  have ha := hs.at hx hl0
  have hnum := numr_hd hp
  have h40 : t.length ≤ 40 := hB.1.1.2.1
  have hL : σ.1 65 = t.length := hB.1.2.1
  obtain ⟨hrw, hwid, hwnr⟩ := hB.2.2.2.1.2 rfl
  have hrw : RowIs σ 429 x.2 := hrw
  have hwid : σ.1 67 = x.1 := hwid
  have hwnr : σ.1 68 = ((t.length - re.length : Nat) : Int) := hwnr
  have hxR := hw.work.1
  have hnR : 0 ≤ n ∧ n ≤ n0 + 40 := hw.nn
  have hxR : 0 ≤ x.1 ∧ x.1 < n := hxR
  unfold stAt
  refine TM.of rfl rfl ?_
  (repeat (first | (refine TW.getf rfl rfl rfl (fun _ => ?_)) | (refine TW.pl rfl rfl ?_)))
  refine TW.iald (n := 60) rfl rfl rfl (by omega) (fun _ => ?_)
  rw [ha.1]
  (repeat (first | (refine TW.getf rfl rfl rfl (fun _ => ?_)) | (refine TW.pl rfl rfl ?_)))
  refine TW.cs1 rfl rfl rfl (Nat.le_of_ble_eq_true rfl) (T_isNumeric (by omega)) ?_; rintro _ _ ⟨rfl, rfl⟩
  rw [hnum]
  refine TW.br rfl rfl (by first | omega | exact b2i_R _ | exact ⟨b2i_R _, by omega⟩) (fun q1 => ?_) (fun q1 => ?_)
  · have hnf := b2i_0 q1
    rw [if_neg (by rw [hnf]; decide)]
    have hkd : isDig (hd l) = false ∧ a.1 = hd l := by
      rcases h3 with ⟨e1, e2, _⟩ | ⟨e1, e2, _⟩
      · rw [hnf, e1] at hnum; cases hnum
      · exact ⟨e1, e2⟩
    have h36 : ¬ hd l = 36 := fun z => by rw [hnf, hkd.1, z] at hnum; revert hnum; decide
    rw [hkd.2]
    have h3' := h3.resolve_left (fun z => by rw [hkd.1] at z; exact absurd z.1 (by decide))
    (repeat (first | (refine TW.getf rfl rfl rfl (fun _ => ?_)) | (refine TW.pl rfl rfl ?_)))
    refine TW.br rfl rfl (by first | omega | exact b2i_R _ | exact ⟨b2i_R _, by omega⟩) (fun q2 => ?_) (fun q2 => ?_)
    · rw [if_neg q2]
      (repeat (first | (refine TW.getf rfl rfl rfl (fun _ => ?_)) | (refine TW.pl rfl rfl ?_)))
      refine TW.br rfl rfl (by first | omega | exact b2i_R _ | exact ⟨b2i_R _, by omega⟩) (fun q3 => ?_) (fun q3 => ?_)
      · rw [if_neg q3]
        rcases h3'.2.2 with ⟨z, _⟩ | ⟨z, _⟩ | ⟨z, _⟩ | ⟨z, l2, g, hpt, he, hlae⟩
        · exact absurd z h36
        · exact absurd z q3
        · exact absurd z q2
        · have hx1 : Sfx s l.tail (x0 + 1) := hx.step hl0 rfl
          have hok := pPat_ok hpt
          (repeat (first | (refine TW.getf rfl rfl rfl (fun _ => ?_)) | (refine TW.pl rfl rfl ?_)))
          refine TW.cv2 rfl rfl rfl (Nat.le_of_ble_eq_true rfl) (T_compile hs hx1 (by omega) hpt he) ?_
          rintro _ τ1 ⟨rfl, hf1, hcm, hbp⟩
          (repeat (first | (refine TW.getf rfl rfl rfl (fun _ => ?_)) | (refine TW.pl rfl rfl ?_)))
          refine TW.cv2 rfl rfl rfl (Nat.le_of_ble_eq_true rfl) (T_finds (row := 429) (place := 0) (hs.fr hf1 (by decide) (by decide)) hcm hok.1 (hrw.fr (hf1.2 6 (by decide))) (by decide) (by omega)) ?_
          rintro r τ2 ⟨hf2, hq⟩
          have hr : r = some (b2i (mFind a.2.2.1 x.2 0).isSome) := by
            revert hq
            cases mFind a.2.2.1 x.2 0 with
            | none => intro hq; exact hq
            | some w => intro hq; exact hq.1
          subst hr
          exact TW.zret rfl (b2i_zo _) ⟨(hf1.mono (by decide) (by decide)).trans (hf2.mono (by decide) (by decide)), rfl⟩
      · rw [if_pos q3]
        (repeat (first | (refine TW.getf rfl rfl rfl (fun _ => ?_)) | (refine TW.pl rfl rfl ?_)))
        exact TW.zret rfl (Or.inr rfl) ⟨TFr.rf, rfl⟩
    · rw [if_pos q2]
      rcases h3'.2.2 with ⟨z, _⟩ | ⟨z, _⟩ | ⟨z, hmk, hnr, _⟩ | ⟨z, _⟩
      · exact absurd z h36
      · omega
      · have hmR : 97 ≤ hd l.tail ∧ hd l.tail ≤ 101 := of_decide_eq_true hmk
        have ht0 : l.tail ≠ [] := fun z => by rw [z] at hmk; revert hmk; decide
        have hb := hs.at (hx.step hl0 rfl) ht0
        obtain ⟨p, mT, gone, hA, hm1, hm2⟩ := hB.ta
        have hmm := hA.2.2.2.1 (hd l.tail - 97).toNat (by omega)
        have hmv : σ.2 10 (hd l.tail - 97).toNat = (mT (hd l.tail - 97).toNat).getD (-1) := hmm.1
        have hng : x.1 ∉ gone := fun z => (hm2 x.1 z).1 (by rw [allL_ids]; exact mem_app3.mpr (Or.inr (Or.inl (by simp))))
        have key : (m a.2.1.toNat = some x.1) ↔ σ.2 10 (hd l.tail - 97).toNat = x.1 := by
          rw [hmv, hm1, hnr]
          unfold unmL
          cases hmT : mT (hd l.tail - 97).toNat with
          | none =>
            dsimp only
            constructor
            · intro z; cases z
            · intro z; have z : (-1 : Int) = x.1 := z; omega
          | some y =>
            dsimp only
            constructor
            · intro z
              split at z
              · cases z
              · cases z; rfl
            · intro z
              have z : y = x.1 := z
              rw [z, if_neg hng]
        (repeat (first | (refine TW.getf rfl rfl rfl (fun _ => ?_)) | (refine TW.pl rfl rfl ?_)))
        refine TW.iald (n := 60) rfl rfl rfl (by omega) (fun _ => ?_)
        rw [hb.1]
        (repeat (first | (refine TW.getf rfl rfl rfl (fun _ => ?_)) | (refine TW.pl rfl rfl ?_)))
        refine TW.iald (n := 5) rfl rfl rfl (by omega) (fun _ => ?_)
        (repeat (first | (refine TW.getf rfl rfl rfl (fun _ => ?_)) | (refine TW.pl rfl rfl ?_)))
        rw [hwid]
        refine TW.wR (fun hR => ?_)
        have hxi : inR x.1 := by rw [← hwid]; exact hR.1 67
        refine TW.br rfl rfl ⟨by assumption, hxi⟩ (fun q3 => ?_) (fun q3 => ?_)
        · rw [decide_eq_false (show ¬ m a.2.1.toNat = some x.1 from fun z => q3 (key.mp z))]
          (repeat (first | (refine TW.getf rfl rfl rfl (fun _ => ?_)) | (refine TW.pl rfl rfl ?_)))
          exact TW.zret rfl (Or.inl rfl) ⟨TFr.rf, rfl⟩
        · rw [decide_eq_true (show m a.2.1.toNat = some x.1 from key.mpr q3)]
          (repeat (first | (refine TW.getf rfl rfl rfl (fun _ => ?_)) | (refine TW.pl rfl rfl ?_)))
          exact TW.zret rfl (Or.inr rfl) ⟨TFr.rf, rfl⟩
      · omega
  · have hnt := b2i_1 q1
    rw [if_pos hnt]
    have hvR : -10000 ≤ stVal t.length a ∧ stVal t.length a ≤ 10000 := by
      have h5 := pMore_R _ _ _ _ _ _ _ h2
      have hll : la.length ≤ 60 := by
        have h6 := pSpot_shr _ _ h1
        have := hx.len
        have := hs.2.1
        omega
      unfold stVal
      split
      · omega
      · rename_i hn36
        rcases h3 with ⟨e1, e2, e3⟩ | ⟨e1, e2, _⟩
        · have := pNum_R9 e3; omega
        · rw [hnt, e1, Bool.false_or] at hnum
          exact absurd (e2.trans (of_decide_eq_true hnum)) hn36
    (repeat (first | (refine TW.getf rfl rfl rfl (fun _ => ?_)) | (refine TW.pl rfl rfl ?_)))
    refine TW.cv1 rfl rfl rfl (Nat.le_of_ble_eq_true rfl) (T_numericAt hs hx hp hnt hL h40) ?_; rintro _ _ ⟨rfl, rfl⟩
    rw [hwnr]
    refine TW.br rfl rfl (by first | omega | exact b2i_R _ | exact ⟨b2i_R _, by omega⟩) (fun q2 => ?_) (fun q2 => ?_)
    · rw [decide_eq_false q2]
      (repeat (first | (refine TW.getf rfl rfl rfl (fun _ => ?_)) | (refine TW.pl rfl rfl ?_)))
      exact TW.zret rfl (Or.inl rfl) ⟨TFr.rf, rfl⟩
    · rw [decide_eq_true q2]
      (repeat (first | (refine TW.getf rfl rfl rfl (fun _ => ?_)) | (refine TW.pl rfl rfl ?_)))
      exact TW.zret rfl (Or.inr rfl) ⟨TFr.rf, rfl⟩
theorem T_isBarredAddress {x0 : Int} (hs : SgnIs σ s) (hx : Sfx s l x0) (hp : pAdr l = .inr (l', a)) : TM (d + 3) tk_isBarredAddress [.inr 0, .inl x0] σ (HolQ σ (stBarA (some a))) := by
  obtain ⟨la, h1, h2⟩ := pAdr_out hp
  obtain ⟨hl0, h3⟩ := pSpot_out h1
  have ha := hs.at hx hl0
  have hnum := numr_hd hp
  have hhas := pMore_has _ _ _ _ _ _ _ h2
  rw [Bool.false_or] at hhas
  unfold stBarA
  dsimp only
  refine TM.of rfl rfl ?_
  (repeat (first | (refine TW.getf rfl rfl rfl (fun _ => ?_)) | (refine TW.pl rfl rfl ?_)))
  refine TW.iald (n := 60) rfl rfl rfl (by omega) (fun _ => ?_)
  rw [ha.1]
  (repeat (first | (refine TW.getf rfl rfl rfl (fun _ => ?_)) | (refine TW.pl rfl rfl ?_)))
  refine TW.cs1 rfl rfl rfl (Nat.le_of_ble_eq_true rfl) (T_isNumeric (by omega)) ?_; rintro _ _ ⟨rfl, rfl⟩
  rw [hnum]
  refine TW.br rfl rfl (by first | omega | exact b2i_R _ | exact ⟨b2i_R _, by omega⟩) (fun q1 => ?_) (fun q1 => ?_)
  · have hnf := b2i_0 q1
    rw [hnf, hhas, Bool.not_false, Bool.and_true]
    have hkd : isDig (hd l) = false := by
      rcases h3 with ⟨e1, e2, _⟩ | ⟨e1, e2, _⟩
      · rw [hnf, e1] at hnum; cases hnum
      · exact e1
    have h36 : ¬ hd l = 36 := fun z => by rw [hnf, hkd, z] at hnum; revert hnum; decide
    have h3' := h3.resolve_left (fun z => by rw [hkd] at z; exact absurd z.1 (by decide))
    -- behind the spot
    have fin : ∀ (y : Int) (τ : TS), Sfx s la y → SgnIs τ s → TFr fH aH σ τ → TW (d + 2) tc_isBarredAddress 36 [some (.inr 0), some (.inl x0), some (.inl (hd l)), some (.inl y)] [] τ (HolQ σ (decide (hd la = 43 ∨ hd la = 45))) := by
      intro y τ hy hsτ hf
      have hyl := hy.len
      have hn : τ.1 22 = s.length := hsτ.1
      have h60 := hsτ.2.1
      (repeat (first | (refine TW.getf rfl rfl rfl (fun _ => ?_)) | (refine TW.pl rfl rfl ?_)))
      refine TW.br rfl rfl (by first | omega | exact b2i_R _ | exact ⟨b2i_R _, by omega⟩) (fun q2 => ?_) (fun q2 => ?_)
      · have : la = [] := hy.nil_iff.mpr (by omega)
        rw [this, decide_eq_false (by decide)]
        (repeat (first | (refine TW.getf rfl rfl rfl (fun _ => ?_)) | (refine TW.pl rfl rfl ?_)))
        exact TW.zret rfl (Or.inl rfl) ⟨hf, rfl⟩
      have hne : la ≠ [] := fun z => by have := hy.nil_iff.mp z; omega
      have hb := hsτ.at hy hne
      (repeat (first | (refine TW.getf rfl rfl rfl (fun _ => ?_)) | (refine TW.pl rfl rfl ?_)))
      refine TW.iald (n := 60) rfl rfl rfl (by omega) (fun _ => ?_)
      rw [hb.1]
      (repeat (first | (refine TW.getf rfl rfl rfl (fun _ => ?_)) | (refine TW.pl rfl rfl ?_)))
      refine TW.br rfl rfl (by first | omega | exact b2i_R _ | exact ⟨b2i_R _, by omega⟩) (fun q3 => ?_) (fun q3 => ?_)
      · rw [decide_eq_true (Or.inl q3)]
        (repeat (first | (refine TW.getf rfl rfl rfl (fun _ => ?_)) | (refine TW.pl rfl rfl ?_)))
        exact TW.zret rfl (Or.inr rfl) ⟨hf, rfl⟩
      (repeat (first | (refine TW.getf rfl rfl rfl (fun _ => ?_)) | (refine TW.pl rfl rfl ?_)))
      refine TW.iald (n := 60) rfl rfl rfl (by omega) (fun _ => ?_)
      rw [hb.1]
      (repeat (first | (refine TW.getf rfl rfl rfl (fun _ => ?_)) | (refine TW.pl rfl rfl ?_)))
      refine TW.br rfl rfl (by first | omega | exact b2i_R _ | exact ⟨b2i_R _, by omega⟩) (fun q4 => ?_) (fun q4 => ?_)
      · rw [decide_eq_false (by omega)]
        (repeat (first | (refine TW.getf rfl rfl rfl (fun _ => ?_)) | (refine TW.pl rfl rfl ?_)))
        exact TW.zret rfl (Or.inl rfl) ⟨hf, rfl⟩
      · rw [decide_eq_true (Or.inr (by omega))]
        (repeat (first | (refine TW.getf rfl rfl rfl (fun _ => ?_)) | (refine TW.pl rfl rfl ?_)))
        exact TW.zret rfl (Or.inr rfl) ⟨hf, rfl⟩
    have hx1 : Sfx s l.tail (x0 + 1) := hx.step hl0 rfl
    (repeat (first | (refine TW.getf rfl rfl rfl (fun _ => ?_)) | (refine TW.pl rfl rfl ?_)))
    refine TW.br rfl rfl (by first | omega | exact b2i_R _ | exact ⟨b2i_R _, by omega⟩) (fun q2 => ?_) (fun q2 => ?_)
    · (repeat (first | (refine TW.getf rfl rfl rfl (fun _ => ?_)) | (refine TW.pl rfl rfl ?_)))
      refine TW.br rfl rfl (by first | omega | exact b2i_R _ | exact ⟨b2i_R _, by omega⟩) (fun q3 => ?_) (fun q3 => ?_)
      · rcases h3'.2.2 with ⟨z, _⟩ | ⟨z, hla⟩ | ⟨z, _⟩ | ⟨z, _⟩
        · exact absurd z h36
        · rw [← hla] at hx1
          exact fin _ σ hx1 hs TFr.rf
        · exact absurd z q2
        · omega
      · rcases h3'.2.2 with ⟨z, _⟩ | ⟨z, hla⟩ | ⟨z, _⟩ | ⟨z, l2, g, hpt, he, hlae⟩
        · exact absurd z h36
        · exact absurd z q3
        · exact absurd z q2
        · have hl2 : l2 ≠ [] := hd_ne he (by omega)
          (repeat (first | (refine TW.getf rfl rfl rfl (fun _ => ?_)) | (refine TW.pl rfl rfl ?_)))
          refine TW.cv2 rfl rfl rfl (Nat.le_of_ble_eq_true rfl) (T_compile hs hx1 (by omega) hpt he) ?_
          rintro _ τ1 ⟨rfl, hf1, hcm, hbp⟩
          (iterate 5 (first | (refine TW.getf rfl rfl rfl (fun _ => ?_)) | (refine TW.pl rfl rfl ?_)))
          have := hbp.step (y := τ1.1 37 + 1) hl2 rfl
          rw [← hlae] at this
          exact fin _ τ1 this (hs.fr hf1 (by decide) (by decide)) (hf1.mono (by decide) (by decide))
    · rcases h3'.2.2 with ⟨z, _⟩ | ⟨z, hla⟩ | ⟨z, hmk, _, hla⟩ | ⟨z, _⟩
      · exact absurd z h36
      · omega
      · have ht0 : l.tail ≠ [] := fun z => by rw [z] at hmk; revert hmk; decide
        have hx2 : Sfx s l.tail.tail (x0 + 2) := hx1.step ht0 (by omega)
        rw [← hla] at hx2
        (iterate 5 (first | (refine TW.getf rfl rfl rfl (fun _ => ?_)) | (refine TW.pl rfl rfl ?_)))
        exact fin _ σ hx2 hs TFr.rf
      · omega
  · have hnt := b2i_1 q1
    rw [hnt, Bool.not_true, Bool.and_false]
    (repeat (first | (refine TW.getf rfl rfl rfl (fun _ => ?_)) | (refine TW.pl rfl rfl ?_)))
    exact TW.zret rfl (Or.inl rfl) ⟨TFr.rf, rfl⟩
end THol
