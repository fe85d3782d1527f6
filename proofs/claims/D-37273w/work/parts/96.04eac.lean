set_option maxRecDepth 100000
/-! the twin's g, G and blocks -/
def InnOk (os : List SOrd0) : Prop := ∀ o ∈ os, ∃ l l2, pInner l = .inr (l2, o) ∧ ¬ hd l2 = 48
theorem pInners_ok : ∀ (os : List SOrd0) (k : Nat) (l l1 : List Int), pInners k l = .inr (l1, os) → ¬ hd l1 = 48 → InnOk os := by
  intro os
  induction os with
  | nil => intro k l l1 _ _ o ho; cases ho
  | cons o os ih =>
    intro k l l1 h h48 o' ho'
    obtain ⟨o2, l2, h1, h2⟩ := pInners_out h
    rcases h2 with ⟨_, z, e⟩ | ⟨h59, k', os', z, hp⟩
    · cases z
      rw [List.mem_singleton.mp ho']
      exact ⟨l, l2, h1, by rw [← e]; exact h48⟩
    · cases z
      rcases List.mem_cons.mp ho' with w | w
      · rw [w]; exact ⟨l, l2, h1, by rw [h59]; decide⟩
      · exact ih k' _ l1 hp h48 o' w
theorem PartsP.ok {l : List Int} {os : List SOrd0} (h : PartsP l os) : InnOk os := by
  rcases h with ⟨_, k, lx, h1, h2⟩ | ⟨_, _, o, l1, h1, h2, h3⟩
  · exact pInners_ok os k _ lx h1 (by rw [h2]; decide)
  · subst h1
    intro o' ho'
    rw [List.mem_singleton.mp ho']
    exact ⟨l, l1, h2, h3⟩
/-- in order, and not too many new ids -/
def WFc (c : Nat) (n : Int) (c1 : Nat) (A : St) : Prop := WF A ∧ c ≤ c1 ∧ c1 ≤ 60 ∧ n ≤ A.2.2.2.2.2.2.1 ∧ A.2.2.2.2.2.2.1 ≤ n + 40 * ((c1 : Int) - c)
theorem sInn_wf : ∀ (os : List SOrd0) (c : Nat) (A : St) (c1 : Nat) (A1 : St), InnOk os → WF A → c ≤ 60 → sInn os c A = .inr (c1, A1) → WFc c A.2.2.2.2.2.2.1 c1 A1 := by
  intro os
  induction os with
  | nil => intro c A c1 A1 _ hw hc h; cases h; exact ⟨hw, Nat.le_refl _, hc, Int.le_refl _, by omega⟩
  | cons o os ih =>
    intro c A c1 A1 ho hw hc h
    rw [sInn_cons] at h
    cases hS : sStep A o c with
    | inl w => rw [hS] at h; cases h
    | inr q =>
      obtain ⟨c2, A2⟩ := q
      rw [hS] at h
      obtain ⟨l, l2, h1, h2⟩ := ho o List.mem_cons_self
      obtain ⟨⟨w1, w2, w3⟩, w4, w5⟩ := sStep_wf hw h1 h2 hS
      subst w4
      obtain ⟨v1, v2, v3, v4, v5⟩ := ih (c + 1) A2 c1 A1 (fun o' ho' => ho o' (List.mem_cons_of_mem _ ho')) w1 (by omega) h
      exact ⟨v1, by omega, v3, by omega, by omega⟩
theorem WF.setP {A : St} (hw : WF A) {p : Nat} (h : 1 ≤ p ∧ p ≤ A.1.length) : WF (setP A p) := ⟨⟨h.2, fun _ => h.1⟩, hw.2⟩
theorem sEachL_wf (os : List SOrd0) (ho : InnOk os) : ∀ (xs : List Int) (c : Nat) (A : St) (c1 : Nat) (A1 : St), WF A → c ≤ 60 → sEachL os xs c A = .inr (c1, A1) → WFc c A.2.2.2.2.2.2.1 c1 A1 := by
  intro xs
  induction xs with
  | nil => intro c A c1 A1 hw hc h; cases h; exact ⟨hw, Nat.le_refl _, hc, Int.le_refl _, by omega⟩
  | cons x xs ih =>
    intro c A c1 A1 hw hc h
    have e0 : sEachL os (x :: xs) c A = if linNo A.1 x = 0 then sEachL os xs c A else match sInn os c (setP A (linNo A.1 x)) with
      | .inl w => .inl w
      | .inr (c1, A1) => sEachL os xs c1 A1 := rfl
    rw [e0] at h
    split at h
    · exact ih c A c1 A1 hw hc h
    · rename_i hl
      cases hS : sInn os c (setP A (linNo A.1 x)) with
      | inl w => rw [hS] at h; cases h
      | inr q =>
        obtain ⟨c2, A2⟩ := q
        rw [hS] at h
        obtain ⟨w1, w2, w3, w4, w5⟩ := sInn_wf os c _ c2 A2 ho (hw.setP ⟨by omega, linNo_R⟩) hc hS
        obtain ⟨v1, v2, v3, v4, v5⟩ := ih c2 A2 c1 A1 w1 w3 h
        have e1 : (setP A (linNo A.1 x)).2.2.2.2.2.2.1 = A.2.2.2.2.2.2.1 := rfl
        rw [e1] at w4 w5
        exact ⟨v1, by omega, v3, by omega, by omega⟩
def GrpP (l : List Int) (o : SOrd) : Prop := (hd l = 123 ∧ oAct o.1 = 123 ∧ PartsP l o.2) ∨ ((hd l = 103 ∨ hd l = 71) ∧ oAct o.1 = hd l ∧ hd l.tail = 47 ∧ ∃ l2 g, pPat 47 l.tail.tail = .inr (l2, g, oPat o.1) ∧ hd l2 = 47 ∧ PartsP l2.tail o.2)
theorem GrpP.ok {l : List Int} {o : SOrd} (h : GrpP l o) : InnOk o.2 := by
  rcases h with ⟨_, _, h⟩ | ⟨_, _, _, _, _, _, _, h⟩ <;> exact h.ok
abbrev aE : List Nat := [6, 7, 9, 10, 11, 19, 31, 32, 38, 39, 46]
def OE (σ τ : TS) : Prop := TFr fO aE σ τ ∧ RSame (fun k => k < 480) σ τ
theorem OF.e {σ τ : TS} (h : OF σ τ) : OE σ τ := ⟨h.1.mono (by decide) (by decide), h.2⟩
theorem OE.rf {σ : TS} : OE σ σ := ⟨TFr.rf, fun _ _ => rfl⟩
theorem OE.trans {σ τ υ : TS} (h : OE σ τ) (h2 : OE τ υ) : OE σ υ := ⟨h.1.trans h2.1, fun j hj => (h2.2 j hj).trans (h.2 j hj)⟩
theorem OE.fr {σ τ : TS} {fs as : List Nat} (h : TFr fs as σ τ) (h1 : ∀ k ∈ fs, k ∈ fO) (h2 : ∀ k ∈ as, k ∈ aE) (h6 : 6 ∉ as) : OE σ τ := ⟨h.mono h1 h2, fun j _ => by rw [h.2 6 h6]⟩
theorem OE.sg {σ τ : TS} {s : List Int} (h : OE σ τ) (hs : SgnIs σ s) : SgnIs τ s := hs.fr h.1 (by decide) (by decide)
def InE (σ : TS) (R : Nat ⊕ (Nat × St)) (r : Option Int) (τ : TS) : Prop := OE σ τ ∧ GS τ ∧ match R with
  | .inl w => r = some (w : Int) ∧ 1 ≤ w ∧ w ≤ 7
  | .inr (c, A) => r = some 0 ∧ (τ.1 45) = c ∧ TA A τ
def MetIs (σ : TS) (xs : List Int) : Prop := ∀ j, j < xs.length → (σ.2 46 (j)) = xs.getD j 0
section TEac
variable {d : Nat} {σ τ : TS} {s l l1 l2 : List Int} {A : St} {od : SOrd}
theorem T_eachL {x fr c0 : Int} {os : List SOrd0} {lp : List Int} (hs : SgnIs σ s) (hpf : Sfx s lp fr) (hpp : PartsP lp os) (mm : Nat) (hmm : mm ≤ 40) (xs0 : List Int) (hxl : xs0.length = mm) (hxr : ∀ y ∈ xs0, 0 ≤ y ∧ y < 1000000) : ∀ (xs : List Int) (k : Int) (j c : Nat) (o6 o7 : Option TV) (A : St) (τ : TS), xs = xs0.drop j → k = j → j ≤ mm → MetIs τ xs0 → TA A τ → WF A → GS τ → (τ.1 45) = c → c ≤ 60 → A.2.2.2.2.2.2.1 + 40 * (60 - (c : Int)) < 900000 → OE σ τ → TW (d + 15) tc_each 60 [some (.inr 0), some (.inl x), some (.inl c0), some (.inl fr), some (.inl mm), some (.inl k), o6, o7] [] τ (InE σ (sEachL os xs c A)) := by
  intro xs
  induction xs with
  | nil =>
    intro k j c o6 o7 A τ hxs hk hj hm hA hw hg hc hcR hn ho
    have : ¬ j < mm := fun z => by have := congrArg List.length hxs; simp at this; omega
    (repeat (first | (refine TW.getf rfl rfl rfl (fun _ => ?_)) | (refine TW.pl rfl rfl ?_)))
    refine TW.br rfl rfl (by first | omega | exact b2i_R _ | exact ⟨b2i_R _, by omega⟩) (fun q1 => ?_) (fun q1 => ?_)
    · (repeat (first | (refine TW.getf rfl rfl rfl (fun _ => ?_)) | (refine TW.pl rfl rfl ?_)))
      exact TW.iret rfl ⟨ho, hg, rfl, hc, hA⟩
    · omega
  | cons y xs ih =>
    intro k j c o6 o7 A τ hxs hk hj hm hA hw hg hc hcR hn ho
    have hjl : j < xs0.length := Classical.byContradiction (fun z => by rw [List.drop_eq_nil_iff.mpr (by omega)] at hxs; cases hxs)
    rw [dropc (y := 0) hjl] at hxs
    have hy : y = xs0.getD j 0 := (List.cons.inj hxs).1
    have hxs' := (List.cons.inj hxs).2
    have hmem : y ∈ xs0 := by
      rw [hy, List.getD_eq_getElem?_getD, List.getElem?_eq_getElem hjl]
      exact List.getElem_mem _
    have hyR := hxr y hmem
    have e0 : sEachL os (y :: xs) c A = if linNo A.1 y = 0 then sEachL os xs c A else match sInn os c (setP A (linNo A.1 y)) with
      | .inl w => .inl w
      | .inr (c1, A1) => sEachL os xs c1 A1 := rfl
    rw [e0]
    have hln := linNo_R (t := A.1) (x := y)
    have h40 : A.1.length ≤ 40 := hA.1.2.1
    (repeat (first | (refine TW.getf rfl rfl rfl (fun _ => ?_)) | (refine TW.pl rfl rfl ?_)))
    refine TW.br rfl rfl (by first | omega | exact b2i_R _ | exact ⟨b2i_R _, by omega⟩) (fun q1 => ?_) (fun q1 => ?_)
    · omega
    (repeat (first | (refine TW.getf rfl rfl rfl (fun _ => ?_)) | (refine TW.pl rfl rfl ?_)))
    refine TW.iald (n := 40) rfl rfl rfl (by omega) (fun _ => ?_)
    have em : τ.2 46 k.toNat = y := by rw [hy, show k.toNat = j by omega]; exact hm j hjl
    rw [em]
    refine TW.cv1 rfl rfl rfl (Nat.le_of_ble_eq_true rfl) (T_lineWith hA.1 (by omega)) ?_; rintro _ _ ⟨rfl, rfl⟩
    (repeat (first | (refine TW.getf rfl rfl rfl (fun _ => ?_)) | (refine TW.pl rfl rfl ?_)))
    refine TW.br rfl rfl (by first | omega | exact b2i_R _ | exact ⟨b2i_R _, by omega⟩) (fun q2 => ?_) (fun q2 => ?_)
    · rw [if_pos (by omega)]
      (iterate 2 (first | (refine TW.getf rfl rfl rfl (fun _ => ?_)) | (refine TW.pl rfl rfl ?_)))
      exact ih (k + 1) (j + 1) c _ _ A τ hxs' (by omega) (by omega) hm hA hw hg hc hcR hn ho
    · rw [if_neg (by omega)]
      have hf0 : TFr [16] [] τ (ts1 τ 16 (linNo A.1 y)) := TFr.rf.ts1 (by decide)
      have ho0 : OE σ (ts1 τ 16 (linNo A.1 y)) := ho.trans (OE.fr hf0 (by decide) (by decide) (by decide))
      have hA0 : TA (setP A (linNo A.1 y)) (ts1 τ 16 (linNo A.1 y)) := by
        obtain ⟨t, p, h, o, fi, m, n, rp⟩ := A
        exact hA.pres rfl
      have hg0 : GS (ts1 τ 16 (linNo A.1 y)) := hg.fr hf0 (by decide) (by decide)
      have hc0 : (ts1 τ 16 (linNo A.1 y)).1 45 = c := (hf0.1 45 (by decide)).trans hc
      have hw0 := hw.setP (p := linNo A.1 y) ⟨by omega, hln⟩
      have hm0 : MetIs (ts1 τ 16 (linNo A.1 y)) xs0 := hm
      (repeat (first | (refine TW.getf rfl rfl rfl (fun _ => ?_)) | (refine TW.pl rfl rfl ?_)))
      refine TW.putf rfl rfl (by omega) ?_
      (repeat (first | (refine TW.getf rfl rfl rfl (fun _ => ?_)) | (refine TW.pl rfl rfl ?_)))
      refine TW.cv1 rfl rfl rfl (Nat.le_of_ble_eq_true rfl) (T_doParts (ho0.sg hs) hg0 hA0 hw0 hpf hpp hc0 hcR hn) ?_
      rintro r τ1 ⟨ho1, hg1, hq⟩
      have ho2 := ho0.trans ho1.e
      have hm1 : MetIs τ1 xs0 := fun i hi => by rw [ho1.1.2 46 (by decide)]; exact hm0 i hi
      revert hq
      cases hS : sInn os c (setP A (linNo A.1 y)) with
      | inl w =>
        rintro ⟨rfl, hw1⟩
        (repeat (first | (refine TW.getf rfl rfl rfl (fun _ => ?_)) | (refine TW.pl rfl rfl ?_)))
        refine TW.br rfl rfl (by first | omega | exact b2i_R _ | exact ⟨b2i_R _, by omega⟩) (fun q3 => ?_) (fun q3 => ?_)
        · omega
        · (repeat (first | (refine TW.getf rfl rfl rfl (fun _ => ?_)) | (refine TW.pl rfl rfl ?_)))
          exact TW.iret rfl ⟨ho2, hg1, rfl, hw1⟩
      | inr q =>
        obtain ⟨c1, A1⟩ := q
        rintro ⟨rfl, hc1, hA1⟩
        obtain ⟨w1, w2, w3, w4, w5⟩ := sInn_wf os c _ c1 A1 hpp.ok hw0 hcR hS
        have e1 : (setP A (linNo A.1 y)).2.2.2.2.2.2.1 = A.2.2.2.2.2.2.1 := rfl
        rw [e1] at w4 w5
        (repeat (first | (refine TW.getf rfl rfl rfl (fun _ => ?_)) | (refine TW.pl rfl rfl ?_)))
        refine TW.br rfl rfl (by first | omega | exact b2i_R _ | exact ⟨b2i_R _, by omega⟩) (fun q3 => ?_) (fun q3 => ?_)
        · (iterate 2 (first | (refine TW.getf rfl rfl rfl (fun _ => ?_)) | (refine TW.pl rfl rfl ?_)))
          exact ih (k + 1) (j + 1) c1 _ _ A1 τ1 hxs' (by omega) (by omega) hm1 hA1 w1 hg1 hc1 w3 (by omega) ho2
        · exact absurd q3 (by decide)
theorem T_each {x : Int} {f e c : Nat} {pre mid post : List SLine} (hs : SgnIs σ s) (hg : GS σ) (hA : TA A σ) (hw : WF A) (hx : Sfx s l x) (hp : GrpP l od) (hf : (σ.1 42) = pre.length + 1) (hl : (σ.1 43) = pre.length + mid.length) (ht : A.1 = pre ++ mid ++ post) (hc : (σ.1 45) = c) (hcR : c ≤ 60) (hn : A.2.2.2.2.2.2.1 + 40 * (60 - (c : Int)) < 900000) : TM (d + 16) tk_each [.inr 0, .inl x] σ (InE σ (sEachL od.2 (sMet od.1 mid) c A)) := by
  have hl0 : l ≠ [] := by
    rcases hp with ⟨h, _⟩ | ⟨h, _⟩
    · exact hd_ne h (by decide)
    · rcases h with h | h
      · exact hd_ne h (by decide)
      · exact hd_ne h (by decide)
  have ha := hs.at hx hl0
  have hT : TextIs σ (pre ++ mid ++ post) := by rw [← ht]; exact hA.1
  have h40 : pre.length + mid.length + post.length ≤ 40 := by have := hT.2.1; simp at this; omega
  have hids : ∀ q ∈ mid, 0 ≤ q.1 ∧ q.1 < 1000000 := by
    intro q hq
    have := (hw.2.2.2.1 q (by rw [ht]; exact mem3 hq)).1
    omega
  refine TM.of rfl rfl ?_
  -- who is met
  have scan : ∀ (fr c0 : Int) (lp : List Int) (σ1 : TS), OE σ σ1 → TA A σ1 → GS σ1 → (σ1.1 45) = c → Sfx s lp fr → PartsP lp od.2 → c0 = hd l → oAct od.1 = hd l → (σ1.1 43) = pre.length + mid.length → (¬ hd l = 123 → (hd l = 103 ∨ hd l = 71) ∧ CmpIs σ1 s (oPat od.1) ∧ wfp 0 false (oPat od.1).1) → ∀ (ms P : List SLine) (xs : List Int) (k : Int) (o6 o7 : Option TV) (τ : TS), P ++ ms = pre ++ mid → k = P.length + 1 → xs ++ sMet od.1 ms = sMet od.1 mid → xs.length + ms.length ≤ 40 → (∀ y ∈ xs, 0 ≤ y ∧ y < 1000000) → (∀ q ∈ ms, q ∈ mid) → MetIs τ xs → TFr [40, 41] [38, 39, 46] σ1 τ → TW (d + 15) tc_each 26 [some (.inr 0), some (.inl x), some (.inl c0), some (.inl fr), some (.inl xs.length), some (.inl k), o6, o7] [] τ (InE σ (sEachL od.2 (sMet od.1 mid) c A)) := by
    intro fr c0 lp σ1 ho1 hA1 hg1 hc1 hfr hpp hc0 hact h43 hcmp ms
    have hT1 : TextIs σ1 (pre ++ mid ++ post) := by rw [← ht]; exact hA1.1
    induction ms with
    | nil =>
      intro P xs k o6 o7 τ hP hk hxs hxl hxr hsub hm hf1
      have hlP := congrArg List.length hP
      simp at hlP
      have hxs2 : xs = sMet od.1 mid := by rw [← hxs]; unfold sMet; simp [idsOfL]
      have h43' : τ.1 43 = pre.length + mid.length := (hf1.1 43 (by decide)).trans h43
      have hoτ : OE σ τ := ho1.trans (OE.fr hf1 (by decide) (by decide) (by decide))
      (repeat (first | (refine TW.getf rfl rfl rfl (fun _ => ?_)) | (refine TW.pl rfl rfl ?_)))
      refine TW.br rfl rfl (by first | omega | exact b2i_R _ | exact ⟨b2i_R _, by omega⟩) (fun q1 => ?_) (fun q1 => ?_)
      · (iterate 2 (first | (refine TW.getf rfl rfl rfl (fun _ => ?_)) | (refine TW.pl rfl rfl ?_)))
        rw [← hxs2]
        exact T_eachL hs hfr hpp xs.length (by simp at hxl; omega) xs rfl hxr xs 0 0 c _ _ A τ rfl rfl (Nat.zero_le _) hm (hA1.fr hf1 (by decide) (by decide)) hw (hg1.fr hf1 (by decide) (by decide)) ((hf1.1 45 (by decide)).trans hc1) hcR hn hoτ
      · omega
    | cons y ms ih =>
      intro P xs k o6 o7 τ hP hk hxs hxl hxr hsub hm hf1
      have hlP := congrArg List.length hP
      simp at hlP hxl
      have h43' : τ.1 43 = pre.length + mid.length := (hf1.1 43 (by decide)).trans h43
      have hTτ : TextIs τ (P ++ y :: (ms ++ post)) := by
        have := hT1.fr (hf1.1 12 (by decide)) (hf1.2 6 (by decide)) (hf1.2 7 (by decide))
        rw [← hP, List.append_assoc, List.cons_append] at this
        exact this
      obtain ⟨hrow, hidy, -, -⟩ := hTτ.atZ
      have hyR := hids y (hsub y List.mem_cons_self)
      have hstep : ∀ b : Bool, b = (decide (oAct od.1 = 123) || ((mFind (oPat od.1) y.2 0).isSome == decide (oAct od.1 = 103))) → sMet od.1 (y :: ms) = (if b = true then [y.1] else []) ++ sMet od.1 ms := by
        intro b hb
        unfold sMet
        rw [List.filter_cons, ← hb]
        cases b <;> rfl
      have yes : ∀ τ', TFr [40, 41] [38, 39] τ τ' → (decide (oAct od.1 = 123) || ((mFind (oPat od.1) y.2 0).isSome == decide (oAct od.1 = 103))) = true → TW (d + 15) tc_each 45 [some (.inr 0), some (.inl x), some (.inl c0), some (.inl fr), some (.inl xs.length), some (.inl k), o6, o7] [] τ' (InE σ (sEachL od.2 (sMet od.1 mid) c A)) := by
        intro τ' hf' hb
        rw [hstep true hb.symm, if_pos rfl] at hxs
        have eid : τ'.2 7 (k - 1).toNat = y.1 := by
          rw [hf'.2 7 (by decide)]
          exact (tix (by omega)).trans hidy
        (repeat (first | (refine TW.getf rfl rfl rfl (fun _ => ?_)) | (refine TW.pl rfl rfl ?_)))
        refine TW.iald (n := 41) rfl rfl rfl (by omega) (fun _ => ?_)
        rw [eid]
        refine TW.iast (n := 40) rfl rfl rfl (by omega) (by omega) ?_
        (iterate 3 (first | (refine TW.getf rfl rfl rfl (fun _ => ?_)) | (refine TW.pl rfl rfl ?_)))
        have := ih (P ++ [y]) (xs ++ [y.1]) (k + 1) o6 o7 (ts2 τ' 46 (xs.length : Int).toNat y.1) (by rw [List.append_assoc]; exact hP) (by simp; omega) (by rw [List.append_assoc]; exact hxs) (by simp; omega) ?_ (fun q hq => hsub q (List.mem_cons_of_mem _ hq)) ?_ ((hf1.trans (hf'.mono (by decide) (by decide))).ts2 (by decide))
        · rw [show (((xs ++ [y.1]).length : Nat) : Int) = (xs.length : Int) + 1 by simp] at this
          exact this
        · intro z hz
          rcases List.mem_append.mp hz with w | w
          · exact hxr z w
          · rw [List.mem_singleton.mp w]; exact hyR
        · intro j hj
          simp at hj
          show (ts2 τ' 46 (xs.length : Int).toNat y.1).2 46 j = _
          rw [ts2_at]
          by_cases ej : j = xs.length
          · rw [if_pos (by omega), ej, getD_snoc]
          · rw [if_neg (by omega), hf'.2 46 (by decide), getD_snoc_lt (by omega)]
            exact hm j (by omega)
      have no : ∀ τ', TFr [40, 41] [38, 39] τ τ' → (decide (oAct od.1 = 123) || ((mFind (oPat od.1) y.2 0).isSome == decide (oAct od.1 = 103))) = false → TW (d + 15) tc_each 56 [some (.inr 0), some (.inl x), some (.inl c0), some (.inl fr), some (.inl xs.length), some (.inl k), o6, o7] [] τ' (InE σ (sEachL od.2 (sMet od.1 mid) c A)) := by
        intro τ' hf' hb
        rw [hstep false hb.symm, if_neg (by decide), List.nil_append] at hxs
        (iterate 2 (first | (refine TW.getf rfl rfl rfl (fun _ => ?_)) | (refine TW.pl rfl rfl ?_)))
        exact ih (P ++ [y]) xs (k + 1) o6 o7 τ' (by rw [List.append_assoc]; exact hP) (by simp; omega) hxs (by omega) hxr (fun q hq => hsub q (List.mem_cons_of_mem _ hq)) (fun j hj => by rw [hf'.2 46 (by decide)]; exact hm j hj) (hf1.trans (hf'.mono (by decide) (by decide)))
      (repeat (first | (refine TW.getf rfl rfl rfl (fun _ => ?_)) | (refine TW.pl rfl rfl ?_)))
      refine TW.br rfl rfl (by first | omega | exact b2i_R _ | exact ⟨b2i_R _, by omega⟩) (fun q1 => ?_) (fun q1 => ?_)
      · omega
      (repeat (first | (refine TW.getf rfl rfl rfl (fun _ => ?_)) | (refine TW.pl rfl rfl ?_)))
      refine TW.br rfl rfl (by first | omega | exact b2i_R _ | exact ⟨b2i_R _, by omega⟩) (fun q2 => ?_) (fun q2 => ?_)
      · exact yes τ TFr.rf (by rw [hact, ← hc0, q2]; rfl)
      obtain ⟨hgG, hcm, hwp⟩ := hcmp (by omega)
      have h123 : ¬ oAct od.1 = 123 := by omega
      (repeat (first | (refine TW.getf rfl rfl rfl (fun _ => ?_)) | (refine TW.pl rfl rfl ?_)))
      refine TW.cs1 rfl rfl rfl (Nat.le_of_ble_eq_true rfl) (T_textRow (k := P.length) (by omega) (by omega)) ?_; rintro _ _ ⟨rfl, rfl⟩
      (repeat (first | (refine TW.getf rfl rfl rfl (fun _ => ?_)) | (refine TW.pl rfl rfl ?_)))
      refine TW.cv2 rfl rfl rfl (Nat.le_of_ble_eq_true rfl) (T_finds (place := 0) ((ho1.sg hs).fr hf1 (by decide) (by decide)) (hcm.fr hf1 (by decide) (by decide)) hwp hrow (by omega) (by omega)) ?_
      rintro r τ1 ⟨hf2, hq⟩
      have hr : r = some (b2i (mFind (oPat od.1) y.2 0).isSome) := by
        revert hq
        cases mFind (oPat od.1) y.2 0 with
        | none => intro hq; exact hq
        | some w => intro hq; exact hq.1
      subst hr
      have hpd : ∀ b : Bool, (decide (oAct od.1 = 123) || (b == decide (oAct od.1 = 103))) = (b == decide (hd l = 103)) := by
        intro b
        rw [decide_eq_false h123, Bool.false_or, hact]
      have yes' := yes τ1 hf2
      have no' := no τ1 hf2
      rw [hpd] at yes' no'
      generalize (mFind (oPat od.1) y.2 0).isSome = b at yes' no' ⊢
      (repeat (first | (refine TW.getf rfl rfl rfl (fun _ => ?_)) | (refine TW.pl rfl rfl ?_)))
      refine TW.br rfl rfl (by first | omega | exact b2i_R _ | exact ⟨b2i_R _, by omega⟩) (fun q3 => ?_) (fun q3 => ?_)
      · rw [decide_eq_false (show ¬ hd l = 103 by omega)] at yes' no'
        (repeat (first | (refine TW.getf rfl rfl rfl (fun _ => ?_)) | (refine TW.pl rfl rfl ?_)))
        refine TW.br rfl rfl (by first | omega | exact b2i_R _ | exact ⟨b2i_R _, by omega⟩) (fun q4 => ?_) (fun q4 => ?_)
        · have hb : b = true := b2i_1 q4
          exact no' (by rw [hb]; rfl)
        · have hb : b = false := b2i_0 q4
          exact yes' (by rw [hb]; rfl)
      · rw [decide_eq_true (show hd l = 103 by omega)] at yes' no'
        (repeat (first | (refine TW.getf rfl rfl rfl (fun _ => ?_)) | (refine TW.pl rfl rfl ?_)))
        refine TW.br rfl rfl (by first | omega | exact b2i_R _ | exact ⟨b2i_R _, by omega⟩) (fun q4 => ?_) (fun q4 => ?_)
        · have hb : b = false := by
            cases b with
            | false => rfl
            | true => exact absurd rfl q4
          exact no' (by rw [hb]; rfl)
        · have hb : b = true := by
            cases b with
            | true => rfl
            | false => exact absurd q4 (by decide)
          exact yes' (by rw [hb]; rfl)
  (repeat (first | (refine TW.getf rfl rfl rfl (fun _ => ?_)) | (refine TW.pl rfl rfl ?_)))
  refine TW.iald (n := 60) rfl rfl rfl (by omega) (fun _ => ?_)
  rw [ha.1]
  (repeat (first | (refine TW.getf rfl rfl rfl (fun _ => ?_)) | (refine TW.pl rfl rfl ?_)))
  refine TW.br rfl rfl (by first | omega | exact b2i_R _ | exact ⟨b2i_R _, by omega⟩) (fun q0 => ?_) (fun q0 => ?_)
  · have h123 : hd l = 123 := q0
    rcases hp with ⟨-, hact, hpp⟩ | ⟨h, _⟩
    rotate_left
    · omega
    (iterate 3 (first | (refine TW.getf rfl rfl rfl (fun _ => ?_)) | (refine TW.pl rfl rfl ?_)))
    rw [hf]
    exact scan x (hd l) l σ OE.rf hA hg hc hx hpp rfl (by omega) hl (fun z => absurd h123 z) mid pre [] _ none none σ rfl rfl rfl (by simp; omega) (fun y hy => by cases hy) (fun q hq => hq) (fun j hj => absurd hj (Nat.not_lt_zero _)) TFr.rf
  · have h123 : ¬ hd l = 123 := q0
    rcases hp with ⟨h, _⟩ | ⟨hgG, hact, h47, l2, g, hpat, h47', hpp⟩
    · exact absurd h h123
    have hx1 := hx.step hl0 rfl
    have hx2 : Sfx s l.tail.tail (x + 2) := hx1.step (hd_ne h47 (by decide)) (by omega)
    have hok := pPat_ok hpat
    (repeat (first | (refine TW.getf rfl rfl rfl (fun _ => ?_)) | (refine TW.pl rfl rfl ?_)))
    refine TW.cv2 rfl rfl rfl (Nat.le_of_ble_eq_true rfl) (T_compile hs hx2 (Or.inl rfl) hpat h47') ?_
    rintro _ τ1 ⟨rfl, hf1, hcm, hbp⟩
    have h42 : τ1.1 42 = pre.length + 1 := (hf1.1 42 (by decide)).trans hf
    (iterate 5 (first | (refine TW.getf rfl rfl rfl (fun _ => ?_)) | (refine TW.pl rfl rfl ?_)))
    (iterate 3 (first | (refine TW.getf rfl rfl rfl (fun _ => ?_)) | (refine TW.pl rfl rfl ?_)))
    rw [h42]
    exact scan _ (hd l) l2.tail τ1 (OE.fr hf1 (by decide) (by decide) (by decide)) (hA.fr hf1 (by decide) (by decide)) (hg.fr hf1 (by decide) (by decide)) ((hf1.1 45 (by decide)).trans hc) (hbp.step (hd_ne h47' (by decide)) rfl) hpp rfl hact ((hf1.1 43 (by decide)).trans hl) (fun _ => ⟨hgG, hcm, hok.1⟩) mid pre [] _ none none τ1 rfl rfl rfl (by simp; omega) (fun y hy => by cases hy) (fun q hq => hq) (fun j hj => absurd hj (Nat.not_lt_zero _)) TFr.rf
end TEac
