set_option maxRecDepth 100000
/-! the twin compiles patterns -/
section TCmp
variable {d : Nat} {σ σ0 : TS} {s l f : List Int} {pt : SPat}
def tel (σ : TS) (k a : Int) : TS := ts1 (ts2 (ts2 σ 31 ((σ.1 33)).toNat k) 32 ((σ.1 33)).toNat a) 33 ((σ.1 33) + 1)
theorem T_element {k a : Int} (hE : 0 ≤ (σ.1 33) ∧ (σ.1 33) < 64) (hk : inR k) (ha : inR a) : TE (d + 1) tk_element [.inr 0, .inl k, .inl a] σ none (tel σ k a) := by
  refine TM.of rfl rfl ?_
  (repeat (first | (refine TW.getf rfl rfl rfl (fun _ => ?_)) | (refine TW.pl rfl rfl ?_)))
  refine TW.iast (n := 64) rfl rfl rfl (by omega) (by omega) ?_
  (repeat (first | (refine TW.getf rfl rfl rfl (fun _ => ?_)) | (refine TW.pl rfl rfl ?_)))
  refine TW.iast (n := 64) rfl rfl rfl (by rw [ts2_1]; omega) (by omega) ?_
  (repeat (first | (refine TW.getf rfl rfl rfl (fun _ => ?_)) | (refine TW.pl rfl rfl ?_)))
  refine TW.putf rfl rfl (by rw [ts2_1, ts2_1]; omega) ?_
  exact TW.vret rfl ⟨rfl, rfl⟩
theorem snoc_lt {ps : List SPart} {p q : SPart} {k : Nat} (h : k < ps.length) : (ps ++ [p]).getD k q = ps.getD k q := by
  rw [List.getD_eq_getElem?_getD, List.getD_eq_getElem?_getD, List.getElem?_append_left h]
theorem snoc_eq {ps : List SPart} {p q : SPart} : (ps ++ [p]).getD ps.length q = p := by
  rw [List.getD_eq_getElem?_getD, List.getElem?_concat_length]; rfl
theorem stars_snoc {ps : List SPart} {p : SPart} : stars (ps ++ [p]) = stars ps + (if p.1 = 2 then 1 else 0) := by
  unfold stars
  rw [List.filter_append, List.length_append]
  by_cases h : p.1 = 2
  · simp [h]
  · simp [h]
theorem CmpIs.snoc0 {ps : List SPart} {a b : Bool} {p : SPart} {k x : Int} (h : CmpIs σ s (ps, a, b)) (hl : ps.length < 60) (hp : PartIs s p k x) : (tel σ k x).1 33 = ((ps ++ [p]).length : Nat) ∧ (ps ++ [p]).length ≤ 60 ∧ (∀ j, j < (ps ++ [p]).length → PartIs s ((ps ++ [p]).getD j (0, 0, [], false)) ((tel σ k x).2 31 j) ((tel σ k x).2 32 j)) ∧ (tel σ k x).1 34 = stars ps ∧ (tel σ k x).1 35 = b2i a ∧ (tel σ k x).1 36 = b2i b := by
  have he : σ.1 33 = (ps.length : Nat) := h.1
  have hE : (σ.1 33).toNat = ps.length := by omega
  refine ⟨?_, by simp; omega, fun j hj => ?_, ?_, ?_, ?_⟩
  · unfold tel; rw [ts1_eq, he]; simp
  · unfold tel
    rw [ts1_2, ts2_ne (by decide), ts2_at, ts2_at, hE, ts2_ne (by decide)]
    by_cases hz : j = ps.length
    · rw [if_pos hz, if_pos hz, hz, snoc_eq]; exact hp
    · simp at hj
      rw [if_neg hz, if_neg hz, snoc_lt (by omega)]
      exact h.2.2.1 j (by show j < ps.length; omega)
  · unfold tel; rw [ts1_ne (by decide)]; exact h.2.2.2.1
  · unfold tel; rw [ts1_ne (by decide)]; exact h.2.2.2.2.1
  · unfold tel; rw [ts1_ne (by decide)]; exact h.2.2.2.2.2
theorem CmpIs.snoc {ps : List SPart} {a b : Bool} {p : SPart} {k x : Int} (h : CmpIs σ s (ps, a, b)) (hl : ps.length < 60) (hp : PartIs s p k x) (h2 : ¬ p.1 = 2) : CmpIs (tel σ k x) s (ps ++ [p], a, b) := by
  obtain ⟨g1, g2, g3, g4, g5, g6⟩ := h.snoc0 hl hp
  refine ⟨g1, g2, g3, ?_, g5, g6⟩
  show _ = ((stars (ps ++ [p]) : Nat) : Int)
  rw [g4, stars_snoc, if_neg h2]; rfl
theorem tel_fr {k x : Int} {τ : TS} (h : TFr [33, 34, 35, 36, 37] [31, 32] σ0 τ) : TFr [33, 34, 35, 36, 37] [31, 32] σ0 (tel τ k x) := ((h.ts2 (by decide)).ts2 (by decide)).ts1 (by decide)
abbrev fC : List Nat := [33, 34, 35, 36, 37]
/-- the loop's state -/
def CI (σ : TS) (s : List Int) (A : List SPart) (a b : Bool) (q : List Int) (x : Int) (τ : TS) : Prop := TFr fC [31, 32] σ τ ∧ CmpIs τ s (A, a, b) ∧ Sfx s q x ∧ A.length + q.length ≤ 60
theorem chr_R {c : Int} (h : isChr c = true) : (97 ≤ c ∧ c ≤ 122) ∨ (48 ≤ c ∧ c ≤ 57) ∨ c = 32 := by
  unfold isChr isDig at h
  rw [Bool.or_eq_true, Bool.or_eq_true, decide_eq_true_eq, decide_eq_true_eq, decide_eq_true_eq] at h
  rcases h with (z | z) | z
  · exact Or.inl z
  · exact Or.inr (Or.inl z)
  · exact Or.inr (Or.inr z)
theorem T_compile {from' c : Int} {l1 : List Int} {g : Nat} (hs : SgnIs σ s) (hx : Sfx s l from') (hc : c = 47 ∨ c = 63 ∨ c = 0) (hp : pPat c l = .inr (l1, g, pt)) (hend : hd l1 = c) : TM (d + 2) tk_compile [.inr 0, .inl from', .inl c] σ (fun r τ => r = none ∧ TFr fC [31, 32] σ τ ∧ CmpIs τ s pt ∧ Sfx s l1 (τ.1 37)) := by
  have h60 := hs.2.1
  have hxR := hx.len
  refine TM.of rfl rfl ?_
  obtain ⟨ps, fst, lst⟩ := pt
  -- the head of the loop: a sign that is not the end
  have head : ∀ (q : List Int) (x y : Int) (z : Option TV) (τ : TS) (A : List SPart) (b : Bool) (Q : Option Int → TS → Prop), CI σ s A fst b q x τ → q ≠ [] → ¬ hd q = c → TW (d + 1) tc_compile 53 [some (.inr 0), some (.inl from'), some (.inl c), some (.inl (x + 1)), some (.inl y), some (.inl (hd q))] [] τ Q → TW (d + 1) tc_compile 37 [some (.inr 0), some (.inl from'), some (.inl c), some (.inl x), some (.inl y), z] [] τ Q := by
    intro q x y z τ A b Q hI hq hne k
    have hsτ := hs.fr hI.1 (by decide) (by decide)
    have hat := hsτ.at hI.2.2.1 hq
    have hn := hsτ.1
    (repeat (first | (refine TW.getf rfl rfl rfl (fun _ => ?_)) | (refine TW.pl rfl rfl ?_)))
    refine TW.br rfl rfl (by first | omega | exact b2i_R _ | exact ⟨b2i_R _, by omega⟩) (fun h1 => ?_) (fun h1 => ?_)
    · omega
    (repeat (first | (refine TW.getf rfl rfl rfl (fun _ => ?_)) | (refine TW.pl rfl rfl ?_)))
    refine TW.iald (n := 60) rfl rfl rfl (by omega) (fun _ => ?_)
    (repeat (first | (refine TW.getf rfl rfl rfl (fun _ => ?_)) | (refine TW.pl rfl rfl ?_)))
    refine TW.br rfl rfl (by first | omega | exact b2i_R _ | exact ⟨b2i_R _, by omega⟩) (fun h2 => ?_) (fun h2 => ?_)
    · exact absurd (by rw [← hat.1, h2]) hne
    (repeat (first | (refine TW.getf rfl rfl rfl (fun _ => ?_)) | (refine TW.pl rfl rfl ?_)))
    refine TW.iald (n := 60) rfl rfl rfl (by omega) (fun _ => ?_)
    rw [hat.1]
    (iterate 2 (first | (refine TW.getf rfl rfl rfl (fun _ => ?_)) | (refine TW.pl rfl rfl ?_)))
    exact k
  -- one plain part
  have plain : ∀ (st : Nat) (q q1 : List Int) (st1 : Nat) (p : SPart) (x y : Int) (z : Option TV) (τ : TS) (A : List SPart) (Q : Option Int → TS → Prop), inR y → pPlain st q = .inr (q1, st1, p) → CI σ s A fst false q x τ → (∀ (τ' : TS) (x' : Int) (z' : Option TV), CI σ s (A ++ [p]) fst false q1 x' τ' → TW (d + 1) tc_compile 37 [some (.inr 0), some (.inl from'), some (.inl c), some (.inl x'), some (.inl y), z'] [] τ' Q) → TW (d + 1) tc_compile 37 [some (.inr 0), some (.inl from'), some (.inl c), some (.inl x), some (.inl y), z] [] τ Q := by
    intro st q q1 st1 p x y z τ A Q hy hpl hI k
    unfold pPlain at hpl
    by_cases hq : q = []
    · rw [if_pos hq] at hpl; cases hpl
    rw [if_neg hq] at hpl
    have hll := List.length_pos_iff.mpr hq
    have hIl := hI.2.2.2
    have hsτ := hs.fr hI.1 (by decide) (by decide)
    have hat := hsτ.at hI.2.2.1 hq
    have hE : (τ.1 33) = (A.length : Nat) := hI.2.1.1
    by_cases h42 : hd q = 42
    · rw [if_pos h42] at hpl
      split at hpl
      · cases hpl
        refine head q x y z τ A false Q hI hq (by omega) ?_
        have hst : (τ.1 34) = (stars A : Nat) := hI.2.1.2.2.2.1
        have hstl : stars A ≤ A.length := List.length_filter_le _ _
        (repeat (first | (refine TW.getf rfl rfl rfl (fun _ => ?_)) | (refine TW.pl rfl rfl ?_)))
        refine TW.br rfl rfl (by first | omega | exact b2i_R _ | exact ⟨b2i_R _, by omega⟩) (fun a1 => ?_) (fun a1 => ?_)
        rotate_left
        · omega
        (repeat (first | (refine TW.getf rfl rfl rfl (fun _ => ?_)) | (refine TW.pl rfl rfl ?_)))
        refine TW.br rfl rfl (by first | omega | exact b2i_R _ | exact ⟨b2i_R _, by omega⟩) (fun a2 => ?_) (fun a2 => ?_)
        rotate_left
        · omega
        (repeat (first | (refine TW.getf rfl rfl rfl (fun _ => ?_)) | (refine TW.pl rfl rfl ?_)))
        refine TW.br rfl rfl (by first | omega | exact b2i_R _ | exact ⟨b2i_R _, by omega⟩) (fun a3 => ?_) (fun a3 => ?_)
        rotate_left
        · omega
        (repeat (first | (refine TW.getf rfl rfl rfl (fun _ => ?_)) | (refine TW.pl rfl rfl ?_)))
        refine TW.br rfl rfl (by first | omega | exact b2i_R _ | exact ⟨b2i_R _, by omega⟩) (fun a4 => ?_) (fun a4 => ?_)
        rotate_left
        · omega
        (repeat (first | (refine TW.getf rfl rfl rfl (fun _ => ?_)) | (refine TW.pl rfl rfl ?_)))
        refine TW.br rfl rfl (by first | omega | exact b2i_R _ | exact ⟨b2i_R _, by omega⟩) (fun a5 => ?_) (fun a5 => ?_)
        rotate_left
        · omega
        (repeat (first | (refine TW.getf rfl rfl rfl (fun _ => ?_)) | (refine TW.pl rfl rfl ?_)))
        refine TW.br rfl rfl (by first | omega | exact b2i_R _ | exact ⟨b2i_R _, by omega⟩) (fun a6 => ?_) (fun a6 => ?_)
        · omega
        (repeat (first | (refine TW.getf rfl rfl rfl (fun _ => ?_)) | (refine TW.pl rfl rfl ?_)))
        refine TW.cv2 rfl rfl rfl (Nat.le_of_ble_eq_true rfl) (T_element (k := 3) (a := 0) (by omega) (by decide) (by decide)) ?_; rintro _ _ ⟨rfl, rfl⟩
        have hs0 := hI.2.1.snoc0 (p := (2, 0, [], false)) (k := 3) (x := 0) (by omega) rfl
        have h34 := hs0.2.2.2.1
        (repeat (first | (refine TW.getf rfl rfl rfl (fun _ => ?_)) | (refine TW.pl rfl rfl ?_)))
        refine TW.putf rfl rfl (by omega) ?_
        (iterate 2 (first | (refine TW.getf rfl rfl rfl (fun _ => ?_)) | (refine TW.pl rfl rfl ?_)))
        refine k _ _ _ ⟨(tel_fr hI.1).ts1 (by decide), ?_, hI.2.2.1.step hq rfl, by simp; omega⟩
        refine ⟨by rw [ts1_ne (by decide)]; exact hs0.1, hs0.2.1, hs0.2.2.1, ?_, by rw [ts1_ne (by decide)]; exact hs0.2.2.2.2.1, by rw [ts1_ne (by decide)]; exact hs0.2.2.2.2.2⟩
        show _ = ((stars (A ++ [(2, 0, [], false)]) : Nat) : Int)
        rw [ts1_eq, h34, stars_snoc, if_pos rfl]; rfl
      · cases hpl
    rw [if_neg h42] at hpl
    -- a sign or a point
    have single : ∀ (kk : Int) (p : SPart), (hd q = 46 ∨ isChr (hd q) = true) → kk = (if hd q = 46 then 2 else 1) → PartIs s p kk (hd q) → ¬ p.1 = 2 → (∀ (τ' : TS) (x' : Int) (z' : Option TV), CI σ s (A ++ [p]) fst false q.tail x' τ' → TW (d + 1) tc_compile 37 [some (.inr 0), some (.inl from'), some (.inl c), some (.inl x'), some (.inl y), z'] [] τ' Q) → TW (d + 1) tc_compile 37 [some (.inr 0), some (.inl from'), some (.inl c), some (.inl x), some (.inl y), z] [] τ Q := by
      intro kk p hcc hkk hpi hp2 k
      have hcc2 : hd q = 46 ∨ (97 ≤ hd q ∧ hd q ≤ 122) ∨ (48 ≤ hd q ∧ hd q ≤ 57) ∨ hd q = 32 := by
        rcases hcc with w | w
        · exact Or.inl w
        · exact Or.inr (chr_R w)
      refine head q x y z τ A false Q hI hq (by omega) ?_
      have fin : TW (d + 1) tc_compile 129 [some (.inr 0), some (.inl from'), some (.inl c), some (.inl (x + 1)), some (.inl y), some (.inl (hd q))] [.inl kk, .inr 0] τ Q := by
        have hkR : inR kk := by rw [hkk]; split <;> decide
        (repeat (first | (refine TW.getf rfl rfl rfl (fun _ => ?_)) | (refine TW.pl rfl rfl ?_)))
        refine TW.cv2 rfl rfl rfl (Nat.le_of_ble_eq_true rfl) (T_element (k := kk) (a := hd q) (by omega) hkR (by omega)) ?_; rintro _ _ ⟨rfl, rfl⟩
        (iterate 1 (first | (refine TW.getf rfl rfl rfl (fun _ => ?_)) | (refine TW.pl rfl rfl ?_)))
        exact k _ _ _ ⟨tel_fr hI.1, hI.2.1.snoc (by omega) hpi hp2, hI.2.2.1.step hq rfl, by simp; omega⟩
      (repeat (first | (refine TW.getf rfl rfl rfl (fun _ => ?_)) | (refine TW.pl rfl rfl ?_)))
      refine TW.br rfl rfl (by first | omega | exact b2i_R _ | exact ⟨b2i_R _, by omega⟩) (fun a1 => ?_) (fun a1 => ?_)
      rotate_left
      · omega
      (repeat (first | (refine TW.getf rfl rfl rfl (fun _ => ?_)) | (refine TW.pl rfl rfl ?_)))
      refine TW.br rfl rfl (by first | omega | exact b2i_R _ | exact ⟨b2i_R _, by omega⟩) (fun a2 => ?_) (fun a2 => ?_)
      rotate_left
      · omega
      (repeat (first | (refine TW.getf rfl rfl rfl (fun _ => ?_)) | (refine TW.pl rfl rfl ?_)))
      refine TW.br rfl rfl (by first | omega | exact b2i_R _ | exact ⟨b2i_R _, by omega⟩) (fun a3 => ?_) (fun a3 => ?_)
      rotate_left
      · omega
      (repeat (first | (refine TW.getf rfl rfl rfl (fun _ => ?_)) | (refine TW.pl rfl rfl ?_)))
      refine TW.br rfl rfl (by first | omega | exact b2i_R _ | exact ⟨b2i_R _, by omega⟩) (fun a4 => ?_) (fun a4 => ?_)
      rotate_left
      · omega
      (repeat (first | (refine TW.getf rfl rfl rfl (fun _ => ?_)) | (refine TW.pl rfl rfl ?_)))
      refine TW.br rfl rfl (by first | omega | exact b2i_R _ | exact ⟨b2i_R _, by omega⟩) (fun a5 => ?_) (fun a5 => ?_)
      rotate_left
      · omega
      (repeat (first | (refine TW.getf rfl rfl rfl (fun _ => ?_)) | (refine TW.pl rfl rfl ?_)))
      refine TW.br rfl rfl (by first | omega | exact b2i_R _ | exact ⟨b2i_R _, by omega⟩) (fun a6 => ?_) (fun a6 => ?_)
      rotate_left
      · omega
      (repeat (first | (refine TW.getf rfl rfl rfl (fun _ => ?_)) | (refine TW.pl rfl rfl ?_)))
      refine TW.br rfl rfl (by first | omega | exact b2i_R _ | exact ⟨b2i_R _, by omega⟩) (fun a7 => ?_) (fun a7 => ?_)
      · (iterate 1 (first | (refine TW.getf rfl rfl rfl (fun _ => ?_)) | (refine TW.pl rfl rfl ?_)))
        rw [if_neg a7] at hkk
        rw [hkk] at fin
        exact fin
      · (iterate 2 (first | (refine TW.getf rfl rfl rfl (fun _ => ?_)) | (refine TW.pl rfl rfl ?_)))
        rw [if_pos a7] at hkk
        rw [hkk] at fin
        exact fin
    by_cases h46 : hd q = 46
    · rw [if_pos h46] at hpl
      cases hpl
      exact single 2 (1, 0, [], false) (Or.inl h46) (by rw [if_pos h46]) (show PartIs s (1, 0, [], false) 2 (hd q) from rfl) (by decide) k
    rw [if_neg h46] at hpl
    by_cases h91 : hd q = 91
    · rw [if_pos h91] at hpl
      dsimp only at hpl
      by_cases hne : (if decide (hd q.tail = 94) = true then q.tail.tail else q.tail).takeWhile isChr = []
      · rw [if_pos hne] at hpl; cases hpl
      rw [if_neg hne] at hpl
      by_cases h93 : hd ((if decide (hd q.tail = 94) = true then q.tail.tail else q.tail).dropWhile isChr) = 93
      rotate_left
      · rw [if_neg h93] at hpl; cases hpl
      rw [if_pos h93] at hpl
      cases hpl
      have hr0 : q.tail ≠ [] := by
        intro w
        rw [w] at h93
        revert h93
        decide
      refine head q x y z τ A false Q hI hq (by omega) ?_
      (repeat (first | (refine TW.getf rfl rfl rfl (fun _ => ?_)) | (refine TW.pl rfl rfl ?_)))
      refine TW.br rfl rfl (by first | omega | exact b2i_R _ | exact ⟨b2i_R _, by omega⟩) (fun a1 => ?_) (fun a1 => ?_)
      rotate_left
      · omega
      (repeat (first | (refine TW.getf rfl rfl rfl (fun _ => ?_)) | (refine TW.pl rfl rfl ?_)))
      refine TW.br rfl rfl (by first | omega | exact b2i_R _ | exact ⟨b2i_R _, by omega⟩) (fun a2 => ?_) (fun a2 => ?_)
      rotate_left
      · omega
      (repeat (first | (refine TW.getf rfl rfl rfl (fun _ => ?_)) | (refine TW.pl rfl rfl ?_)))
      refine TW.br rfl rfl (by first | omega | exact b2i_R _ | exact ⟨b2i_R _, by omega⟩) (fun a3 => ?_) (fun a3 => ?_)
      rotate_left
      · omega
      (repeat (first | (refine TW.getf rfl rfl rfl (fun _ => ?_)) | (refine TW.pl rfl rfl ?_)))
      refine TW.br rfl rfl (by first | omega | exact b2i_R _ | exact ⟨b2i_R _, by omega⟩) (fun a4 => ?_) (fun a4 => ?_)
      rotate_left
      · omega
      (repeat (first | (refine TW.getf rfl rfl rfl (fun _ => ?_)) | (refine TW.pl rfl rfl ?_)))
      refine TW.br rfl rfl (by first | omega | exact b2i_R _ | exact ⟨b2i_R _, by omega⟩) (fun a5 => ?_) (fun a5 => ?_)
      · omega
      (repeat (first | (refine TW.getf rfl rfl rfl (fun _ => ?_)) | (refine TW.pl rfl rfl ?_)))
      refine TW.cv2 rfl rfl rfl (Nat.le_of_ble_eq_true rfl) (T_element (k := 4) (a := x + 1) (by omega) (by decide) (by omega)) ?_; rintro _ _ ⟨rfl, rfl⟩
      have hx1 := hI.2.2.1.step hq (y := x + 1) rfl
      have hC := hI.2.1.snoc (p := (3, 0, (if decide (hd q.tail = 94) = true then q.tail.tail else q.tail).takeWhile isChr, decide (hd q.tail = 94))) (k := 4) (x := x + 1) (by omega) ⟨rfl, q.tail, hx1, by have := hx1.len; omega, rfl, rfl, h93⟩ (fun z => by cases z)
      have hfT := tel_fr (k := 4) (x := x + 1) hI.1
      have hsT := hs.fr hfT (by decide) (by decide)
      have lp : ∀ (n : Nat) (r : List Int) (v : Int), r.length ≤ n → Sfx s r v → r.length < q.length → hd (r.dropWhile isChr) = 93 → r.dropWhile isChr = (if decide (hd q.tail = 94) = true then q.tail.tail else q.tail).dropWhile isChr → TW (d + 1) tc_compile 98 [some (.inr 0), some (.inl from'), some (.inl c), some (.inl v), some (.inl y), some (.inl (hd q))] [] (tel τ 4 (x + 1)) Q := by
        intro n
        induction n with
        | zero =>
          intro r v hn hv hlt h9 hdw
          have : r = [] := List.length_eq_zero_iff.mp (by omega)
          rw [this] at h9
          exact absurd h9 (by decide)
        | succ n ih =>
          intro r v hn hv hlt h9 hdw
          have hrn : r ≠ [] := fun w => by rw [w] at h9; exact absurd h9 (by decide)
          have hav := hsT.at hv hrn
          have hrl := List.length_pos_iff.mpr hrn
          (repeat (first | (refine TW.getf rfl rfl rfl (fun _ => ?_)) | (refine TW.pl rfl rfl ?_)))
          refine TW.iald (n := 60) rfl rfl rfl (by omega) (fun _ => ?_)
          rw [hav.1]
          (repeat (first | (refine TW.getf rfl rfl rfl (fun _ => ?_)) | (refine TW.pl rfl rfl ?_)))
          refine TW.br rfl rfl (by first | omega | exact b2i_R _ | exact ⟨b2i_R _, by omega⟩) (fun b1 => ?_) (fun b1 => ?_)
          · have hst := dropWhile_stop (l := r) (by rw [b1]; decide)
            rw [hst.1] at hdw
            (iterate 3 (first | (refine TW.getf rfl rfl rfl (fun _ => ?_)) | (refine TW.pl rfl rfl ?_)))
            refine k _ _ _ ⟨hfT, hC, ?_, ?_⟩
            · rw [← hdw]; exact hv.step hrn rfl
            · rw [← hdw]; simp; omega
          · have hch : isChr (hd r) = true := by
              cases hz : isChr (hd r) with
              | true => rfl
              | false => rw [(dropWhile_stop hz).1] at h9; exact absurd h9 b1
            have hdt := dropWhile_tail hch
            (iterate 2 (first | (refine TW.getf rfl rfl rfl (fun _ => ?_)) | (refine TW.pl rfl rfl ?_)))
            exact ih r.tail _ (by simp; omega) (hv.step hrn rfl) (by simp; omega) (by rw [hdt.1]; exact h9) (by rw [hdt.1]; exact hdw)
      by_cases h94 : hd q.tail = 94
      · have hav := hsT.at hx1 hr0
        have hql := List.length_pos_iff.mpr hr0
        simp at hql
        rw [decide_eq_true h94, if_pos rfl] at h93
        (repeat (first | (refine TW.getf rfl rfl rfl (fun _ => ?_)) | (refine TW.pl rfl rfl ?_)))
        refine TW.iald (n := 60) rfl rfl rfl (by omega) (fun _ => ?_)
        rw [hav.1]
        (repeat (first | (refine TW.getf rfl rfl rfl (fun _ => ?_)) | (refine TW.pl rfl rfl ?_)))
        refine TW.br rfl rfl (by first | omega | exact b2i_R _ | exact ⟨b2i_R _, by omega⟩) (fun b1 => ?_) (fun b1 => ?_)
        · omega
        (iterate 2 (first | (refine TW.getf rfl rfl rfl (fun _ => ?_)) | (refine TW.pl rfl rfl ?_)))
        exact lp q.tail.tail.length q.tail.tail _ (Nat.le_refl _) (hx1.step hr0 rfl) (by simp; omega) h93 (by rw [decide_eq_true h94, if_pos rfl])
      · rw [decide_eq_false h94, if_neg (by decide)] at h93
        exact lp q.tail.length q.tail _ (Nat.le_refl _) hx1 (by simp; omega) h93 (by rw [decide_eq_false h94, if_neg (by decide)])
    rw [if_neg h91] at hpl
    split at hpl
    · rename_i hch
      cases hpl
      exact single 1 (0, 0, [hd q], false) (Or.inr hch) (by rw [if_neg h46]) (show PartIs s (0, 0, [hd q], false) 1 (hd q) from ⟨rfl, rfl, rfl⟩) (fun z => by cases z) k
    · cases hpl
  -- a group's plain parts, and its end
  have grp : ∀ (g : Nat) (k st : Nat) (acc : List SPart) (q q1 : List Int) (st1 : Nat) (ps' : List SPart) (x : Int) (z : Option TV) (τ : TS) (A : List SPart) (Q : Option Int → TS → Prop), g ≤ 2 → pGrp k st acc q = .inr (q1, st1, ps') → CI σ s (A ++ acc) fst false q x τ → (∀ (τ' : TS) (x' : Int) (z' : Option TV), CI σ s (A ++ (ps' ++ [(5, g, [], false)])) fst false q1 x' τ' → TW (d + 1) tc_compile 37 [some (.inr 0), some (.inl from'), some (.inl c), some (.inl x'), some (.inl g), z'] [] τ' Q) → TW (d + 1) tc_compile 37 [some (.inr 0), some (.inl from'), some (.inl c), some (.inl x), some (.inl g), z] [] τ Q := by
    intro g k
    have close : ∀ (acc : List SPart) (q : List Int) (x : Int) (z : Option TV) (τ : TS) (A : List SPart) (Q : Option Int → TS → Prop), g ≤ 2 → hd q = 41 → CI σ s (A ++ acc) fst false q x τ → (∀ (τ' : TS) (x' : Int) (z' : Option TV), CI σ s (A ++ (acc ++ [(5, g, [], false)])) fst false q.tail x' τ' → TW (d + 1) tc_compile 37 [some (.inr 0), some (.inl from'), some (.inl c), some (.inl x'), some (.inl g), z'] [] τ' Q) → TW (d + 1) tc_compile 37 [some (.inr 0), some (.inl from'), some (.inl c), some (.inl x), some (.inl g), z] [] τ Q := by
      intro acc q x z τ A Q hg h41 hI k
      have hq : q ≠ [] := hd_ne h41 (by decide)
      have hll := List.length_pos_iff.mpr hq
      have hIl := hI.2.2.2
      have hE : (τ.1 33) = ((A ++ acc).length : Nat) := hI.2.1.1
      refine head q x g z τ (A ++ acc) false Q hI hq (by omega) ?_
      (repeat (first | (refine TW.getf rfl rfl rfl (fun _ => ?_)) | (refine TW.pl rfl rfl ?_)))
      refine TW.br rfl rfl (by first | omega | exact b2i_R _ | exact ⟨b2i_R _, by omega⟩) (fun a1 => ?_) (fun a1 => ?_)
      rotate_left
      · omega
      (repeat (first | (refine TW.getf rfl rfl rfl (fun _ => ?_)) | (refine TW.pl rfl rfl ?_)))
      refine TW.br rfl rfl (by first | omega | exact b2i_R _ | exact ⟨b2i_R _, by omega⟩) (fun a2 => ?_) (fun a2 => ?_)
      rotate_left
      · omega
      (repeat (first | (refine TW.getf rfl rfl rfl (fun _ => ?_)) | (refine TW.pl rfl rfl ?_)))
      refine TW.br rfl rfl (by first | omega | exact b2i_R _ | exact ⟨b2i_R _, by omega⟩) (fun a3 => ?_) (fun a3 => ?_)
      · omega
      (repeat (first | (refine TW.getf rfl rfl rfl (fun _ => ?_)) | (refine TW.pl rfl rfl ?_)))
      refine TW.cv2 rfl rfl rfl (Nat.le_of_ble_eq_true rfl) (T_element (k := 6) (a := (g : Int)) (by omega) (by decide) (by omega)) ?_; rintro _ _ ⟨rfl, rfl⟩
      (iterate 2 (first | (refine TW.getf rfl rfl rfl (fun _ => ?_)) | (refine TW.pl rfl rfl ?_)))
      refine k _ _ _ ⟨tel_fr hI.1, ?_, hI.2.2.1.step hq rfl, by simp at hIl ⊢; omega⟩
      rw [← List.append_assoc]
      exact hI.2.1.snoc (by omega) (show PartIs s (5, g, [], false) 6 g from ⟨rfl, rfl⟩) (fun z => by cases z)
    induction k with
    | zero =>
      intro st acc q q1 st1 ps' x z τ A Q hg hp hI k
      unfold pGrp at hp
      by_cases h41 : hd q = 41
      · rw [if_pos h41] at hp
        cases hp
        exact close _ q x z τ A Q hg h41 hI k
      · rw [if_neg h41] at hp
        cases hp
    | succ k ih =>
      intro st acc q q1 st1 ps' x z τ A Q hg hp hI kk
      unfold pGrp at hp
      by_cases h41 : hd q = 41
      · rw [if_pos h41] at hp
        cases hp
        exact close _ q x z τ A Q hg h41 hI kk
      · rw [if_neg h41] at hp
        dsimp only at hp
        cases hpp : pPlain st q with
        | inl f => rw [hpp] at hp; cases hp
        | inr v =>
          obtain ⟨q2, st2, pp⟩ := v
          rw [hpp] at hp
          refine plain st q q2 st2 pp x g z τ (A ++ acc) Q (by omega) hpp hI (fun τ' x' z' hI' => ?_)
          rw [List.append_assoc] at hI'
          exact ih st2 (acc ++ [pp]) q2 q1 st1 ps' x' z' τ' A Q hg hp hI' kk
  -- items
  have items : ∀ (k cl st : Nat) (acc : List SPart) (q q1 : List Int) (cl1 : Nat) (ps' : List SPart) (x : Int) (z : Option TV) (τ : TS) (Q : Option Int → TS → Prop), cl ≤ 2 → pItems c k cl st acc q = .inr (q1, cl1, ps') → CI σ s acc fst false q x τ → (∀ (τ' : TS) (x' : Int) (z' : Option TV) (g' : Nat), g' ≤ 2 → (hd q1 = 36 ∨ hd q1 = c ∨ q1 = []) → CI σ s ps' fst false q1 x' τ' → TW (d + 1) tc_compile 37 [some (.inr 0), some (.inl from'), some (.inl c), some (.inl x'), some (.inl g'), z'] [] τ' Q) → TW (d + 1) tc_compile 37 [some (.inr 0), some (.inl from'), some (.inl c), some (.inl x), some (.inl cl), z] [] τ Q := by
    intro k
    induction k with
    | zero =>
      intro cl st acc q q1 cl1 ps' x z τ Q hcl hp hI k
      unfold pItems at hp
      by_cases hstop : hd q = 36 ∨ hd q = c ∨ q = []
      · rw [if_pos hstop] at hp
        cases hp
        exact k τ x z cl hcl hstop hI
      · rw [if_neg hstop] at hp
        cases hp
    | succ n ih =>
      intro cl st acc q q1 cl1 ps' x z τ Q hcl hp hI k
      unfold pItems at hp
      by_cases hstop : hd q = 36 ∨ hd q = c ∨ q = []
      · rw [if_pos hstop] at hp
        cases hp
        exact k τ x z cl hcl hstop hI
      · rw [if_neg hstop] at hp
        dsimp only at hp
        cases hit : pItem cl st q with
        | inl f => rw [hit] at hp; cases hp
        | inr v =>
          obtain ⟨q2, cl2, st2, its⟩ := v
          rw [hit] at hp
          have hp : pItems c n cl2 st2 (acc ++ its) q2 = .inr (q1, cl1, ps') := hp
          have hq : q ≠ [] := fun w => hstop (Or.inr (Or.inr w))
          have hqc : ¬ hd q = c := fun w => hstop (Or.inr (Or.inl w))
          have hll := List.length_pos_iff.mpr hq
          have hIl := hI.2.2.2
          have hE : (τ.1 33) = (acc.length : Nat) := hI.2.1.1
          unfold pItem at hit
          by_cases h40 : hd q = 40
          · rw [if_pos h40] at hit
            by_cases hc2 : cl < 2
            · rw [if_pos hc2] at hit
              cases hg : pGrp 12 st [] q.tail with
              | inl f => rw [hg] at hit; cases hit
              | inr v =>
                obtain ⟨q3, st3, ps3⟩ := v
                rw [hg] at hit
                cases hit
                refine head q x cl z τ acc false Q hI hq hqc ?_
                (repeat (first | (refine TW.getf rfl rfl rfl (fun _ => ?_)) | (refine TW.pl rfl rfl ?_)))
                refine TW.br rfl rfl (by first | omega | exact b2i_R _ | exact ⟨b2i_R _, by omega⟩) (fun a1 => ?_) (fun a1 => ?_)
                rotate_left
                · omega
                (repeat (first | (refine TW.getf rfl rfl rfl (fun _ => ?_)) | (refine TW.pl rfl rfl ?_)))
                refine TW.br rfl rfl (by first | omega | exact b2i_R _ | exact ⟨b2i_R _, by omega⟩) (fun a2 => ?_) (fun a2 => ?_)
                · omega
                (repeat (first | (refine TW.getf rfl rfl rfl (fun _ => ?_)) | (refine TW.pl rfl rfl ?_)))
                refine TW.cv2 rfl rfl rfl (Nat.le_of_ble_eq_true rfl) (T_element (k := 5) (a := (cl : Int) + 1) (by omega) (by decide) (by omega)) ?_; rintro _ _ ⟨rfl, rfl⟩
                (iterate 2 (first | (refine TW.getf rfl rfl rfl (fun _ => ?_)) | (refine TW.pl rfl rfl ?_)))
                have hI2 : CI σ s (acc ++ [(4, cl + 1, [], false)]) fst false q.tail (x + 1) (tel τ 5 ((cl : Int) + 1)) := ⟨tel_fr hI.1, hI.2.1.snoc (by omega) (show PartIs s (4, cl + 1, [], false) 5 ((cl : Int) + 1) from ⟨rfl, rfl⟩) (fun z => by cases z), hI.2.2.1.step hq rfl, by simp; omega⟩
                refine grp (cl + 1) 12 st [] q.tail _ _ _ (x + 1) _ _ (acc ++ [(4, cl + 1, [], false)]) Q (by omega) hg (by rw [List.append_nil]; exact hI2) (fun τ' x' z' hI' => ?_)
                refine ih (cl + 1) _ _ _ q1 cl1 ps' x' z' τ' Q (by omega) hp ?_ k
                rw [List.append_assoc] at hI'
                exact hI'
            · rw [if_neg hc2] at hit; cases hit
          rw [if_neg h40] at hit
          by_cases h92 : hd q = 92
          · rw [if_pos h92] at hit
            by_cases hc0 : 0 < cl
            · rw [if_pos hc0] at hit
              by_cases hrg : 49 ≤ hd q.tail ∧ hd q.tail ≤ 48 + cl
              · rw [if_pos hrg] at hit
                cases hit
                have hq2 : q.tail ≠ [] := hd_ne rfl (by omega)
                have hl2 := List.length_pos_iff.mpr hq2
                have hx1 := hI.2.2.1.step hq (y := x + 1) rfl
                have hsτ := hs.fr hI.1 (by decide) (by decide)
                have hat := hsτ.at hx1 hq2
                refine head q x cl z τ acc false Q hI hq hqc ?_
                (repeat (first | (refine TW.getf rfl rfl rfl (fun _ => ?_)) | (refine TW.pl rfl rfl ?_)))
                refine TW.br rfl rfl (by first | omega | exact b2i_R _ | exact ⟨b2i_R _, by omega⟩) (fun a1 => ?_) (fun a1 => ?_)
                rotate_left
                · omega
                (repeat (first | (refine TW.getf rfl rfl rfl (fun _ => ?_)) | (refine TW.pl rfl rfl ?_)))
                refine TW.br rfl rfl (by first | omega | exact b2i_R _ | exact ⟨b2i_R _, by omega⟩) (fun a2 => ?_) (fun a2 => ?_)
                rotate_left
                · omega
                (repeat (first | (refine TW.getf rfl rfl rfl (fun _ => ?_)) | (refine TW.pl rfl rfl ?_)))
                refine TW.br rfl rfl (by first | omega | exact b2i_R _ | exact ⟨b2i_R _, by omega⟩) (fun a3 => ?_) (fun a3 => ?_)
                rotate_left
                · omega
                (repeat (first | (refine TW.getf rfl rfl rfl (fun _ => ?_)) | (refine TW.pl rfl rfl ?_)))
                refine TW.br rfl rfl (by first | omega | exact b2i_R _ | exact ⟨b2i_R _, by omega⟩) (fun a4 => ?_) (fun a4 => ?_)
                · omega
                (repeat (first | (refine TW.getf rfl rfl rfl (fun _ => ?_)) | (refine TW.pl rfl rfl ?_)))
                refine TW.iald (n := 60) rfl rfl rfl (by omega) (fun _ => ?_)
                rw [hat.1]
                (repeat (first | (refine TW.getf rfl rfl rfl (fun _ => ?_)) | (refine TW.pl rfl rfl ?_)))
                refine TW.cv2 rfl rfl rfl (Nat.le_of_ble_eq_true rfl) (T_element (k := 7) (a := hd q.tail - 48) (by omega) (by decide) (by omega)) ?_; rintro _ _ ⟨rfl, rfl⟩
                (iterate 3 (first | (refine TW.getf rfl rfl rfl (fun _ => ?_)) | (refine TW.pl rfl rfl ?_)))
                have hI2 : CI σ s (acc ++ [(6, (hd q.tail - 48).toNat, [], false)]) fst false q.tail.tail (x + 1 + 1) (tel τ 7 (hd q.tail - 48)) := ⟨tel_fr hI.1, hI.2.1.snoc (by omega) (show PartIs s (6, (hd q.tail - 48).toNat, [], false) 7 (hd q.tail - 48) from ⟨rfl, rfl, by show hd q.tail - 48 = ((hd q.tail - 48).toNat : Int); omega⟩) (fun z => by cases z), hx1.step hq2 rfl, by simp at hl2 ⊢; omega⟩
                exact ih cl st _ q.tail.tail q1 cl1 ps' _ _ _ Q hcl hp hI2 k
              · rw [if_neg hrg] at hit; cases hit
            · rw [if_neg hc0] at hit; cases hit
          rw [if_neg h92] at hit
          cases hpp : pPlain st q with
          | inl f => rw [hpp] at hit; cases hit
          | inr v =>
            obtain ⟨q3, st3, pp⟩ := v
            rw [hpp] at hit
            cases hit
            exact plain st q q2 st2 pp x cl z τ acc Q (by omega) hpp hI (fun τ' x' z' hI' => ih cl st2 _ q2 q1 cl1 ps' x' z' τ' Q hcl hp hI' k)
  rw [pPat_E] at hp
  have fin : ∀ (q : List Int) (x y : Int) (z : Option TV) (τ : TS) (A : List SPart) (b : Bool), CI σ s A fst b q x τ → hd q = c → TW (d + 1) tc_compile 37 [some (.inr 0), some (.inl from'), some (.inl c), some (.inl x), some (.inl y), z] [] τ (fun r τ => r = none ∧ TFr fC [31, 32] σ τ ∧ CmpIs τ s (A, fst, b) ∧ Sfx s q (τ.1 37)) := by
    intro q x y z τ A b hI hqc
    have hsτ := hs.fr hI.1 (by decide) (by decide)
    have hn := hsτ.1
    have hxl := hI.2.2.1.len
    have e132 : TW (d + 1) tc_compile 132 [some (.inr 0), some (.inl from'), some (.inl c), some (.inl x), some (.inl y), z] [] τ (fun r τ => r = none ∧ TFr fC [31, 32] σ τ ∧ CmpIs τ s (A, fst, b) ∧ Sfx s q (τ.1 37)) := by
      (repeat (first | (refine TW.getf rfl rfl rfl (fun _ => ?_)) | (refine TW.pl rfl rfl ?_)))
      refine TW.putf rfl rfl (by omega) ?_
      refine TW.vret rfl ⟨rfl, hI.1.ts1 (by decide), ?_, by rw [ts1_eq]; exact hI.2.2.1⟩
      exact hI.2.1.fr (TFr.rf.ts1 (k := 37) (fs := [37]) (as := []) (by decide)) (by decide) (by decide)
    (repeat (first | (refine TW.getf rfl rfl rfl (fun _ => ?_)) | (refine TW.pl rfl rfl ?_)))
    refine TW.br rfl rfl (by first | omega | exact b2i_R _ | exact ⟨b2i_R _, by omega⟩) (fun h1 => ?_) (fun h1 => ?_)
    · exact e132
    (repeat (first | (refine TW.getf rfl rfl rfl (fun _ => ?_)) | (refine TW.pl rfl rfl ?_)))
    have hq : q ≠ [] := fun w => by rw [w] at hxl; simp at hxl; omega
    have hat := hsτ.at hI.2.2.1 hq
    refine TW.iald (n := 60) rfl rfl rfl (by omega) (fun _ => ?_)
    rw [hat.1]
    (repeat (first | (refine TW.getf rfl rfl rfl (fun _ => ?_)) | (refine TW.pl rfl rfl ?_)))
    refine TW.br rfl rfl (by first | omega | exact b2i_R _ | exact ⟨b2i_R _, by omega⟩) (fun h2 => ?_) (fun h2 => ?_)
    · exact e132
    · exact absurd hqc h2
  cases hpi : pItems c 12 0 0 [] (if decide (hd l = 94) = true then l.tail else l) with
  | inl f => rw [hpi] at hp; cases hp
  | inr v =>
    obtain ⟨q1, cc, ps'⟩ := v
    rw [hpi] at hp
    unfold pPatE at hp
    dsimp only at hp
    by_cases hz : ps' = [] ∧ decide (hd l = 94) = false ∧ decide (hd q1 = 36) = false
    · rw [if_pos hz] at hp; cases hp
    rw [if_neg hz] at hp
    have hp1 := Sum.inr.inj hp
    have ef : fst = decide (hd l = 94) := by cases hp1; rfl
    have el : lst = decide (hd q1 = 36) := by cases hp1; rfl
    have eps : ps = ps' := by cases hp1; rfl
    have el1 : l1 = (if decide (hd q1 = 36) = true then q1.tail else q1) := by cases hp1; rfl
    clear hp1 hp hz
    have tail : ∀ (τ' : TS) (x' : Int) (z' : Option TV) (g' : Nat), g' ≤ 2 → (hd q1 = 36 ∨ hd q1 = c ∨ q1 = []) → CI σ s ps' fst false q1 x' τ' → TW (d + 1) tc_compile 37 [some (.inr 0), some (.inl from'), some (.inl c), some (.inl x'), some (.inl g'), z'] [] τ' (fun r τ => r = none ∧ TFr fC [31, 32] σ τ ∧ CmpIs τ s (ps, fst, lst) ∧ Sfx s l1 (τ.1 37)) := by
      intro τ x z g' hg' hstop hI
      by_cases h36 : hd q1 = 36
      · rw [decide_eq_true h36] at el el1
        rw [if_pos rfl] at el1
        have hq : q1 ≠ [] := hd_ne h36 (by decide)
        refine head q1 x g' z τ ps' false _ hI hq (by omega) ?_
        (repeat (first | (refine TW.getf rfl rfl rfl (fun _ => ?_)) | (refine TW.pl rfl rfl ?_)))
        refine TW.br rfl rfl (by first | omega | exact b2i_R _ | exact ⟨b2i_R _, by omega⟩) (fun a1 => ?_) (fun a1 => ?_)
        · omega
        (repeat (first | (refine TW.getf rfl rfl rfl (fun _ => ?_)) | (refine TW.pl rfl rfl ?_)))
        refine TW.putz rfl rfl (Or.inr rfl) ?_
        (iterate 2 (first | (refine TW.getf rfl rfl rfl (fun _ => ?_)) | (refine TW.pl rfl rfl ?_)))
        rw [eps, el, el1]
        refine fin q1.tail (x + 1) g' _ _ ps' true ⟨hI.1.ts1 (by decide), ?_, hI.2.2.1.step hq rfl, by have := hI.2.2.2; simp; omega⟩ (by rw [← el1]; exact hend)
        obtain ⟨c1, c2, c3, c4, c5, c6⟩ := hI.2.1
        exact ⟨by rw [ts1_ne (by decide)]; exact c1, c2, c3, by rw [ts1_ne (by decide)]; exact c4, by rw [ts1_ne (by decide)]; exact c5, ts1_eq⟩
      · rw [decide_eq_false h36] at el el1
        rw [if_neg (by decide)] at el1
        rw [eps, el, el1]
        exact fin q1 x g' z τ ps' false hI (by rw [← el1]; exact hend)
    have rest24 : ∀ b : Bool, b = decide (hd l = 94) → TW (d + 1) tc_compile 24 [some (.inr 0), some (.inl from'), some (.inl c), some (.inl from'), some (.inl 0), none] [.inl (b2i b), .inr 0] (ts1 (ts1 σ 33 0) 34 0) (fun r τ => r = none ∧ TFr fC [31, 32] σ τ ∧ CmpIs τ s (ps, fst, lst) ∧ Sfx s l1 (τ.1 37)) := by
      intro b hb
      refine TW.putz rfl rfl (by cases b; exact Or.inl rfl; exact Or.inr rfl) ?_
      (repeat (first | (refine TW.getf rfl rfl rfl (fun _ => ?_)) | (refine TW.pl rfl rfl ?_)))
      refine TW.putz rfl rfl (Or.inl rfl) ?_
      have hC : CmpIs (ts1 (ts1 (ts1 (ts1 σ 33 0) 34 0) 35 (b2i b)) 36 0) s ([], fst, false) := by
        refine ⟨?_, Nat.zero_le _, fun k hk => absurd hk (Nat.not_lt_zero _), ?_, ?_, ?_⟩
        · rw [ts1_ne (by decide), ts1_ne (by decide), ts1_ne (by decide), ts1_eq]; rfl
        · rw [ts1_ne (by decide), ts1_ne (by decide), ts1_eq]; rfl
        · rw [ts1_ne (by decide), ts1_eq, ef, hb]
        · rw [ts1_eq]; rfl
      have hF : TFr fC [31, 32] σ (ts1 (ts1 (ts1 (ts1 σ 33 0) 34 0) 35 (b2i b)) 36 0) := (((TFr.rf.ts1 (by decide)).ts1 (by decide)).ts1 (by decide)).ts1 (by decide)
      have e35 : (ts1 (ts1 (ts1 (ts1 σ 33 0) 34 0) 35 (b2i b)) 36 0).1 35 = b2i b := by rw [ts1_ne (by decide), ts1_eq]
      (repeat (first | (refine TW.getf rfl rfl rfl (fun _ => ?_)) | (refine TW.pl rfl rfl ?_)))
      rw [e35]
      have hbR := b2i_R b
      refine TW.br rfl rfl (by first | omega | exact b2i_R _ | exact ⟨b2i_R _, by omega⟩) (fun a1 => ?_) (fun a1 => ?_)
      · rw [← hb, b2i_0 a1, if_neg (by decide)] at hpi
        (iterate 3 (first | (refine TW.getf rfl rfl rfl (fun _ => ?_)) | (refine TW.pl rfl rfl ?_)))
        rw [Int.add_zero]
        exact items 12 0 0 [] l q1 cc ps' from' _ _ _ (by decide) hpi ⟨hF, hC, hx, by simp; omega⟩ tail
      · rw [← hb, b2i_1 a1, if_pos rfl] at hpi
        have h94 : hd l = 94 := of_decide_eq_true (by rw [← hb]; exact b2i_1 a1)
        have hl0 : l ≠ [] := hd_ne h94 (by decide)
        (iterate 4 (first | (refine TW.getf rfl rfl rfl (fun _ => ?_)) | (refine TW.pl rfl rfl ?_)))
        exact items 12 0 0 [] l.tail q1 cc ps' (from' + 1) _ _ _ (by decide) hpi ⟨hF, hC, hx.step hl0 rfl, by simp; omega⟩ tail
    have hn := hs.1
    (repeat (first | (refine TW.getf rfl rfl rfl (fun _ => ?_)) | (refine TW.pl rfl rfl ?_)))
    refine TW.putf rfl rfl (by omega) ?_
    (repeat (first | (refine TW.getf rfl rfl rfl (fun _ => ?_)) | (refine TW.pl rfl rfl ?_)))
    refine TW.putf rfl rfl (by omega) ?_
    have en : (ts1 (ts1 σ 33 0) 34 0).1 22 = σ.1 22 := by rw [ts1_ne (by decide), ts1_ne (by decide)]
    (repeat (first | (refine TW.getf rfl rfl rfl (fun _ => ?_)) | (refine TW.pl rfl rfl ?_)))
    rw [en]
    refine TW.br rfl rfl (by first | omega | exact b2i_R _ | exact ⟨b2i_R _, by omega⟩) (fun a1 => ?_) (fun a1 => ?_)
    · have hl0 : l = [] := List.length_eq_zero_iff.mp (by omega)
      (iterate 1 (first | (refine TW.getf rfl rfl rfl (fun _ => ?_)) | (refine TW.pl rfl rfl ?_)))
      exact rest24 false (by rw [hl0]; rfl)
    have hl0 : l ≠ [] := fun w => by rw [w] at hxR; simp at hxR; omega
    have hat := hs.at hx hl0
    have e21 : (ts1 (ts1 σ 33 0) 34 0).2 21 = σ.2 21 := rfl
    (repeat (first | (refine TW.getf rfl rfl rfl (fun _ => ?_)) | (refine TW.pl rfl rfl ?_)))
    refine TW.iald (n := 60) rfl rfl rfl (by omega) (fun _ => ?_)
    rw [e21, hat.1]
    (repeat (first | (refine TW.getf rfl rfl rfl (fun _ => ?_)) | (refine TW.pl rfl rfl ?_)))
    refine TW.br rfl rfl (by first | omega | exact b2i_R _ | exact ⟨b2i_R _, by omega⟩) (fun a2 => ?_) (fun a2 => ?_)
    · (iterate 1 (first | (refine TW.getf rfl rfl rfl (fun _ => ?_)) | (refine TW.pl rfl rfl ?_)))
      exact rest24 false (decide_eq_false a2).symm
    · (iterate 2 (first | (refine TW.getf rfl rfl rfl (fun _ => ?_)) | (refine TW.pl rfl rfl ?_)))
      exact rest24 true (decide_eq_true a2).symm
end TCmp
