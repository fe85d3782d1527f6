set_option maxRecDepth 100000
/-! the twin's public methods: differ, pairOf, isSound -/
section TPY
variable {d k : Nat} {σ τ υ : TS} {s tp ys : List Int} {A : St} {os : List SOrd} {ds : List SDeed} {fs as : List Nat} {w : PW} {x z v y u : Int} {P : PA} {a b : List (List Int)} {t : List SLine}
/-- the rows that are compared -/
def CpF (σ : TS) (a b : List (List Int)) (k : Nat) : Prop := ((σ.1 12) = a.length ∧ a.length ≤ 40 ∧ ∀ i, i < a.length → RowIs σ i (a.getD i [])) ∧ k < 4 ∧ (σ.2 11 (k)) = b.length ∧ b.length ≤ 40 ∧ ∀ j, j < b.length → RowIs σ (123 + 41 * k + j) (b.getD j [])
theorem CpF.fr (h : CpF σ a b k) (hf : TFr fs as σ τ) (h1 : 12 ∉ fs) (h2 : ∀ k ∈ [6, 11], k ∉ as) : CpF τ a b k := by
  unfold CpF RowIs at h ⊢
  rw [hf.1 12 h1, hf.2 6 (h2 6 (by decide)), hf.2 11 (h2 11 (by decide))]
  exact h
theorem TwI.cp (h : TwI w σ) (hk : k < 4) : CpF σ (rowsOfL w.2.2.1.1) (w.2.2.1.2.2.2.2.1 k) k := by
  obtain ⟨g1, g2, g3⟩ := h.file hk
  exact ⟨⟨by rw [rowsOfL_len]; exact h.2.2.1.1.1, by rw [rowsOfL_len]; exact h.2.2.1.1.2.1, fun i hi => by rw [rowsOfL_getD]; rw [rowsOfL_len] at hi; exact (h.row hi).1⟩, hk, g1, g2, g3⟩
theorem T_larger (hx : inR x) (hy : inR y) : TE (d + 1) tk_larger [.inl x, .inl y] σ (some (max x y)) σ := by
  refine TM.of rfl rfl ?_
  (repeat (first | (refine TW.getf rfl rfl rfl (fun _ => ?_)) | (refine TW.pl rfl rfl ?_)))
  by_cases z : x ≤ y
  · refine TW.br rfl rfl (by first | omega | exact b2i_R _ | exact ⟨b2i_R _, by omega⟩) (fun q => ?_) (fun q => by first | (exfalso; omega) | exact absurd q (by decide))
    (repeat (first | (refine TW.getf rfl rfl rfl (fun _ => ?_)) | (refine TW.pl rfl rfl ?_)))
    exact TW.iret rfl ⟨by rw [show max x y = y by omega], rfl⟩
  · refine TW.br rfl rfl (by first | omega | exact b2i_R _ | exact ⟨b2i_R _, by omega⟩) (fun q => by first | (exfalso; omega) | exact absurd q (by decide)) (fun q => ?_)
    (repeat (first | (refine TW.getf rfl rfl rfl (fun _ => ?_)) | (refine TW.pl rfl rfl ?_)))
    exact TW.iret rfl ⟨by rw [show max x y = x by omega], rfl⟩
def CmI (τ : TS) (a b : List (List Int)) (i J : Nat) : Prop := ∀ i' j', i' ≤ a.length → j' ≤ b.length → (i < i' ∨ (i' = i ∧ J ≤ j')) → (τ.2 78 (41 * i' + j')) = lcA a b i' j'
/-- the rows at two places -/
theorem T_areRows {i j : Nat} {u v : Int} (hC : CpF σ a b k) (hi : i < a.length) (hj : j < b.length) (hu : u = i) (hv : v = ((123 + 41 * k + j : Nat) : Int)) : TE (d + 2) tk_areSame [.inr 0, .inl u, .inl v] σ (some (b2i (decide (a.getD i [] = b.getD j [])))) σ := by
  obtain ⟨⟨h1, h2, h3⟩, h4, h5, h6, h7⟩ := hC
  exact T_areSame hu hv (h3 i hi) (h7 j hj) (by omega) (by omega)
theorem T_compareTo (hC : CpF σ a b k) : TM (d + 4) tk_compareTo [.inr 0, .inl k] σ (fun r τ => r = none ∧ TFr [] [78] σ τ ∧ ∀ i j, i ≤ a.length → j ≤ b.length → (τ.2 78 (41 * i + j)) = lcA a b i j) := by
  have hC0 := hC
  obtain ⟨⟨h12, ha40, -⟩, hk4, h11, hb40, -⟩ := hC
  have ek : ((k : Nat) : Int).toNat = k := Int.toNat_natCast k
  have inner : ∀ (J i : Nat) (τ : TS) (v5 v6 : Option TV), J ≤ b.length + 1 → i ≤ a.length → TFr [] [78] σ τ → CmI τ a b i J → (∀ (ρ : TS) (v4 v5 v6 : Option TV), TFr [] [78] σ ρ → CmI ρ a b i 0 → TW (d + 3) tc_compareTo 93 [some (.inr 0), some (.inl k), some (.inl (b.length : Int)), some (.inl (i : Int)), v4, v5, v6] [] ρ (fun r τ => r = none ∧ TFr [] [78] σ τ ∧ ∀ i j, i ≤ a.length → j ≤ b.length → (τ.2 78 (41 * i + j)) = lcA a b i j)) → TW (d + 3) tc_compareTo 12 [some (.inr 0), some (.inl k), some (.inl (b.length : Int)), some (.inl (i : Int)), some (.inl ((J : Int) - 1)), v5, v6] [] τ (fun r τ => r = none ∧ TFr [] [78] σ τ ∧ ∀ i j, i ≤ a.length → j ≤ b.length → (τ.2 78 (41 * i + j)) = lcA a b i j) := by
    intro J
    induction J with
    | zero =>
      intro i τ v5 v6 hJ hi hf hI kk
      (repeat (first | (refine TW.getf rfl rfl rfl (fun _ => ?_)) | (refine TW.pl rfl rfl ?_)))
      refine TW.br rfl rfl (by first | omega | exact b2i_R _ | exact ⟨b2i_R _, by omega⟩) (fun q => ?_) (fun q => by first | (exfalso; omega) | exact absurd q (by decide))
      exact kk τ _ _ _ hf hI
    | succ j ih =>
      intro i τ v5 v6 hJ hi hf hI kk
      have hC1 := hC0.fr hf (by decide) (by decide)
      have e12 : τ.1 12 = (a.length : Int) := hC1.1.1
      have ej : ((j + 1 : Nat) : Int) - 1 = (j : Int) := by omega
      rw [ej]
      have eij : (41 * (i : Int) + (j : Int)).toNat = 41 * i + j := by omega
      -- the value is stored
      have store : ∀ (c : Int) (v5 v6 : Option TV), c = (lcA a b i j : Int) → TW (d + 3) tc_compareTo 90 [some (.inr 0), some (.inl k), some (.inl (b.length : Int)), some (.inl (i : Int)), some (.inl (j : Int)), v5, v6] [.inl c, .inl (41 * (i : Int) + (j : Int)), .inr 79] τ (fun r τ => r = none ∧ TFr [] [78] σ τ ∧ ∀ i j, i ≤ a.length → j ≤ b.length → (τ.2 78 (41 * i + j)) = lcA a b i j) := by
        intro c v5 v6 hc
        have hle := lcA_le (a := a) (b := b) (i := i) (j := j)
        refine TW.iast (n := 1681) rfl rfl rfl (by omega) (by rw [hc]; constructor <;> omega) ?_
        rw [eij]
        (iterate 2 (first | (refine TW.getf rfl rfl rfl (fun _ => ?_)) | (refine TW.pl rfl rfl ?_)))
        show TW (d + 3) tc_compareTo 12 [some (.inr 0), some (.inl k), some (.inl (b.length : Int)), some (.inl (i : Int)), some (.inl ((j : Int) - 1)), v5, v6] [] _ _
        refine ih i _ v5 v6 (by omega) hi (hf.ts2 (by decide)) (fun i' j' hi' hj' hc' => ?_) kk
        rw [ts2_at]
        split
        · rename_i z
          have e1 : i' = i := by omega
          have e2 : j' = j := by omega
          rw [e1, e2, hc]
        · rename_i z
          refine hI i' j' hi' hj' ?_
          rcases hc' with q | ⟨q1, q2⟩
          · exact Or.inl q
          · exact Or.inr ⟨q1, by have : j' ≠ j := fun q => z (by rw [q1, q]); omega⟩
      -- the edge: nothing in common
      have edge : a.length ≤ i ∨ b.length ≤ j → TW (d + 3) tc_compareTo 21 [some (.inr 0), some (.inl k), some (.inl (b.length : Int)), some (.inl (i : Int)), some (.inl (j : Int)), v5, v6] [] τ (fun r τ => r = none ∧ TFr [] [78] σ τ ∧ ∀ i j, i ≤ a.length → j ≤ b.length → (τ.2 78 (41 * i + j)) = lcA a b i j) := by
        intro hz
        have e0 : (lcA a b i j : Int) = 0 := by rcases hz with z | z
                                                · rw [lcA_e1 z]; rfl
                                                · rw [lcA_e2 z]; rfl
        have tail : ∀ (v6 : Option TV), TW (d + 3) tc_compareTo 63 [some (.inr 0), some (.inl k), some (.inl (b.length : Int)), some (.inl (i : Int)), some (.inl (j : Int)), some (.inl 0), v6] [] τ (fun r τ => r = none ∧ TFr [] [78] σ τ ∧ ∀ i j, i ≤ a.length → j ≤ b.length → (τ.2 78 (41 * i + j)) = lcA a b i j) := by
          intro v6
          (repeat (first | (refine TW.getf rfl rfl rfl (fun _ => ?_)) | (refine TW.pl rfl rfl ?_)))
          refine TW.br rfl rfl (by first | omega | exact b2i_R _ | exact ⟨b2i_R _, by omega⟩) (fun q => ?_) (fun q => by first | (exfalso; omega) | exact absurd q (by decide))
          (iterate 1 (first | (refine TW.getf rfl rfl rfl (fun _ => ?_)) | (refine TW.pl rfl rfl ?_)))
          exact store 0 _ _ e0.symm
        (repeat (first | (refine TW.getf rfl rfl rfl (fun _ => ?_)) | (refine TW.pl rfl rfl ?_)))
        rw [e12]
        by_cases z : a.length ≤ i
        · refine TW.br rfl rfl (by first | omega | exact b2i_R _ | exact ⟨b2i_R _, by omega⟩) (fun q => ?_) (fun q => by first | (exfalso; omega) | exact absurd q (by decide))
          exact tail _
        · refine TW.br rfl rfl (by first | omega | exact b2i_R _ | exact ⟨b2i_R _, by omega⟩) (fun q => by first | (exfalso; omega) | exact absurd q (by decide)) (fun q => ?_)
          (repeat (first | (refine TW.getf rfl rfl rfl (fun _ => ?_)) | (refine TW.pl rfl rfl ?_)))
          refine TW.br rfl rfl (by first | omega | exact b2i_R _ | exact ⟨b2i_R _, by omega⟩) (fun q2 => ?_) (fun q2 => by first | (exfalso; omega) | exact absurd q2 (by decide))
          exact tail _
      (repeat (first | (refine TW.getf rfl rfl rfl (fun _ => ?_)) | (refine TW.pl rfl rfl ?_)))
      refine TW.br rfl rfl (by first | omega | exact b2i_R _ | exact ⟨b2i_R _, by omega⟩) (fun q0 => by first | (exfalso; omega) | exact absurd q0 (by decide)) (fun q0 => ?_)
      (repeat (first | (refine TW.getf rfl rfl rfl (fun _ => ?_)) | (refine TW.pl rfl rfl ?_)))
      rw [e12]
      by_cases z1 : i = a.length
      · refine TW.br rfl rfl (by first | omega | exact b2i_R _ | exact ⟨b2i_R _, by omega⟩) (fun q => ?_) (fun q => by first | (exfalso; omega) | exact absurd q (by decide))
        exact edge (by omega)
      refine TW.br rfl rfl (by first | omega | exact b2i_R _ | exact ⟨b2i_R _, by omega⟩) (fun q => by first | (exfalso; omega) | exact absurd q (by decide)) (fun q => ?_)
      (repeat (first | (refine TW.getf rfl rfl rfl (fun _ => ?_)) | (refine TW.pl rfl rfl ?_)))
      by_cases z2 : j = b.length
      · refine TW.br rfl rfl (by first | omega | exact b2i_R _ | exact ⟨b2i_R _, by omega⟩) (fun q2 => by first | (exfalso; omega) | exact absurd q2 (by decide)) (fun q2 => ?_)
        exact edge (by omega)
      refine TW.br rfl rfl (by first | omega | exact b2i_R _ | exact ⟨b2i_R _, by omega⟩) (fun q2 => ?_) (fun q2 => by first | (exfalso; omega) | exact absurd q2 (by decide))
      have hia : i < a.length := by omega
      have hjb : j < b.length := by omega
      have c1 : τ.2 78 (41 * (i + 1) + j) = (lcA a b (i + 1) j : Int) := hI (i + 1) j (by omega) (by omega) (Or.inl (by omega))
      have c2 : τ.2 78 (41 * i + (j + 1)) = (lcA a b i (j + 1) : Int) := hI i (j + 1) (by omega) (by omega) (Or.inr ⟨rfl, Nat.le_refl _⟩)
      have c3 : τ.2 78 (41 * (i + 1) + (j + 1)) = (lcA a b (i + 1) (j + 1) : Int) := hI (i + 1) (j + 1) (by omega) (by omega) (Or.inl (by omega))
      have l1 := lcA_le (a := a) (b := b) (i := i + 1) (j := j)
      have l2 := lcA_le (a := a) (b := b) (i := i) (j := j + 1)
      have l3 := lcA_le (a := a) (b := b) (i := i + 1) (j := j + 1)
      have i1 : (41 * ((i : Int) + 1) + (j : Int)).toNat = 41 * (i + 1) + j := by omega
      have i2 : (41 * (i : Int) + (j : Int) + 1).toNat = 41 * i + (j + 1) := by omega
      have i3 : (41 * ((i : Int) + 1) + (j : Int) + 1).toNat = 41 * (i + 1) + (j + 1) := by omega
      have es := lcA_s hia hjb
      (repeat (first | (refine TW.getf rfl rfl rfl (fun _ => ?_)) | (refine TW.pl rfl rfl ?_)))
      refine TW.iald (n := 1681) rfl rfl rfl (by omega) (fun _ => ?_)
      rw [i1, c1]
      (repeat (first | (refine TW.getf rfl rfl rfl (fun _ => ?_)) | (refine TW.pl rfl rfl ?_)))
      refine TW.iald (n := 1681) rfl rfl rfl (by omega) (fun _ => ?_)
      rw [i2, c2]
      refine TW.cs2 rfl rfl rfl (Nat.le_of_ble_eq_true rfl) (T_larger (d := d + 2) (by constructor <;> omega) (by constructor <;> omega)) ?_; rintro _ _ ⟨rfl, rfl⟩
      (repeat (first | (refine TW.getf rfl rfl rfl (fun _ => ?_)) | (refine TW.pl rfl rfl ?_)))
      rw [e12]
      refine TW.br rfl rfl (by first | omega | exact b2i_R _ | exact ⟨b2i_R _, by omega⟩) (fun q3 => by first | (exfalso; omega) | exact absurd q3 (by decide)) (fun q3 => ?_)
      (repeat (first | (refine TW.getf rfl rfl rfl (fun _ => ?_)) | (refine TW.pl rfl rfl ?_)))
      refine TW.br rfl rfl (by first | omega | exact b2i_R _ | exact ⟨b2i_R _, by omega⟩) (fun q4 => by first | (exfalso; omega) | exact absurd q4 (by decide)) (fun q4 => ?_)
      (repeat (first | (refine TW.getf rfl rfl rfl (fun _ => ?_)) | (refine TW.pl rfl rfl ?_)))
      refine TW.cs2 rfl rfl rfl (Nat.le_of_ble_eq_true rfl) (T_fileRow (d := d + 2) (k := k) (j := j) rfl rfl) ?_; rintro _ _ ⟨rfl, rfl⟩
      refine TW.cv2 rfl rfl rfl (Nat.le_of_ble_eq_true rfl) (T_areRows (d := d + 1) hC1 hia hjb (by omega) rfl) ?_
      rintro _ _ ⟨rfl, rfl⟩
      by_cases z : a.getD i [] = b.getD j []
      · rw [decide_eq_true z]
        rw [if_pos z] at es
        refine TW.br rfl rfl (by first | omega | exact b2i_R _ | exact ⟨b2i_R _, by omega⟩) (fun q5 => by first | (exfalso; omega) | exact absurd q5 (by decide)) (fun q5 => ?_)
        (repeat (first | (refine TW.getf rfl rfl rfl (fun _ => ?_)) | (refine TW.pl rfl rfl ?_)))
        refine TW.br rfl rfl (by first | omega | exact b2i_R _ | exact ⟨b2i_R _, by omega⟩) (fun q6 => by first | (exfalso; omega) | exact absurd q6 (by decide)) (fun q6 => ?_)
        (repeat (first | (refine TW.getf rfl rfl rfl (fun _ => ?_)) | (refine TW.pl rfl rfl ?_)))
        refine TW.iald (n := 1681) rfl rfl rfl (by omega) (fun _ => ?_)
        rw [i3, c3]
        (iterate 3 (first | (refine TW.getf rfl rfl rfl (fun _ => ?_)) | (refine TW.pl rfl rfl ?_)))
        exact store _ _ _ (by rw [es]; omega)
      · rw [decide_eq_false z]
        rw [if_neg z] at es
        refine TW.br rfl rfl (by first | omega | exact b2i_R _ | exact ⟨b2i_R _, by omega⟩) (fun q5 => ?_) (fun q5 => by first | (exfalso; omega) | exact absurd q5 (by decide))
        (repeat (first | (refine TW.getf rfl rfl rfl (fun _ => ?_)) | (refine TW.pl rfl rfl ?_)))
        refine TW.br rfl rfl (by first | omega | exact b2i_R _ | exact ⟨b2i_R _, by omega⟩) (fun q6 => ?_) (fun q6 => by first | (exfalso; omega) | exact absurd q6 (by decide))
        (iterate 1 (first | (refine TW.getf rfl rfl rfl (fun _ => ?_)) | (refine TW.pl rfl rfl ?_)))
        exact store _ _ _ (by rw [es]; omega)
  refine TM.of rfl rfl ?_
  (repeat (first | (refine TW.getf rfl rfl rfl (fun _ => ?_)) | (refine TW.pl rfl rfl ?_)))
  refine TW.iald (n := 4) rfl rfl rfl (by omega) (fun _ => ?_)
  rw [ek, h11]
  (iterate 3 (first | (refine TW.getf rfl rfl rfl (fun _ => ?_)) | (refine TW.pl rfl rfl ?_)))
  rw [h12]
  (iterate 1 (first | (refine TW.getf rfl rfl rfl (fun _ => ?_)) | (refine TW.pl rfl rfl ?_)))
  have outer : ∀ (I : Nat) (τ : TS) (v4 v5 v6 : Option TV), I ≤ a.length + 1 → TFr [] [78] σ τ → (∀ i' j', i' ≤ a.length → j' ≤ b.length → I ≤ i' → (τ.2 78 (41 * i' + j')) = lcA a b i' j') → TW (d + 3) tc_compareTo 8 [some (.inr 0), some (.inl k), some (.inl (b.length : Int)), some (.inl ((I : Int) - 1)), v4, v5, v6] [] τ (fun r τ => r = none ∧ TFr [] [78] σ τ ∧ ∀ i j, i ≤ a.length → j ≤ b.length → (τ.2 78 (41 * i + j)) = lcA a b i j) := by
    intro I
    induction I with
    | zero =>
      intro τ v4 v5 v6 hI hf hc
      (repeat (first | (refine TW.getf rfl rfl rfl (fun _ => ?_)) | (refine TW.pl rfl rfl ?_)))
      refine TW.br rfl rfl (by first | omega | exact b2i_R _ | exact ⟨b2i_R _, by omega⟩) (fun q => ?_) (fun q => by first | (exfalso; omega) | exact absurd q (by decide))
      exact TW.vret rfl ⟨rfl, hf, fun i j hi hj => hc i j hi hj (Nat.zero_le _)⟩
    | succ i ih =>
      intro τ v4 v5 v6 hI hf hc
      have ei : ((i + 1 : Nat) : Int) - 1 = (i : Int) := by omega
      rw [ei]
      (repeat (first | (refine TW.getf rfl rfl rfl (fun _ => ?_)) | (refine TW.pl rfl rfl ?_)))
      refine TW.br rfl rfl (by first | omega | exact b2i_R _ | exact ⟨b2i_R _, by omega⟩) (fun q => by first | (exfalso; omega) | exact absurd q (by decide)) (fun q => ?_)
      (iterate 2 (first | (refine TW.getf rfl rfl rfl (fun _ => ?_)) | (refine TW.pl rfl rfl ?_)))
      have ej : (b.length : Int) = ((b.length + 1 : Nat) : Int) - 1 := by omega
      show TW (d + 3) tc_compareTo 12 [some (.inr 0), some (.inl k), some (.inl (b.length : Int)), some (.inl (i : Int)), some (.inl (b.length : Int)), v5, v6] [] τ _
      conv => arg 4; rw [show [some (.inr 0), some (.inl k), some (.inl (b.length : Int)), some (.inl (i : Int)), some (.inl (b.length : Int)), v5, v6] = [some (.inr 0), some (.inl (k : Int)), some (.inl (b.length : Int)), some (.inl (i : Int)), some (.inl (((b.length + 1 : Nat) : Int) - 1)), v5, v6] from by rw [← ej]]
      refine inner (b.length + 1) i τ v5 v6 (Nat.le_refl _) (by omega) hf (fun i' j' hi' hj' hc' => ?_) (fun ρ v4 v5 v6 hf2 hc2 => ?_)
      · exact hc i' j' hi' hj' (by omega)
      · (iterate 2 (first | (refine TW.getf rfl rfl rfl (fun _ => ?_)) | (refine TW.pl rfl rfl ?_)))
        exact ih ρ _ _ _ (by omega) hf2 (fun i' j' hi' hj' hc' => hc2 i' j' hi' hj' (by omega))
  have h9 := outer (a.length + 1) σ none none none (Nat.le_refl _) TFr.rf (fun i' j' hi' _ hI => by omega)
  rw [show ((a.length + 1 : Nat) : Int) - 1 = (a.length : Int) by omega] at h9
  exact h9
theorem T_pair (hC : CpF σ a b k) : TM (d + 5) tk_pair [.inr 0, .inl k] σ (fun r τ => r = some ((prs a b).length : Int) ∧ TFr [] [78, 79] σ τ ∧ ∀ i, i < 40 → (τ.2 79 (i)) = (prOf (prs a b) i : Int)) := by
  have hC0 := hC
  obtain ⟨⟨h12, ha40, -⟩, hk4, h11, hb40, -⟩ := hC
  have ek : ((k : Nat) : Int).toNat = k := Int.toNat_natCast k
  refine TM.of rfl rfl ?_
  (repeat (first | (refine TW.getf rfl rfl rfl (fun _ => ?_)) | (refine TW.pl rfl rfl ?_)))
  refine TW.cv1 rfl rfl rfl (Nat.le_of_ble_eq_true rfl) (T_compareTo (d := d) hC0) ?_
  rintro r τ ⟨rfl, hf, hcm⟩
  have h11' : τ.2 11 k = (b.length : Int) := by rw [hf.2 11 (by decide)]; exact h11
  (repeat (first | (refine TW.getf rfl rfl rfl (fun _ => ?_)) | (refine TW.pl rfl rfl ?_)))
  refine TW.iald (n := 4) rfl rfl rfl (by omega) (fun _ => ?_)
  rw [ek, h11']
  (iterate 9 (first | (refine TW.getf rfl rfl rfl (fun _ => ?_)) | (refine TW.pl rfl rfl ?_)))
  have zero : ∀ (n j : Nat) (ρ : TS), j + n = 40 → TFr [] [79] τ ρ → (∀ i, i < j → (ρ.2 79 (i)) = 0) → (∀ ρ : TS, TFr [] [79] τ ρ → (∀ i, i < 40 → (ρ.2 79 (i)) = 0) → TW (d + 4) tc_pair 26 [some (.inr 0), some (.inl k), some (.inl (b.length : Int)), some (.inl 0), some (.inl 0), some (.inl 0), some (.inl 40)] [] ρ (fun r τ => r = some ((prs a b).length : Int) ∧ TFr [] [78, 79] σ τ ∧ ∀ i, i < 40 → (τ.2 79 (i)) = (prOf (prs a b) i : Int))) → TW (d + 4) tc_pair 16 [some (.inr 0), some (.inl k), some (.inl (b.length : Int)), some (.inl 0), some (.inl 0), some (.inl 0), some (.inl (j : Int))] [] ρ (fun r τ => r = some ((prs a b).length : Int) ∧ TFr [] [78, 79] σ τ ∧ ∀ i, i < 40 → (τ.2 79 (i)) = (prOf (prs a b) i : Int)) := by
    intro n
    induction n with
    | zero =>
      intro j ρ hj hf2 hz kk
      have ej : j = 40 := by omega
      subst ej
      (repeat (first | (refine TW.getf rfl rfl rfl (fun _ => ?_)) | (refine TW.pl rfl rfl ?_)))
      refine TW.br rfl rfl (by first | omega | exact b2i_R _ | exact ⟨b2i_R _, by omega⟩) (fun q => ?_) (fun q => by first | (exfalso; omega) | exact absurd q (by decide))
      exact kk ρ hf2 hz
    | succ n ih =>
      intro j ρ hj hf2 hz kk
      have ej : ((j : Nat) : Int).toNat = j := Int.toNat_natCast j
      (repeat (first | (refine TW.getf rfl rfl rfl (fun _ => ?_)) | (refine TW.pl rfl rfl ?_)))
      refine TW.br rfl rfl (by first | omega | exact b2i_R _ | exact ⟨b2i_R _, by omega⟩) (fun q => by first | (exfalso; omega) | exact absurd q (by decide)) (fun q => ?_)
      (repeat (first | (refine TW.getf rfl rfl rfl (fun _ => ?_)) | (refine TW.pl rfl rfl ?_)))
      refine TW.iast (n := 40) rfl rfl rfl (by omega) (by omega) ?_
      rw [ej]
      (iterate 2 (first | (refine TW.getf rfl rfl rfl (fun _ => ?_)) | (refine TW.pl rfl rfl ?_)))
      have e1 : (j : Int) + 1 = ((j + 1 : Nat) : Int) := by omega
      show TW (d + 4) tc_pair 16 [some (.inr 0), some (.inl k), some (.inl (b.length : Int)), some (.inl 0), some (.inl 0), some (.inl 0), some (.inl ((j : Int) + 1))] [] _ _
      rw [e1]
      refine ih (j + 1) _ (by omega) (hf2.ts2 (by decide)) (fun i hi => ?_) kk
      rw [ts2_at]
      split
      · rfl
      · exact hz i (by omega)
  refine zero 40 0 τ (by omega) TFr.rf (fun i hi => absurd hi (Nat.not_lt_zero _)) (fun ρ hfz hz0 => ?_)
  have loop : ∀ (n i j c : Nat) (ρ : TS), (a.length - i) + (b.length - j) ≤ n → i ≤ a.length → j ≤ b.length → TFr [] [79] τ ρ → (∀ q, q < 40 → (ρ.2 79 (q)) = if q < i then (prOf (prs a b) q : Int) else 0) → c + (prF a b n i j).length = (prs a b).length → (∀ q, i ≤ q → prOf (prF a b n i j) q = prOf (prs a b) q) → TW (d + 4) tc_pair 26 [some (.inr 0), some (.inl k), some (.inl (b.length : Int)), some (.inl (i : Int)), some (.inl (j : Int)), some (.inl (c : Int)), some (.inl 40)] [] ρ (fun r τ => r = some ((prs a b).length : Int) ∧ TFr [] [78, 79] σ τ ∧ ∀ i, i < 40 → (τ.2 79 (i)) = (prOf (prs a b) i : Int)) := by
    intro n
    induction n with
    | zero =>
      intro i j c ρ hn hi hj hf2 hp hc hq
      have F : TFr [] [78, 79] σ ρ := (hf.mono (by decide) (by decide)).trans (hf2.mono (by decide) (by decide))
      have e12 : ρ.1 12 = (a.length : Int) := (F.1 12 (by decide)).trans h12
      have hc : c + 0 = (prs a b).length := hc
      (repeat (first | (refine TW.getf rfl rfl rfl (fun _ => ?_)) | (refine TW.pl rfl rfl ?_)))
      rw [e12]
      refine TW.br rfl rfl (by first | omega | exact b2i_R _ | exact ⟨b2i_R _, by omega⟩) (fun q => ?_) (fun q => by first | (exfalso; omega) | exact absurd q (by decide))
      (repeat (first | (refine TW.getf rfl rfl rfl (fun _ => ?_)) | (refine TW.pl rfl rfl ?_)))
      refine TW.iret rfl ⟨by rw [← hc]; rfl, F, fun q hq9 => ?_⟩
      rw [hp q hq9]
      split
      · rfl
      · rw [← hq q (by omega)]; rfl
    | succ n ih =>
      intro i j c ρ hn hi hj hf2 hp hc hq
      have F : TFr [] [78, 79] σ ρ := (hf.mono (by decide) (by decide)).trans (hf2.mono (by decide) (by decide))
      have hC1 := hC0.fr F (by decide) (by decide)
      have e12 : ρ.1 12 = (a.length : Int) := hC1.1.1
      have hcm2 : ∀ i j, i ≤ a.length → j ≤ b.length → ρ.2 78 (41 * i + j) = lcA a b i j := fun i j hi hj => by rw [hf2.2 78 (by decide)]; exact hcm i j hi hj
      have fin : ¬ (i < a.length ∧ j < b.length) → TW (d + 4) tc_pair 78 [some (.inr 0), some (.inl k), some (.inl (b.length : Int)), some (.inl (i : Int)), some (.inl (j : Int)), some (.inl (c : Int)), some (.inl 40)] [] ρ (fun r τ => r = some ((prs a b).length : Int) ∧ TFr [] [78, 79] σ τ ∧ ∀ i, i < 40 → (τ.2 79 (i)) = (prOf (prs a b) i : Int)) := fun hn => by
        have e := prF_s (a := a) (b := b) (n := n) (i := i) (j := j)
        rw [if_neg hn] at e
        rw [e] at hc hq
        have hc : c + 0 = (prs a b).length := hc
        (repeat (first | (refine TW.getf rfl rfl rfl (fun _ => ?_)) | (refine TW.pl rfl rfl ?_)))
        refine TW.iret rfl ⟨by rw [← hc]; rfl, F, fun q hq9 => ?_⟩
        rw [hp q hq9]
        split
        · rfl
        · rw [← hq q (by omega)]; rfl
      (repeat (first | (refine TW.getf rfl rfl rfl (fun _ => ?_)) | (refine TW.pl rfl rfl ?_)))
      rw [e12]
      by_cases z1 : i < a.length
      rotate_left
      · refine TW.br rfl rfl (by first | omega | exact b2i_R _ | exact ⟨b2i_R _, by omega⟩) (fun q => ?_) (fun q => by first | (exfalso; omega) | exact absurd q (by decide))
        exact fin (fun w => z1 w.1)
      refine TW.br rfl rfl (by first | omega | exact b2i_R _ | exact ⟨b2i_R _, by omega⟩) (fun q => by first | (exfalso; omega) | exact absurd q (by decide)) (fun q => ?_)
      (repeat (first | (refine TW.getf rfl rfl rfl (fun _ => ?_)) | (refine TW.pl rfl rfl ?_)))
      by_cases z2 : j < b.length
      rotate_left
      · refine TW.br rfl rfl (by first | omega | exact b2i_R _ | exact ⟨b2i_R _, by omega⟩) (fun q2 => ?_) (fun q2 => by first | (exfalso; omega) | exact absurd q2 (by decide))
        exact fin (fun w => z2 w.2)
      refine TW.br rfl rfl (by first | omega | exact b2i_R _ | exact ⟨b2i_R _, by omega⟩) (fun q2 => by first | (exfalso; omega) | exact absurd q2 (by decide)) (fun q2 => ?_)
      obtain ⟨p1, p2, p3⟩ := prF_of (n := n) z1 z2
      have e := prF_s (a := a) (b := b) (n := n) (i := i) (j := j)
      rw [if_pos ⟨z1, z2⟩] at e
      (repeat (first | (refine TW.getf rfl rfl rfl (fun _ => ?_)) | (refine TW.pl rfl rfl ?_)))
      refine TW.cs2 rfl rfl rfl (Nat.le_of_ble_eq_true rfl) (T_fileRow (d := d + 3) (k := k) (j := j) rfl rfl) ?_; rintro _ _ ⟨rfl, rfl⟩
      refine TW.cv2 rfl rfl rfl (Nat.le_of_ble_eq_true rfl) (T_areRows (d := d + 2) hC1 z1 z2 (by omega) rfl) ?_
      rintro _ _ ⟨rfl, rfl⟩
      by_cases z : a.getD i [] = b.getD j []
      · rw [decide_eq_true z]
        rw [if_pos z] at e
        obtain ⟨k1, k2⟩ := p1 z
        have ei : ((i : Nat) : Int).toNat = i := Int.toNat_natCast i
        refine TW.br rfl rfl (by first | omega | exact b2i_R _ | exact ⟨b2i_R _, by omega⟩) (fun q3 => by first | (exfalso; omega) | exact absurd q3 (by decide)) (fun q3 => ?_)
        (repeat (first | (refine TW.getf rfl rfl rfl (fun _ => ?_)) | (refine TW.pl rfl rfl ?_)))
        refine TW.iast (n := 40) rfl rfl rfl (by omega) (by omega) ?_
        rw [ei]
        (iterate 4 (first | (refine TW.getf rfl rfl rfl (fun _ => ?_)) | (refine TW.pl rfl rfl ?_)))
        have e1 : (i : Int) + 1 = ((i + 1 : Nat) : Int) := by omega
        have e2 : (j : Int) + 1 = ((j + 1 : Nat) : Int) := by omega
        have e3 : (c : Int) + 1 = ((c + 1 : Nat) : Int) := by omega
        show TW (d + 4) tc_pair 26 [some (.inr 0), some (.inl k), some (.inl (b.length : Int)), some (.inl ((i : Int) + 1)), some (.inl ((j : Int) + 1)), some (.inl ((c : Int) + 1)), some (.inl 40)] [] _ _
        rw [e1, e2, e3]
        refine ih (i + 1) (j + 1) (c + 1) _ (by omega) (by omega) (by omega) (hf2.ts2 (by decide)) (fun q hq9 => ?_) ?_ (fun q hq9 => ?_)
        · rw [ts2_at]
          split
          · rename_i zq
            rw [if_pos (by omega), zq, ← hq i (Nat.le_refl _), k1]
          · rename_i zq
            rw [hp q hq9]
            by_cases zi : q < i
            · rw [if_pos zi, if_pos (by omega)]
            · rw [if_neg zi, if_neg (by omega)]
        · rw [e, List.length_cons] at hc
          omega
        · rw [← k2 q hq9]
          exact hq q (by omega)
      · rw [decide_eq_false z]
        rw [if_neg z] at e
        have c1 := hcm2 (i + 1) j (by omega) (by omega)
        have c2 := hcm2 i (j + 1) (by omega) (by omega)
        have l1 := lcA_le (a := a) (b := b) (i := i + 1) (j := j)
        have l2 := lcA_le (a := a) (b := b) (i := i) (j := j + 1)
        have i1 : (41 * ((i : Int) + 1) + (j : Int)).toNat = 41 * (i + 1) + j := by omega
        have i2 : (41 * (i : Int) + (j : Int) + 1).toNat = 41 * i + (j + 1) := by omega
        refine TW.br rfl rfl (by first | omega | exact b2i_R _ | exact ⟨b2i_R _, by omega⟩) (fun q3 => ?_) (fun q3 => by first | (exfalso; omega) | exact absurd q3 (by decide))
        (repeat (first | (refine TW.getf rfl rfl rfl (fun _ => ?_)) | (refine TW.pl rfl rfl ?_)))
        refine TW.iald (n := 1681) rfl rfl rfl (by omega) (fun _ => ?_)
        rw [i1, c1]
        (repeat (first | (refine TW.getf rfl rfl rfl (fun _ => ?_)) | (refine TW.pl rfl rfl ?_)))
        refine TW.iald (n := 1681) rfl rfl rfl (by omega) (fun _ => ?_)
        rw [i2, c2]
        by_cases z5 : lcA a b i (j + 1) ≤ lcA a b (i + 1) j
        · obtain ⟨k1, k2⟩ := p2 z z5
          rw [k2] at hc hq k1
          refine TW.br rfl rfl (by first | omega | exact b2i_R _ | exact ⟨b2i_R _, by omega⟩) (fun q4 => by first | (exfalso; omega) | exact absurd q4 (by decide)) (fun q4 => ?_)
          (iterate 2 (first | (refine TW.getf rfl rfl rfl (fun _ => ?_)) | (refine TW.pl rfl rfl ?_)))
          have e1 : (i : Int) + 1 = ((i + 1 : Nat) : Int) := by omega
          show TW (d + 4) tc_pair 26 [some (.inr 0), some (.inl k), some (.inl (b.length : Int)), some (.inl ((i : Int) + 1)), some (.inl (j : Int)), some (.inl (c : Int)), some (.inl 40)] [] _ _
          rw [e1]
          refine ih (i + 1) j c _ (by omega) (by omega) hj hf2 (fun q hq9 => ?_) hc (fun q hq9 => hq q (by omega))
          rw [hp q hq9]
          by_cases zi : q < i
          · rw [if_pos zi, if_pos (by omega)]
          · rw [if_neg zi]
            by_cases zi2 : q < i + 1
            · rw [if_pos zi2, ← hq q (by omega), show q = i by omega, k1]; rfl
            · rw [if_neg zi2]
        · have k2 := p3 z z5
          rw [k2] at hc hq
          refine TW.br rfl rfl (by first | omega | exact b2i_R _ | exact ⟨b2i_R _, by omega⟩) (fun q4 => ?_) (fun q4 => by first | (exfalso; omega) | exact absurd q4 (by decide))
          (iterate 2 (first | (refine TW.getf rfl rfl rfl (fun _ => ?_)) | (refine TW.pl rfl rfl ?_)))
          have e1 : (j : Int) + 1 = ((j + 1 : Nat) : Int) := by omega
          show TW (d + 4) tc_pair 26 [some (.inr 0), some (.inl k), some (.inl (b.length : Int)), some (.inl (i : Int)), some (.inl ((j : Int) + 1)), some (.inl (c : Int)), some (.inl 40)] [] _ _
          rw [e1]
          exact ih i (j + 1) c _ (by omega) hi (by omega) hf2 hp hc hq
  exact loop (a.length + b.length) 0 0 0 ρ (by omega) (Nat.zero_le _) (Nat.zero_le _) hfz (fun q hq => by rw [if_neg (Nat.not_lt_zero _)]; exact hz0 q hq) (Nat.zero_add _) (fun q _ => rfl)
theorem prF_len : ∀ (n i j : Nat), (prF a b n i j).length ≤ a.length - i := by
  intro n
  induction n with
  | zero => intro i j; exact Nat.zero_le _
  | succ n ih =>
    intro i j
    have e := prF_s (a := a) (b := b) (n := n) (i := i) (j := j)
    rw [e]
    have h1 := ih (i + 1) (j + 1)
    have h2 := ih (i + 1) j
    have h3 := ih i (j + 1)
    by_cases h : i < a.length ∧ j < b.length
    · rw [if_pos h]
      by_cases g : a.getD i [] = b.getD j []
      · rw [if_pos g, List.length_cons]; omega
      · rw [if_neg g]
        split <;> omega
    · rw [if_neg h]; exact Nat.zero_le _
theorem T_differ (h : TwI w σ) (hx : inR x) : TM (d + 6) tk_differ [.inr 0, .inl x] σ (TwQ (pDiffer x w)) := by
  refine TM.of rfl rfl ?_
  (repeat (first | (refine TW.getf rfl rfl rfl (fun _ => ?_)) | (refine TW.pl rfl rfl ?_)))
  refine TW.cs1 rfl rfl rfl (Nat.le_of_ble_eq_true rfl) (T_isFour (d := d + 4) hx) ?_; rintro _ _ ⟨rfl, rfl⟩
  cases hf4 : isFo x with
  | false =>
    have e : pDiffer x w = (.inl 1, w) := by unfold pDiffer; rw [if_pos hf4]
    refine TW.br rfl rfl (by first | omega | exact b2i_R _ | exact ⟨b2i_R _, by omega⟩) (fun q => ?_) (fun q => by first | (exfalso; omega) | exact absurd q (by decide))
    (repeat (first | (refine TW.getf rfl rfl rfl (fun _ => ?_)) | (refine TW.pl rfl rfl ?_)))
    refine TW.putf rfl rfl (by omega) ?_
    (repeat (first | (refine TW.getf rfl rfl rfl (fun _ => ?_)) | (refine TW.pl rfl rfl ?_)))
    rw [ts1_eq]
    refine TW.br rfl rfl (by first | omega | exact b2i_R _ | exact ⟨b2i_R _, by omega⟩) (fun q2 => by first | (exfalso; omega) | exact absurd q2 (by decide)) (fun q2 => ?_)
    (repeat (first | (refine TW.getf rfl rfl rfl (fun _ => ?_)) | (refine TW.pl rfl rfl ?_)))
    exact TW.iret rfl (TwQ.no (k := 1) (by rw [e]; exact h.thr) ts1_eq (by rw [e]))
  | true =>
    obtain ⟨k, rfl, hk4⟩ := isFo_lt hf4
    have ek : ((k : Nat) : Int).toNat = k := Int.toNat_natCast k
    have e : pDiffer k w = (.inr ((w.2.2.1.1.length : Int) + (w.2.2.1.2.2.2.2.1 k).length - 2 * (prs (rowsOfL w.2.2.1.1) (w.2.2.1.2.2.2.2.1 k)).length), w) := by unfold pDiffer; rw [if_neg (by rw [hf4]; decide), ek]
    rw [e]
    refine TW.br rfl rfl (by first | omega | exact b2i_R _ | exact ⟨b2i_R _, by omega⟩) (fun q => by first | (exfalso; omega) | exact absurd q (by decide)) (fun q => ?_)
    (repeat (first | (refine TW.getf rfl rfl rfl (fun _ => ?_)) | (refine TW.pl rfl rfl ?_)))
    refine TW.putf rfl rfl (by omega) ?_
    (repeat (first | (refine TW.getf rfl rfl rfl (fun _ => ?_)) | (refine TW.pl rfl rfl ?_)))
    rw [ts1_eq]
    refine TW.br rfl rfl (by first | omega | exact b2i_R _ | exact ⟨b2i_R _, by omega⟩) (fun q2 => ?_) (fun q2 => by first | (exfalso; omega) | exact absurd q2 (by decide))
    have h1 := h.thr (v := 0)
    have h01 : (ts1 σ 0 0).1 0 = 0 := ts1_eq
    generalize ts1 σ 0 0 = σ1 at h1 h01 ⊢
    have hm := h1.2.2.1.1.1
    have h40 := h1.2.2.1.1.2.1
    have hfm := (h1.file hk4).1
    have hf40 := (h1.file hk4).2.1
    have hle := prF_len (a := rowsOfL w.2.2.1.1) (b := w.2.2.1.2.2.2.2.1 k) ((rowsOfL w.2.2.1.1).length + (w.2.2.1.2.2.2.2.1 k).length) 0 0
    have hle : (prs (rowsOfL w.2.2.1.1) (w.2.2.1.2.2.2.2.1 k)).length ≤ (rowsOfL w.2.2.1.1).length - 0 := hle
    rw [rowsOfL_len] at hle
    (repeat (first | (refine TW.getf rfl rfl rfl (fun _ => ?_)) | (refine TW.pl rfl rfl ?_)))
    rw [hm]
    refine TW.iald (n := 4) rfl rfl rfl (by omega) (fun _ => ?_)
    rw [ek, hfm]
    (repeat (first | (refine TW.getf rfl rfl rfl (fun _ => ?_)) | (refine TW.pl rfl rfl ?_)))
    refine TW.cv1 rfl rfl rfl (Nat.le_of_ble_eq_true rfl) (T_pair (d := d) (h1.cp hk4)) ?_
    rintro r τ ⟨rfl, hf, -⟩
    (repeat (first | (refine TW.getf rfl rfl rfl (fun _ => ?_)) | (refine TW.pl rfl rfl ?_)))
    exact TW.iret rfl (TwQ.ok (P := (_, w)) (h1.fr hf (by decide) (by decide)) ((hf.1 0 (by decide)).trans h01) rfl)
theorem T_pairOf (h : TwI w σ) (hx : inR x) (hz : inR z) : TM (d + 6) tk_pairOf [.inr 0, .inl x, .inl z] σ (TwQ (pPairOf x z w)) := by
  have no : isFo x = false ∨ isNr z w.2.2.1.1.length = false → TW (d + 5) tc_pairOf 10 [some (.inr 0), some (.inl x), some (.inl z)] [.inr 0] σ (TwQ (pPairOf x z w)) := fun hn => by
    have e : pPairOf x z w = (.inl 1, w) := by unfold pPairOf; rw [if_pos hn]
    (repeat (first | (refine TW.getf rfl rfl rfl (fun _ => ?_)) | (refine TW.pl rfl rfl ?_)))
    refine TW.putf rfl rfl (by omega) ?_
    (repeat (first | (refine TW.getf rfl rfl rfl (fun _ => ?_)) | (refine TW.pl rfl rfl ?_)))
    rw [ts1_eq]
    refine TW.br rfl rfl (by first | omega | exact b2i_R _ | exact ⟨b2i_R _, by omega⟩) (fun q2 => by first | (exfalso; omega) | exact absurd q2 (by decide)) (fun q2 => ?_)
    (repeat (first | (refine TW.getf rfl rfl rfl (fun _ => ?_)) | (refine TW.pl rfl rfl ?_)))
    exact TW.iret rfl (TwQ.no (k := 1) (by rw [e]; exact h.thr) ts1_eq (by rw [e]))
  refine TM.of rfl rfl ?_
  (repeat (first | (refine TW.getf rfl rfl rfl (fun _ => ?_)) | (refine TW.pl rfl rfl ?_)))
  refine TW.cs1 rfl rfl rfl (Nat.le_of_ble_eq_true rfl) (T_isFour (d := d + 4) hx) ?_; rintro _ _ ⟨rfl, rfl⟩
  cases hf4 : isFo x with
  | false =>
    refine TW.br rfl rfl (by first | omega | exact b2i_R _ | exact ⟨b2i_R _, by omega⟩) (fun q => ?_) (fun q => by first | (exfalso; omega) | exact absurd q (by decide))
    exact no (Or.inl hf4)
  | true =>
    obtain ⟨k, rfl, hk4⟩ := isFo_lt hf4
    have ek : ((k : Nat) : Int).toNat = k := Int.toNat_natCast k
    refine TW.br rfl rfl (by first | omega | exact b2i_R _ | exact ⟨b2i_R _, by omega⟩) (fun q => by first | (exfalso; omega) | exact absurd q (by decide)) (fun q => ?_)
    (repeat (first | (refine TW.getf rfl rfl rfl (fun _ => ?_)) | (refine TW.pl rfl rfl ?_)))
    refine TW.cv1 rfl rfl rfl (Nat.le_of_ble_eq_true rfl) (T_isLine9 (d := d + 4) hz h.2.2.1.1.1) ?_; rintro _ _ ⟨rfl, rfl⟩
    cases hl : isNr z w.2.2.1.1.length with
    | false =>
      refine TW.br rfl rfl (by first | omega | exact b2i_R _ | exact ⟨b2i_R _, by omega⟩) (fun q2 => ?_) (fun q2 => by first | (exfalso; omega) | exact absurd q2 (by decide))
      exact no (Or.inr hl)
    | true =>
      obtain ⟨j, hj1, hj2, hj3⟩ := isNr_lt hl
      have h40 := h.2.2.1.1.2.1
      have e : pPairOf k z w = (.inr (if prOf (prs (rowsOfL w.2.2.1.1) (w.2.2.1.2.2.2.2.1 k)) j = 0 then -1 else (prOf (prs (rowsOfL w.2.2.1.1) (w.2.2.1.2.2.2.2.1 k)) j : Int)), w) := by
        unfold pPairOf
        rw [if_neg (fun q => q.elim (fun q => by rw [hf4] at q; cases q) (fun q => by rw [hl] at q; cases q)), ek, hj3]
      rw [e]
      refine TW.br rfl rfl (by first | omega | exact b2i_R _ | exact ⟨b2i_R _, by omega⟩) (fun q2 => by first | (exfalso; omega) | exact absurd q2 (by decide)) (fun q2 => ?_)
      (repeat (first | (refine TW.getf rfl rfl rfl (fun _ => ?_)) | (refine TW.pl rfl rfl ?_)))
      refine TW.putf rfl rfl (by omega) ?_
      (repeat (first | (refine TW.getf rfl rfl rfl (fun _ => ?_)) | (refine TW.pl rfl rfl ?_)))
      rw [ts1_eq]
      refine TW.br rfl rfl (by first | omega | exact b2i_R _ | exact ⟨b2i_R _, by omega⟩) (fun q3 => ?_) (fun q3 => by first | (exfalso; omega) | exact absurd q3 (by decide))
      have h1 := h.thr (v := 0)
      have h01 : (ts1 σ 0 0).1 0 = 0 := ts1_eq
      generalize ts1 σ 0 0 = σ1 at h1 h01 ⊢
      (repeat (first | (refine TW.getf rfl rfl rfl (fun _ => ?_)) | (refine TW.pl rfl rfl ?_)))
      refine TW.cv1 rfl rfl rfl (Nat.le_of_ble_eq_true rfl) (T_pair (d := d) (h1.cp hk4)) ?_
      rintro r τ ⟨rfl, hf, hpr⟩
      have hv := hpr j (by omega)
      have h2 := h1.fr hf (by decide) (by decide)
      have h02 := (hf.1 0 (by decide)).trans h01
      have ej : (z - 1).toNat = j := by omega
      have hR := prOf_R (n := (w.2.2.1.2.2.2.2.1 k).length) (k := j) (prs (rowsOfL w.2.2.1.1) (w.2.2.1.2.2.2.2.1 k)) (fun q hq => (prF_ge _ _ _ q hq).2.2)
      have hf40 := (h1.file hk4).2.1
      (repeat (first | (refine TW.getf rfl rfl rfl (fun _ => ?_)) | (refine TW.pl rfl rfl ?_)))
      refine TW.iald (n := 40) rfl rfl rfl (by omega) (fun _ => ?_)
      rw [ej, hv]
      by_cases z0 : prOf (prs (rowsOfL w.2.2.1.1) (w.2.2.1.2.2.2.2.1 k)) j = 0
      · rw [if_pos z0]
        refine TW.br rfl rfl (by first | omega | exact b2i_R _ | exact ⟨b2i_R _, by omega⟩) (fun q4 => ?_) (fun q4 => by first | (exfalso; omega) | exact absurd q4 (by decide))
        (repeat (first | (refine TW.getf rfl rfl rfl (fun _ => ?_)) | (refine TW.pl rfl rfl ?_)))
        exact TW.iret rfl (TwQ.ok (P := (_, w)) h2 h02 rfl)
      · rw [if_neg z0]
        refine TW.br rfl rfl (by first | omega | exact b2i_R _ | exact ⟨b2i_R _, by omega⟩) (fun q4 => by first | (exfalso; omega) | exact absurd q4 (by decide)) (fun q4 => ?_)
        (repeat (first | (refine TW.getf rfl rfl rfl (fun _ => ?_)) | (refine TW.pl rfl rfl ?_)))
        refine TW.iald (n := 40) rfl rfl rfl (by omega) (fun _ => ?_)
        rw [ej, hv]
        (repeat (first | (refine TW.getf rfl rfl rfl (fun _ => ?_)) | (refine TW.pl rfl rfl ?_)))
        exact TW.iret rfl (TwQ.ok (P := (_, w)) h2 h02 rfl)
theorem T_isSound (h : TwI w σ) (hw : WF w.2.2.1) (hn : w.2.2.1.2.2.2.2.2.2.1 < 2000000) : TM (d + 2) tk_isSound [.inr 0] σ (TwQ (pSound w)) := by
  refine TM.of rfl rfl ?_
  (repeat (first | (refine TW.getf rfl rfl rfl (fun _ => ?_)) | (refine TW.pl rfl rfl ?_)))
  refine TW.putf rfl rfl (by omega) ?_
  have h1 := h.thr (v := 0)
  have h01 : (ts1 σ 0 0).1 0 = 0 := ts1_eq
  generalize ts1 σ 0 0 = σ1 at h1 h01 ⊢
  have hm := h1.2.2.1.1.1
  have h40 := h1.2.2.1.1.2.1
  obtain ⟨⟨hh1, hh2, -⟩, ⟨ho1, ho2, -⟩, hfi⟩ := h1.2.2.1.2.2.1
  have hp := h1.2.2.1.2.1
  have hp1 := hw.1
  have hid := h1.2.2.1.2.2.2.2
  (repeat (first | (refine TW.getf rfl rfl rfl (fun _ => ?_)) | (refine TW.pl rfl rfl ?_)))
  rw [hm]
  refine TW.br rfl rfl (by first | omega | exact b2i_R _ | exact ⟨b2i_R _, by omega⟩) (fun q => by first | (exfalso; omega) | exact absurd q (by decide)) (fun q => ?_)
  (repeat (first | (refine TW.getf rfl rfl rfl (fun _ => ?_)) | (refine TW.pl rfl rfl ?_)))
  rw [hh1]
  refine TW.br rfl rfl (by first | omega | exact b2i_R _ | exact ⟨b2i_R _, by omega⟩) (fun q2 => by first | (exfalso; omega) | exact absurd q2 (by decide)) (fun q2 => ?_)
  (repeat (first | (refine TW.getf rfl rfl rfl (fun _ => ?_)) | (refine TW.pl rfl rfl ?_)))
  rw [ho1]
  refine TW.br rfl rfl (by first | omega | exact b2i_R _ | exact ⟨b2i_R _, by omega⟩) (fun q3 => by first | (exfalso; omega) | exact absurd q3 (by decide)) (fun q3 => ?_)
  (iterate 5 (first | (refine TW.getf rfl rfl rfl (fun _ => ?_)) | (refine TW.pl rfl rfl ?_)))
  have fin : ∀ (v2 : Option TV), TW (d + 1) tc_isSound 94 [some (.inr 0), some (.inl 1), v2] [] σ1 (TwQ (pSound w)) := by
    intro v2
    (repeat (first | (refine TW.getf rfl rfl rfl (fun _ => ?_)) | (refine TW.pl rfl rfl ?_)))
    refine TW.br rfl rfl (by first | omega | exact b2i_R _ | exact ⟨b2i_R _, by omega⟩) (fun q => by first | (exfalso; omega) | exact absurd q (by decide)) (fun q => ?_)
    (repeat (first | (refine TW.getf rfl rfl rfl (fun _ => ?_)) | (refine TW.pl rfl rfl ?_)))
    rw [hm]
    by_cases z : w.2.2.1.1 = []
    · have hl : w.2.2.1.1.length = 0 := by rw [z]; rfl
      refine TW.br rfl rfl (by first | omega | exact b2i_R _ | exact ⟨b2i_R _, by omega⟩) (fun q2 => by first | (exfalso; omega) | exact absurd q2 (by decide)) (fun q2 => ?_)
      (repeat (first | (refine TW.getf rfl rfl rfl (fun _ => ?_)) | (refine TW.pl rfl rfl ?_)))
      rw [hp]
      refine TW.br rfl rfl (by first | omega | exact b2i_R _ | exact ⟨b2i_R _, by omega⟩) (fun q3 => by first | (exfalso; omega) | exact absurd q3 (by decide)) (fun q3 => ?_)
      (repeat (first | (refine TW.getf rfl rfl rfl (fun _ => ?_)) | (refine TW.pl rfl rfl ?_)))
      exact TW.zret rfl (Or.inr rfl) (TwQ.ok (P := pSound w) h1 h01 rfl)
    · have hl := List.length_pos_iff.mpr z
      have := hp1.2 z
      refine TW.br rfl rfl (by first | omega | exact b2i_R _ | exact ⟨b2i_R _, by omega⟩) (fun q2 => ?_) (fun q2 => by first | (exfalso; omega) | exact absurd q2 (by decide))
      (repeat (first | (refine TW.getf rfl rfl rfl (fun _ => ?_)) | (refine TW.pl rfl rfl ?_)))
      rw [hp]
      refine TW.br rfl rfl (by first | omega | exact b2i_R _ | exact ⟨b2i_R _, by omega⟩) (fun q3 => by first | (exfalso; omega) | exact absurd q3 (by decide)) (fun q3 => ?_)
      (repeat (first | (refine TW.getf rfl rfl rfl (fun _ => ?_)) | (refine TW.pl rfl rfl ?_)))
      rw [hp, hm]
      refine TW.br rfl rfl (by first | omega | exact b2i_R _ | exact ⟨b2i_R _, by omega⟩) (fun q4 => by first | (exfalso; omega) | exact absurd q4 (by decide)) (fun q4 => ?_)
      (repeat (first | (refine TW.getf rfl rfl rfl (fun _ => ?_)) | (refine TW.pl rfl rfl ?_)))
      exact TW.zret rfl (Or.inr rfl) (TwQ.ok (P := pSound w) h1 h01 rfl)
  have marks : ∀ (n j : Nat), j + n = 5 → TW (d + 1) tc_isSound 71 [some (.inr 0), some (.inl 1), some (.inl (j : Int))] [] σ1 (TwQ (pSound w)) := by
    intro n
    induction n with
    | zero =>
      intro j hj
      (repeat (first | (refine TW.getf rfl rfl rfl (fun _ => ?_)) | (refine TW.pl rfl rfl ?_)))
      refine TW.br rfl rfl (by first | omega | exact b2i_R _ | exact ⟨b2i_R _, by omega⟩) (fun q => ?_) (fun q => by first | (exfalso; omega) | exact absurd q (by decide))
      exact fin _
    | succ n ih =>
      intro j hj
      have ej : ((j : Nat) : Int).toNat = j := Int.toNat_natCast j
      obtain ⟨m1, m2⟩ := h1.2.2.1.2.2.2.1 j (by omega)
      have next : TW (d + 1) tc_isSound 88 [some (.inr 0), some (.inl 1), some (.inl (j : Int))] [] σ1 (TwQ (pSound w)) := by
        (iterate 5 (first | (refine TW.getf rfl rfl rfl (fun _ => ?_)) | (refine TW.pl rfl rfl ?_)))
        have e1 : (j : Int) + 1 = ((j + 1 : Nat) : Int) := by omega
        show TW (d + 1) tc_isSound 71 [some (.inr 0), some (.inl 1), some (.inl ((j : Int) + 1))] [] _ _
        rw [e1]
        exact ih (j + 1) (by omega)
      (repeat (first | (refine TW.getf rfl rfl rfl (fun _ => ?_)) | (refine TW.pl rfl rfl ?_)))
      refine TW.br rfl rfl (by first | omega | exact b2i_R _ | exact ⟨b2i_R _, by omega⟩) (fun q => by first | (exfalso; omega) | exact absurd q (by decide)) (fun q => ?_)
      (repeat (first | (refine TW.getf rfl rfl rfl (fun _ => ?_)) | (refine TW.pl rfl rfl ?_)))
      refine TW.br rfl rfl (by first | omega | exact b2i_R _ | exact ⟨b2i_R _, by omega⟩) (fun q2 => by first | (exfalso; omega) | exact absurd q2 (by decide)) (fun q2 => ?_)
      (repeat (first | (refine TW.getf rfl rfl rfl (fun _ => ?_)) | (refine TW.pl rfl rfl ?_)))
      refine TW.iald (n := 5) rfl rfl rfl (by omega) (fun _ => ?_)
      rw [ej, m1]
      cases hmk : w.2.2.1.2.2.2.2.2.1 j with
      | none =>
        rw [show (none : Option Int).getD (-1) = -1 from rfl]
        refine TW.br rfl rfl (by first | omega | exact b2i_R _ | exact ⟨b2i_R _, by omega⟩) (fun q3 => ?_) (fun q3 => by first | (exfalso; omega) | exact absurd q3 (by decide))
        exact next
      | some y =>
        have hy := m2 y hmk
        have hyin : y ∈ idsOfL w.2.2.1.1 := hw.2.2.2.2.1 _ y hmk
        obtain ⟨qq, hq1, hq2⟩ := List.mem_map.mp hyin
        have hyr := (hw.2.2.2.1 qq hq1).1
        rw [hq2] at hyr
        have hln := linNo_mem.mpr hyin
        have hle := linNo_R (t := w.2.2.1.1) (x := y)
        rw [show (some y : Option Int).getD (-1) = y from rfl]
        refine TW.br rfl rfl (by first | omega | exact b2i_R _ | exact ⟨b2i_R _, by omega⟩) (fun q3 => by first | (exfalso; omega) | exact absurd q3 (by decide)) (fun q3 => ?_)
        (repeat (first | (refine TW.getf rfl rfl rfl (fun _ => ?_)) | (refine TW.pl rfl rfl ?_)))
        refine TW.iald (n := 5) rfl rfl rfl (by omega) (fun _ => ?_)
        rw [ej, m1, hmk, show (some y : Option Int).getD (-1) = y from rfl]
        refine TW.cv1 rfl rfl rfl (Nat.le_of_ble_eq_true rfl) (T_lineWith (d := d) h1.2.2.1.1 (by constructor <;> omega)) ?_; rintro _ _ ⟨rfl, rfl⟩
        refine TW.br rfl rfl (by first | omega | exact b2i_R _ | exact ⟨b2i_R _, by omega⟩) (fun q4 => by first | (exfalso; omega) | exact absurd q4 (by decide)) (fun q4 => ?_)
        exact next
  have lines : ∀ (n j : Nat), j + n = w.2.2.1.1.length → TW (d + 1) tc_isSound 40 [some (.inr 0), some (.inl 1), some (.inl (j : Int))] [] σ1 (TwQ (pSound w)) := by
    intro n
    induction n with
    | zero =>
      intro j hj
      (repeat (first | (refine TW.getf rfl rfl rfl (fun _ => ?_)) | (refine TW.pl rfl rfl ?_)))
      rw [hm]
      refine TW.br rfl rfl (by first | omega | exact b2i_R _ | exact ⟨b2i_R _, by omega⟩) (fun q => ?_) (fun q => by first | (exfalso; omega) | exact absurd q (by decide))
      (iterate 2 (first | (refine TW.getf rfl rfl rfl (fun _ => ?_)) | (refine TW.pl rfl rfl ?_)))
      exact marks 5 0 (by omega)
    | succ n ih =>
      intro j hj
      have ej : ((j : Nat) : Int).toNat = j := Int.toNat_natCast j
      have hjl : j < w.2.2.1.1.length := by omega
      have hidj := h1.id hjl
      have hin : w.2.2.1.1.getD j (0, []) ∈ w.2.2.1.1 := getD_mem hjl
      have hyr := (hw.2.2.2.1 _ hin).1
      have hyr : 0 ≤ idAt w.2.2.1.1 j ∧ idAt w.2.2.1.1 j < w.2.2.1.2.2.2.2.2.2.1 := hyr
      have hno : linNo w.2.2.1.1 (idAt w.2.2.1.1 j) = j + 1 := linNo_here (fun i hi e => by
        have hnd := hw.2.2.1
        have e1 : (idsOfL w.2.2.1.1).getD i 0 = (idsOfL w.2.2.1.1).getD j 0 := by rw [ids_get, ids_get]; exact e
        rw [List.getD_eq_getElem?_getD, List.getD_eq_getElem?_getD, List.getElem?_eq_getElem (by rw [ids_len]; omega), List.getElem?_eq_getElem (by rw [ids_len]; omega)] at e1
        have hne := List.pairwise_iff_getElem.mp hnd i j (by rw [ids_len]; omega) (by rw [ids_len]; omega) hi
        exact hne e1) rfl hjl
      (repeat (first | (refine TW.getf rfl rfl rfl (fun _ => ?_)) | (refine TW.pl rfl rfl ?_)))
      rw [hm]
      refine TW.br rfl rfl (by first | omega | exact b2i_R _ | exact ⟨b2i_R _, by omega⟩) (fun q => by first | (exfalso; omega) | exact absurd q (by decide)) (fun q => ?_)
      (repeat (first | (refine TW.getf rfl rfl rfl (fun _ => ?_)) | (refine TW.pl rfl rfl ?_)))
      refine TW.br rfl rfl (by first | omega | exact b2i_R _ | exact ⟨b2i_R _, by omega⟩) (fun q2 => by first | (exfalso; omega) | exact absurd q2 (by decide)) (fun q2 => ?_)
      (repeat (first | (refine TW.getf rfl rfl rfl (fun _ => ?_)) | (refine TW.pl rfl rfl ?_)))
      refine TW.iald (n := 41) rfl rfl rfl (by omega) (fun _ => ?_)
      rw [ej, hidj]
      (repeat (first | (refine TW.getf rfl rfl rfl (fun _ => ?_)) | (refine TW.pl rfl rfl ?_)))
      rw [hid]
      refine TW.br rfl rfl (by first | omega | exact b2i_R _ | exact ⟨b2i_R _, by omega⟩) (fun q3 => by first | (exfalso; omega) | exact absurd q3 (by decide)) (fun q3 => ?_)
      (repeat (first | (refine TW.getf rfl rfl rfl (fun _ => ?_)) | (refine TW.pl rfl rfl ?_)))
      refine TW.iald (n := 41) rfl rfl rfl (by omega) (fun _ => ?_)
      rw [ej, hidj]
      refine TW.cv1 rfl rfl rfl (Nat.le_of_ble_eq_true rfl) (T_lineWith (d := d) h1.2.2.1.1 (by constructor <;> omega)) ?_; rintro _ _ ⟨rfl, rfl⟩
      rw [hno]
      (repeat (first | (refine TW.getf rfl rfl rfl (fun _ => ?_)) | (refine TW.pl rfl rfl ?_)))
      refine TW.br rfl rfl (by first | omega | exact b2i_R _ | exact ⟨b2i_R _, by omega⟩) (fun q4 => by first | (exfalso; omega) | exact absurd q4 (by decide)) (fun q4 => ?_)
      (iterate 5 (first | (refine TW.getf rfl rfl rfl (fun _ => ?_)) | (refine TW.pl rfl rfl ?_)))
      have e1 : (j : Int) + 1 = ((j + 1 : Nat) : Int) := by omega
      show TW (d + 1) tc_isSound 40 [some (.inr 0), some (.inl 1), some (.inl ((j : Int) + 1))] [] _ _
      rw [e1]
      exact ih (j + 1) (by omega)
  have files : ∀ (n j : Nat), j + n = 4 → TW (d + 1) tc_isSound 21 [some (.inr 0), some (.inl 1), some (.inl (j : Int))] [] σ1 (TwQ (pSound w)) := by
    intro n
    induction n with
    | zero =>
      intro j hj
      (repeat (first | (refine TW.getf rfl rfl rfl (fun _ => ?_)) | (refine TW.pl rfl rfl ?_)))
      refine TW.br rfl rfl (by first | omega | exact b2i_R _ | exact ⟨b2i_R _, by omega⟩) (fun q => ?_) (fun q => by first | (exfalso; omega) | exact absurd q (by decide))
      (iterate 2 (first | (refine TW.getf rfl rfl rfl (fun _ => ?_)) | (refine TW.pl rfl rfl ?_)))
      exact lines _ 0 (Nat.zero_add _)
    | succ n ih =>
      intro j hj
      have ej : ((j : Nat) : Int).toNat = j := Int.toNat_natCast j
      obtain ⟨f1, f2, -⟩ := hfi j (by omega)
      (repeat (first | (refine TW.getf rfl rfl rfl (fun _ => ?_)) | (refine TW.pl rfl rfl ?_)))
      refine TW.br rfl rfl (by first | omega | exact b2i_R _ | exact ⟨b2i_R _, by omega⟩) (fun q => by first | (exfalso; omega) | exact absurd q (by decide)) (fun q => ?_)
      (repeat (first | (refine TW.getf rfl rfl rfl (fun _ => ?_)) | (refine TW.pl rfl rfl ?_)))
      refine TW.br rfl rfl (by first | omega | exact b2i_R _ | exact ⟨b2i_R _, by omega⟩) (fun q2 => by first | (exfalso; omega) | exact absurd q2 (by decide)) (fun q2 => ?_)
      (repeat (first | (refine TW.getf rfl rfl rfl (fun _ => ?_)) | (refine TW.pl rfl rfl ?_)))
      refine TW.iald (n := 4) rfl rfl rfl (by omega) (fun _ => ?_)
      rw [ej, f1]
      (repeat (first | (refine TW.getf rfl rfl rfl (fun _ => ?_)) | (refine TW.pl rfl rfl ?_)))
      refine TW.br rfl rfl (by first | omega | exact b2i_R _ | exact ⟨b2i_R _, by omega⟩) (fun q3 => by first | (exfalso; omega) | exact absurd q3 (by decide)) (fun q3 => ?_)
      (iterate 5 (first | (refine TW.getf rfl rfl rfl (fun _ => ?_)) | (refine TW.pl rfl rfl ?_)))
      have e1 : (j : Int) + 1 = ((j + 1 : Nat) : Int) := by omega
      show TW (d + 1) tc_isSound 21 [some (.inr 0), some (.inl 1), some (.inl ((j : Int) + 1))] [] _ _
      rw [e1]
      exact ih (j + 1) (by omega)
  exact files 4 0 (by omega)
end TPY
