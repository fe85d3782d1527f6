set_option maxRecDepth 100000
/-! where orders stand in the text: each at its own place -/
/-- where the inner orders of an order begin -/
def inS (l : List Int) : List Int := match pWhere l with
  | .inl _ => []
  | .inr (l1, _) => if hd l1 = 123 then l1.tail else match pPat 47 l1.tail.tail with
    | .inl _ => []
    | .inr (l2, _) => if hd l2.tail = 123 then l2.tail.tail else l2.tail
def suI (l : List Int) : Nat → List Int
  | 0 => l
  | i + 1 => match pInner (suI l i) with
    | .inr (l2, _) => l2.tail
    | .inl _ => []
/-- what is left of the text from an order on -/
def keyS (s : List Int) (k : Nat) : Nat → List Int
  | 0 => suO s k
  | i + 1 => suI (inS (suO s k)) i
def keyP (s : List Int) (k i : Nat) : Nat := s.length - (keyS s k i).length
def keyV (os : List SOrd) (k i : Nat) : Prop := ∃ o, os[k]? = some o ∧ i ≤ o.2.length
section Keys
variable {s l l1 l2 : List Int} {os : List SOrd} {o : SOrd}
theorem pAct_lt {inner : Bool} {w : Bool × Option SAdr × Option SAdr} {od : SOrd0} (h : pAct inner w l = .inr (l1, od)) : l1.length < l.length := by
  have hl0 := (pAct_out h).1
  have h0 : 0 < l.length := List.length_pos_iff.mpr hl0
  have ht : l.tail.length < l.length := by rw [List.length_tail]; omega
  have htt : l.tail.tail.length < l.length := by rw [List.length_tail, List.length_tail]; omega
  unfold pAct at h
  dsimp only at h
  by_cases c0 : l = [] ∨ (isOut (hd l) = true ∧ inner = true) ∨ (hd l = 58 ∧ (w.1 = true ∨ w.2.1 ≠ none))
  · rw [if_pos c0] at h; cases h
  rw [if_neg c0] at h
  by_cases c1 : hd l = 97 ∨ hd l = 105 ∨ hd l = 99
  · rw [if_pos c1] at h
    cases hp : pRows l.tail.length l.tail with
    | inl f => rw [hp] at h; cases h
    | inr q => obtain ⟨l2, rs⟩ := q; rw [hp] at h; cases h; have := pRows_shr _ _ _ _ hp; omega
  rw [if_neg c1] at h
  by_cases c2 : hd l = 118 ∨ hd l = 62 ∨ hd l = 60 ∨ hd l = 111 ∨ hd l = 79
  · rw [if_pos c2] at h
    cases hp : pNum l.tail with
    | inl f => rw [hp] at h; cases h
    | inr q => obtain ⟨l2, rs⟩ := q; rw [hp] at h; cases h; have := pNum_shr _ _ hp; omega
  rw [if_neg c2] at h
  by_cases c3 : hd l = 109 ∨ hd l = 116
  · rw [if_pos c3] at h
    cases hp : pAdr l.tail with
    | inl f => rw [hp] at h; cases h
    | inr q => obtain ⟨l2, rs⟩ := q; rw [hp] at h; cases h; have := pAdr_shr _ _ hp; omega
  rw [if_neg c3] at h
  by_cases c4 : hd l = 107
  · rw [if_pos c4] at h
    by_cases hm : isMrk (hd l.tail) = true
    · rw [if_pos hm] at h; cases h; omega
    · rw [if_neg hm] at h; cases h
  rw [if_neg c4] at h
  by_cases c5 : hd l = 114 ∨ hd l = 119
  · rw [if_pos c5] at h
    by_cases hm : 48 ≤ hd l.tail ∧ hd l.tail ≤ 51
    · rw [if_pos hm] at h; cases h; omega
    · rw [if_neg hm] at h; cases h
  rw [if_neg c5] at h
  by_cases c6 : hd l = 58
  · rw [if_pos c6] at h
    by_cases hm : isLab (hd l.tail) = true
    · rw [if_pos hm] at h; cases h; omega
    · rw [if_neg hm] at h; cases h
  rw [if_neg c6] at h
  by_cases c7 : hd l = 98 ∨ hd l = 84
  · rw [if_pos c7] at h
    by_cases hm : isLab (hd l.tail) = true
    · rw [if_pos hm] at h; cases h; omega
    · rw [if_neg hm] at h; cases h; omega
  rw [if_neg c7] at h
  by_cases c8 : hd l = 115
  · rw [if_pos c8] at h
    cases hp : pRepl l.tail with
    | inl f => rw [hp] at h; cases h
    | inr q => obtain ⟨l2, a, b, c, e⟩ := q; rw [hp] at h; cases h; have := pRepl_shr _ _ hp; omega
  rw [if_neg c8] at h
  by_cases c9 : hd l = 122
  · rw [if_pos c9] at h
    cases hp : pTurn l.tail with
    | inl f => rw [hp] at h; cases h
    | inr q => obtain ⟨l2, a, b⟩ := q; rw [hp] at h; cases h; have := pTurn_shr _ _ hp; omega
  rw [if_neg c9] at h
  by_cases c10 : isBar (hd l) = true
  · rw [if_pos c10] at h; cases h; omega
  · rw [if_neg c10] at h; cases h
theorem pInner_lt {od : SOrd0} (h : pInner l = .inr (l2, od)) : l2.length < l.length := by
  obtain ⟨l1, w, h1, h2⟩ := pInner_out h
  have := pWhere_shr _ _ h1
  have := pAct_lt h2
  omega
def nxI (l : List Int) : List Int := match pInner l with
  | .inr (l2, _) => l2.tail
  | .inl _ => []
theorem suI_succ (j : Nat) : suI l (j + 1) = nxI (suI l j) := rfl
theorem suI_shift : ∀ (j : Nat), suI l (j + 1) = suI (nxI l) j := by
  intro j
  induction j with
  | zero => rfl
  | succ j ih => rw [suI_succ, ih, ← suI_succ]
theorem nxI_eq {od : SOrd0} (h : pInner l = .inr (l2, od)) : nxI l = l2.tail := by unfold nxI; rw [h]
/-- inner orders, one behind the other -/
theorem pInners_key : ∀ (os : List SOrd0) (k : Nat) (l lx : List Int), pInners k l = .inr (lx, os) → ∀ j, j < os.length → ∃ lj oj, os[j]? = some oj ∧ pInner (suI l j) = .inr (lj, oj) ∧ lx.length ≤ lj.length ∧ (suI l j).length ≤ l.length ∧ (j + 1 < os.length → hd lj = 59) ∧ (j + 1 = os.length → lj = lx) := by
  intro os
  induction os with
  | nil => intro k l lx h j hj; exact absurd hj (Nat.not_lt_zero _)
  | cons o os ih =>
    intro k l lx h j hj
    obtain ⟨o', l2, h1, h2⟩ := pInners_out h
    rcases h2 with ⟨h3, h4, h5⟩ | ⟨h3, k', os', h4, h5⟩
    · cases h4
      simp at hj
      subst hj
      exact ⟨l2, o, rfl, h1, by rw [h5]; exact Nat.le_refl _, Nat.le_refl _, fun z => by simp at z, fun _ => h5.symm⟩
    · cases h4
      have hsh := pInners_shr _ _ _ _ h5
      have hlt := pInner_lt h1
      have htl : l2.tail.length ≤ l2.length := by rw [List.length_tail]; omega
      cases j with
      | zero =>
        refine ⟨l2, o, rfl, h1, by omega, Nat.le_refl _, fun _ => h3, fun z => ?_⟩
        have : os = [] := List.length_eq_zero_iff.mp (by rw [List.length_cons] at z; omega)
        subst this
        exact absurd h5 (by
          intro z
          obtain ⟨_, _, _, h8⟩ := pInners_out z
          rcases h8 with ⟨_, z, _⟩ | ⟨_, _, _, z, _⟩ <;> cases z)
      | succ j =>
        simp at hj
        rw [suI_shift, nxI_eq h1]
        obtain ⟨lj, oj, e1, e2, e3, e4, e5, e6⟩ := ih k' l2.tail lx h5 j hj
        exact ⟨lj, oj, e1, e2, e3, by omega, fun z => e5 (by simp at z; omega), fun z => e6 (by simp at z; omega)⟩
/-- an order's inner orders: where they stand, what they are -/
theorem pOrder_key (h : pOrder l = .inr (l2, o)) : l2.length < l.length ∧ ∀ j, j < o.2.length → ∃ lj oj, o.2[j]? = some oj ∧ pInner (suI (inS l) j) = .inr (lj, oj) ∧ l2.length ≤ lj.length ∧ (suI (inS l) j).length < l.length := by
  unfold pOrder at h
  cases hp : pWhere l with
  | inl f => rw [hp] at h; cases h
  | inr q =>
    obtain ⟨l1, w⟩ := q
    rw [hp] at h
    dsimp only at h
    have h0 := pWhere_shr _ _ hp
    by_cases h123 : hd l1 = 123
    · rw [if_pos h123] at h
      cases hb : pBlock l1 with
      | inl f => rw [hb] at h; cases h
      | inr q =>
        obtain ⟨l3, os⟩ := q
        rw [hb] at h
        cases h
        have hl1 : 0 < l1.length := List.length_pos_iff.mpr (hd_ne h123 (by decide))
        have hin : inS l = l1.tail := by unfold inS; rw [hp]; dsimp only; rw [if_pos h123]
        unfold pBlock at hb
        rw [if_pos h123] at hb
        cases hi : pInners l1.length l1.tail with
        | inl f => rw [hi] at hb; cases hb
        | inr q =>
          obtain ⟨lx, os'⟩ := q
          rw [hi] at hb
          dsimp only at hb
          split at hb
          · rename_i h125
            cases hb
            have hlx : 0 < lx.length := List.length_pos_iff.mpr (hd_ne h125 (by decide))
            have hsh := pInners_shr _ _ _ _ hi
            have h9 : l1.tail.length = l1.length - 1 := List.length_tail
            have h8 : lx.tail.length = lx.length - 1 := List.length_tail
            refine ⟨by omega, fun j hj => ?_⟩
            obtain ⟨lj, oj, e1, e2, e3, e4, -, -⟩ := pInners_key _ _ _ _ hi j hj
            rw [hin]
            exact ⟨lj, oj, e1, e2, by omega, by omega⟩
          · cases hb
    rw [if_neg h123] at h
    by_cases hg : hd l1 = 103 ∨ hd l1 = 71
    · rw [if_pos hg] at h
      have hl1 : 0 < l1.length := by
        refine List.length_pos_iff.mpr ?_
        rcases hg with z | z
        · exact hd_ne z (by decide)
        · exact hd_ne z (by decide)
      split at h
      · cases hpt : pPat 47 l1.tail.tail with
        | inl f => rw [hpt] at h; cases h
        | inr q =>
          obtain ⟨la, g, pt⟩ := q
          rw [hpt] at h
          dsimp only at h
          have hla := pPat_shr _ _ _ hpt
          have h9 : l1.tail.length = l1.length - 1 := List.length_tail
          have h8 : l1.tail.tail.length = l1.tail.length - 1 := List.length_tail
          have h7 : la.tail.length = la.length - 1 := List.length_tail
          split at h
          · split at h
            · rename_i h123'
              have hin : inS l = la.tail.tail := by unfold inS; rw [hp]; dsimp only; rw [if_neg h123, hpt]; dsimp only; rw [if_pos h123']
              cases hb : pBlock la.tail with
              | inl f => rw [hb] at h; cases h
              | inr q =>
                obtain ⟨l3, os⟩ := q
                rw [hb] at h
                cases h
                have hlt : 0 < la.tail.length := List.length_pos_iff.mpr (hd_ne h123' (by decide))
                unfold pBlock at hb
                rw [if_pos h123'] at hb
                cases hi : pInners la.tail.length la.tail.tail with
                | inl f => rw [hi] at hb; cases hb
                | inr q =>
                  obtain ⟨lx, os'⟩ := q
                  rw [hi] at hb
                  dsimp only at hb
                  split at hb
                  · rename_i h125
                    cases hb
                    have hlx : 0 < lx.length := List.length_pos_iff.mpr (hd_ne h125 (by decide))
                    have hsh := pInners_shr _ _ _ _ hi
                    have h6 : la.tail.tail.length = la.tail.length - 1 := List.length_tail
                    have h5 : lx.tail.length = lx.length - 1 := List.length_tail
                    refine ⟨by omega, fun j hj => ?_⟩
                    obtain ⟨lj, oj, e1, e2, e3, e4, -, -⟩ := pInners_key _ _ _ _ hi j hj
                    rw [hin]
                    exact ⟨lj, oj, e1, e2, by omega, by omega⟩
                  · cases hb
            · rename_i h123'
              have hin : inS l = la.tail := by unfold inS; rw [hp]; dsimp only; rw [if_neg h123, hpt]; dsimp only; rw [if_neg h123']
              cases hb : pInner la.tail with
              | inl f => rw [hb] at h; cases h
              | inr q =>
                obtain ⟨l3, o'⟩ := q
                rw [hb] at h
                cases h
                have hlt := pInner_lt hb
                refine ⟨by omega, fun j hj => ?_⟩
                simp at hj
                subst hj
                rw [hin]
                exact ⟨l2, o', rfl, hb, Nat.le_refl _, by show la.tail.length < l.length; omega⟩
          · cases h
      · cases h
    rw [if_neg hg] at h
    cases ha : pAct false w l1 with
    | inl f => rw [ha] at h; cases h
    | inr q =>
      obtain ⟨l3, o'⟩ := q
      rw [ha] at h
      cases h
      have := pAct_lt ha
      exact ⟨by omega, fun j hj => absurd hj (Nat.not_lt_zero _)⟩
end Keys
section Keys2
variable {s l l1 l2 : List Int} {os : List SOrd} {o : SOrd}
theorem Sfx.pos {x : Int} (h : Sfx s l x) : l.length ≤ s.length ∧ x = ((s.length - l.length : Nat) : Int) := by
  have := h.len
  omega
/-- the orders from a place on, told of the text's rest alone -/
def PlO (s : List Int) (os : List SOrd) (k : Nat) : Prop := k < os.length ∧ (suO s k).length ≤ s.length ∧ ∃ n, pOrders n (suO s k) = .inr ([], os.drop k)
theorem PlO.get {k : Nat} (h : PlO s os k) : ∃ o l2, os[k]? = some o ∧ pOrder (suO s k) = .inr (l2, o) ∧ (suO s k).length ≤ s.length ∧ (k + 1 < os.length → hd l2 = 59 ∧ suO s (k + 1) = l2.tail ∧ PlO s os (k + 1)) := by
  obtain ⟨hk, h1, n, h2⟩ := h
  obtain ⟨o, l2, h3, h4⟩ := pOrders_out h2
  have hsu : suO s (k + 1) = l2.tail := by
    show (match pOrder (suO s k) with | .inr (l2, _) => l2.tail | .inl _ => []) = _
    rw [h3]
  have hdr : os[k]? = (os.drop k)[0]? := by rw [List.getElem?_drop]; rfl
  have hln : (os.drop k).length = os.length - k := List.length_drop
  have hsh := (pOrder_key h3).1
  rcases h4 with ⟨_, h6, h7⟩ | ⟨h5, k', os', h6, h7⟩
  · refine ⟨o, l2, by rw [hdr, h6]; rfl, h3, h1, fun z => ?_⟩
    rw [h6] at hln
    simp at hln
    omega
  · refine ⟨o, l2, by rw [hdr, h6]; rfl, h3, h1, fun z => ⟨h5, hsu, z, ?_, k', ?_⟩⟩
    · rw [hsu, List.length_tail]
      omega
    · rw [hsu, h7, ← List.drop_drop, h6]
      rfl
theorem Place.at {x : Int} (h : Place s os 0 x) : ∀ k, k < os.length → PlO s os k := by
  intro k
  induction k with
  | zero =>
    intro hk
    rcases h with ⟨h1, h2, h3⟩ | ⟨h1, _⟩
    · exact ⟨hk, h2.pos.1, h3⟩
    · omega
  | succ k ih =>
    intro hk
    obtain ⟨_, _, _, _, _, q⟩ := (ih (by omega)).get
    exact (q hk).2.2
theorem suO_far {x : Int} (h : Place s os 0 x) : ∀ (d k : Nat), k + d + 1 < os.length → ∃ o l2, os[k]? = some o ∧ pOrder (suO s k) = .inr (l2, o) ∧ (suO s (k + d + 1)).length < l2.length := by
  intro d
  induction d with
  | zero =>
    intro k hk
    obtain ⟨o, l2, e1, e2, -, q⟩ := (h.at k (by omega)).get
    obtain ⟨e3, e4, -⟩ := q hk
    have : 0 < l2.length := List.length_pos_iff.mpr (hd_ne e3 (by decide))
    exact ⟨o, l2, e1, e2, by rw [show k + 0 + 1 = k + 1 from rfl, e4, List.length_tail]; omega⟩
  | succ d ih =>
    intro k hk
    obtain ⟨o, l2, e1, e2, -, q⟩ := (h.at k (by omega)).get
    obtain ⟨e3, e4, -⟩ := q (by omega)
    have h0 : 0 < l2.length := List.length_pos_iff.mpr (hd_ne e3 (by decide))
    obtain ⟨o', l2', f1, f2, f3⟩ := ih (k + 1) (by omega)
    have f4 := (pOrder_key f2).1
    rw [e4, List.length_tail] at f4
    refine ⟨o, l2, e1, e2, ?_⟩
    rw [show k + (d + 1) + 1 = k + 1 + d + 1 from by omega]
    omega
theorem suI_dec (h : pOrder l = .inr (l2, o)) : ∀ (d j : Nat), j + d + 1 < o.2.length → (suI (inS l) (j + d + 1)).length < (suI (inS l) j).length := by
  intro d
  induction d with
  | zero =>
    intro j hj
    obtain ⟨lj, oj, e1, e2, e3, e4⟩ := (pOrder_key h).2 j (by omega)
    have e5 := pInner_lt e2
    have e6 : suI (inS l) (j + 0 + 1) = lj.tail := by
      show nxI (suI (inS l) j) = _
      exact nxI_eq e2
    rw [e6, List.length_tail]
    omega
  | succ d ih =>
    intro j hj
    have a := ih j (by omega)
    obtain ⟨lj, oj, e1, e2, e3, e4⟩ := (pOrder_key h).2 (j + d + 1) (by omega)
    have e5 := pInner_lt e2
    have e6 : suI (inS l) (j + (d + 1) + 1) = lj.tail := by
      show nxI (suI (inS l) (j + d + 1)) = _
      exact nxI_eq e2
    rw [e6, List.length_tail]
    omega
theorem keyV.lt {k i : Nat} (h : keyV os k i) : k < os.length := by
  obtain ⟨o, e, -⟩ := h
  exact (List.getElem?_eq_some_iff.mp e).1
theorem keyS_ord {x : Int} {k i : Nat} (hP : Place s os 0 x) (hv : keyV os k i) : ∃ o l2, os[k]? = some o ∧ pOrder (suO s k) = .inr (l2, o) ∧ i ≤ o.2.length ∧ l2.length < (keyS s k i).length ∧ (keyS s k i).length ≤ (suO s k).length ∧ (suO s k).length ≤ s.length ∧ (i ≠ 0 → (keyS s k i).length < (suO s k).length) := by
  obtain ⟨o, l2, e1, e3, g3, -⟩ := (hP.at k hv.lt).get
  obtain ⟨o', f1, f2⟩ := hv
  rw [e1] at f1
  cases f1
  obtain ⟨g1, g2⟩ := pOrder_key e3
  refine ⟨o, l2, e1, e3, f2, ?_⟩
  cases i with
  | zero => exact ⟨g1, Nat.le_refl _, g3, fun z => absurd rfl z⟩
  | succ j =>
    obtain ⟨lj, oj, a1, a2, a3, a4⟩ := g2 j f2
    have a5 := pInner_lt a2
    have a6 : (keyS s k (j + 1)).length = (suI (inS (suO s k)) j).length := rfl
    exact ⟨by omega, by omega, g3, fun _ => by omega⟩
theorem keyS_lt {x : Int} {k i k' i' : Nat} (hP : Place s os 0 x) (hv : keyV os k i) (hv' : keyV os k' i') (hlt : k < k' ∨ (k = k' ∧ i < i')) : (keyS s k' i').length < (keyS s k i).length := by
  obtain ⟨o, l2, e1, e2, e3, e4, e5, e6, e7⟩ := keyS_ord hP hv
  obtain ⟨o', l2', f1, f2, f3, f4, f5, f6, f7⟩ := keyS_ord hP hv'
  rcases hlt with h | ⟨rfl, h⟩
  · obtain ⟨d, rfl⟩ : ∃ d, k' = k + d + 1 := ⟨k' - k - 1, by omega⟩
    obtain ⟨o2, l3, g1, g2, g3⟩ := suO_far hP d k hv'.lt
    rw [e2] at g2
    cases g2
    omega
  · rw [e1] at f1
    cases f1
    cases i with
    | zero => exact f7 (by omega)
    | succ j =>
      obtain ⟨j', rfl⟩ : ∃ d, i' = j + d + 1 + 1 := ⟨i' - j - 2, by omega⟩
      exact suI_dec e2 j' j (by omega)
/-- two orders stand at two places -/
theorem key_ne {x : Int} {k i k' i' : Nat} (hP : Place s os 0 x) (hv : keyV os k i) (hv' : keyV os k' i') (hne : ¬ (k = k' ∧ i = i')) : keyP s k i ≠ keyP s k' i' := by
  obtain ⟨o, l2, e1, e2, e3, e4, e5, e6, e7⟩ := keyS_ord hP hv
  obtain ⟨o', l2', f1, f2, f3, f4, f5, f6, f7⟩ := keyS_ord hP hv'
  unfold keyP
  have hc : (k < k' ∨ (k = k' ∧ i < i')) ∨ (k' < k ∨ (k' = k ∧ i' < i)) := by omega
  rcases hc with h | h
  · have := keyS_lt hP hv hv' h
    clear hne h
    omega
  · have := keyS_lt hP hv' hv h
    clear hne h
    omega
theorem keyP_sfx {x : Int} {k i : Nat} (h : Sfx s (keyS s k i) x) : x = ((keyP s k i : Nat) : Int) := h.pos.2
end Keys2
