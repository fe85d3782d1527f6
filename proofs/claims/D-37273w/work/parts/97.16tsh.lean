set_option maxRecDepth 100000
/-! SHAPES OF SEARCH TREES, pure: keys K from 0 to 127; below k lie just the keys between lo k and hi k; L, R, P: left, right, parent -/
def TSh (K : Int → Prop) (lo hi : Int → Int) (L R P : Int → Option Int) (rt : Option Int) : Prop :=
  (∀ k, K k → -1 ≤ lo k ∧ lo k < k ∧ k < hi k ∧ hi k ≤ 128) ∧
  (∀ j k, K j → K k → j < k → hi j ≤ lo k ∨ (lo k ≤ lo j ∧ hi j ≤ k) ∨ (j ≤ lo k ∧ hi k ≤ hi j)) ∧
  (∀ k, K k → (L k = none → ∀ y, K y → ¬ (lo k < y ∧ y < k)) ∧ ∀ j, L k = some j → K j ∧ lo j = lo k ∧ hi j = k ∧ P j = some k) ∧
  (∀ k, K k → (R k = none → ∀ y, K y → ¬ (k < y ∧ y < hi k)) ∧ ∀ j, R k = some j → K j ∧ lo j = k ∧ hi j = hi k ∧ P j = some k) ∧
  (∀ k, K k → (P k = none → rt = some k) ∧ ∀ p, P k = some p → K p ∧ (L p = some k ∨ R p = some k)) ∧
  (rt = none → ∀ k, ¬ K k) ∧ ∀ r, rt = some r → K r ∧ lo r = -1 ∧ hi r = 128 ∧ P r = none
section TSh
variable {K : Int → Prop} {lo hi : Int → Int} {L R P : Int → Option Int} {rt : Option Int}
theorem TSh.lr (H : TSh K lo hi L R P rt) {a b : Int} (ha : K a) (hl : L a = some b) (hr : R a = some b) : False := by
  have h1 := ((H.2.2.1 a ha).2 b hl)
  have h2 := ((H.2.2.2.1 a ha).2 b hr)
  have := H.1 b h1.1
  have := H.1 a ha
  omega
/-- two nodes with the same child are the same -/
theorem TSh.up {a b c : Int} (H : TSh K lo hi L R P rt) (ha : K a) (hb : K b) (h1 : L a = some c ∨ R a = some c) (h2 : L b = some c ∨ R b = some c) : a = b := by
  have e1 : P c = some a := h1.elim (fun h => ((H.2.2.1 a ha).2 c h).2.2.2) (fun h => ((H.2.2.2.1 a ha).2 c h).2.2.2)
  have e2 : P c = some b := h2.elim (fun h => ((H.2.2.1 b hb).2 c h).2.2.2) (fun h => ((H.2.2.2.1 b hb).2 c h).2.2.2)
  exact Option.some.inj (e1.symm.trans e2)
def rlL (L P : Int → Option Int) (i j a : Int) : Option Int := if a = j then some i else if P i = some a ∧ L a = some i then some j else L a
def rlR (L R P : Int → Option Int) (i j a : Int) : Option Int := if a = i then L j else if P i = some a ∧ L a ≠ some i then some j else R a
def rlP (L P : Int → Option Int) (i j a : Int) : Option Int := if a = i then some j else if a = j then P i else if L j = some a then some i else P a
def rlRt (P : Int → Option Int) (rt : Option Int) (i j : Int) : Option Int := if P i = none then some j else rt
theorem TSh.rotL {i j : Int} (H : TSh K lo hi L R P rt) (ki : K i) (hj : R i = some j) :
    TSh K (fun a => if a = j then lo i else lo a) (fun a => if a = i then j else hi a) (rlL L P i j) (rlR L R P i j) (rlP L P i j) (rlRt P rt i j) := by
  obtain ⟨W1, W2, W3, W4, W5, W6, W7⟩ := id H
  obtain ⟨kj, j1, j2, j3⟩ := (W4 i ki).2 j hj
  have bi := W1 i ki
  have bj := W1 j kj
  have hij : i ≠ j := by omega
  have hji : j ≠ i := fun z => hij z.symm
  -- the child that moves
  have hc : ∀ c, L j = some c → K c ∧ lo c = i ∧ hi c = j ∧ P c = some j ∧ i < c ∧ c < j := by
    intro c h
    obtain ⟨c1, c2, c3, c4⟩ := (W3 j kj).2 c h
    have := W1 c c1
    exact ⟨c1, c2.trans j1, c3, c4, by omega, by omega⟩
  -- the parent
  have hp : ∀ p, P i = some p → K p ∧ (L p = some i ∧ lo i = lo p ∧ hi i = p ∨ R p = some i ∧ L p ≠ some i ∧ lo i = p ∧ hi i = hi p) ∧ p ≠ i ∧ p ≠ j := by
    intro p h
    obtain ⟨p1, p2⟩ := (W5 i ki).2 p h
    have bp := W1 p p1
    rcases p2 with p2 | p2
    · have e := (W3 p p1).2 i p2
      exact ⟨p1, Or.inl ⟨p2, e.2.1, e.2.2.1⟩, by omega, by omega⟩
    · have e := (W4 p p1).2 i p2
      exact ⟨p1, Or.inr ⟨p2, fun z => H.lr p1 z p2, e.2.1, e.2.2.1⟩, by omega, by omega⟩
  refine ⟨fun a ha => ?_, fun a b ha hb hab => ?_, fun a ha => ⟨fun h y hy => ?_, fun b h => ?_⟩, fun a ha => ⟨fun h y hy => ?_, fun b h => ?_⟩, fun a ha => ⟨fun h => ?_, fun p h => ?_⟩, fun h => ?_, fun r h => ?_⟩
  · have := W1 a ha
    dsimp only
    split <;> split <;> omega
  · have w := W2 a b ha hb hab
    have ba := W1 a ha
    have bb := W1 b hb
    dsimp only
    by_cases a1 : a = i
    · subst a1
      rw [if_neg hij, if_pos rfl]
      by_cases b1 : b = j
      · subst b1; rw [if_pos rfl, if_neg hji]; omega
      · rw [if_neg b1, if_neg (by omega)]
        rcases Int.lt_or_lt_of_ne b1 with h | h
        · have := W2 b j hb kj h; omega
        · have := W2 j b kj hb h; omega
    · rw [if_neg a1]
      by_cases b1 : b = j
      · subst b1
        rw [if_pos rfl, if_neg (show ¬ a = b by omega), if_neg hji]
        rcases Int.lt_or_lt_of_ne a1 with h | h
        · have := W2 a i ha ki h; omega
        · have := W2 i a ki ha h; omega
      · rw [if_neg b1]
        by_cases a2 : a = j
        · subst a2
          rw [if_pos rfl, if_neg (show ¬ b = i by omega)]
          have := W2 i b ki hb (by omega)
          omega
        · rw [if_neg a2]
          by_cases b2 : b = i
          · subst b2
            rw [if_pos rfl]
            have := W2 a j ha kj (by omega)
            omega
          · rw [if_neg b2]; exact w
  · -- left none
    unfold rlL at h
    dsimp only
    by_cases a1 : a = j
    · rw [if_pos a1] at h; cases h
    · rw [if_neg a1] at h ⊢
      split at h
      · cases h
      · exact (W3 a ha).1 h y hy
  · -- left some
    unfold rlL at h
    dsimp only
    by_cases a1 : a = j
    · rw [if_pos a1] at h
      cases h
      subst a1
      rw [if_pos rfl, if_neg hij, if_pos rfl]
      unfold rlP
      rw [if_pos rfl]
      exact ⟨ki, rfl, rfl, rfl⟩
    · rw [if_neg a1] at h ⊢
      split at h
      · rename_i z
        cases h
        obtain ⟨p1, p2, p3, p4⟩ := hp a z.1
        rcases p2 with p2 | p2
        · rw [if_pos rfl, if_neg hji]
          unfold rlP
          rw [if_neg hji, if_pos rfl]
          exact ⟨kj, by omega, by omega, z.1⟩
        · exact absurd z.2 p2.2.1
      · rename_i z
        obtain ⟨c1, c2, c3, c4⟩ := (W3 a ha).2 b h
        have bj2 : b ≠ j := fun e => by
          rw [e] at c4
          have := Option.some.inj (c4.symm.trans j3)
          rw [this, e] at h
          exact H.lr ki h hj
        have bi2 : b ≠ i := fun e => z ⟨by rw [← e]; exact c4, by rw [← e]; exact h⟩
        rw [if_neg bj2, if_neg bi2]
        unfold rlP
        rw [if_neg bi2, if_neg bj2, if_neg (fun e => a1 (by have := (hc b e).2.2.2.1; exact Option.some.inj (c4.symm.trans this)))]
        exact ⟨c1, c2, c3, c4⟩
  · -- right none
    unfold rlR at h
    dsimp only
    by_cases a1 : a = i
    · subst a1
      rw [if_pos rfl] at h ⊢
      have := (W3 j kj).1 h y hy
      rw [j1] at this
      exact this
    · rw [if_neg a1] at h ⊢
      split at h
      · cases h
      · exact (W4 a ha).1 h y hy
  · -- right some
    unfold rlR at h
    dsimp only
    by_cases a1 : a = i
    · subst a1
      rw [if_pos rfl] at h ⊢
      obtain ⟨c1, c2, c3, c4, c5, c6⟩ := hc b h
      rw [if_neg (by omega), if_neg (by omega)]
      unfold rlP
      rw [if_neg (by omega), if_neg (by omega), if_pos h]
      exact ⟨c1, c2, c3, rfl⟩
    · rw [if_neg a1] at h ⊢
      split at h
      · rename_i z
        cases h
        obtain ⟨p1, p2, p3, p4⟩ := hp a z.1
        rcases p2 with p2 | p2
        · exact absurd p2.1 z.2
        · rw [if_pos rfl, if_neg hji]
          unfold rlP
          rw [if_neg hji, if_pos rfl]
          exact ⟨kj, by omega, by omega, z.1⟩
      · rename_i z
        obtain ⟨c1, c2, c3, c4⟩ := (W4 a ha).2 b h
        have bj2 : b ≠ j := fun e => by
          rw [e] at c4
          exact a1 (Option.some.inj (c4.symm.trans j3))
        have bi2 : b ≠ i := fun e => z ⟨by rw [← e]; exact c4, fun e2 => H.lr ha (e ▸ e2) h⟩
        rw [if_neg bj2, if_neg bi2]
        unfold rlP
        rw [if_neg bi2, if_neg bj2, if_neg (fun e => by
          have e9 := (hc b e).2.2.2.1
          have e8 := Option.some.inj (c4.symm.trans e9)
          subst e8
          exact H.lr ha e h)]
        exact ⟨c1, c2, c3, c4⟩
  · -- parent none
    unfold rlP at h
    by_cases a1 : a = i
    · rw [if_pos a1] at h; cases h
    · rw [if_neg a1] at h
      by_cases a2 : a = j
      · rw [if_pos a2] at h
        unfold rlRt
        rw [if_pos h, a2]
      · rw [if_neg a2] at h
        split at h
        · cases h
        · unfold rlRt
          by_cases c : P i = none
          · exfalso
            have e1 := (W5 i ki).1 c
            have e2 := (W5 a ha).1 h
            exact a1 (Option.some.inj (e2.symm.trans e1))
          · rw [if_neg c]; exact (W5 a ha).1 h
  · -- parent some
    unfold rlP at h
    by_cases a1 : a = i
    · rw [if_pos a1] at h
      cases h
      refine ⟨kj, Or.inl ?_⟩
      unfold rlL
      rw [if_pos rfl, a1]
    · rw [if_neg a1] at h
      by_cases a2 : a = j
      · rw [if_pos a2] at h
        obtain ⟨p1, p2, p3, p4⟩ := hp p h
        refine ⟨p1, ?_⟩
        rw [a2]
        rcases p2 with p2 | p2
        · left; unfold rlL; rw [if_neg p4, if_pos ⟨h, p2.1⟩]
        · right; unfold rlR; rw [if_neg p3, if_pos ⟨h, p2.2.1⟩]
      · rw [if_neg a2] at h
        split at h
        · rename_i z
          cases h
          refine ⟨ki, Or.inr ?_⟩
          unfold rlR
          rw [if_pos rfl, z]
        · rename_i z
          obtain ⟨p1, p2⟩ := (W5 a ha).2 p h
          refine ⟨p1, ?_⟩
          rcases p2 with p2 | p2
          · left
            unfold rlL
            rw [if_neg (fun (e : p = j) => z (e ▸ p2)), if_neg (fun e => a1 (Option.some.inj (p2.symm.trans e.2)))]
            exact p2
          · right
            unfold rlR
            have pi : p ≠ i := fun e => a2 (Option.some.inj ((e ▸ p2).symm.trans hj))
            rw [if_neg pi, if_neg (fun e => by
              rcases (hp p e.1).2.1 with y | y
              · exact e.2 y.1
              · exact a1 (Option.some.inj (p2.symm.trans y.1)))]
            exact p2
  · unfold rlRt at h
    split at h
    · cases h
    · exact W6 h
  · unfold rlRt at h
    dsimp only
    split at h
    · rename_i c
      cases h
      obtain ⟨r1, r2, r3, r4⟩ := W7 i ((W5 i ki).1 c)
      rw [if_pos rfl, if_neg hji]
      unfold rlP
      rw [if_neg hji, if_pos rfl]
      exact ⟨kj, r2, by omega, c⟩
    · rename_i c
      obtain ⟨r1, r2, r3, r4⟩ := W7 r h
      have ri : r ≠ i := fun e => c (e ▸ r4)
      have rj : r ≠ j := fun e => by rw [e, j3] at r4; cases r4
      rw [if_neg rj, if_neg ri]
      unfold rlP
      rw [if_neg ri, if_neg rj, if_neg (fun e => by rw [(hc r e).2.2.2.1] at r4; cases r4)]
      exact ⟨r1, r2, r3, r4⟩
theorem TSh.rl (H : TSh K lo hi L R P rt) {a b : Int} (ha : K a) (hr : R a = some b) (hl : L a = some b) : False := H.lr ha hl hr
def rrR (R P : Int → Option Int) (i j a : Int) : Option Int := if a = j then some i else if P i = some a ∧ R a = some i then some j else R a
def rrL (R L P : Int → Option Int) (i j a : Int) : Option Int := if a = i then R j else if P i = some a ∧ R a ≠ some i then some j else L a
def rrP (R P : Int → Option Int) (i j a : Int) : Option Int := if a = i then some j else if a = j then P i else if R j = some a then some i else P a
def rrRt (P : Int → Option Int) (rt : Option Int) (i j : Int) : Option Int := if P i = none then some j else rt
theorem TSh.rotR {i j : Int} (H : TSh K lo hi L R P rt) (ki : K i) (hj : L i = some j) :
    TSh K (fun a => if a = i then j else lo a) (fun a => if a = j then hi i else hi a) (rrL R L P i j) (rrR R P i j) (rrP R P i j) (rrRt P rt i j) := by
  obtain ⟨W1, W2, W3, W4, W5, W6, W7⟩ := id H
  obtain ⟨kj, j2, j1, j3⟩ := (W3 i ki).2 j hj
  have bi := W1 i ki
  have bj := W1 j kj
  have hij : i ≠ j := by omega
  have hji : j ≠ i := fun z => hij z.symm
  -- the child that moves
  have hc : ∀ c, R j = some c → K c ∧ hi c = i ∧ lo c = j ∧ P c = some j ∧ c < i ∧ j < c := by
    intro c h
    obtain ⟨c1, c3, c2, c4⟩ := (W4 j kj).2 c h
    have := W1 c c1
    exact ⟨c1, c2.trans j1, c3, c4, by omega, by omega⟩
  -- the parent
  have hp : ∀ p, P i = some p → K p ∧ (R p = some i ∧ hi i = hi p ∧ lo i = p ∨ L p = some i ∧ R p ≠ some i ∧ hi i = p ∧ lo i = lo p) ∧ p ≠ i ∧ p ≠ j := by
    intro p h
    obtain ⟨p1, p2⟩ := (W5 i ki).2 p h
    have p2 := p2.symm
    have bp := W1 p p1
    rcases p2 with p2 | p2
    · have e := (W4 p p1).2 i p2
      exact ⟨p1, Or.inl ⟨p2, e.2.2.1, e.2.1⟩, by omega, by omega⟩
    · have e := (W3 p p1).2 i p2
      exact ⟨p1, Or.inr ⟨p2, fun z => H.rl p1 z p2, e.2.2.1, e.2.1⟩, by omega, by omega⟩
  refine ⟨fun a ha => ?_, fun a b ha hb hab => ?_, fun a ha => ⟨fun h y hy => ?_, fun b h => ?_⟩, fun a ha => ⟨fun h y hy => ?_, fun b h => ?_⟩, fun a ha => ⟨fun h => ?_, fun p h => ?_⟩, fun h => ?_, fun r h => ?_⟩
  · have := W1 a ha
    dsimp only
    split <;> split <;> omega
  · have w := W2 a b ha hb hab
    have ba := W1 a ha
    have bb := W1 b hb
    dsimp only
    by_cases b1 : b = i
    · subst b1
      rw [if_pos rfl, if_neg hij]
      by_cases a1 : a = j
      · subst a1; rw [if_pos rfl, if_neg hji]; omega
      · rw [if_neg a1, if_neg (by omega)]
        rcases Int.lt_or_lt_of_ne a1 with h | h
        · have := W2 a j ha kj h; omega
        · have := W2 j a kj ha h; omega
    · rw [if_neg b1]
      by_cases a1 : a = j
      · subst a1
        rw [if_pos rfl, if_neg hji, if_neg (show ¬ b = a by omega)]
        rcases Int.lt_or_lt_of_ne b1 with h | h
        · have := W2 b i hb ki h; omega
        · have := W2 i b ki hb h; omega
      · rw [if_neg a1]
        by_cases b2 : b = j
        · subst b2
          rw [if_pos rfl, if_neg (show ¬ a = i by omega)]
          have := W2 a i ha ki (by omega)
          omega
        · rw [if_neg b2]
          by_cases a2 : a = i
          · subst a2
            rw [if_pos rfl]
            have := W2 j b kj hb (by omega)
            omega
          · rw [if_neg a2]; exact w
  · -- right none
    unfold rrL at h
    dsimp only
    by_cases a1 : a = i
    · subst a1
      rw [if_pos rfl] at h ⊢
      have := (W4 j kj).1 h y hy
      rw [j1] at this
      exact this
    · rw [if_neg a1] at h ⊢
      split at h
      · cases h
      · exact (W3 a ha).1 h y hy
  · -- right some
    unfold rrL at h
    dsimp only
    by_cases a1 : a = i
    · subst a1
      rw [if_pos rfl] at h ⊢
      obtain ⟨c1, c2, c3, c4, c5, c6⟩ := hc b h
      rw [if_neg (by omega), if_neg (by omega)]
      unfold rrP
      rw [if_neg (by omega), if_neg (by omega), if_pos h]
      exact ⟨c1, c3, c2, rfl⟩
    · rw [if_neg a1] at h ⊢
      split at h
      · rename_i z
        cases h
        obtain ⟨p1, p2, p3, p4⟩ := hp a z.1
        rcases p2 with p2 | p2
        · exact absurd p2.1 z.2
        · rw [if_pos rfl, if_neg hji]
          unfold rrP
          rw [if_neg hji, if_pos rfl]
          exact ⟨kj, by omega, by omega, z.1⟩
      · rename_i z
        obtain ⟨c1, c3, c2, c4⟩ := (W3 a ha).2 b h
        have bj2 : b ≠ j := fun e => by
          rw [e] at c4
          exact a1 (Option.some.inj (c4.symm.trans j3))
        have bi2 : b ≠ i := fun e => z ⟨by rw [← e]; exact c4, fun e2 => H.rl ha (e ▸ e2) h⟩
        rw [if_neg bj2, if_neg bi2]
        unfold rrP
        rw [if_neg bi2, if_neg bj2, if_neg (fun e => by
          have e9 := (hc b e).2.2.2.1
          have e8 := Option.some.inj (c4.symm.trans e9)
          subst e8
          exact H.rl ha e h)]
        exact ⟨c1, c3, c2, c4⟩
  · -- left none
    unfold rrR at h
    dsimp only
    by_cases a1 : a = j
    · rw [if_pos a1] at h; cases h
    · rw [if_neg a1] at h ⊢
      split at h
      · cases h
      · exact (W4 a ha).1 h y hy
  · -- left some
    unfold rrR at h
    dsimp only
    by_cases a1 : a = j
    · rw [if_pos a1] at h
      cases h
      subst a1
      rw [if_pos rfl, if_neg hij, if_pos rfl]
      unfold rrP
      rw [if_pos rfl]
      exact ⟨ki, rfl, rfl, rfl⟩
    · rw [if_neg a1] at h ⊢
      split at h
      · rename_i z
        cases h
        obtain ⟨p1, p2, p3, p4⟩ := hp a z.1
        rcases p2 with p2 | p2
        · rw [if_pos rfl, if_neg hji]
          unfold rrP
          rw [if_neg hji, if_pos rfl]
          exact ⟨kj, by omega, by omega, z.1⟩
        · exact absurd z.2 p2.2.1
      · rename_i z
        obtain ⟨c1, c3, c2, c4⟩ := (W4 a ha).2 b h
        have bj2 : b ≠ j := fun e => by
          rw [e] at c4
          have := Option.some.inj (c4.symm.trans j3)
          rw [this, e] at h
          exact H.rl ki h hj
        have bi2 : b ≠ i := fun e => z ⟨by rw [← e]; exact c4, by rw [← e]; exact h⟩
        rw [if_neg bj2, if_neg bi2]
        unfold rrP
        rw [if_neg bi2, if_neg bj2, if_neg (fun e => a1 (by have := (hc b e).2.2.2.1; exact Option.some.inj (c4.symm.trans this)))]
        exact ⟨c1, c3, c2, c4⟩
  · -- parent none
    unfold rrP at h
    by_cases a1 : a = i
    · rw [if_pos a1] at h; cases h
    · rw [if_neg a1] at h
      by_cases a2 : a = j
      · rw [if_pos a2] at h
        unfold rrRt
        rw [if_pos h, a2]
      · rw [if_neg a2] at h
        split at h
        · cases h
        · unfold rrRt
          by_cases c : P i = none
          · exfalso
            have e1 := (W5 i ki).1 c
            have e2 := (W5 a ha).1 h
            exact a1 (Option.some.inj (e2.symm.trans e1))
          · rw [if_neg c]; exact (W5 a ha).1 h
  · -- parent some
    unfold rrP at h
    by_cases a1 : a = i
    · rw [if_pos a1] at h
      cases h
      refine ⟨kj, Or.inr ?_⟩
      unfold rrR
      rw [if_pos rfl, a1]
    · rw [if_neg a1] at h
      by_cases a2 : a = j
      · rw [if_pos a2] at h
        obtain ⟨p1, p2, p3, p4⟩ := hp p h
        refine ⟨p1, ?_⟩
        rw [a2]
        rcases p2 with p2 | p2
        · right; unfold rrR; rw [if_neg p4, if_pos ⟨h, p2.1⟩]
        · left; unfold rrL; rw [if_neg p3, if_pos ⟨h, p2.2.1⟩]
      · rw [if_neg a2] at h
        split at h
        · rename_i z
          cases h
          refine ⟨ki, Or.inl ?_⟩
          unfold rrL
          rw [if_pos rfl, z]
        · rename_i z
          obtain ⟨p1, p2⟩ := (W5 a ha).2 p h
          have p2 := p2.symm
          refine ⟨p1, ?_⟩
          rcases p2 with p2 | p2
          · right
            unfold rrR
            rw [if_neg (fun (e : p = j) => z (e ▸ p2)), if_neg (fun e => a1 (Option.some.inj (p2.symm.trans e.2)))]
            exact p2
          · left
            unfold rrL
            have pi : p ≠ i := fun e => a2 (Option.some.inj ((e ▸ p2).symm.trans hj))
            rw [if_neg pi, if_neg (fun e => by
              rcases (hp p e.1).2.1 with y | y
              · exact e.2 y.1
              · exact a1 (Option.some.inj (p2.symm.trans y.1)))]
            exact p2
  · unfold rrRt at h
    split at h
    · cases h
    · exact W6 h
  · unfold rrRt at h
    dsimp only
    split at h
    · rename_i c
      cases h
      obtain ⟨r1, r2, r3, r4⟩ := W7 i ((W5 i ki).1 c)
      rw [if_pos rfl, if_neg hji]
      unfold rrP
      rw [if_neg hji, if_pos rfl]
      exact ⟨kj, by omega, r3, c⟩
    · rename_i c
      obtain ⟨r1, r2, r3, r4⟩ := W7 r h
      have ri : r ≠ i := fun e => c (e ▸ r4)
      have rj : r ≠ j := fun e => by rw [e, j3] at r4; cases r4
      rw [if_neg rj, if_neg ri]
      unfold rrP
      rw [if_neg ri, if_neg rj, if_neg (fun e => by rw [(hc r e).2.2.2.1] at r4; cases r4)]
      exact ⟨r1, r2, r3, r4⟩
/-- a new leaf on the left of p -/
theorem TSh.addL {p x : Int} (H : TSh K lo hi L R P rt) (hp : K p) (hl : L p = none) (hx : ¬ K x) (h1 : lo p < x ∧ x < p) :
    TSh (fun k => K k ∨ k = x) (fun a => if a = x then lo p else lo a) (fun a => if a = x then p else hi a) (fun a => if a = p then some x else if a = x then none else L a) (fun a => if a = x then none else R a) (fun a => if a = x then some p else P a) rt := by
  obtain ⟨W1, W2, W3, W4, W5, W6, W7⟩ := id H
  have bp := W1 p hp
  have np := (W3 p hp).1 hl
  have xp : x ≠ p := by omega
  have kx : ∀ a, K a → a ≠ x := fun a ha e => hx (e ▸ ha)
  -- a node whose keys could take x
  have gap : ∀ a, K a → a ≠ p → lo a < x → x < hi a → (lo a ≤ lo p ∧ p ≤ a ∧ lo a < p ∧ a ≠ p ∧ hi p ≤ a) ∨ (a ≤ lo p ∧ hi p ≤ hi a) := by
    intro a ha hne ha1 ha2
    have ba := W1 a ha
    have hax := kx a ha
    rcases Int.lt_or_lt_of_ne hne with h | h
    · have := W2 a p ha hp h
      have := np a ha
      omega
    · have := W2 p a hp ha h
      omega
  refine ⟨fun a ha0 => ?_, fun a b ha0 hb0 hab => ?_, fun a ha0 => ⟨fun h y hy => ?_, fun b h => ?_⟩, fun a ha0 => ⟨fun h y hy => ?_, fun b h => ?_⟩, fun a ha0 => ⟨fun h => ?_, fun q h => ?_⟩, fun h k hk => ?_, fun r h => ?_⟩
  · dsimp only
    by_cases c : a = x
    · subst c; rw [if_pos rfl, if_pos rfl]; omega
    · rw [if_neg c, if_neg c]; exact W1 a (ha0.resolve_right c)
  · dsimp only
    by_cases c : a = x
    · subst c
      have hb := hb0.resolve_right (by omega)
      rw [if_pos rfl, if_neg (show ¬ b = a by omega)]
      have bb := W1 b hb
      by_cases c2 : b = p
      · subst c2; omega
      · have := np b hb
        have := W2 p b hp hb (by omega)
        omega
    · have ha := ha0.resolve_right c
      rw [if_neg c]
      by_cases c2 : b = x
      · subst c2
        rw [if_pos rfl, if_neg c, if_pos rfl]
        have ba := W1 a ha
        have := np a ha
        have := W2 a p ha hp (by omega)
        omega
      · rw [if_neg c2, if_neg c2, if_neg c]; exact W2 a b ha (hb0.resolve_right c2) hab
  · dsimp only at h ⊢
    by_cases c : a = p
    · rw [if_pos c] at h; cases h
    · rw [if_neg c] at h
      by_cases c2 : a = x
      · subst c2
        rw [if_pos rfl]
        intro z
        rcases hy with hy | hy
        · exact np y hy (by omega)
        · omega
      · rw [if_neg c2] at h ⊢
        have ha := ha0.resolve_right c2
        rcases hy with hy | hy
        · exact (W3 a ha).1 h y hy
        · subst hy
          intro z
          have ba := W1 a ha
          have g := gap a ha c z.1 (by omega)
          have := (W3 a ha).1 h p hp
          omega
  · dsimp only at h ⊢
    by_cases c : a = p
    · rw [if_pos c] at h
      cases h
      subst c
      rw [if_pos rfl, if_neg (fun e => xp e.symm), if_pos rfl, if_pos rfl]
      exact ⟨Or.inr rfl, rfl, rfl, rfl⟩
    · rw [if_neg c] at h
      by_cases c2 : a = x
      · rw [if_pos c2] at h; cases h
      · rw [if_neg c2] at h
        obtain ⟨k1, k2, k3, k4⟩ := (W3 a (ha0.resolve_right c2)).2 b h
        have := kx b k1
        rw [if_neg this, if_neg this, if_neg c2, if_neg this]
        exact ⟨Or.inl k1, k2, k3, k4⟩
  · dsimp only at h ⊢
    by_cases c2 : a = x
    · subst c2
      rw [if_pos rfl]
      intro z
      rcases hy with hy | hy
      · exact np y hy (by omega)
      · omega
    · rw [if_neg c2] at h ⊢
      have ha := ha0.resolve_right c2
      rcases hy with hy | hy
      · exact (W4 a ha).1 h y hy
      · subst hy
        intro z
        have ba := W1 a ha
        by_cases c : a = p
        · omega
        · have g := gap a ha c (by omega) z.2
          have := (W4 a ha).1 h p hp
          omega
  · dsimp only at h ⊢
    by_cases c2 : a = x
    · rw [if_pos c2] at h; cases h
    · rw [if_neg c2] at h
      obtain ⟨k1, k2, k3, k4⟩ := (W4 a (ha0.resolve_right c2)).2 b h
      have := kx b k1
      rw [if_neg this, if_neg this, if_neg c2, if_neg this]
      exact ⟨Or.inl k1, k2, k3, k4⟩
  · dsimp only at h
    by_cases c2 : a = x
    · rw [if_pos c2] at h; cases h
    · rw [if_neg c2] at h; exact (W5 a (ha0.resolve_right c2)).1 h
  · dsimp only at h ⊢
    by_cases c2 : a = x
    · rw [if_pos c2] at h
      cases h
      exact ⟨Or.inl hp, Or.inl (by rw [if_pos rfl, c2])⟩
    · rw [if_neg c2] at h
      obtain ⟨q1, q2⟩ := (W5 a (ha0.resolve_right c2)).2 q h
      refine ⟨Or.inl q1, ?_⟩
      rw [if_neg (kx q q1), if_neg (kx q q1)]
      rcases q2 with q2 | q2
      · left
        rw [if_neg (fun e => by rw [e, hl] at q2; cases q2)]; exact q2
      · right; exact q2
  · exact W6 h p hp
  · obtain ⟨r1, r2, r3, r4⟩ := W7 r h
    have := kx r r1
    dsimp only
    rw [if_neg this, if_neg this, if_neg this]
    exact ⟨Or.inl r1, r2, r3, r4⟩
/-- a new leaf on the right of p -/
theorem TSh.addR {p x : Int} (H : TSh K lo hi L R P rt) (hp : K p) (hl : R p = none) (hx : ¬ K x) (h1 : p < x ∧ x < hi p) :
    TSh (fun k => K k ∨ k = x) (fun a => if a = x then p else lo a) (fun a => if a = x then hi p else hi a) (fun a => if a = x then none else L a) (fun a => if a = p then some x else if a = x then none else R a) (fun a => if a = x then some p else P a) rt := by
  obtain ⟨W1, W2, W3, W4, W5, W6, W7⟩ := id H
  have bp := W1 p hp
  have np := (W4 p hp).1 hl
  have xp : x ≠ p := by omega
  have kx : ∀ a, K a → a ≠ x := fun a ha e => hx (e ▸ ha)
  have gap : ∀ a, K a → a ≠ p → lo a < x → x < hi a → (hi p ≤ a ∧ lo a ≤ lo p) ∨ (a ≤ lo p ∧ hi p ≤ hi a) := by
    intro a ha hne ha1 ha2
    have ba := W1 a ha
    have hax := kx a ha
    rcases Int.lt_or_lt_of_ne hne with h | h
    · have := W2 a p ha hp h
      omega
    · have := W2 p a hp ha h
      have := np a ha
      omega
  refine ⟨fun a ha0 => ?_, fun a b ha0 hb0 hab => ?_, fun a ha0 => ⟨fun h y hy => ?_, fun b h => ?_⟩, fun a ha0 => ⟨fun h y hy => ?_, fun b h => ?_⟩, fun a ha0 => ⟨fun h => ?_, fun q h => ?_⟩, fun h k hk => ?_, fun r h => ?_⟩
  · dsimp only
    by_cases c : a = x
    · subst c; rw [if_pos rfl, if_pos rfl]; omega
    · rw [if_neg c, if_neg c]; exact W1 a (ha0.resolve_right c)
  · dsimp only
    by_cases c : a = x
    · subst c
      have hb := hb0.resolve_right (by omega)
      rw [if_pos rfl, if_neg (show ¬ b = a by omega), if_pos rfl, if_neg (show ¬ b = a by omega)]
      have bb := W1 b hb
      have := np b hb
      have := W2 p b hp hb (by omega)
      omega
    · have ha := ha0.resolve_right c
      rw [if_neg c]
      by_cases c2 : b = x
      · subst c2
        rw [if_pos rfl, if_neg c, if_pos rfl]
        have ba := W1 a ha
        by_cases c3 : a = p
        · subst c3; omega
        · have := np a ha
          have := W2 a p ha hp (by omega)
          omega
      · rw [if_neg c2, if_neg c2, if_neg c]; exact W2 a b ha (hb0.resolve_right c2) hab
  · dsimp only at h ⊢
    by_cases c2 : a = x
    · subst c2
      rw [if_pos rfl]
      intro z
      rcases hy with hy | hy
      · exact np y hy (by omega)
      · omega
    · rw [if_neg c2] at h ⊢
      have ha := ha0.resolve_right c2
      rcases hy with hy | hy
      · exact (W3 a ha).1 h y hy
      · subst hy
        intro z
        have ba := W1 a ha
        by_cases c : a = p
        · omega
        · have g := gap a ha c z.1 (by omega)
          have := (W3 a ha).1 h p hp
          omega
  · dsimp only at h ⊢
    by_cases c2 : a = x
    · rw [if_pos c2] at h; cases h
    · rw [if_neg c2] at h
      obtain ⟨k1, k2, k3, k4⟩ := (W3 a (ha0.resolve_right c2)).2 b h
      have := kx b k1
      rw [if_neg this, if_neg this, if_neg c2, if_neg this]
      exact ⟨Or.inl k1, k2, k3, k4⟩
  · dsimp only at h ⊢
    by_cases c : a = p
    · rw [if_pos c] at h; cases h
    · rw [if_neg c] at h
      by_cases c2 : a = x
      · subst c2
        rw [if_pos rfl]
        intro z
        rcases hy with hy | hy
        · exact np y hy (by omega)
        · omega
      · rw [if_neg c2] at h ⊢
        have ha := ha0.resolve_right c2
        rcases hy with hy | hy
        · exact (W4 a ha).1 h y hy
        · subst hy
          intro z
          have ba := W1 a ha
          have g := gap a ha c (by omega) z.2
          have := (W4 a ha).1 h p hp
          omega
  · dsimp only at h ⊢
    by_cases c : a = p
    · rw [if_pos c] at h
      cases h
      subst c
      exact ⟨Or.inr rfl, if_pos rfl, (if_pos rfl).trans (if_neg (fun e => xp e.symm)).symm, if_pos rfl⟩
    · rw [if_neg c] at h
      by_cases c2 : a = x
      · rw [if_pos c2] at h; cases h
      · rw [if_neg c2] at h
        obtain ⟨k1, k2, k3, k4⟩ := (W4 a (ha0.resolve_right c2)).2 b h
        have := kx b k1
        rw [if_neg this, if_neg this, if_neg c2, if_neg this]
        exact ⟨Or.inl k1, k2, k3, k4⟩
  · dsimp only at h
    by_cases c2 : a = x
    · rw [if_pos c2] at h; cases h
    · rw [if_neg c2] at h; exact (W5 a (ha0.resolve_right c2)).1 h
  · dsimp only at h ⊢
    by_cases c2 : a = x
    · rw [if_pos c2] at h
      cases h
      exact ⟨Or.inl hp, Or.inr (by rw [if_pos rfl, c2])⟩
    · rw [if_neg c2] at h
      obtain ⟨q1, q2⟩ := (W5 a (ha0.resolve_right c2)).2 q h
      refine ⟨Or.inl q1, ?_⟩
      rw [if_neg (kx q q1), if_neg (kx q q1)]
      rcases q2 with q2 | q2
      · left; exact q2
      · right
        rw [if_neg (fun e => by rw [e, hl] at q2; cases q2)]; exact q2
  · exact W6 h p hp
  · obtain ⟨r1, r2, r3, r4⟩ := W7 r h
    have := kx r r1
    dsimp only
    rw [if_neg this, if_neg this, if_neg this]
    exact ⟨Or.inl r1, r2, r3, r4⟩
end TSh
