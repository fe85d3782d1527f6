set_option maxRecDepth 100000
/-! the twin's booleans stay 0 or 1 -/
def ZR (σ : TS) : Prop := ∀ k, tkd k = 1 → σ.1 k = 0 ∨ σ.1 k = 1
theorem ts1_ZR {σ : TS} {k : Nat} {v : Int} (h : ZR σ) (hv : tkd k = 1 → v = 0 ∨ v = 1) : ZR (ts1 σ k v) := fun j hj => by
  unfold ts1; dsimp only; split
  · rename_i e; exact hv (by rw [← e]; exact hj)
  · exact h j hj
theorem tstep_ZR {i op a : Nat} {b : Int} {ls : TL} {st : List TV} {σ : TS} {i' : Nat} {ls' : TL} {st' : List TV} {σ' : TS} (h : tstep i op a b ls st σ = some (i', ls', st', σ')) (hR : ZR σ) : ZR σ' := by
  unfold tstep at h
  split at h <;> (try (split at h)) <;> (first | (cases h; assumption) | (cases h; done) | skip)
  · rename_i hc
    cases h
    refine ts1_ZR hR (fun z => ?_)
    rcases hc.2 with q | q
    · exact absurd (q.1.symm.trans z) (by decide)
    · exact q.2
  · split at h
    · cases h; exact hR
    · cases h
theorem texec_ZR {call : TC} (hc : ∀ mid as σ r σ', call mid as σ = some (r, σ') → ZR σ → ZR σ') (C : List TI) : ∀ (n i : Nat) (ls : TL) (st : List TV) (σ : TS) (r : Option Int) (σ' : TS), texec call C n i ls st σ = some (r, σ') → ZR σ → ZR σ' := by
  intro n
  induction n with
  | zero => intro i ls st σ r σ' h; simp [texec] at h
  | succ n ih =>
    intro i ls st σ r σ' h hR
    simp only [texec] at h
    cases hC : C[i]? with
    | none => rw [hC] at h; cases h
    | some t =>
      obtain ⟨op, a, b⟩ := t
      rw [hC] at h
      dsimp only at h
      split at h
      · cases ht : tstep i op a b ls st σ with
        | none => rw [ht] at h; cases h
        | some q =>
          obtain ⟨i2, ls2, st2, σ2⟩ := q
          rw [ht] at h
          exact ih i2 ls2 st2 σ2 r σ' h (tstep_ZR ht hR)
      · split at h
        · cases hM : tmt[a]? with
          | none => rw [hM] at h; cases h
          | some M =>
            rw [hM] at h
            dsimp only at h
            split at h
            · cases hr : call a (st.take (tnum M)).reverse σ with
              | none => rw [hr] at h; cases h
              | some q =>
                obtain ⟨v, σ2⟩ := q
                rw [hr] at h
                exact ih _ ls _ σ2 r σ' h (hc _ _ _ _ _ hr hR)
            · cases h
        · split at h <;> (try (split at h)) <;> first | (cases h; assumption) | cases h
theorem trun_ZR {N : Nat} : ∀ {d mid : Nat} {as : List TV} {σ : TS} {r : Option Int} {σ' : TS}, trun d N mid as σ = some (r, σ') → ZR σ → ZR σ' := by
  intro d
  induction d with
  | zero => intro mid as σ r σ' h; simp [trun] at h
  | succ d ih =>
    intro mid as σ r σ' h hR
    simp only [trun] at h
    cases hM : tmt[mid]? with
    | none => rw [hM] at h; cases h
    | some M =>
      rw [hM] at h
      dsimp only at h
      split at h
      · exact texec_ZR (fun _ _ _ _ _ q h => ih q h) _ _ _ _ _ _ _ _ h hR
      · cases h
theorem TM.zr {d mid : Nat} {as : List TV} {σ : TS} {Q : Option Int → TS → Prop} (h : TM d mid as σ Q) (hz : ZR σ) : TM d mid as σ (fun r τ => Q r τ ∧ ZR τ) := fun hi => by
  obtain ⟨N, r, σ', h1, h2⟩ := h hi
  exact ⟨N, r, σ', h1, h2, trun_ZR h1 hz⟩
theorem ZR.rp {σ : TS} (h : ZR σ) : ∃ b : Bool, (σ.1 44) = b2i b := by
  rcases h 44 rfl with z | z
  · exact ⟨false, z⟩
  · exact ⟨true, z⟩
