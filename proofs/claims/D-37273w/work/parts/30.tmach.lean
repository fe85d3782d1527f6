set_option maxRecDepth 100000
/-! THE TWIN'S MACHINE, pure: ints are Int; a value is an int, the object itself (inr 0), or the array of field k (inr (k+1)). A state: its int fields, its arrays. -/
abbrev TV : Type := Int ⊕ Nat
abbrev TS : Type := (Nat → Int) × (Nat → Nat → Int)
abbrev TL : Type := List (Option TV)
abbrev inR (x : Int) : Prop := -2147483648 ≤ x ∧ x < 2147483648
def InR (σ : TS) : Prop := (∀ k, inR (σ.1 k)) ∧ ∀ k j, inR (σ.2 k j)
def ts1 (σ : TS) (k : Nat) (v : Int) : TS := (fun j => if j = k then v else σ.1 j, σ.2)
def ts2 (σ : TS) (k i : Nat) (v : Int) : TS := (σ.1, fun a j => if a = k ∧ j = i then v else σ.2 a j)
theorem ts1_InR {σ : TS} {k : Nat} {v : Int} (h : InR σ) (hv : inR v) : InR (ts1 σ k v) := ⟨fun j => by
  unfold ts1; dsimp only; split
  · exact hv
  · exact h.1 j, h.2⟩
theorem ts2_InR {σ : TS} {k i : Nat} {v : Int} (h : InR σ) (hv : inR v) : InR (ts2 σ k i v) := ⟨h.1, fun a j => by
  unfold ts2; dsimp only; split
  · exact hv
  · exact h.2 a j⟩
def tcmp (b x y : Int) : Bool := if b = 0 then decide (x = y) else if b = 1 then decide (¬ x = y) else if b = 2 then decide (x < y) else if b = 3 then decide (y ≤ x) else if b = 4 then decide (y < x) else decide (x ≤ y)
/-- one step that is neither a call nor a return -/
def tstep (i op a : Nat) (b : Int) (ls : TL) (st : List TV) (σ : TS) : Option (Nat × TL × List TV × TS) :=
  match op, st with
  | 0, st => some (i + 1, ls, .inl b :: st, σ)
  | 1, st => match ls[a]? with
    | some (some (.inl x)) => some (i + 1, ls, .inl x :: st, σ)
    | _ => none
  | 2, st => match ls[a]? with
    | some (some (.inr x)) => some (i + 1, ls, .inr x :: st, σ)
    | _ => none
  | 3, .inl x :: st => if a < ls.length then some (i + 1, ls.set a (some (.inl x)), st, σ) else none
  | 4, .inr 0 :: st => if a < 80 ∧ tkd a < 2 then some (i + 1, ls, .inl (σ.1 a) :: st, σ) else none
  | 5, .inr 0 :: st => if a < 80 ∧ 2 ≤ tkd a then some (i + 1, ls, .inr (a + 1) :: st, σ) else none
  | 6, .inl x :: .inr 0 :: st => if a < 80 ∧ ((tkd a = 0 ∧ inR x) ∨ (tkd a = 1 ∧ (x = 0 ∨ x = 1))) then some (i + 1, ls, st, ts1 σ a x) else none
  | 7, .inl x :: .inr (k + 1) :: st => if (k < 80 ∧ tkd k = 2) ∧ 0 ≤ x ∧ x < (tln k : Int) then some (i + 1, ls, .inl (σ.2 k x.toNat) :: st, σ) else none
  | 8, .inl v :: .inl x :: .inr (k + 1) :: st => if (k < 80 ∧ tkd k = 2) ∧ (0 ≤ x ∧ x < (tln k : Int)) ∧ inR v then some (i + 1, ls, st, ts2 σ k x.toNat v) else none
  | 9, .inl x :: .inr (k + 1) :: st => if (k < 80 ∧ tkd k = 3) ∧ 0 ≤ x ∧ x < (tln k : Int) then some (i + 1, ls, .inl (σ.2 k x.toNat) :: st, σ) else none
  | 10, .inl v :: .inl x :: .inr (k + 1) :: st => if (k < 80 ∧ tkd k = 3) ∧ (0 ≤ x ∧ x < (tln k : Int)) ∧ (v = 0 ∨ v = 1) then some (i + 1, ls, st, ts2 σ k x.toNat v) else none
  | 11, .inl y :: .inl x :: st => some (i + 1, ls, .inl (x + y) :: st, σ)
  | 12, .inl y :: .inl x :: st => some (i + 1, ls, .inl (x - y) :: st, σ)
  | 13, .inl y :: .inl x :: st => some (i + 1, ls, .inl (x * y) :: st, σ)
  | 14, .inl x :: st => some (i + 1, ls, .inl (-x) :: st, σ)
  | 15, .inl y :: .inl x :: st => if (0 ≤ x ∧ x < 2147483648) ∧ 0 < y ∧ y < 2147483648 then some (i + 1, ls, .inl (x / y) :: st, σ) else none
  | 16, .inl y :: .inl x :: st => if (0 ≤ x ∧ x < 2147483648) ∧ 0 < y ∧ y < 2147483648 then some (i + 1, ls, .inl (x % y) :: st, σ) else none
  | 17, st => some (a, ls, st, σ)
  | 18, .inl x :: st => if inR x then some (if tcmp b x 0 then a else i + 1, ls, st, σ) else none
  | 19, .inl y :: .inl x :: st => if inR x ∧ inR y then some (if tcmp b x y then a else i + 1, ls, st, σ) else none
  | 20, st => match ls[a]? with
    | some (some (.inl x)) => if a < ls.length then some (i + 1, ls.set a (some (.inl (x + b))), st, σ) else none
    | _ => none
  | 21, x :: st => some (i + 1, ls, x :: x :: st, σ)
  | 22, y :: x :: st => some (i + 1, ls, y :: x :: y :: x :: st, σ)
  | 23, _ :: st => some (i + 1, ls, st, σ)
  | 24, st => some (i + 1, ls, .inl b :: st, σ)
  | 25, st => some (i + 1, ls, .inl b :: st, σ)
  | _, _ => none
theorem tstep_InR {i op a : Nat} {b : Int} {ls : TL} {st : List TV} {σ : TS} {i' : Nat} {ls' : TL} {st' : List TV} {σ' : TS} (h : tstep i op a b ls st σ = some (i', ls', st', σ')) (hR : InR σ) : InR σ' := by
  unfold tstep at h
  split at h <;> (try (split at h)) <;> (first | (cases h; assumption) | (cases h; done) | skip)
  · rename_i hc
    cases h
    refine ts1_InR hR ?_
    rcases hc.2 with q | q
    · exact q.2
    · omega
  · rename_i hc
    cases h
    exact ts2_InR hR hc.2.2
  · rename_i hc
    cases h
    exact ts2_InR hR (by omega)
  · split at h
    · cases h; exact hR
    · cases h
/-- how many values a call takes -/
def tnum (M : TMeth) : Nat := M.2.2.2.2.2.1 + (if M.2.2.2.2.1 then 0 else 1)
def tentry (M : TMeth) (as : List TV) : TL := as.map some ++ List.replicate (M.2.2.1 - as.length) none
abbrev TC : Type := Nat → List TV → TS → Option (Option Int × TS)
def texec (call : TC) (C : List TI) : Nat → Nat → TL → List TV → TS → Option (Option Int × TS)
  | 0, _, _, _, _ => none
  | n + 1, i, ls, st, σ => match C[i]? with
    | none => none
    | some (op, a, b) =>
      if op < 30 then
        match tstep i op a b ls st σ with
        | some (i', ls', st', σ') => texec call C n i' ls' st' σ'
        | none => none
      else if op < 32 then
        match tmt[a]? with
        | none => none
        | some M =>
          if (decide (op = 31) = M.2.2.2.2.1) ∧ tnum M ≤ st.length ∧ (st.drop (tnum M)).length ≤ 8 ∧ (op = 31 ∨ (st.take (tnum M)).reverse.head? = some (.inr 0)) then
            match call a (st.take (tnum M)).reverse σ with
            | some (r, σ') => texec call C n (i + 1) ls ((r.map Sum.inl).toList ++ st.drop (tnum M)) σ'
            | none => none
          else none
      else match op, st with
        | 32, [.inl x] => some (some x, σ)
        | 33, [.inl x] => if x = 0 ∨ x = 1 then some (some x, σ) else none
        | 34, [] => some (none, σ)
        | _, _ => none
def trun : Nat → Nat → TC
  | 0, _ => fun _ _ _ => none
  | d + 1, N => fun mid as σ => match tmt[mid]? with
    | none => none
    | some M => if as.length = tnum M then texec (trun d N) M.2.2.2.2.2.2.1 N 0 (tentry M as) [] σ else none
/-- more fuel, the same answer -/
def TCle (f g : TC) : Prop := ∀ mid as σ r, f mid as σ = some r → g mid as σ = some r
theorem texec_mono {f g : TC} (hfg : TCle f g) (C : List TI) : ∀ (n n' i : Nat) (ls : TL) (st : List TV) (σ : TS) (r : Option Int × TS), n ≤ n' → texec f C n i ls st σ = some r → texec g C n' i ls st σ = some r := by
  intro n
  induction n with
  | zero => intro n' i ls st σ r _ h; simp [texec] at h
  | succ n ih =>
    intro n' i ls st σ r hn h
    obtain ⟨n', rfl⟩ : ∃ k, n' = k + 1 := ⟨n' - 1, by omega⟩
    have hn : n ≤ n' := by omega
    simp only [texec] at h ⊢
    cases hC : C[i]? with
    | none => rw [hC] at h; cases h
    | some t =>
      obtain ⟨op, a, b⟩ := t
      rw [hC] at h
      dsimp only at h ⊢
      split at h
      · rename_i ho
        rw [if_pos ho]
        cases ht : tstep i op a b ls st σ with
        | none => rw [ht] at h; cases h
        | some q =>
          obtain ⟨i', ls', st', σ'⟩ := q
          rw [ht] at h
          exact ih n' i' ls' st' σ' r hn h
      · rename_i ho
        rw [if_neg ho]
        split at h
        · rename_i ho2
          rw [if_pos ho2]
          cases hM : tmt[a]? with
          | none => rw [hM] at h; cases h
          | some M =>
            rw [hM] at h
            dsimp only at h ⊢
            split at h
            · rename_i hc
              rw [if_pos hc]
              cases hr : f a (st.take (tnum M)).reverse σ with
              | none => rw [hr] at h; cases h
              | some q =>
                obtain ⟨v, σ'⟩ := q
                rw [hr] at h
                rw [hfg _ _ _ _ hr]
                exact ih n' _ ls _ σ' r hn h
            · cases h
        · rename_i ho2
          rw [if_neg ho2]
          exact h
theorem trun_mono {N N' : Nat} (hN : N ≤ N') : ∀ {d d' : Nat}, d ≤ d' → TCle (trun d N) (trun d' N') := by
  intro d
  induction d with
  | zero => intro d' _ mid as σ r h; simp [trun] at h
  | succ d ih =>
    intro d' hd mid as σ r h
    obtain ⟨d', rfl⟩ : ∃ k, d' = k + 1 := ⟨d' - 1, by omega⟩
    simp only [trun] at h ⊢
    cases hM : tmt[mid]? with
    | none => rw [hM] at h; cases h
    | some M =>
      rw [hM] at h
      dsimp only at h ⊢
      split at h
      · rename_i hl
        rw [if_pos hl]
        exact texec_mono (ih (by omega)) _ N N' 0 _ [] σ r hN h
      · cases h
theorem texec_InR {call : TC} (hc : ∀ mid as σ r σ', call mid as σ = some (r, σ') → InR σ → InR σ') (C : List TI) : ∀ (n i : Nat) (ls : TL) (st : List TV) (σ : TS) (r : Option Int) (σ' : TS), texec call C n i ls st σ = some (r, σ') → InR σ → InR σ' := by
  intro n
  induction n with
  | zero => intro i ls st σ r σ' h; simp [texec] at h
  | succ n ih =>
    intro i ls st σ r σ' h hR
    simp only [texec] at h
    cases hC : C[i]? with
    | none => rw [hC] at h; cases h
    | some t =>
      obtain ⟨op, a, b⟩ := t
      rw [hC] at h
      dsimp only at h
      split at h
      · cases ht : tstep i op a b ls st σ with
        | none => rw [ht] at h; cases h
        | some q =>
          obtain ⟨i2, ls2, st2, σ2⟩ := q
          rw [ht] at h
          exact ih i2 ls2 st2 σ2 r σ' h (tstep_InR ht hR)
      · split at h
        · cases hM : tmt[a]? with
          | none => rw [hM] at h; cases h
          | some M =>
            rw [hM] at h
            dsimp only at h
            split at h
            · cases hr : call a (st.take (tnum M)).reverse σ with
              | none => rw [hr] at h; cases h
              | some q =>
                obtain ⟨v, σ2⟩ := q
                rw [hr] at h
                exact ih _ ls _ σ2 r σ' h (hc _ _ _ _ _ hr hR)
            · cases h
        · split at h <;> (try (split at h)) <;> first | (cases h; assumption) | cases h
theorem trun_InR {N : Nat} : ∀ {d mid : Nat} {as : List TV} {σ : TS} {r : Option Int} {σ' : TS}, trun d N mid as σ = some (r, σ') → InR σ → InR σ' := by
  intro d
  induction d with
  | zero => intro mid as σ r σ' h; simp [trun] at h
  | succ d ih =>
    intro mid as σ r σ' h hR
    simp only [trun] at h
    cases hM : tmt[mid]? with
    | none => rw [hM] at h; cases h
    | some M =>
      rw [hM] at h
      dsimp only at h
      split at h
      · exact texec_InR (fun _ _ _ _ _ q h => ih q h) _ _ _ _ _ _ _ _ h hR
      · cases h
/-! THE WALK'S GOALS: TW at an instruction, TM at a method -/
def TW (d : Nat) (C : List TI) (i : Nat) (ls : TL) (st : List TV) (σ : TS) (Q : Option Int → TS → Prop) : Prop := InR σ → ∃ (N : Nat) (r : Option Int) (σ' : TS), texec (trun d N) C N i ls st σ = some (r, σ') ∧ Q r σ'
def TM (d mid : Nat) (as : List TV) (σ : TS) (Q : Option Int → TS → Prop) : Prop := InR σ → ∃ (N : Nat) (r : Option Int) (σ' : TS), trun d N mid as σ = some (r, σ') ∧ Q r σ'
theorem TM.mono {d d' mid : Nat} {as : List TV} {σ : TS} {Q Q' : Option Int → TS → Prop} (h : TM d mid as σ Q) (hd : d ≤ d') (hQ : ∀ r σ', Q r σ' → Q' r σ') : TM d' mid as σ Q' := by
  intro hR
  obtain ⟨N, r, σ', h1, h2⟩ := h hR
  exact ⟨N, r, σ', trun_mono (Nat.le_refl N) hd _ _ _ _ h1, hQ _ _ h2⟩
theorem TM.of {d mid : Nat} {M : TMeth} {as : List TV} {σ : TS} {Q : Option Int → TS → Prop} (hM : tmt[mid]? = some M) (hn : as.length = tnum M) (h : TW d M.2.2.2.2.2.2.1 0 (tentry M as) [] σ Q) : TM (d + 1) mid as σ Q := by
  intro hR
  obtain ⟨N, r, σ', h1, h2⟩ := h hR
  refine ⟨N, r, σ', ?_, h2⟩
  simp only [trun, hM]
  rw [if_pos hn]
  exact h1
section TWR
variable {d i a : Nat} {b : Int} {C : List TI} {ls : TL} {st : List TV} {σ : TS} {Q : Option Int → TS → Prop}
theorem TW.step {op i' : Nat} {ls' : TL} {st' : List TV} {σ' : TS} (hC : C[i]? = some (op, a, b)) (ho : op < 30) (h : tstep i op a b ls st σ = some (i', ls', st', σ')) (k : TW d C i' ls' st' σ' Q) : TW d C i ls st σ Q := by
  intro hR
  obtain ⟨N, r, σ2, h1, h2⟩ := k (tstep_InR h hR)
  refine ⟨N + 1, r, σ2, ?_, h2⟩
  simp only [texec, hC, if_pos ho, h]
  exact texec_mono (trun_mono (Nat.le_succ N) (Nat.le_refl d)) C N N _ _ _ _ _ (Nat.le_refl N) h1
/-- several plain steps at once -/
def tsteps (C : List TI) : Nat → Nat → TL → List TV → TS → Option (Nat × TL × List TV × TS)
  | 0, i, ls, st, σ => some (i, ls, st, σ)
  | n + 1, i, ls, st, σ => match C[i]? with
    | some (op, a, b) => if op < 30 then match tstep i op a b ls st σ with
      | some (i', ls', st', σ') => tsteps C n i' ls' st' σ'
      | none => none
      else none
    | none => none
theorem TW.steps : ∀ (n : Nat) {i : Nat} {ls : TL} {st : List TV} {σ : TS} {i' : Nat} {ls' : TL} {st' : List TV} {σ' : TS}, tsteps C n i ls st σ = some (i', ls', st', σ') → TW d C i' ls' st' σ' Q → TW d C i ls st σ Q := by
  intro n
  induction n with
  | zero => intro i ls st σ i' ls' st' σ' h k; simp only [tsteps] at h; cases h; exact k
  | succ n ih =>
    intro i ls st σ i' ls' st' σ' h k
    simp only [tsteps] at h
    cases hC : C[i]? with
    | none => rw [hC] at h; cases h
    | some t =>
      obtain ⟨op, a, b⟩ := t
      rw [hC] at h
      dsimp only at h
      split at h
      · rename_i ho
        cases ht : tstep i op a b ls st σ with
        | none => rw [ht] at h; cases h
        | some q =>
          obtain ⟨i2, ls2, st2, σ2⟩ := q
          rw [ht] at h
          exact TW.step hC ho ht (ih h k)
      · cases h
/-- an int field; its number is within the ints -/
theorem TW.getf {v : Int} (hC : C[i]? = some (4, a, b)) (hk : decide (a < 80 ∧ tkd a < 2) = true) (hv : σ.1 a = v) (k : inR v → TW d C (i + 1) ls (.inl v :: st) σ Q) : TW d C i ls (.inr 0 :: st) σ Q := by
  intro hR
  subst hv
  exact TW.step hC (by decide) (by simp only [tstep]; rw [if_pos (of_decide_eq_true hk)]) (k (hR.1 a)) hR
theorem TW.putf {x : Int} (hC : C[i]? = some (6, a, b)) (hk : decide (a < 80 ∧ tkd a = 0) = true) (hx : inR x) (k : TW d C (i + 1) ls st (ts1 σ a x) Q) : TW d C i ls (.inl x :: .inr 0 :: st) σ Q := by
  have h := of_decide_eq_true hk
  exact TW.step hC (by decide) (by simp only [tstep]; rw [if_pos ⟨h.1, Or.inl ⟨h.2, hx⟩⟩]) k
theorem TW.putz {x : Int} (hC : C[i]? = some (6, a, b)) (hk : decide (a < 80 ∧ tkd a = 1) = true) (hx : x = 0 ∨ x = 1) (k : TW d C (i + 1) ls st (ts1 σ a x) Q) : TW d C i ls (.inl x :: .inr 0 :: st) σ Q := by
  have h := of_decide_eq_true hk
  exact TW.step hC (by decide) (by simp only [tstep]; rw [if_pos ⟨h.1, Or.inr ⟨h.2, hx⟩⟩]) k
theorem TW.iald {x : Int} {q : Nat} (hC : C[i]? = some (7, a, b)) (hk : decide (q < 80 ∧ tkd q = 2) = true) {n : Nat} (hn : tln q = n) (hx : 0 ≤ x ∧ x < (n : Int)) (k : inR (σ.2 q x.toNat) → TW d C (i + 1) ls (.inl (σ.2 q x.toNat) :: st) σ Q) : TW d C i ls (.inl x :: .inr (q + 1) :: st) σ Q := by
  intro hR
  subst hn
  exact TW.step hC (by decide) (by simp only [tstep]; rw [if_pos ⟨of_decide_eq_true hk, hx⟩]) (k (hR.2 q _)) hR
theorem TW.bald {x : Int} {q : Nat} (hC : C[i]? = some (9, a, b)) (hk : decide (q < 80 ∧ tkd q = 3) = true) {n : Nat} (hn : tln q = n) (hx : 0 ≤ x ∧ x < (n : Int)) (k : inR (σ.2 q x.toNat) → TW d C (i + 1) ls (.inl (σ.2 q x.toNat) :: st) σ Q) : TW d C i ls (.inl x :: .inr (q + 1) :: st) σ Q := by
  intro hR
  subst hn
  exact TW.step hC (by decide) (by simp only [tstep]; rw [if_pos ⟨of_decide_eq_true hk, hx⟩]) (k (hR.2 q _)) hR
theorem TW.iast {v x : Int} {q : Nat} (hC : C[i]? = some (8, a, b)) (hk : decide (q < 80 ∧ tkd q = 2) = true) {n : Nat} (hn : tln q = n) (hx : 0 ≤ x ∧ x < (n : Int)) (hv : inR v) (k : TW d C (i + 1) ls st (ts2 σ q x.toNat v) Q) : TW d C i ls (.inl v :: .inl x :: .inr (q + 1) :: st) σ Q := by
  subst hn
  exact TW.step hC (by decide) (by simp only [tstep]; rw [if_pos ⟨of_decide_eq_true hk, hx, hv⟩]) k
theorem TW.bast {v x : Int} {q : Nat} (hC : C[i]? = some (10, a, b)) (hk : decide (q < 80 ∧ tkd q = 3) = true) {n : Nat} (hn : tln q = n) (hx : 0 ≤ x ∧ x < (n : Int)) (hv : v = 0 ∨ v = 1) (k : TW d C (i + 1) ls st (ts2 σ q x.toNat v) Q) : TW d C i ls (.inl v :: .inl x :: .inr (q + 1) :: st) σ Q := by
  subst hn
  exact TW.step hC (by decide) (by simp only [tstep]; rw [if_pos ⟨of_decide_eq_true hk, hx, hv⟩]) k
theorem TW.idiv {x y : Int} (hC : C[i]? = some (15, a, b)) (hx : (0 ≤ x ∧ x < 2147483648) ∧ 0 < y ∧ y < 2147483648) (k : TW d C (i + 1) ls (.inl (x / y) :: st) σ Q) : TW d C i ls (.inl y :: .inl x :: st) σ Q := TW.step hC (by decide) (by simp only [tstep]; rw [if_pos hx]) k
theorem TW.irem {x y : Int} (hC : C[i]? = some (16, a, b)) (hx : (0 ≤ x ∧ x < 2147483648) ∧ 0 < y ∧ y < 2147483648) (k : TW d C (i + 1) ls (.inl (x % y) :: st) σ Q) : TW d C i ls (.inl y :: .inl x :: st) σ Q := TW.step hC (by decide) (by simp only [tstep]; rw [if_pos hx]) k
theorem TW.cond1 {x : Int} (hC : C[i]? = some (18, a, b)) (hx : inR x) (kt : tcmp b x 0 = true → TW d C a ls st σ Q) (kf : tcmp b x 0 = false → TW d C (i + 1) ls st σ Q) : TW d C i ls (.inl x :: st) σ Q := by
  cases h : tcmp b x 0 with
  | true => exact TW.step hC (by decide) (by simp only [tstep]; rw [if_pos hx, h]; rfl) (kt h)
  | false => exact TW.step hC (by decide) (by simp only [tstep]; rw [if_pos hx, h]; rfl) (kf h)
theorem TW.cond2 {x y : Int} (hC : C[i]? = some (19, a, b)) (hx : inR x ∧ inR y) (kt : tcmp b x y = true → TW d C a ls st σ Q) (kf : tcmp b x y = false → TW d C (i + 1) ls st σ Q) : TW d C i ls (.inl y :: .inl x :: st) σ Q := by
  cases h : tcmp b x y with
  | true => exact TW.step hC (by decide) (by simp only [tstep]; rw [if_pos hx, h]; rfl) (kt h)
  | false => exact TW.step hC (by decide) (by simp only [tstep]; rw [if_pos hx, h]; rfl) (kf h)
theorem TW.if_eq {x : Int} (hC : C[i]? = some (18, a, 0)) (hx : inR x) (kt : x = 0 → TW d C a ls st σ Q) (kf : ¬ x = 0 → TW d C (i + 1) ls st σ Q) : TW d C i ls (.inl x :: st) σ Q := TW.cond1 hC hx (fun h => kt (by simp [tcmp] at h; omega)) (fun h => kf (by simp [tcmp] at h; omega))
theorem TW.ic_eq {x y : Int} (hC : C[i]? = some (19, a, 0)) (hx : inR x) (hy : inR y) (kt : x = y → TW d C a ls st σ Q) (kf : ¬ x = y → TW d C (i + 1) ls st σ Q) : TW d C i ls (.inl y :: .inl x :: st) σ Q := TW.cond2 hC ⟨hx, hy⟩ (fun h => kt (by simp [tcmp] at h; omega)) (fun h => kf (by simp [tcmp] at h; omega))
theorem TW.if_ne {x : Int} (hC : C[i]? = some (18, a, 1)) (hx : inR x) (kt : ¬ x = 0 → TW d C a ls st σ Q) (kf : x = 0 → TW d C (i + 1) ls st σ Q) : TW d C i ls (.inl x :: st) σ Q := TW.cond1 hC hx (fun h => kt (by simp [tcmp] at h; omega)) (fun h => kf (by simp [tcmp] at h; omega))
theorem TW.ic_ne {x y : Int} (hC : C[i]? = some (19, a, 1)) (hx : inR x) (hy : inR y) (kt : ¬ x = y → TW d C a ls st σ Q) (kf : x = y → TW d C (i + 1) ls st σ Q) : TW d C i ls (.inl y :: .inl x :: st) σ Q := TW.cond2 hC ⟨hx, hy⟩ (fun h => kt (by simp [tcmp] at h; omega)) (fun h => kf (by simp [tcmp] at h; omega))
theorem TW.if_lt {x : Int} (hC : C[i]? = some (18, a, 2)) (hx : inR x) (kt : x < 0 → TW d C a ls st σ Q) (kf : 0 ≤ x → TW d C (i + 1) ls st σ Q) : TW d C i ls (.inl x :: st) σ Q := TW.cond1 hC hx (fun h => kt (by simp [tcmp] at h; omega)) (fun h => kf (by simp [tcmp] at h; omega))
theorem TW.ic_lt {x y : Int} (hC : C[i]? = some (19, a, 2)) (hx : inR x) (hy : inR y) (kt : x < y → TW d C a ls st σ Q) (kf : y ≤ x → TW d C (i + 1) ls st σ Q) : TW d C i ls (.inl y :: .inl x :: st) σ Q := TW.cond2 hC ⟨hx, hy⟩ (fun h => kt (by simp [tcmp] at h; omega)) (fun h => kf (by simp [tcmp] at h; omega))
theorem TW.if_ge {x : Int} (hC : C[i]? = some (18, a, 3)) (hx : inR x) (kt : 0 ≤ x → TW d C a ls st σ Q) (kf : x < 0 → TW d C (i + 1) ls st σ Q) : TW d C i ls (.inl x :: st) σ Q := TW.cond1 hC hx (fun h => kt (by simp [tcmp] at h; omega)) (fun h => kf (by simp [tcmp] at h; omega))
theorem TW.ic_ge {x y : Int} (hC : C[i]? = some (19, a, 3)) (hx : inR x) (hy : inR y) (kt : y ≤ x → TW d C a ls st σ Q) (kf : x < y → TW d C (i + 1) ls st σ Q) : TW d C i ls (.inl y :: .inl x :: st) σ Q := TW.cond2 hC ⟨hx, hy⟩ (fun h => kt (by simp [tcmp] at h; omega)) (fun h => kf (by simp [tcmp] at h; omega))
theorem TW.if_gt {x : Int} (hC : C[i]? = some (18, a, 4)) (hx : inR x) (kt : 0 < x → TW d C a ls st σ Q) (kf : x ≤ 0 → TW d C (i + 1) ls st σ Q) : TW d C i ls (.inl x :: st) σ Q := TW.cond1 hC hx (fun h => kt (by simp [tcmp] at h; omega)) (fun h => kf (by simp [tcmp] at h; omega))
theorem TW.ic_gt {x y : Int} (hC : C[i]? = some (19, a, 4)) (hx : inR x) (hy : inR y) (kt : y < x → TW d C a ls st σ Q) (kf : x ≤ y → TW d C (i + 1) ls st σ Q) : TW d C i ls (.inl y :: .inl x :: st) σ Q := TW.cond2 hC ⟨hx, hy⟩ (fun h => kt (by simp [tcmp] at h; omega)) (fun h => kf (by simp [tcmp] at h; omega))
theorem TW.if_le {x : Int} (hC : C[i]? = some (18, a, 5)) (hx : inR x) (kt : x ≤ 0 → TW d C a ls st σ Q) (kf : 0 < x → TW d C (i + 1) ls st σ Q) : TW d C i ls (.inl x :: st) σ Q := TW.cond1 hC hx (fun h => kt (by simp [tcmp] at h; omega)) (fun h => kf (by simp [tcmp] at h; omega))
theorem TW.ic_le {x y : Int} (hC : C[i]? = some (19, a, 5)) (hx : inR x) (hy : inR y) (kt : x ≤ y → TW d C a ls st σ Q) (kf : y < x → TW d C (i + 1) ls st σ Q) : TW d C i ls (.inl y :: .inl x :: st) σ Q := TW.cond2 hC ⟨hx, hy⟩ (fun h => kt (by simp [tcmp] at h; omega)) (fun h => kf (by simp [tcmp] at h; omega))
theorem TW.iret {x : Int} (hC : C[i]? = some (32, a, b)) (h : Q (some x) σ) : TW d C i ls [.inl x] σ Q := fun _ => ⟨1, some x, σ, by simp only [texec, hC]; rfl, h⟩
theorem TW.zret {x : Int} (hC : C[i]? = some (33, a, b)) (hx : x = 0 ∨ x = 1) (h : Q (some x) σ) : TW d C i ls [.inl x] σ Q := fun _ => ⟨1, some x, σ, by
  simp only [texec, hC]
  rw [if_neg (by decide), if_neg (by decide), if_pos hx], h⟩
theorem TW.vret (hC : C[i]? = some (34, a, b)) (h : Q none σ) : TW d C i ls [] σ Q := fun _ => ⟨1, none, σ, by simp only [texec, hC]; rfl, h⟩
/-- a call: the callee's TM at the depth that is left -/
theorem TW.call {op : Nat} {as rest : List TV} {M : TMeth} {Q1 : Option Int → TS → Prop} (hC : C[i]? = some (op, a, b)) (hM : tmt[a]? = some M) (hop : (op = 30 ∧ M.2.2.2.2.1 = false ∧ as.head? = some (.inr 0)) ∨ (op = 31 ∧ M.2.2.2.2.1 = true)) (hn : as.length = tnum M) (hst : st = as.reverse ++ rest) (hr : rest.length ≤ 8) (h : TM d a as σ Q1) (k : ∀ r σ', Q1 r σ' → TW d C (i + 1) ls ((r.map Sum.inl).toList ++ rest) σ' Q) : TW d C i ls st σ Q := by
  intro hR
  obtain ⟨N1, r, σ1, h1, h2⟩ := h hR
  obtain ⟨N2, r2, σ2, h3, h4⟩ := k r σ1 h2 (trun_InR h1 hR)
  subst hst
  have ht : (as.reverse ++ rest).take (tnum M) = as.reverse := by rw [← hn, ← List.length_reverse, List.take_left']; rfl
  have hd : (as.reverse ++ rest).drop (tnum M) = rest := by rw [← hn, ← List.length_reverse, List.drop_left']; rfl
  refine ⟨max N1 N2 + 1, r2, σ2, ?_, h4⟩
  have hc : trun d (max N1 N2 + 1) a as σ = some (r, σ1) := trun_mono (by omega) (Nat.le_refl d) _ _ _ _ h1
  have hg : (decide (op = 31) = M.2.2.2.2.1) ∧ tnum M ≤ (as.reverse ++ rest).length ∧ rest.length ≤ 8 ∧ (op = 31 ∨ as.reverse.reverse.head? = some (.inr 0)) := by
    refine ⟨?_, by simp; omega, hr, ?_⟩
    · rcases hop with ⟨rfl, e, -⟩ | ⟨rfl, e⟩ <;> rw [e] <;> decide
    · rcases hop with ⟨-, -, e⟩ | ⟨e, -⟩
      · right; rw [List.reverse_reverse]; exact e
      · left; exact e
  have ho : ¬ op < 30 ∧ op < 32 := by rcases hop with ⟨rfl, -⟩ | ⟨rfl, -⟩ <;> decide
  simp only [texec, hC, if_neg ho.1, if_pos ho.2, hM, ht, hd]
  rw [if_pos hg, List.reverse_reverse, hc]
  exact texec_mono (trun_mono (by omega) (Nat.le_refl d)) C N2 _ _ _ _ _ _ (by omega) h3
end TWR
