set_option maxRecDepth 100000
/-! the twin's workInner -/
section TWin
variable {d : Nat} {σ τ υ : TS} {s l l1 l2 : List Int} {t pu re : List SLine} {du : List (List Int)} {x : SLine} {g ov : Bool} {W W1 : WG} {B B1 : BG} {fs as : List Nat} {os : List SOrd} {n n0 : Int} {od : SOrd0} {S : SS} {st tu k i : Nat} {ru : Nat → Nat → RG} {w : Bool × Option SAdr × Option SAdr} {h o : List (List Int)} {fi : Nat → List (List Int)} {m : Nat → Option Int} {rp run : Bool} {L : Nat}
theorem stPuts_re {rs : List (List Int)} (hs : stPuts W B rs = .inr (W1, B1)) : W1.2.2.2.2 = W.2.2.2.2 := by
  obtain ⟨x, g, du, pu, re⟩ := W
  obtain ⟨h, o, fi, m, n, rp⟩ := B
  unfold stPuts at hs
  dsimp only at hs
  split at hs
  · cases hs
  · cases hs; rfl
theorem stTell_re {r : List Int} (hs : stTell W B r = .inr (W1, B1)) : W1 = W := by
  obtain ⟨h, o, fi, m, n, rp⟩ := B
  unfold stTell at hs
  dsimp only at hs
  split at hs
  · cases hs
  · cases hs; rfl
theorem stJoin_re (hs : stJoin W B = .inr (W1, B1)) : W1.2.2.2.2.length ≤ W.2.2.2.2.length := by
  obtain ⟨x, g, du, pu, re⟩ := W
  obtain ⟨h, o, fi, m, n, rp⟩ := B
  unfold stJoin at hs
  dsimp only at hs
  split at hs
  · cases hs; exact Nat.le_refl _
  · split at hs
    · cases hs
    · cases hs; exact Nat.le_succ _
theorem stAct_re (hs : stAct L od run W B = .inr (W1, B1)) : W1.2.2.2.2.length ≤ W.2.2.2.2.length := by
  obtain ⟨x, g, du, pu, re⟩ := W
  obtain ⟨h, o, fi, m, n, rp⟩ := B
  by_cases c97 : oAct od = 97
  · rw [stAct_97 c97] at hs
    cases hs; exact Nat.le_refl _
  by_cases c105 : oAct od = 105
  · rw [stAct_105 c105] at hs
    rw [stPuts_re hs]; exact Nat.le_refl _
  by_cases c99 : oAct od = 99
  · rw [stAct_99 c99] at hs
    split at hs
    · split at hs
      · cases hs
      · rename_i hq
        cases hs
        have := stPuts_re hq
        rw [← this]
        exact Nat.le_refl _
    · cases hs; exact Nat.le_refl _
  by_cases c100 : oAct od = 100
  · rw [stAct_100 c100] at hs
    cases hs; exact Nat.le_refl _
  by_cases c106 : oAct od = 106
  · rw [stAct_106 c106] at hs
    exact stJoin_re hs
  by_cases c118 : oAct od = 118
  · rw [stAct_118 c118] at hs
    split at hs <;> (cases hs; exact Nat.le_refl _)
  by_cases c112 : oAct od = 112
  · rw [stAct_112 c112] at hs
    rw [stTell_re hs]; exact Nat.le_refl _
  by_cases c61 : oAct od = 61
  · rw [stAct_61 c61] at hs
    rw [stTell_re hs]; exact Nat.le_refl _
  by_cases c110 : oAct od = 110
  · rw [stAct_110 c110] at hs
    rw [stTell_re hs]; exact Nat.le_refl _
  by_cases c104 : oAct od = 104
  · rw [stAct_104 c104] at hs
    cases hs; exact Nat.le_refl _
  by_cases c72 : oAct od = 72
  · rw [stAct_72 c72] at hs
    split at hs
    · cases hs
    · cases hs; exact Nat.le_refl _
  by_cases c117 : oAct od = 117
  · rw [stAct_117 c117] at hs
    split at hs
    · cases hs
    · cases hs; exact Nat.le_refl _
  by_cases c101 : oAct od = 101
  · rw [stAct_101 c101] at hs
    split at hs
    · cases hs; exact Nat.le_refl _
    · cases hs
  by_cases c107 : oAct od = 107
  · rw [stAct_107 c107] at hs
    cases hs; exact Nat.le_refl _
  by_cases c114 : oAct od = 114
  · rw [stAct_114 c114] at hs
    cases hs; exact Nat.le_refl _
  by_cases c119 : oAct od = 119
  · rw [stAct_119 c119] at hs
    dsimp only at hs
    split at hs
    · cases hs
    · cases hs; exact Nat.le_refl _
  have hs : chW od (x, g, du, pu, re) (h, o, fi, m, n, rp) = .inr (W1, B1) := by
    rw [← hs]
    unfold stAct
    rw [if_neg c97, if_neg c105, if_neg c99, if_neg c100, if_neg c106, if_neg c118, if_neg c112, if_neg c61, if_neg c110, if_neg c104, if_neg c72, if_neg c117, if_neg c101, if_neg c107, if_neg c114, if_neg c119]
    rfl
  unfold chW at hs
  dsimp only at hs
  split at hs
  · cases hs
  · cases hs; exact Nat.le_refl _
/-- an act with the work, the stream's whole state -/
theorem T_actS {x0 x1 : Int} (hT : TSS σ s t os n0 ((x, false, du, pu, re), (h, o, fi, m, n, rp), st, tu, ov, ru)) (hdu1 : du.length + 1000 ≤ 1000 * st) (hv : keyV os k i) (hx0 : x0 = ((keyP s k i : Nat) : Int)) (hx : Sfx s l x1) (hl0 : l ≠ []) (hact : oAct od = hd l) (hp : ActP l l1 od) (h48 : ¬ hd l1 = 48) (hout : isOut (hd l) = false) (hbar : stBar od = false) (hn0 : n0 < 890000) (hk3 : (σ.1 27) = 3 ↔ oSnd od ≠ none) : TM (d + 10) tk_workAct [.inr 0, .inl x0, .inl x1] σ (fun r τ => SsQ σ s t os n0 (stDo t.length k i od ((x, false, du, pu, re), (h, o, fi, m, n, rp), st, tu, ov, ru)) r τ ∧ (τ.1 64) = (σ.1 64)) := by
  obtain ⟨hC, hB, hw, hdu, htu, hre⟩ := hT
  have hC' := hC
  obtain ⟨hs, hg, hP, hR, ⟨hc, hcR⟩, htn, hov⟩ := hC'
  have hcR : st ≤ 400 := hcR
  have hre : tu + re.length ≤ t.length := hre
  have h40 := hB.1.1.2.1
  obtain ⟨⟨-, hRk, -⟩, -⟩ := hR k i hv
  have hb1 : ¬ (hd l = 108 ∨ hd l = 111 ∨ hd l = 79 ∨ hd l = 109 ∨ hd l = 116) := fun z => by
    unfold stBar at hbar
    rw [hact, decide_eq_true z] at hbar
    simp at hbar
  have hrl : hd l = 97 → (oRows od).length ≤ 1000 := fun n97 => by
    obtain ⟨kk, hrw⟩ := hp.1 (Or.inl n97)
    have h1 := pRows_bar _ kk l.tail l1 hrw
    have h2 : ∀ q : List Int, cBar q ≤ q.length := by
      intro q
      induction q with
      | nil => exact Nat.le_refl _
      | cons a q ih =>
        show (if isChr a = true ∨ a = 124 then (if a = 124 then 1 else 0) + cBar q else 0) ≤ q.length + 1
        split <;> (try split) <;> omega
    have := h2 l.tail
    have := (hx.step (y := x1 + 1) hl0 rfl).len
    have := hs.2.1
    omega
  refine (T_workAct (pos := keyP s k i) (run := (ru k i).2.2) hs hB hw hx hl0 hact hp h48 hout hb1 (by omega) hn0 hx0 (keyP_lt hs hP hv) hk3 (fun _ => hRk)).mono (Nat.le_refl _) ?_
  rintro r τ ⟨hf, hq⟩
  refine ⟨⟨hf.tf, ?_⟩, hf.1.1 64 (by decide)⟩
  have hC1 := hC.fr hf.1 (by decide) (by decide)
  revert hq
  show _ → match (match stAct t.length od (ru k i).2.2 (x, false, du, pu, re) (h, o, fi, m, n, rp) with | .inl w => (.inl w : Nat ⊕ SS) | .inr (W1, B1) => .inr (W1, B1, st, tu, ov, ru)) with | .inl w => r = some (w : Int) ∧ 1 ≤ w ∧ w ≤ 8 | .inr S1 => r = some 0 ∧ TSS τ s t os n0 S1
  cases hA : stAct t.length od (ru k i).2.2 (x, false, du, pu, re) (h, o, fi, m, n, rp) with
  | inl w =>
    intro hq
    obtain ⟨q1, q2, q3⟩ := hq
    exact ⟨q1, q2, by omega⟩
  | inr q =>
    obtain ⟨W1, B1⟩ := q
    rintro ⟨hq1, hq2⟩
    have hN := wf_stAct hw hact hp h48 hout hb1 (by omega) hrl hA
    have hr1 := stAct_re hA
    have hr2 : W1.2.2.2.2.length ≤ re.length := hr1
    refine ⟨hq1, hC1, hq2, hN.1, ?_, htu, ?_⟩
    · have := hN.2
      show W1.2.2.1.length ≤ 1000 * st
      omega
    · show tu + W1.2.2.2.2.length ≤ t.length
      omega
end TWin
