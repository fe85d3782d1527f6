-- C
set_option maxRecDepth 100000
/-! LINEORDERS: what is made of a row: shift, changeSigns, madeOf -/
section CH
variable {d n m q i a y cap p B c k f e l b : Nat} {S S' S0 S1 S2 : BS} {K : Nat → Nat} {s s2 z : List Int} {v w nn u : Int} {r : Option Nat} {Q : GO → BS → Prop} {od : SOrd0}
theorem sidx_find {c : Int} : ∀ (s : List Int) (k : Int), 0 ≤ k → sidx c s k = match s.findIdx? (fun x => x == c) with | some j => k + j | none => -1 := by
  intro s
  induction s with
  | nil => intro k _; rfl
  | cons x s ih =>
    intro k hk
    show (if x = c then k else sidx c s (k + 1)) = _
    rw [List.findIdx?_cons]
    by_cases e : x = c
    · rw [if_pos e, if_pos (beq_iff_eq.mpr e)]
      show k = k + ((0 : Nat) : Int)
      omega
    · rw [if_neg e, if_neg (fun z => e (beq_iff_eq.mp z)), ih (k + 1) (by omega)]
      cases s.findIdx? (fun x => x == c) with
      | none => rfl
      | some j => show k + 1 + (j : Int) = k + ((j + 1 : Nat) : Int); omega
theorem strG (hs : ∀ x ∈ s, 0 ≤ x ∧ x < 128) (j : Nat) : 0 ≤ s.getD j 0 ∧ s.getD j 0 < 128 := by
  rw [List.getD_eq_getElem?_getD]
  cases e : s[j]? with
  | none => exact ⟨by decide, by decide⟩
  | some v => exact hs v (List.mem_of_getElem? e)
/-- the signs in a builder -/
theorem BW.sbL {d i : Nat} {M : GMeth} {ls : GL} {st : List GV} (hn : Ob S n (oSb s cap)) (kk : (∀ x ∈ s, 0 ≤ x ∧ x < 128) → BW d M i ls st S Q) : BW d M i ls st S Q := by
  obtain ⟨H, fi, fr, t⟩ := S
  rintro g ⟨ρ, ν, hR⟩
  obtain ⟨q1, ⟨a, h1, h2⟩, q3⟩ := hR.obj hn rfl rfl
  exact kk h1.2.2.2.2.2.1.2.2.2.2 g ⟨ρ, ν, hR⟩
theorem L_madeOf (hx : Ob S n (oOwn 1)) (h15 : Fe S 15 n (some m)) (hm : Ob S m (oSb z cap)) (hy : Ob S y (oStr s)) (hyk : okS (some y)) (hzl : z.length < 60000) : BM (d + 8) gk_X1_madeOf [aR n, aR y] S (fun r S' => if 30 < z.length then Thr9 11 78 4 S r S' else ∃ y', r = .inl (vR (some y')) ∧ Ob S' y' (oStr z) ∧ okS (some y') ∧ Fr0 S S' 58) := by
  refine BM.of rfl rfl rfl ?_
  refine BW.strL hy (fun hsl => ?_)
  (repeat (first | (refine BW.pl rfl rfl ?_) | (refine CW.geti rfl rfl (by assumption) rfl rfl (by assumption) (fun _ => ?_)) | (refine CW.getr rfl rfl (by assumption) rfl rfl (by assumption) ?_)))
  refine CW.e1 rfl rfl (by first | exact Or.inl rfl | exact Or.inr (tagO (by assumption) (by rfl) (by rfl))) (by first | exact Or.inl (by decide) | exact Or.inr ⟨_, rfl, by assumption⟩) rfl (B_sbLen hm) ?_
  (repeat (refine BW.pl rfl rfl ?_))
  by_cases z1 : 30 < z.length
  · refine BW.br rfl rfl (by first | omega | decide | (constructor <;> first | omega | decide)) (fun w => ?_) (fun w => by first | (exfalso; omega) | exact absurd w (by decide))
    (repeat (refine BW.pl rfl rfl ?_))
    refine CW.need rfl rfl (by decide) rfl (Or.inl rfl) (by decide) rfl (fun w => absurd w (by decide)) (fun _ r9 S9 hT9 => ?_)
    rw [if_pos z1]
    exact hT9
  · refine BW.br rfl rfl (by first | omega | decide | (constructor <;> first | omega | decide)) (fun w => by first | (exfalso; omega) | exact absurd w (by decide)) (fun w => ?_)
    (repeat (refine BW.pl rfl rfl ?_))
    refine CW.need rfl rfl (by decide) rfl (Or.inr rfl) (by decide) rfl (fun _ => ?_) (fun w => absurd w (by decide))
    refine BW.mono2 (Q' := fun r S' => ∃ y', r = .inl (vR (some y')) ∧ Ob S' y' (oStr z) ∧ okS (some y') ∧ Fr0 S S' 58) (fun r S' h => by rw [if_neg z1]; exact h) ?_
    have at42 : ∀ (fl j : Int), (fl = 1 ∧ z = s) ∨ fl = 0 → BW (d + 7) gm_X1_madeOf 42 [some (aR n), some (aR y), some (aI fl), some (aI j)] [] S (fun r S' => ∃ y', r = .inl (vR (some y')) ∧ Ob S' y' (oStr z) ∧ okS (some y') ∧ Fr0 S S' 58) := by
      rintro fl j (⟨rfl, e⟩ | rfl)
      · (repeat (refine BW.pl rfl rfl ?_))
        refine BW.br rfl rfl (by first | omega | decide | (constructor <;> first | omega | decide)) (fun w2 => by first | (exfalso; omega) | exact absurd w2 (by decide)) (fun w2 => ?_)
        (repeat (refine BW.pl rfl rfl ?_))
        exact BW.aret rfl rfl ⟨y, rfl, by rw [e]; exact hy, hyk, Fr.rf.w (fun _ _ z => z) (Nat.zero_le _)⟩
      · (repeat (refine BW.pl rfl rfl ?_))
        refine BW.br rfl rfl (by first | omega | decide | (constructor <;> first | omega | decide)) (fun w2 => ?_) (fun w2 => by first | (exfalso; omega) | exact absurd w2 (by decide))
        (repeat (first | (refine BW.pl rfl rfl ?_) | (refine CW.geti rfl rfl (by assumption) rfl rfl (by assumption) (fun _ => ?_)) | (refine CW.getr rfl rfl (by assumption) rfl rfl (by assumption) ?_)))
        refine CW.c1 rfl rfl (by first | exact Or.inl rfl | exact Or.inr (tagO (by assumption) (by rfl) (by rfl))) (by first | exact Or.inl (by decide) | exact Or.inr ⟨_, rfl, by assumption⟩) rfl (C_sbStr hm) ?_
        rintro r S1 ⟨y2, rfl, hk, h0, hy2, hF⟩
        exact BW.aret rfl rfl ⟨y2, rfl, hy2, okS.mk (Or.inl hk), hF.w (fun _ _ z => z) (by omega)⟩
    have loop : ∀ (n2 j : Nat), j + n2 = s.length → z.length = s.length → (∀ j', j' < j → z.getD j' 0 = s.getD j' 0) → BW (d + 7) gm_X1_madeOf 22 [some (aR n), some (aR y), some (aI 1), some (aI j)] [] S (fun r S' => ∃ y', r = .inl (vR (some y')) ∧ Ob S' y' (oStr z) ∧ okS (some y') ∧ Fr0 S S' 58) := by
      intro n2
      induction n2 with
      | zero =>
        intro j hj hl hall
        (repeat (refine BW.pl rfl rfl ?_))
        refine CW.e1 rfl rfl (by first | exact Or.inl rfl | exact Or.inr (tagO (by assumption) (by rfl) (by rfl))) (by first | exact Or.inl (by decide) | exact Or.inr ⟨_, rfl, by assumption⟩) rfl (B_slen hy) ?_
        refine BW.br rfl rfl (by first | omega | decide | (constructor <;> first | omega | decide)) (fun w2 => ?_) (fun w2 => by first | (exfalso; omega) | exact absurd w2 (by decide))
        refine at42 1 j (Or.inl ⟨rfl, List.ext_getElem hl (fun k h1 h2 => ?_)⟩)
        have := hall k (by omega)
        rw [List.getD_eq_getElem?_getD, List.getElem?_eq_getElem h1, List.getD_eq_getElem?_getD, List.getElem?_eq_getElem h2] at this
        exact this
      | succ n2 ih =>
        intro j hj hl hall
        have ej : ((j : Nat) : Int).toNat = j := by omega
        have g1 := strG hsl.2 j
        (repeat (refine BW.pl rfl rfl ?_))
        refine CW.e1 rfl rfl (by first | exact Or.inl rfl | exact Or.inr (tagO (by assumption) (by rfl) (by rfl))) (by first | exact Or.inl (by decide) | exact Or.inr ⟨_, rfl, by assumption⟩) rfl (B_slen hy) ?_
        refine BW.br rfl rfl (by first | omega | decide | (constructor <;> first | omega | decide)) (fun w2 => by first | (exfalso; omega) | exact absurd w2 (by decide)) (fun w2 => ?_)
        (repeat (refine BW.pl rfl rfl ?_))
        refine BW.br rfl rfl (by first | omega | decide | (constructor <;> first | omega | decide)) (fun w3 => by first | (exfalso; omega) | exact absurd w3 (by decide)) (fun w3 => ?_)
        (repeat (first | (refine BW.pl rfl rfl ?_) | (refine CW.geti rfl rfl (by assumption) rfl rfl (by assumption) (fun _ => ?_)) | (refine CW.getr rfl rfl (by assumption) rfl rfl (by assumption) ?_)))
        refine CW.e2 rfl rfl (by first | exact Or.inl rfl | exact Or.inr (tagO (by assumption) (by rfl) (by rfl))) (by first | exact Or.inl (by decide) | exact Or.inr ⟨_, rfl, by assumption⟩) rfl (B_sbAt hm ⟨by omega, by omega⟩) ?_
        rw [ej]
        (repeat (refine BW.pl rfl rfl ?_))
        refine CW.e2 rfl rfl (by first | exact Or.inl rfl | exact Or.inr (tagO (by assumption) (by rfl) (by rfl))) (by first | exact Or.inl (by decide) | exact Or.inr ⟨_, rfl, by assumption⟩) rfl (B_schar hy ⟨by omega, by omega⟩) ?_
        rw [ej]
        refine BW.sbL hm (fun hzs => ?_)
        have g2 := strG hzs j
        by_cases z3 : z.getD j 0 = s.getD j 0
        · refine BW.br rfl rfl (by first | omega | decide | (constructor <;> first | omega | decide)) (fun w4 => by first | (exfalso; omega) | exact absurd w4 (by decide)) (fun w4 => ?_)
          (iterate 5 (refine BW.pl rfl rfl ?_))
          exact ih (j + 1) (by omega) hl (fun j' hj' => by
            rcases Nat.lt_or_ge j' j with h | h
            · exact hall j' h
            · rw [show j' = j by omega]; exact z3)
        · refine BW.br rfl rfl (by first | omega | decide | (constructor <;> first | omega | decide)) (fun w4 => ?_) (fun w4 => by first | (exfalso; omega) | exact absurd w4 (by decide))
          (repeat (refine BW.pl rfl rfl ?_))
          refine CW.e1 rfl rfl (by first | exact Or.inl rfl | exact Or.inr (tagO (by assumption) (by rfl) (by rfl))) (by first | exact Or.inl (by decide) | exact Or.inr ⟨_, rfl, by assumption⟩) rfl (B_slen hy) ?_
          by_cases z4 : j + 1 < s.length
          · refine BW.br rfl rfl (by first | omega | decide | (constructor <;> first | omega | decide)) (fun w5 => by first | (exfalso; omega) | exact absurd w5 (by decide)) (fun w5 => ?_)
            (repeat (refine BW.pl rfl rfl ?_))
            refine BW.br rfl rfl (by first | omega | decide | (constructor <;> first | omega | decide)) (fun w6 => ?_) (fun w6 => by first | (exfalso; omega) | exact absurd w6 (by decide))
            exact at42 0 _ (Or.inr rfl)
          · refine BW.br rfl rfl (by first | omega | decide | (constructor <;> first | omega | decide)) (fun w5 => ?_) (fun w5 => by first | (exfalso; omega) | exact absurd w5 (by decide))
            exact at42 0 _ (Or.inr rfl)
    (repeat (first | (refine BW.pl rfl rfl ?_) | (refine CW.geti rfl rfl (by assumption) rfl rfl (by assumption) (fun _ => ?_)) | (refine CW.getr rfl rfl (by assumption) rfl rfl (by assumption) ?_)))
    refine CW.e1 rfl rfl (by first | exact Or.inl rfl | exact Or.inr (tagO (by assumption) (by rfl) (by rfl))) (by first | exact Or.inl (by decide) | exact Or.inr ⟨_, rfl, by assumption⟩) rfl (B_sbLen hm) ?_
    (repeat (refine BW.pl rfl rfl ?_))
    refine CW.e1 rfl rfl (by first | exact Or.inl rfl | exact Or.inr (tagO (by assumption) (by rfl) (by rfl))) (by first | exact Or.inl (by decide) | exact Or.inr ⟨_, rfl, by assumption⟩) rfl (B_slen hy) ?_
    by_cases z2 : z.length = s.length
    · refine BW.br rfl rfl (by first | omega | decide | (constructor <;> first | omega | decide)) (fun w2 => by first | (exfalso; omega) | exact absurd w2 (by decide)) (fun w2 => ?_)
      (iterate 5 (refine BW.pl rfl rfl ?_))
      exact loop s.length 0 (Nat.zero_add _) z2 (fun j' h => absurd h (Nat.not_lt_zero _))
    · refine BW.br rfl rfl (by first | omega | decide | (constructor <;> first | omega | decide)) (fun w2 => ?_) (fun w2 => by first | (exfalso; omega) | exact absurd w2 (by decide))
      (repeat (refine BW.pl rfl rfl ?_))
      refine CW.e1 rfl rfl (by first | exact Or.inl rfl | exact Or.inr (tagO (by assumption) (by rfl) (by rfl))) (by first | exact Or.inl (by decide) | exact Or.inr ⟨_, rfl, by assumption⟩) rfl (B_slen hy) ?_
      by_cases z4 : 0 < s.length
      · refine BW.br rfl rfl (by first | omega | decide | (constructor <;> first | omega | decide)) (fun w5 => by first | (exfalso; omega) | exact absurd w5 (by decide)) (fun w5 => ?_)
        (repeat (refine BW.pl rfl rfl ?_))
        refine BW.br rfl rfl (by first | omega | decide | (constructor <;> first | omega | decide)) (fun w6 => ?_) (fun w6 => by first | (exfalso; omega) | exact absurd w6 (by decide))
        exact at42 0 _ (Or.inr rfl)
      · refine BW.br rfl rfl (by first | omega | decide | (constructor <;> first | omega | decide)) (fun w5 => ?_) (fun w5 => by first | (exfalso; omega) | exact absurd w5 (by decide))
        exact at42 0 _ (Or.inr rfl)
end CH
