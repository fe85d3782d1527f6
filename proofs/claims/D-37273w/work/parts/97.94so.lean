-- C
set_option maxRecDepth 100000
/-! LINEORDERS: compare, isBefore, sort -/
section SO
variable {d n m q i a y cap p B c k f e l b it lr : Nat} {S S' S0 S1 S2 : BS} {K : Nat → Nat} {la la' la2 : Int → Nat} {P R : List Int} {G : BG} {A : St} {V W : Nat → Prop} {s s2 z : List Int} {v w nn : Int} {dn rs post t : List SLine} {mk mk' : Nat → Option Int} {xs ys : List (Option Nat)} {rows : List (List Int)} {o : Obj} {x x2 : SLine} {r : Option Nat} {Q : GO → BS → Prop} {od : SOrd0}
theorem L_compare (h1 : Ob S a (oStr s)) (h2 : Ob S b (oStr s2)) (hv : v = p) (hp : p ≤ 1000) : BE (d + 5) gk_X1_compare [aR a, aR b, aI v] S (vI (sCmp (s.drop p) (s2.drop p))) := by
  subst hv
  refine BM.of rfl rfl rfl ?_
  refine BW.strL h1 (fun hs1 => ?_)
  refine BW.strL h2 (fun hs2 => ?_)
  have gR : ∀ (s : List Int), (∀ x ∈ s, 0 ≤ x ∧ x < 128) → ∀ j : Nat, 0 ≤ s.getD j 0 ∧ s.getD j 0 < 128 := fun s hs j => by
    rw [List.getD_eq_getElem?_getD]
    cases e : s[j]? with
    | none => exact ⟨by decide, by decide⟩
    | some v => exact hs v (List.mem_of_getElem? e)
  have ds : ∀ (s : List Int) (k : Nat), k < s.length → s.drop k = s.getD k 0 :: s.drop (k + 1) := fun s k hk => by
    rw [List.drop_eq_getElem_cons hk, List.getD_eq_getElem?_getD, List.getElem?_eq_getElem hk]; rfl
  have fin : ∀ (k : Nat), k ≤ 70000 → sCmp (s.drop p) (s2.drop p) = sCmp (s.drop k) (s2.drop k) → ¬ (k < s.length ∧ k < s2.length ∧ s.getD k 0 = s2.getD k 0) → BW (d + 4) gm_X1_compare 19 [some (aR a), some (aR b), some (aI p), some (aI k), none, none] [] S (fun r S' => ∃ v, r = .inl v ∧ (vI (sCmp (s.drop p) (s2.drop p)) = v ∧ S = S')) := by
    intro k hkR hsp hn
    have g1 := gR s hs1.2 k
    have g2 := gR s2 hs2.2 k
    have ek : ((k : Nat) : Int).toNat = k := by omega
    (repeat (refine BW.pl rfl rfl ?_))
    refine CW.e1 rfl rfl (by first | exact Or.inl rfl | exact Or.inr (tagO (by assumption) (by rfl) (by rfl))) (by first | exact Or.inl (by decide) | exact Or.inr ⟨_, rfl, by assumption⟩) rfl (B_slen h1) ?_
    by_cases z1 : k < s.length
    · refine BW.br rfl rfl (by first | omega | decide | (constructor <;> first | omega | decide)) (fun w1 => by first | (exfalso; omega) | exact absurd w1 (by decide)) (fun w1 => ?_)
      (repeat (refine BW.pl rfl rfl ?_))
      refine CW.e2 rfl rfl (by first | exact Or.inl rfl | exact Or.inr (tagO (by assumption) (by rfl) (by rfl))) (by first | exact Or.inl (by decide) | exact Or.inr ⟨_, rfl, by assumption⟩) rfl (B_schar h1 ⟨by omega, by omega⟩) ?_
      rw [ek]
      (repeat (refine BW.pl rfl rfl ?_))
      refine CW.e1 rfl rfl (by first | exact Or.inl rfl | exact Or.inr (tagO (by assumption) (by rfl) (by rfl))) (by first | exact Or.inl (by decide) | exact Or.inr ⟨_, rfl, by assumption⟩) rfl (B_slen h2) ?_
      by_cases z2 : k < s2.length
      · refine BW.br rfl rfl (by first | omega | decide | (constructor <;> first | omega | decide)) (fun w2 => by first | (exfalso; omega) | exact absurd w2 (by decide)) (fun w2 => ?_)
        (repeat (refine BW.pl rfl rfl ?_))
        refine CW.e2 rfl rfl (by first | exact Or.inl rfl | exact Or.inr (tagO (by assumption) (by rfl) (by rfl))) (by first | exact Or.inl (by decide) | exact Or.inr ⟨_, rfl, by assumption⟩) rfl (B_schar h2 ⟨by omega, by omega⟩) ?_
        rw [ek]
        (repeat (refine BW.pl rfl rfl ?_))
        refine BW.irx rfl (Or.inl ⟨rfl, by constructor <;> omega⟩) ⟨_, rfl, ?_, rfl⟩
        rw [hsp, ds s k z1, ds s2 k z2]
        unfold sCmp
        rw [if_neg (fun z => hn ⟨z1, z2, z⟩)]
      · refine BW.br rfl rfl (by first | omega | decide | (constructor <;> first | omega | decide)) (fun w2 => ?_) (fun w2 => by first | (exfalso; omega) | exact absurd w2 (by decide))
        (repeat (refine BW.pl rfl rfl ?_))
        refine BW.irx rfl (Or.inl ⟨rfl, by constructor <;> omega⟩) ⟨_, rfl, ?_, rfl⟩
        have d2 : s2.drop k = [] := List.drop_of_length_le (by omega)
        rw [hsp, ds s k z1, d2]
        show vI (s.getD k 0) = vI (s.getD k 0 - 0)
        rw [Int.sub_zero]
    · refine BW.br rfl rfl (by first | omega | decide | (constructor <;> first | omega | decide)) (fun w1 => ?_) (fun w1 => by first | (exfalso; omega) | exact absurd w1 (by decide))
      (repeat (refine BW.pl rfl rfl ?_))
      refine CW.e1 rfl rfl (by first | exact Or.inl rfl | exact Or.inr (tagO (by assumption) (by rfl) (by rfl))) (by first | exact Or.inl (by decide) | exact Or.inr ⟨_, rfl, by assumption⟩) rfl (B_slen h2) ?_
      by_cases z2 : k < s2.length
      · refine BW.br rfl rfl (by first | omega | decide | (constructor <;> first | omega | decide)) (fun w2 => by first | (exfalso; omega) | exact absurd w2 (by decide)) (fun w2 => ?_)
        (repeat (refine BW.pl rfl rfl ?_))
        refine CW.e2 rfl rfl (by first | exact Or.inl rfl | exact Or.inr (tagO (by assumption) (by rfl) (by rfl))) (by first | exact Or.inl (by decide) | exact Or.inr ⟨_, rfl, by assumption⟩) rfl (B_schar h2 ⟨by omega, by omega⟩) ?_
        rw [ek]
        (repeat (refine BW.pl rfl rfl ?_))
        refine BW.irx rfl (Or.inl ⟨rfl, by constructor <;> omega⟩) ⟨_, rfl, ?_, rfl⟩
        have d1 : s.drop k = [] := List.drop_of_length_le (by omega)
        rw [hsp, ds s2 k z2, d1]
        show vI (- s2.getD k 0) = vI (0 - s2.getD k 0)
        rw [Int.zero_sub]
      · refine BW.br rfl rfl (by first | omega | decide | (constructor <;> first | omega | decide)) (fun w2 => ?_) (fun w2 => by first | (exfalso; omega) | exact absurd w2 (by decide))
        (repeat (refine BW.pl rfl rfl ?_))
        refine BW.irx rfl (Or.inl ⟨rfl, by decide⟩) ⟨_, rfl, ?_, rfl⟩
        have d1 : s.drop k = [] := List.drop_of_length_le (by omega)
        have d2 : s2.drop k = [] := List.drop_of_length_le (by omega)
        rw [hsp, d1, d2]
        rfl
  have loop : ∀ (n k : Nat), k ≤ 70000 → s.length ≤ k + n → sCmp (s.drop p) (s2.drop p) = sCmp (s.drop k) (s2.drop k) → BW (d + 4) gm_X1_compare 2 [some (aR a), some (aR b), some (aI p), some (aI k), none, none] [] S (fun r S' => ∃ v, r = .inl v ∧ (vI (sCmp (s.drop p) (s2.drop p)) = v ∧ S = S')) := by
    intro n
    induction n with
    | zero =>
      intro k hkR hk hsp
      (repeat (refine BW.pl rfl rfl ?_))
      refine CW.e1 rfl rfl (by first | exact Or.inl rfl | exact Or.inr (tagO (by assumption) (by rfl) (by rfl))) (by first | exact Or.inl (by decide) | exact Or.inr ⟨_, rfl, by assumption⟩) rfl (B_slen h1) ?_
      refine BW.br rfl rfl (by first | omega | decide | (constructor <;> first | omega | decide)) (fun w1 => ?_) (fun w1 => by first | (exfalso; omega) | exact absurd w1 (by decide))
      exact fin k hkR hsp (fun z => by omega)
    | succ n ih =>
      intro k hkR hk hsp
      have g1 := gR s hs1.2 k
      have g2 := gR s2 hs2.2 k
      have ek : ((k : Nat) : Int).toNat = k := by omega
      (repeat (refine BW.pl rfl rfl ?_))
      refine CW.e1 rfl rfl (by first | exact Or.inl rfl | exact Or.inr (tagO (by assumption) (by rfl) (by rfl))) (by first | exact Or.inl (by decide) | exact Or.inr ⟨_, rfl, by assumption⟩) rfl (B_slen h1) ?_
      by_cases z1 : k < s.length
      · refine BW.br rfl rfl (by first | omega | decide | (constructor <;> first | omega | decide)) (fun w1 => by first | (exfalso; omega) | exact absurd w1 (by decide)) (fun w1 => ?_)
        (repeat (refine BW.pl rfl rfl ?_))
        refine CW.e1 rfl rfl (by first | exact Or.inl rfl | exact Or.inr (tagO (by assumption) (by rfl) (by rfl))) (by first | exact Or.inl (by decide) | exact Or.inr ⟨_, rfl, by assumption⟩) rfl (B_slen h2) ?_
        by_cases z2 : k < s2.length
        · refine BW.br rfl rfl (by first | omega | decide | (constructor <;> first | omega | decide)) (fun w2 => by first | (exfalso; omega) | exact absurd w2 (by decide)) (fun w2 => ?_)
          (repeat (refine BW.pl rfl rfl ?_))
          refine CW.e2 rfl rfl (by first | exact Or.inl rfl | exact Or.inr (tagO (by assumption) (by rfl) (by rfl))) (by first | exact Or.inl (by decide) | exact Or.inr ⟨_, rfl, by assumption⟩) rfl (B_schar h1 ⟨by omega, by omega⟩) ?_
          rw [ek]
          (repeat (refine BW.pl rfl rfl ?_))
          refine CW.e2 rfl rfl (by first | exact Or.inl rfl | exact Or.inr (tagO (by assumption) (by rfl) (by rfl))) (by first | exact Or.inl (by decide) | exact Or.inr ⟨_, rfl, by assumption⟩) rfl (B_schar h2 ⟨by omega, by omega⟩) ?_
          rw [ek]
          by_cases z3 : s.getD k 0 = s2.getD k 0
          · refine BW.br rfl rfl (by first | omega | decide | (constructor <;> first | omega | decide)) (fun w3 => by first | (exfalso; omega) | exact absurd w3 (by decide)) (fun w3 => ?_)
            (iterate 2 (refine BW.pl rfl rfl ?_))
            refine ih (k + 1) (by omega) (by omega) ?_
            rw [hsp, ds s k z1, ds s2 k z2]
            conv => lhs; unfold sCmp
            rw [if_pos z3]
          · refine BW.br rfl rfl (by first | omega | decide | (constructor <;> first | omega | decide)) (fun w3 => ?_) (fun w3 => by first | (exfalso; omega) | exact absurd w3 (by decide))
            exact fin k hkR hsp (fun z => z3 z.2.2)
        · refine BW.br rfl rfl (by first | omega | decide | (constructor <;> first | omega | decide)) (fun w2 => ?_) (fun w2 => by first | (exfalso; omega) | exact absurd w2 (by decide))
          exact fin k hkR hsp (fun z => z2 z.2.1)
      · refine BW.br rfl rfl (by first | omega | decide | (constructor <;> first | omega | decide)) (fun w1 => ?_) (fun w1 => by first | (exfalso; omega) | exact absurd w1 (by decide))
        exact fin k hkR hsp (fun z => z1 z.1)
  (iterate 2 (refine BW.pl rfl rfl ?_))
  exact loop s.length p (by omega) (by omega) rfl
theorem sCmp_RG : ∀ (s s2 : List Int), (∀ x ∈ s, 0 ≤ x ∧ x < 128) → (∀ x ∈ s2, 0 ≤ x ∧ x < 128) → -128 < sCmp s s2 ∧ sCmp s s2 < 128 := by
  intro s
  induction s with
  | nil =>
    intro s2 h1 h2
    cases s2 with
    | nil => exact ⟨by decide, by decide⟩
    | cons y s2 =>
      have := h2 y List.mem_cons_self
      show -128 < -y ∧ -y < 128
      omega
  | cons x s ih =>
    intro s2 h1 h2
    have g1 := h1 x List.mem_cons_self
    cases s2 with
    | nil => show -128 < x ∧ x < 128; omega
    | cons y s2 =>
      have g2 := h2 y List.mem_cons_self
      unfold sCmp
      by_cases z : x = y
      · rw [if_pos z]; exact ih s2 (fun q hq => h1 q (List.mem_cons_of_mem _ hq)) (fun q hq => h2 q (List.mem_cons_of_mem _ hq))
      · rw [if_neg z]; omega
theorem L_isBefore (hm : Ob S m (oOwn 7)) (h48 : Fi S 48 m (oAct od)) (h49 : Fi S 49 m (oNum od)) (hac : oAct od = 111 ∨ oAct od = 79) (hnm : 0 ≤ oNum od ∧ oNum od ≤ 99) (ha : RowI S la nn x) (hb : RowI S la nn x2) : BE (d + 6) gk_X1_isBefore [aR m, aR (la x.1), aR (la x2.1)] S (vI (if sBef od x x2 = true then 1 else 0)) := by
  obtain ⟨_, a6, r1, a44, ⟨y1, rfl, hy1⟩, _⟩ := ha
  obtain ⟨_, b6, r2, b44, ⟨y2, rfl, hy2⟩, _⟩ := hb
  refine BM.of rfl rfl rfl ?_
  refine BW.strL hy1 (fun hs1 => ?_)
  refine BW.strL hy2 (fun hs2 => ?_)
  have hR := sCmp_RG (x.2.drop (oNum od).toNat) (x2.2.drop (oNum od).toNat) (fun q hq => hs1.2 q (List.mem_of_mem_drop hq)) (fun q hq => hs2.2 q (List.mem_of_mem_drop hq))
  (repeat (first | (refine BW.pl rfl rfl ?_) | (refine CW.geti rfl rfl (by assumption) rfl rfl (by assumption) (fun _ => ?_)) | (refine CW.getr rfl rfl (by assumption) rfl rfl (by assumption) ?_)))
  refine CW.e3 rfl rfl (by first | exact Or.inl rfl | exact Or.inr (tagO (by assumption) (by rfl) (by rfl))) (by first | exact Or.inl (by decide) | exact Or.inr ⟨_, rfl, by assumption⟩) rfl (L_compare (p := (oNum od).toNat) hy1 hy2 (by omega) (by omega)) ?_
  generalize hc : sCmp (x.2.drop (oNum od).toNat) (x2.2.drop (oNum od).toNat) = cv at hR
  have eb : sBef od x x2 = if oAct od = 111 then decide (cv < 0) else decide (0 < cv) := by unfold sBef; rw [hc]
  (repeat (first | (refine BW.pl rfl rfl ?_) | (refine CW.geti rfl rfl (by assumption) rfl rfl (by assumption) (fun _ => ?_)) | (refine CW.getr rfl rfl (by assumption) rfl rfl (by assumption) ?_)))
  rcases hac with z | z
  · rw [if_pos z] at eb
    refine BW.br rfl rfl (by first | omega | decide | (constructor <;> first | omega | decide)) (fun w => by first | (exfalso; omega) | exact absurd w (by decide)) (fun w => ?_)
    (repeat (refine BW.pl rfl rfl ?_))
    by_cases zc : cv < 0
    · refine BW.br rfl rfl (by first | omega | decide | (constructor <;> first | omega | decide)) (fun w2 => by first | (exfalso; omega) | exact absurd w2 (by decide)) (fun w2 => ?_)
      (repeat (refine BW.pl rfl rfl ?_))
      exact BW.irx rfl (Or.inr (Or.inl ⟨rfl, Or.inr rfl⟩)) ⟨_, rfl, by rw [eb, decide_eq_true zc]; rfl, rfl⟩
    · refine BW.br rfl rfl (by first | omega | decide | (constructor <;> first | omega | decide)) (fun w2 => ?_) (fun w2 => by first | (exfalso; omega) | exact absurd w2 (by decide))
      (repeat (refine BW.pl rfl rfl ?_))
      exact BW.irx rfl (Or.inr (Or.inl ⟨rfl, Or.inl rfl⟩)) ⟨_, rfl, by rw [eb, decide_eq_false zc]; rfl, rfl⟩
  · rw [if_neg (by omega)] at eb
    refine BW.br rfl rfl (by first | omega | decide | (constructor <;> first | omega | decide)) (fun w => ?_) (fun w => by first | (exfalso; omega) | exact absurd w (by decide))
    (repeat (refine BW.pl rfl rfl ?_))
    by_cases zc : 0 < cv
    · refine BW.br rfl rfl (by first | omega | decide | (constructor <;> first | omega | decide)) (fun w2 => by first | (exfalso; omega) | exact absurd w2 (by decide)) (fun w2 => ?_)
      (repeat (refine BW.pl rfl rfl ?_))
      exact BW.irx rfl (Or.inr (Or.inl ⟨rfl, Or.inr rfl⟩)) ⟨_, rfl, by rw [eb, decide_eq_true zc]; rfl, rfl⟩
    · refine BW.br rfl rfl (by first | omega | decide | (constructor <;> first | omega | decide)) (fun w2 => ?_) (fun w2 => by first | (exfalso; omega) | exact absurd w2 (by decide))
      (repeat (refine BW.pl rfl rfl ?_))
      exact BW.irx rfl (Or.inr (Or.inl ⟨rfl, Or.inl rfl⟩)) ⟨_, rfl, by rw [eb, decide_eq_false zc]; rfl, rfl⟩
end SO
