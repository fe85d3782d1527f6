-- C
set_option maxRecDepth 100000
/-! THE READER: plain, its loop -/
section PL
variable {d i a n q x b m c cap c0 st0 cf : Nat} {M : GMeth} {ls : GL} {st : List GV} {xs : List (Option Nat)} {ps : List SPart} {p : SPart} {s l l1 f acc : List Int} {S S0 S1 S' : BS} {F : Nat → Prop} {Q : GO → BS → Prop} {y : Option Nat} {o : Obj}
/-- in the midst of signs that a builder takes, since S0 -/
def ClI (S0 S1 : BS) (n b : Nat) (acc : List Int) (cap : Nat) : Prop := Ob S1 b (oSb acc cap) ∧ Fr S0 S1 (fun m => m = n ∨ m = b) (3 * (cap - 16)) ∧ 16 ≤ cap ∧ (cap = 16 ∨ cap ≤ 2 * acc.length) ∧ ∀ F, F ≠ 75 → F < 91 → S1.2.1 F n = S0.2.1 F n ∧ S1.2.2.1 F n = S0.2.2.1 F n
theorem ClI.go (h : ClI S0 S1 n b acc cap) (hP : Pu S1 S' 75 n) : ClI S0 S' n b acc cap := by
  obtain ⟨h1, h2, h3, h4, h5⟩ := h
  exact ⟨h1.pu hP trivial, (h2.tr (hP.fr.w (W2 := fun m => m = n ∨ m = b) (fun _ _ z => Or.inl z) (Nat.le_refl _)) (fun _ _ z => z)).w (fun _ _ z => z) (Nat.le_refl _), h3, h4, fun F hF hF2 => ⟨(hP.2.2 F n (Or.inl hF)).1.trans (h5 F hF hF2).1, (hP.2.2 F n (Or.inl hF)).2.trans (h5 F hF hF2).2⟩⟩
theorem ClI.add {cap' : Nat} {z : Int} (h : ClI S0 S1 n b acc cap) (hn : Ob S1 n (oOwn 10)) (h1 : Ob S' b (oSb (acc ++ [z]) cap')) (hF : Fr1 S1 S' b (3 * (cap' - cap))) (hc : cap ≤ cap') (hc2 : cap' = cap ∨ cap' ≤ 2 * (acc ++ [z]).length) : ClI S0 S' n b (acc ++ [z]) cap' := by
  obtain ⟨g1, h2, h3, h4, h5⟩ := h
  have hnb : n ≠ b := hn.ne g1 (oNe rfl)
  refine ⟨h1, (h2.tr (hF.w (W2 := fun m => m = n ∨ m = b) (fun _ _ z => Or.inr z) (Nat.le_refl _)) (fun _ _ z => z)).w (fun _ _ z => z) (by omega), by omega, ?_, fun F hF1 hF2 => ?_⟩
  · rcases hc2 with w | w
    · rcases h4 with z | z
      · left; omega
      · right; rw [List.length_append]; omega
    · right; exact w
  · have := hF.2.1 n (hn.old (oNe rfl)) (fun z => hnb z)
    exact ⟨(this.2 F hF2).1.trans (h5 F hF1 hF2).1, (this.2 F hF2).2.trans (h5 F hF1 hF2).2⟩
theorem plLoop {m : Nat} {ng : Int} (hs : s.length < 10000)
    (k : ∀ S2 l2 acc2 cap2, RdAt S2 n s l2 → ClI S0 S2 n b acc2 cap2 → acc2 = l.takeWhile isChr → acc2 ≠ [] → l2 = l.dropWhile isChr → hd l2 = 93 → BW (d + 8) gm_X3_plain 98 [some (aR n), some (aR m), some (aI ng), some (aR b)] [] S2 Q)
    (kx : ∀ S2 f acc2 cap2 r S', RdAt S2 n s f → ClI S0 S2 n b acc2 cap2 → acc2.length + f.length ≤ l.length → f = l.dropWhile isChr → (l.takeWhile isChr ≠ [] → hd f ≠ 93) → Thr9 5 42 ((s.length : Int) - f.length) S2 r S' → Q r S') :
    ∀ l3 acc S1 cap, RdAt S1 n s l3 → ClI S0 S1 n b acc cap → l.takeWhile isChr = acc ++ l3.takeWhile isChr → l.dropWhile isChr = l3.dropWhile isChr → acc.length + l3.length ≤ l.length → l.length ≤ s.length → (acc ≠ [] → hd l3 ≠ 93) → BW (d + 8) gm_X3_plain 85 [some (aR n), some (aR m), some (aI ng), some (aR b)] [] S1 Q := by
  intro l3
  induction l3 with
  | nil =>
    intro acc S1 cap hR hC e1 e2 hl hl2 h93
    have hn := hR.ob
    (repeat (refine BW.pl rfl rfl ?_))
    refine CW.e1 rfl rfl (by first | exact Or.inl rfl | exact Or.inr (tagO (by assumption) (by rfl) (by rfl))) (by first | exact Or.inl (by decide) | exact Or.inr ⟨_, rfl, by assumption⟩) rfl (B_sign (d := d + 1) hR) ?_
    refine BW.must (d := d + 4) rfl rfl (by decide) (by decide) rfl hR (Or.inl rfl) rfl (fun w => absurd w (by decide)) (fun q9 S9 _ hT9 => ?_)
    refine kx _ [] acc cap _ _ hR hC hl (by rw [e2]; rfl) (fun hh => h93 (fun z => hh (by rw [e1, z]; rfl))) hT9
  | cons y l3 ih =>
    intro acc S1 cap hR hC e1 e2 hl hl2 h93
    have hn := hR.ob
    have hyR := hR.R
    (repeat (refine BW.pl rfl rfl ?_))
    refine CW.e1 rfl rfl (by first | exact Or.inl rfl | exact Or.inr (tagO (by assumption) (by rfl) (by rfl))) (by first | exact Or.inl (by decide) | exact Or.inr ⟨_, rfl, by assumption⟩) rfl (B_sign (d := d + 1) hR) ?_
    by_cases z : isChr y = true
    · have z' : isChr (hd (y :: l3)) = true := z
      rw [if_pos z']
      refine BW.must (d := d + 4) rfl rfl (by decide) (by decide) rfl hR (Or.inr rfl) rfl (fun _ => ?_) (fun q S' w _ => absurd w (by decide))
      (repeat (refine BW.pl rfl rfl ?_))
      refine CW.c1 rfl rfl (by first | exact Or.inl rfl | exact Or.inr (tagO (by assumption) (by rfl) (by rfl))) (by first | exact Or.inl (by decide) | exact Or.inr ⟨_, rfl, by assumption⟩) rfl (C_next (d := d + 3) hR) ?_
      rintro r S2 ⟨rfl, hP, hR2⟩
      have hC2 := hC.go hP
      have hb2 := hC2.1
      have hl1 : acc.length + (l3.length + 1) ≤ l.length := by simpa using hl
      have hy0 : 0 ≤ y ∧ y < 128 := ⟨by
        have : isChr y = true := z
        unfold isChr isDig at this
        simp at this
        omega, hyR.2⟩
      have hn2 := hR2.ob
      (repeat (refine BW.pl rfl rfl ?_))
      refine CW.c2 rfl rfl (by first | exact Or.inl rfl | exact Or.inr (tagO (by assumption) (by rfl) (by rfl))) (by first | exact Or.inl (by decide) | exact Or.inr ⟨_, rfl, by assumption⟩) rfl (C_sbAppC (d := d + 3) hb2 hy0 (by omega)) ?_
      rintro r S3 ⟨rfl, cap', hb3, hF3, hc1, hc2⟩
      have hC3 := hC2.add hn2 hb3 hF3 hc1 hc2
      replace hR2 := hR2.fr hF3 ⟨(NoS.one hb2 rfl), (Sep.ne (hn2.ne hb2 (oNe rfl)))⟩
      replace hn2 := hn2.fr hF3 ⟨oNe rfl, (Sep.ne (hn2.ne hb2 (oNe rfl)))⟩
      have hn3 := hR2.ob
      have t1 : (y :: l3).takeWhile isChr = y :: l3.takeWhile isChr := by rw [List.takeWhile_cons, if_pos z]
      have t2 : (y :: l3).dropWhile isChr = l3.dropWhile isChr := by rw [List.dropWhile_cons, if_pos z]
      have hyR2 := hR2.R
      (repeat (refine BW.pl rfl rfl ?_))
      refine CW.e1 rfl rfl (by first | exact Or.inl rfl | exact Or.inr (tagO (by assumption) (by rfl) (by rfl))) (by first | exact Or.inl (by decide) | exact Or.inr ⟨_, rfl, by assumption⟩) rfl (B_look (d := d + 3) hR2) ?_
      (repeat (refine BW.pl rfl rfl ?_))
      by_cases z3 : lk l3 = 93
      · refine BW.br rfl rfl (by first | omega | decide | (constructor <;> first | omega | decide)) (fun w => by first | (exfalso; omega) | exact absurd w (by decide)) (fun w => ?_)
        cases l3 with
        | nil => cases z3
        | cons y2 l4 =>
          have z3 : y2 = 93 := z3
          subst z3
          refine k _ (93 :: l4) (acc ++ [y]) cap' hR2 hC3 ?_ (by simp) ?_ rfl
          · rw [e1, t1]; rfl
          · rw [e2, t2]; rfl
      · refine BW.br rfl rfl (by first | omega | decide | (constructor <;> first | omega | decide)) (fun w => ?_) (fun w => by first | (exfalso; omega) | exact absurd w (by decide))
        refine ih (acc ++ [y]) _ cap' hR2 hC3 ?_ ?_ ?_ hl2 (fun _ hh => z3 ((lk_hd (by decide)).mpr hh))
        · rw [e1, t1]; simp
        · rw [e2, t2]
        · rw [List.length_append]; simp; omega
    · have z' : ¬ isChr (hd (y :: l3)) = true := z
      rw [if_neg z']
      refine BW.must (d := d + 4) rfl rfl (by decide) (by decide) rfl hR (Or.inl rfl) rfl (fun w => absurd w (by decide)) (fun q9 S9 _ hT9 => ?_)
      have t1 : (y :: l3).takeWhile isChr = [] := by rw [List.takeWhile_cons, if_neg z]
      have t2 : (y :: l3).dropWhile isChr = y :: l3 := by rw [List.dropWhile_cons, if_neg z]
      exact kx _ (y :: l3) acc cap _ _ hR hC hl (by rw [e2, t2]) (fun hh => h93 (fun z => hh (by rw [e1, t1, z]; rfl))) hT9
end PL
