-- C
set_option maxRecDepth 100000
/-! THE READER: what is put in place of a find -/
/-- the fields of m outside of L have not changed -/
def FlK (S S' : BS) (m : Nat) (L : List Nat) : Prop := ∀ F, F < 91 → F ∉ L → S'.2.1 F m = S.2.1 F m ∧ S'.2.2.1 F m = S.2.2.1 F m
section RP
variable {d i a n q x b m c cap cap' c0 c1 st0 st1 cf many L : Nat} {b1 kd : Int} {M : GMeth} {ls : GL} {st : List GV} {xs xs' : List (Option Nat)} {ps qs : List SPart} {p : SPart} {s l l1 l3 f acc : List Int} {S S0 S1 S' : BS} {F F' W : Nat → Prop} {Q : GO → BS → Prop} {y : Option Nat} {o : Obj} {r : Option Nat} {pt : SPat} {LL : List Nat}
theorem FlK.rf : FlK S S m LL := fun _ _ _ => ⟨rfl, rfl⟩
theorem FlK.fr (h : FlK S S1 m LL) (hF : Fr S1 S' W c) (hs : S1.1 m ≠ oNil ∧ Sep S1 W m) : FlK S S' m LL := fun F h1 h2 => ⟨((hF.2.1 m hs.1 hs.2).2 F h1).1.trans (h F h1 h2).1, ((hF.2.1 m hs.1 hs.2).2 F h1).2.trans (h F h1 h2).2⟩
theorem FlK.put {a : Nat} (h : FlK S S1 m LL) (hP : Pu S1 S' a m) (ha : a ∈ LL) : FlK S S' m LL := fun F h1 h2 => by
  have e : F ≠ a := fun z => h2 (z ▸ ha)
  exact ⟨(hP.2.2 F m (Or.inl e)).1.trans (h F h1 h2).1, (hP.2.2 F m (Or.inl e)).2.trans (h F h1 h2).2⟩
theorem FlK.tr {S2 : BS} (h : FlK S S1 m LL) (h2 : FlK S1 S2 m LL) : FlK S S2 m LL := fun F h1 h3 => ⟨(h2 F h1 h3).1.trans (h F h1 h3).1, (h2 F h1 h3).2.trans (h F h1 h3).2⟩
theorem FlK.mono {L2 : List Nat} (h : FlK S S1 m LL) (hs : ∀ F ∈ LL, F ∈ L2) : FlK S S1 m L2 := fun F h1 h2 => h F h1 (fun z => h2 (hs F z))
theorem FlK.fi {F : Nat} {v : Int} (h : FlK S S1 m LL) (h1 : Fi S F m v) (h2 : F < 91 ∧ F ∉ LL) : Fi S1 F m v := (h F h2.1 h2.2).1.trans h1
theorem FlK.fe {F : Nat} {v : Option Nat} (h : FlK S S1 m LL) (h1 : Fe S F m v) (h2 : F < 91 ∧ F ∉ LL) : Fe S1 F m v := (h F h2.1 h2.2).2.trans h1
theorem pPut_0 {k : Nat} (h1 : ¬ hd l = 92) (h2 : ¬ (isChr (hd l) = true ∨ hd l = 38)) : pPut c0 k l = .inr (l, []) := by
  cases k <;> (unfold pPut; rw [if_neg h1, if_neg h2])
theorem pPut_c {k : Nat} (h1 : ¬ hd l = 92) (h2 : isChr (hd l) = true ∨ hd l = 38) : pPut c0 (k + 1) l = match pPut c0 k l.tail with
    | .inl f => .inl f
    | .inr (l1, r) => .inr (l1, hd l :: r) := by
  conv => lhs; unfold pPut
  rw [if_neg h1, if_pos h2]
  cases e : pPut c0 k l.tail with
  | inl f => simp only [e]
  | inr y => simp only [e]
theorem pPut_t {k : Nat} (h1 : hd l = 92) (h2 : 0 < c0) (h3 : 49 ≤ hd l.tail ∧ hd l.tail ≤ 48 + (c0 : Int)) : pPut c0 (k + 1) l = match pPut c0 k l.tail.tail with
    | .inl f => .inl f
    | .inr (l1, r) => .inr (l1, 92 :: hd l.tail :: r) := by
  conv => lhs; unfold pPut
  rw [if_pos h1, if_pos h2, if_pos h3]
  cases e : pPut c0 k l.tail.tail with
  | inl f => simp only [e]
  | inr y => simp only [e]
theorem pPut_f {k : Nat} (h1 : hd l = 92) (h2 : (if 0 < c0 then (if 49 ≤ hd l.tail ∧ hd l.tail ≤ 48 + (c0 : Int) then .inr (l.tail.tail, hd l.tail - 48) else .inl l.tail) else .inl l : PR Int) = .inl f) : pPut c0 k l = .inl f := by
  have e : ∀ X : PR (List Int), (if 0 < c0 then (if 49 ≤ hd l.tail ∧ hd l.tail ≤ 48 + (c0 : Int) then X else .inl l.tail) else .inl l) = .inl f := fun X => by
    by_cases z : 0 < c0
    · rw [if_pos z] at h2 ⊢
      by_cases z2 : 49 ≤ hd l.tail ∧ hd l.tail ≤ 48 + (c0 : Int)
      · rw [if_pos z2] at h2; cases h2
      · rw [if_neg z2] at h2 ⊢; cases h2; rfl
    · rw [if_neg z] at h2 ⊢; cases h2; rfl
  cases k <;> (unfold pPut; rw [if_pos h1]; exact e _)
theorem rpStep (hs : s.length < 10000) (hc0 : c0 ≤ 2) (h77 : Fi S0 77 n c0) (hL : L < 5000) {k : Nat} {l3 acc : List Int} {S1 : BS} {cap : Nat} (hk : l3.length < k) (h : RdAt S1 n s l3) (hC : ClI S0 S1 n b acc cap) (hla : acc.length + l3.length ≤ L)
    (kk : ∀ S2 l2 pu cap2, pPut c0 k l3 = .inr (l2, pu) → hd l2 = 47 → l2.length + pu.length = l3.length → RdAt S2 n s l2 → ClI S0 S2 n b (acc ++ pu) cap2 → BW (d + 8) gm_X3_replacing 53 [some (aR n), some (aR m), some (aR b)] [] S2 Q)
    (kx : ∀ S2 f c2 r S', (pPut c0 k l3 = .inl f ∨ ∃ pu, pPut c0 k l3 = .inr (f, pu) ∧ hd f ≠ 47) → Fr S0 S2 (fun k => k = n ∨ k = b) c2 → c2 ≤ 6 * L + 600 * l3.length + 20000 → Thr9 5 42 ((s.length : Int) - f.length) S2 r S' → Q r S')
    (next : ∀ k1 l4 add, k = k1 + 1 → l4.length + add.length = l3.length → add ≠ [] → (pPut c0 k l3 = match pPut c0 k1 l4 with
      | .inl f => .inl f
      | .inr (l1, r) => .inr (l1, add ++ r)) → ∀ S3 cap', RdAt S3 n s l4 → ClI S0 S3 n b (acc ++ add) cap' → BW (d + 8) gm_X3_replacing 12 [some (aR n), some (aR m), some (aR b)] [] S3 Q) : BW (d + 8) gm_X3_replacing 12 [some (aR n), some (aR m), some (aR b)] [] S1 Q := by
  have hn := h.ob
  have hR := h.R
  have hb := hC.1
  have hcl : 3 * (cap - 16) ≤ 6 * acc.length := by rcases hC.2.2.2.1 with z | z <;> omega
  obtain ⟨k1, rfl⟩ : ∃ k1, k = k1 + 1 := ⟨k - 1, by omega⟩
  (repeat (refine BW.pl rfl rfl ?_))
  refine CW.e1 rfl rfl (by first | exact Or.inl rfl | exact Or.inr (tagO (by assumption) (by rfl) (by rfl))) (by first | exact Or.inl (by decide) | exact Or.inr ⟨_, rfl, by assumption⟩) rfl (B_look (d := d + 3) h) ?_
  (repeat (refine BW.pl rfl rfl ?_))
  by_cases z1 : lk l3 = 47
  · refine BW.br rfl rfl (by first | omega | decide | (constructor <;> first | omega | decide)) (fun w => ?_) (fun w => by first | (exfalso; omega) | exact absurd w (by decide))
    have z1h := (lk_hd (l := l3) (by decide)).mp z1
    exact kk _ l3 [] cap (pPut_0 (by rw [z1h]; decide) (by rw [z1h]; decide)) z1h (by simp) h (by rw [List.append_nil]; exact hC)
  · refine BW.br rfl rfl (by first | omega | decide | (constructor <;> first | omega | decide)) (fun w => by first | (exfalso; omega) | exact absurd w (by decide)) (fun w => ?_)
    have z1h : ¬ hd l3 = 47 := fun z => z1 ((lk_hd (by decide)).mpr z)
    by_cases ok : isChr (hd l3) = true ∨ hd l3 = 38 ∨ hd l3 = 92
    · obtain ⟨y, l4, rfl⟩ : ∃ y l4, l3 = y :: l4 := by
        cases l3 with
        | nil => exact absurd ok (by decide)
        | cons y l4 => exact ⟨y, l4, rfl⟩
      have hlc : (y :: l4).length = l4.length + 1 := rfl
      have ok' : isChr y = true ∨ y = 38 ∨ y = 92 := ok
      have hy : 0 ≤ y ∧ y < 128 := by
        rcases ok' with z | z | z
        · have := chr_pos z; omega
        · omega
        · omega
      have at32 : BW (d + 8) gm_X3_replacing 32 [some (aR n), some (aR m), some (aR b)] [] S1 Q := by
        (repeat (refine BW.pl rfl rfl ?_))
        refine CW.e1 rfl rfl (by first | exact Or.inl rfl | exact Or.inr (tagO (by assumption) (by rfl) (by rfl))) (by first | exact Or.inl (by decide) | exact Or.inr ⟨_, rfl, by assumption⟩) rfl (B_look (d := d + 3) h) ?_
        (repeat (refine BW.pl rfl rfl ?_))
        by_cases z2 : lk (y :: l4) = 92
        · have z2' : y = 92 := z2
          subst z2'
          refine BW.br rfl rfl (by first | omega | decide | (constructor <;> first | omega | decide)) (fun w2 => by first | (exfalso; omega) | exact absurd w2 (by decide)) (fun w2 => ?_)
          (repeat (refine BW.pl rfl rfl ?_))
          refine CW.c2 rfl rfl (by first | exact Or.inl rfl | exact Or.inr (tagO (by assumption) (by rfl) (by rfl))) (by first | exact Or.inl (by decide) | exact Or.inr ⟨_, rfl, by assumption⟩) rfl (C_sbAppC (d := d + 3) hb ⟨by decide, by decide⟩ (by omega)) ?_
          rintro r S2 ⟨rfl, cap', hb2, hF2, hc1, hc2⟩
          have hC2 := hC.add hn hb2 hF2 hc1 hc2
          have hcl2 : 3 * (cap' - 16) ≤ 6 * (acc.length + 1) := by
            rcases hC2.2.2.2.1 with z | z
            · omega
            · rw [List.length_append, List.length_singleton] at z; omega
          replace h := h.fr hF2 ⟨(NoS.one hb rfl), (Sep.ne (hn.ne hb (oNe rfl)))⟩
          replace hn := hn.fr hF2 ⟨oNe rfl, (Sep.ne (hn.ne hb (oNe rfl)))⟩
          have g77 : Fi S2 77 n c0 := (hC2.2.2.2.2 77 (by decide) (by decide)).1.trans h77
          (repeat (refine BW.pl rfl rfl ?_))
          refine CW.r1 rfl rfl (by first | exact Or.inl rfl | exact Or.inr (tagO (by assumption) (by rfl) (by rfl))) (by first | exact Or.inl (by decide) | exact Or.inr ⟨_, rfl, by assumption⟩) rfl rfl (C_told (d := d + 2) h ⟨g77, hc0⟩) ?_ ?_
          · rintro l6 v w6 S3 ⟨e1, e2, hF3, h3, rfl, hP3⟩
            have e3 : 0 < c0 ∧ (49 ≤ hd l4 ∧ hd l4 ≤ 48 + (c0 : Int)) ∧ l6 = l4.tail ∧ v = hd l4 - 48 := by
              split at e1
              · rename_i g1
                split at e1
                · rename_i g2; cases e1; exact ⟨g1, g2, rfl, rfl⟩
                · cases e1
              · cases e1
            obtain ⟨e3, e4, e5, e6⟩ := e3
            have hC3 := hC2.go hP3
            have hb3 := hC3.1
            have hn3 := h3.ob
            (repeat (refine BW.pl rfl rfl ?_))
            refine BW.i2c rfl (by omega) ?_
            refine CW.c2 rfl rfl (by first | exact Or.inl rfl | exact Or.inr (tagO (by assumption) (by rfl) (by rfl))) (by first | exact Or.inl (by decide) | exact Or.inr ⟨_, rfl, by assumption⟩) rfl (C_sbAppC (d := d + 3) hb3 (by omega) (by rw [List.length_append, List.length_singleton]; omega)) ?_
            rintro r S4 ⟨rfl, cap4, hb4, hF4, hc3, hc4⟩
            have hC4 := hC3.add hn3 hb4 hF4 hc3 hc4
            replace h3 := h3.fr hF4 ⟨(NoS.one hb3 rfl), (Sep.ne (hn3.ne hb3 (oNe rfl)))⟩
            replace hn3 := hn3.fr hF4 ⟨oNe rfl, (Sep.ne (hn3.ne hb3 (oNe rfl)))⟩
            (iterate 2 (refine BW.pl rfl rfl ?_))
            have e7 : 48 + v = hd l4 := by omega
            rw [e7] at hC4
            have hl4 : l4 ≠ [] := fun z => by rw [z] at e4; exact absurd e4.1 (by decide)
            have hl5 : 0 < l4.length := List.length_pos_iff.mpr hl4
            refine next k1 l6 [92, hd l4] rfl (by rw [e5, List.length_tail]; simp; omega) (List.cons_ne_nil _ _) ?_ S4 cap4 h3 (by rw [List.append_cons acc 92 [hd l4]]; exact hC4)
            rw [e5]
            exact pPut_t (l := 92 :: l4) rfl e3 e4
          · rintro f S3 r S' ⟨e1, hF3, hT3⟩
            refine kx S3 f _ r S' (Or.inl (pPut_f (l := 92 :: l4) rfl e1)) ((hC2.2.1.tr hF3 (fun _ _ z => Or.inl z)).w (fun _ _ z => z) (Nat.le_refl _)) (by omega) hT3
        · refine BW.br rfl rfl (by first | omega | decide | (constructor <;> first | omega | decide)) (fun w2 => ?_) (fun w2 => by first | (exfalso; omega) | exact absurd w2 (by decide))
          have z2h : ¬ hd (y :: l4) = 92 := z2
          (repeat (refine BW.pl rfl rfl ?_))
          refine CW.c1 rfl rfl (by first | exact Or.inl rfl | exact Or.inr (tagO (by assumption) (by rfl) (by rfl))) (by first | exact Or.inl (by decide) | exact Or.inr ⟨_, rfl, by assumption⟩) rfl (C_next (d := d + 3) h) ?_
          rintro r S2 ⟨rfl, hP, h2⟩
          have hC2 := hC.go hP
          have hb2 := hC2.1
          have hn2 := h2.ob
          (repeat (refine BW.pl rfl rfl ?_))
          refine CW.c2 rfl rfl (by first | exact Or.inl rfl | exact Or.inr (tagO (by assumption) (by rfl) (by rfl))) (by first | exact Or.inl (by decide) | exact Or.inr ⟨_, rfl, by assumption⟩) rfl (C_sbAppC (d := d + 3) hb2 hy (by omega)) ?_
          rintro r S3 ⟨rfl, cap', hb3, hF3, hc1, hc2⟩
          have hC3 := hC2.add hn2 hb3 hF3 hc1 hc2
          replace h2 := h2.fr hF3 ⟨(NoS.one hb2 rfl), (Sep.ne (hn2.ne hb2 (oNe rfl)))⟩
          replace hn2 := hn2.fr hF3 ⟨oNe rfl, (Sep.ne (hn2.ne hb2 (oNe rfl)))⟩
          (iterate 2 (refine BW.pl rfl rfl ?_))
          refine next k1 l4 [y] rfl (by simp) (List.cons_ne_nil _ _) ?_ S3 cap' h2 hC3
          exact pPut_c (l := y :: l4) z2h (by rcases ok' with z | z | z; exact Or.inl z; exact Or.inr z; exact absurd z z2)
      (repeat (refine BW.pl rfl rfl ?_))
      refine CW.e1 rfl rfl (by first | exact Or.inl rfl | exact Or.inr (tagO (by assumption) (by rfl) (by rfl))) (by first | exact Or.inl (by decide) | exact Or.inr ⟨_, rfl, by assumption⟩) rfl (B_sign (d := d + 1) h) ?_
      by_cases z3 : isChr (hd (y :: l4)) = true
      · rw [if_pos z3]
        refine BW.br rfl rfl (by first | omega | decide | (constructor <;> first | omega | decide)) (fun w2 => ?_) (fun w2 => by first | (exfalso; omega) | exact absurd w2 (by decide))
        (repeat (refine BW.pl rfl rfl ?_))
        refine BW.must (d := d + 4) rfl rfl (by decide) (by decide) rfl h (Or.inr rfl) rfl (fun _ => ?_) (fun q S' w _ => absurd w (by decide))
        exact at32
      · rw [if_neg z3]
        refine BW.br rfl rfl (by first | omega | decide | (constructor <;> first | omega | decide)) (fun w2 => by first | (exfalso; omega) | exact absurd w2 (by decide)) (fun w2 => ?_)
        (repeat (refine BW.pl rfl rfl ?_))
        refine CW.e1 rfl rfl (by first | exact Or.inl rfl | exact Or.inr (tagO (by assumption) (by rfl) (by rfl))) (by first | exact Or.inl (by decide) | exact Or.inr ⟨_, rfl, by assumption⟩) rfl (B_look (d := d + 3) h) ?_
        (repeat (refine BW.pl rfl rfl ?_))
        by_cases z4 : lk (y :: l4) = 38
        · refine BW.br rfl rfl (by first | omega | decide | (constructor <;> first | omega | decide)) (fun w3 => ?_) (fun w3 => by first | (exfalso; omega) | exact absurd w3 (by decide))
          (repeat (refine BW.pl rfl rfl ?_))
          refine BW.must (d := d + 4) rfl rfl (by decide) (by decide) rfl h (Or.inr rfl) rfl (fun _ => ?_) (fun q S' w _ => absurd w (by decide))
          exact at32
        · refine BW.br rfl rfl (by first | omega | decide | (constructor <;> first | omega | decide)) (fun w3 => by first | (exfalso; omega) | exact absurd w3 (by decide)) (fun w3 => ?_)
          (repeat (refine BW.pl rfl rfl ?_))
          refine CW.e1 rfl rfl (by first | exact Or.inl rfl | exact Or.inr (tagO (by assumption) (by rfl) (by rfl))) (by first | exact Or.inl (by decide) | exact Or.inr ⟨_, rfl, by assumption⟩) rfl (B_look (d := d + 3) h) ?_
          (repeat (refine BW.pl rfl rfl ?_))
          have z5 : lk (y :: l4) = 92 := by
            rcases ok' with z | z | z
            · exact absurd z z3
            · exact absurd z z4
            · exact z
          refine BW.br rfl rfl (by first | omega | decide | (constructor <;> first | omega | decide)) (fun w4 => by first | (exfalso; omega) | exact absurd w4 (by decide)) (fun w4 => ?_)
          (repeat (refine BW.pl rfl rfl ?_))
          refine BW.must (d := d + 4) rfl rfl (by decide) (by decide) rfl h (Or.inr rfl) rfl (fun _ => ?_) (fun q S' w _ => absurd w (by decide))
          exact at32
    · (repeat (refine BW.pl rfl rfl ?_))
      refine CW.e1 rfl rfl (by first | exact Or.inl rfl | exact Or.inr (tagO (by assumption) (by rfl) (by rfl))) (by first | exact Or.inl (by decide) | exact Or.inr ⟨_, rfl, by assumption⟩) rfl (B_sign (d := d + 1) h) ?_
      rw [if_neg (fun z => ok (Or.inl z))]
      refine BW.br rfl rfl (by first | omega | decide | (constructor <;> first | omega | decide)) (fun w2 => by first | (exfalso; omega) | exact absurd w2 (by decide)) (fun w2 => ?_)
      have y1 : ¬ lk l3 = 38 := fun z => ok (Or.inr (Or.inl ((lk_hd (by decide)).mp z)))
      have y2 : ¬ lk l3 = 92 := fun z => ok (Or.inr (Or.inr ((lk_hd (by decide)).mp z)))
      (repeat (refine BW.pl rfl rfl ?_))
      refine CW.e1 rfl rfl (by first | exact Or.inl rfl | exact Or.inr (tagO (by assumption) (by rfl) (by rfl))) (by first | exact Or.inl (by decide) | exact Or.inr ⟨_, rfl, by assumption⟩) rfl (B_look (d := d + 3) h) ?_
      (repeat (refine BW.pl rfl rfl ?_))
      refine BW.br rfl rfl (by first | omega | decide | (constructor <;> first | omega | decide)) (fun w3 => by first | (exfalso; omega) | exact absurd w3 (by decide)) (fun w3 => ?_)
      (repeat (refine BW.pl rfl rfl ?_))
      refine CW.e1 rfl rfl (by first | exact Or.inl rfl | exact Or.inr (tagO (by assumption) (by rfl) (by rfl))) (by first | exact Or.inl (by decide) | exact Or.inr ⟨_, rfl, by assumption⟩) rfl (B_look (d := d + 3) h) ?_
      (repeat (refine BW.pl rfl rfl ?_))
      refine BW.br rfl rfl (by first | omega | decide | (constructor <;> first | omega | decide)) (fun w4 => ?_) (fun w4 => by first | (exfalso; omega) | exact absurd w4 (by decide))
      (repeat (refine BW.pl rfl rfl ?_))
      refine BW.must (d := d + 4) rfl rfl (by decide) (by decide) rfl h (Or.inl rfl) rfl (fun w => absurd w (by decide)) (fun q9 S9 _ hT9 => ?_)
      exact kx _ l3 _ _ _ (Or.inr ⟨[], pPut_0 (fun z => ok (Or.inr (Or.inr z))) (fun z => ok (z.elim Or.inl (fun z => Or.inr (Or.inl z)))), z1h⟩) hC.2.1 (by omega) hT9
end RP
