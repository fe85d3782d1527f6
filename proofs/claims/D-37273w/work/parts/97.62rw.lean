-- C
set_option maxRecDepth 100000
/-! THE READER: rows -/
section RW
variable {d i a n q x b m c cap cap' c0 c1 st0 st1 cf : Nat} {b1 kd : Int} {M : GMeth} {ls : GL} {st : List GV} {xs xs' : List (Option Nat)} {ps qs : List SPart} {p : SPart} {s l l1 f acc : List Int} {S S0 S1 S' : BS} {F F' W : Nat → Prop} {Q : GO → BS → Prop} {y : Option Nat} {o : Obj} {r : Option Nat} {pt : SPat}
theorem chr_pos {c : Int} (h : isChr c = true) : 32 ≤ c ∧ c < 123 := by
  unfold isChr isDig at h
  simp at h
  omega
theorem tw_app {acc l3 : List Int} (h : ∀ c ∈ acc, isChr c = true) : (acc ++ l3).takeWhile isChr = acc ++ l3.takeWhile isChr ∧ (acc ++ l3).dropWhile isChr = l3.dropWhile isChr := by
  induction acc with
  | nil => exact ⟨rfl, rfl⟩
  | cons c acc ih =>
    have hc := h c List.mem_cons_self
    obtain ⟨i1, i2⟩ := ih (fun x hx => h x (List.mem_cons_of_mem _ hx))
    rw [List.cons_append, List.takeWhile_cons, if_pos hc, List.dropWhile_cons, if_pos hc, i1, i2]
    exact ⟨rfl, rfl⟩
theorem nochr {l3 : List Int} (h : ¬ isChr (hd l3) = true) : l3.takeWhile isChr = [] ∧ l3.dropWhile isChr = l3 := by
  cases l3 with
  | nil => exact ⟨rfl, rfl⟩
  | cons y l4 =>
    have h : ¬ isChr y = true := h
    rw [List.takeWhile_cons, if_neg h, List.dropWhile_cons, if_neg h]
    exact ⟨rfl, rfl⟩
theorem rwLoop (hs : s.length < 10000)
    (k : ∀ S2 cap2, RdAt S2 n s (l.dropWhile isChr) → ClI S0 S2 n b (l.takeWhile isChr) cap2 → (l.takeWhile isChr).length ≤ 30 → BW (d + 7) gm_X3_rows 22 [some (aR n), some (aR m), some (aR b)] [] S2 Q)
    (kx : ∀ S2 acc2 cap2 r S', RdAt S2 n s (l.drop 30) → ClI S0 S2 n b acc2 cap2 → acc2.length ≤ 30 → 30 < (l.takeWhile isChr).length → Thr9 5 42 ((s.length : Int) - (l.drop 30).length) S2 r S' → Q r S') :
    ∀ l3 acc S1 cap, RdAt S1 n s l3 → ClI S0 S1 n b acc cap → l = acc ++ l3 → (∀ c ∈ acc, isChr c = true) → acc.length ≤ 30 → BW (d + 7) gm_X3_rows 4 [some (aR n), some (aR m), some (aR b)] [] S1 Q := by
  intro l3
  induction l3 with
  | nil =>
    intro acc S1 cap h hC e1 e2 e3
    have hn := h.ob
    (repeat (refine BW.pl rfl rfl ?_))
    refine CW.e1 rfl rfl (by first | exact Or.inl rfl | exact Or.inr (tagO (by assumption) (by rfl) (by rfl))) (by first | exact Or.inl (by decide) | exact Or.inr ⟨_, rfl, by assumption⟩) rfl (B_sign (d := d) h) ?_
    rw [if_neg (by decide)]
    refine BW.br rfl rfl (by first | omega | decide | (constructor <;> first | omega | decide)) (fun w => ?_) (fun w => by first | (exfalso; omega) | exact absurd w (by decide))
    have t := tw_app (acc := acc) (l3 := []) e2
    rw [← e1] at t
    have t1 : l.takeWhile isChr = acc := by rw [t.1]; simp
    exact k _ cap (by rw [t.2]; exact h) (by rw [t1]; exact hC) (by rw [t1]; exact e3)
  | cons y l3 ih =>
    intro acc S1 cap h hC e1 e2 e3
    have hn := h.ob
    have hR := h.R
    (repeat (refine BW.pl rfl rfl ?_))
    refine CW.e1 rfl rfl (by first | exact Or.inl rfl | exact Or.inr (tagO (by assumption) (by rfl) (by rfl))) (by first | exact Or.inl (by decide) | exact Or.inr ⟨_, rfl, by assumption⟩) rfl (B_sign (d := d) h) ?_
    by_cases z : isChr y = true
    · have z' : isChr (hd (y :: l3)) = true := z
      rw [if_pos z']
      refine BW.br rfl rfl (by first | omega | decide | (constructor <;> first | omega | decide)) (fun w => by first | (exfalso; omega) | exact absurd w (by decide)) (fun w => ?_)
      (repeat (refine BW.pl rfl rfl ?_))
      have hb := hC.1
      refine CW.e1 rfl rfl (by first | exact Or.inl rfl | exact Or.inr (tagO (by assumption) (by rfl) (by rfl))) (by first | exact Or.inl (by decide) | exact Or.inr ⟨_, rfl, by assumption⟩) rfl (B_sbLen (d := d + 5) hb) ?_
      (repeat (refine BW.pl rfl rfl ?_))
      by_cases z2 : acc.length < 30
      · refine BW.br rfl rfl (by first | omega | decide | (constructor <;> first | omega | decide)) (fun w2 => by first | (exfalso; omega) | exact absurd w2 (by decide)) (fun w2 => ?_)
        (repeat (refine BW.pl rfl rfl ?_))
        refine BW.must (d := d + 3) rfl rfl (by decide) (by decide) rfl h (Or.inr rfl) rfl (fun _ => ?_) (fun q S' w _ => absurd w (by decide))
        (repeat (refine BW.pl rfl rfl ?_))
        refine CW.c1 rfl rfl (by first | exact Or.inl rfl | exact Or.inr (tagO (by assumption) (by rfl) (by rfl))) (by first | exact Or.inl (by decide) | exact Or.inr ⟨_, rfl, by assumption⟩) rfl (C_next (d := d + 2) h) ?_
        rintro r S2 ⟨rfl, hP, h2⟩
        have hC2 := hC.go hP
        have hb2 := hC2.1
        have hn2 := h2.ob
        have hy := chr_pos z
        (repeat (refine BW.pl rfl rfl ?_))
        refine CW.c2 rfl rfl (by first | exact Or.inl rfl | exact Or.inr (tagO (by assumption) (by rfl) (by rfl))) (by first | exact Or.inl (by decide) | exact Or.inr ⟨_, rfl, by assumption⟩) rfl (C_sbAppC (d := d + 2) hb2 (by omega) (by omega)) ?_
        rintro r S3 ⟨rfl, cap', hb3, hF3, hc1, hc2⟩
        have hC3 := hC2.add hn2 hb3 hF3 hc1 hc2
        replace h2 := h2.fr hF3 ⟨(NoS.one hb2 rfl), (Sep.ne (hn2.ne hb2 (oNe rfl)))⟩
        replace hn2 := hn2.fr hF3 ⟨oNe rfl, (Sep.ne (hn2.ne hb2 (oNe rfl)))⟩
        (iterate 2 (refine BW.pl rfl rfl ?_))
        exact ih (acc ++ [y]) S3 cap' h2 hC3 (by rw [e1]; simp) (fun c hc => by
          rcases List.mem_append.mp hc with g | g
          · exact e2 c g
          · rw [List.mem_singleton.mp g]; exact z) (by rw [List.length_append]; simp; omega)
      · refine BW.br rfl rfl (by first | omega | decide | (constructor <;> first | omega | decide)) (fun w2 => ?_) (fun w2 => by first | (exfalso; omega) | exact absurd w2 (by decide))
        (repeat (refine BW.pl rfl rfl ?_))
        refine BW.must (d := d + 3) rfl rfl (by decide) (by decide) rfl h (Or.inl rfl) rfl (fun w => absurd w (by decide)) (fun q9 S9 _ hT9 => ?_)
        have e5 : acc.length = 30 := by omega
        have e4 : l.drop 30 = y :: l3 := by rw [e1, ← e5]; simp
        refine kx _ acc cap _ _ (by rw [e4]; exact h) hC e3 ?_ (by rw [e4]; exact hT9)
        rw [e1, (tw_app e2).1, List.length_append, List.takeWhile_cons, if_pos z]
        simp; omega
    · have z' : ¬ isChr (hd (y :: l3)) = true := z
      rw [if_neg z']
      refine BW.br rfl rfl (by first | omega | decide | (constructor <;> first | omega | decide)) (fun w => ?_) (fun w => by first | (exfalso; omega) | exact absurd w (by decide))
      have t := tw_app (acc := acc) (l3 := y :: l3) e2
      rw [← e1, (nochr z').1, (nochr z').2] at t
      have t1 : l.takeWhile isChr = acc := by rw [t.1]; simp
      exact k _ cap (by rw [t.2]; exact h) (by rw [t1]; exact hC) (by rw [t1]; exact e3)
theorem pRows_f {k : Nat} (h : 30 < (l.takeWhile isChr).length) : pRows k l = .inl (l.drop 30) := by
  cases k <;> (unfold pRows; exact if_pos h)
theorem pRows_x {k : Nat} (h : (l.takeWhile isChr).length ≤ 30) (h2 : ¬ hd (l.dropWhile isChr) = 124) : pRows k l = .inr (l.dropWhile isChr, [l.takeWhile isChr]) := by
  cases k <;> (unfold pRows; rw [if_neg (by omega)]; exact if_neg h2)
theorem pRows_s {k : Nat} (h : (l.takeWhile isChr).length ≤ 30) (h2 : hd (l.dropWhile isChr) = 124) : pRows (k + 1) l = match pRows k (l.dropWhile isChr).tail with
    | .inl f => .inl f
    | .inr (l1, rs) => .inr (l1, l.takeWhile isChr :: rs) := by
  conv => lhs; unfold pRows
  rw [if_neg (by omega), if_pos h2]
  cases e : pRows k (l.dropWhile isChr).tail with
  | inl f => simp only [e]
  | inr y => simp only [e]
/-- a row more -/
theorem rwStep (k : Nat) (ih : ∀ k1, k = k1 + 1 → ∀ (l : List Int) (rows0 : List (List Int)) (xs0 : List (Option Nat)) (cap0 : Nat) (S : BS) (v2 : Option GV) (Q : GO → BS → Prop), l.length ≤ k1 → RdAt S n s l → Ob S m (oOwn 7) → Fe S 50 m (some q) → Ob S q (oAl xs0 cap0) → StrsIs S xs0 rows0 → rows0.length + l.length < 1000 → cap0 ≤ 2 * rows0.length + 10 → S.2.2.2 + 20000 * l.length < 900000000 →
    (∀ l1 rs S' xs' cap' c', pRows k1 l = .inr (l1, rs) → l1.length ≤ l.length → rs.length ≤ l.length - l1.length + 1 → Fr S S' (fun k => k = n ∨ k = q) c' → c' ≤ 92 * (l.length - l1.length) + 85 + 6 * (cap' - cap0) → cap0 ≤ cap' → (cap' = cap0 ∨ cap' ≤ 2 * (rows0.length + rs.length) + 10) → RdAt S' n s l1 → Ob S' q (oAl xs' cap') → StrsIs S' xs' (rows0 ++ rs) → Q (.inl none) S') →
    (∀ f S1 r S' c', pRows k1 l = .inl f → Fr S S1 (fun k => k = n ∨ k = q) c' → c' + 6 * cap0 ≤ 600 * l.length + 12 * (rows0.length + l.length) + 5000 → Thr9 5 42 ((s.length : Int) - f.length) S1 r S' → Q r S') →
    BW (d + 7) gm_X3_rows 0 [some (aR n), some (aR m), v2] [] S Q) : ∀ (l : List Int) (rows0 : List (List Int)) (xs0 : List (Option Nat)) (cap0 : Nat) (S : BS) (v2 : Option GV) (Q : GO → BS → Prop), l.length ≤ k → RdAt S n s l → Ob S m (oOwn 7) → Fe S 50 m (some q) → Ob S q (oAl xs0 cap0) → StrsIs S xs0 rows0 → rows0.length + l.length < 1000 → cap0 ≤ 2 * rows0.length + 10 → S.2.2.2 + 20000 * l.length < 900000000 →
    (∀ l1 rs S' xs' cap' c', pRows k l = .inr (l1, rs) → l1.length ≤ l.length → rs.length ≤ l.length - l1.length + 1 → Fr S S' (fun k => k = n ∨ k = q) c' → c' ≤ 92 * (l.length - l1.length) + 85 + 6 * (cap' - cap0) → cap0 ≤ cap' → (cap' = cap0 ∨ cap' ≤ 2 * (rows0.length + rs.length) + 10) → RdAt S' n s l1 → Ob S' q (oAl xs' cap') → StrsIs S' xs' (rows0 ++ rs) → Q (.inl none) S') →
    (∀ f S1 r S' c', pRows k l = .inl f → Fr S S1 (fun k => k = n ∨ k = q) c' → c' + 6 * cap0 ≤ 600 * l.length + 12 * (rows0.length + l.length) + 5000 → Thr9 5 42 ((s.length : Int) - f.length) S1 r S' → Q r S') →
    BW (d + 7) gm_X3_rows 0 [some (aR n), some (aR m), v2] [] S Q := by
  intro l rows0 xs0 cap0 S v2 Q hlk h hm hmq hq hS hlen hcap0 hT kk kx
  have hn := h.ob
  have hAt := h.at
  have hA := Fr.rf (S := S) (W := fun m => m = n ∨ m = q)
  have hnq : n ≠ q := hn.ne hq (oNe rfl)
  refine CW.newJ (L := 4) (c := 14) rfl rfl rfl (fun bb S1 hN => ?_)
  have hbz := hA.nil hN.nil
  replace hmq := hmq.fr hN.fr ⟨⟨hm.old (oNe rfl), Nat.le_of_ble_eq_true rfl⟩, Sep.no⟩
  replace hS := hS.fr hN.fr NoS.no
  replace h := h.fr hN.fr ⟨NoS.no, Sep.no⟩
  replace hm := hm.fr hN.fr ⟨oNe rfl, Sep.no⟩
  replace hq := hq.fr hN.fr ⟨oNe rfl, Sep.no⟩
  replace hn := hn.fr hN.fr ⟨oNe rfl, Sep.no⟩
  replace hA := hA.nw hN
  have hb := hN.ob
  have hbk := hN.1
  (repeat (refine BW.pl rfl rfl ?_))
  refine CW.c1 rfl rfl (by first | exact Or.inl rfl | exact Or.inr (tagO (by assumption) (by rfl) (by rfl))) (by first | exact Or.inl (by decide) | exact Or.inr ⟨_, rfl, by assumption⟩) rfl (C_sbNew (d := d + 5) hb) ?_
  rintro r S2 ⟨rfl, hb2, hF2⟩
  replace hmq := hmq.fr hF2 ⟨⟨hm.old (oNe rfl), Nat.le_of_ble_eq_true rfl⟩, (Sep.ne (hm.ne hb (oNe rfl)))⟩
  replace hS := hS.fr hF2 (NoS.one hb rfl)
  replace h := h.fr hF2 ⟨(NoS.one hb rfl), (Sep.ne (hn.ne hb (oNe rfl)))⟩
  replace hm := hm.fr hF2 ⟨oNe rfl, (Sep.ne (hm.ne hb (oNe rfl)))⟩
  replace hq := hq.fr hF2 ⟨oNe rfl, (Sep.ne (hq.ne hb (oNe rfl)))⟩
  replace hn := hn.fr hF2 ⟨oNe rfl, (Sep.ne (hn.ne hb (oNe rfl)))⟩
  replace hA := hA.f1 hF2 (fun z => absurd hbz z)
  refine BW.str rfl rfl ?_
  have htd : (l.takeWhile isChr).length + (l.dropWhile isChr).length = l.length := by rw [← List.length_append, List.takeWhile_append_dropWhile]
  refine rwLoop (l := l) (S0 := S2) (m := m) hAt.2.2 (fun S3 cap3 h3 hC3 hl3 => ?_) (fun S3 acc3 cap3 r S' h3 hC3 e1 e2 hT3 => ?_) l [] S2 16 h ⟨hb2, Fr.rf.w (fun _ _ z => z) (Nat.zero_le _), Nat.le_refl _, Or.inl rfl, fun F _ _ => ⟨rfl, rfl⟩⟩ rfl (by simp) (by simp)
  · have hcl : 3 * (cap3 - 16) ≤ 6 * (l.takeWhile isChr).length := by rcases hC3.2.2.2.1 with z | z <;> omega
    replace hmq := hmq.fr hC3.2.1 ⟨⟨hm.old (oNe rfl), Nat.le_of_ble_eq_true rfl⟩, (Sep.two (Sep.ne (hm.ne hn (ownNe rfl))) (Sep.ne (hm.ne hb2 (oNe rfl))))⟩
    replace hS := hS.fr hC3.2.1 (NoS.two (NoS.one hn rfl) (NoS.one hb2 rfl))
    replace hm := hm.fr hC3.2.1 ⟨oNe rfl, (Sep.two (Sep.ne (hm.ne hn (ownNe rfl))) (Sep.ne (hm.ne hb2 (oNe rfl))))⟩
    replace hq := hq.fr hC3.2.1 ⟨oNe rfl, (Sep.two (Sep.ne (hq.ne hn (oNe rfl))) (Sep.ne (hq.ne hb2 (oNe rfl))))⟩
    replace hA := hA.f2 hC3.2.1 (fun _ => Or.inl rfl) (fun z => absurd hbz z)
    have hn := h3.ob
    have hb3 := hC3.1
    (repeat (first | (refine BW.pl rfl rfl ?_) | (refine CW.geti rfl rfl (by assumption) rfl rfl (by assumption) (fun _ => ?_)) | (refine CW.getr rfl rfl (by assumption) rfl rfl (by assumption) ?_)))
    refine CW.c1 rfl rfl (by first | exact Or.inl rfl | exact Or.inr (tagO (by assumption) (by rfl) (by rfl))) (by first | exact Or.inl (by decide) | exact Or.inr ⟨_, rfl, by assumption⟩) rfl (C_sbStr (d := d + 1) hb3) ?_
    rintro r S4 ⟨sy, rfl, hy1, hy2, hy3, hF4⟩
    replace hmq := hmq.fr hF4 ⟨⟨hm.old (oNe rfl), Nat.le_of_ble_eq_true rfl⟩, Sep.no⟩
    replace hS := hS.fr hF4 NoS.no
    replace h3 := h3.fr hF4 ⟨NoS.no, Sep.no⟩
    replace hm := hm.fr hF4 ⟨oNe rfl, Sep.no⟩
    replace hq := hq.fr hF4 ⟨oNe rfl, Sep.no⟩
    replace hn := hn.fr hF4 ⟨oNe rfl, Sep.no⟩
    replace hb3 := hb3.fr hF4 ⟨oNe rfl, Sep.no⟩
    replace hA := hA.f0 hF4
    have hAu := hA.t
    (repeat (refine BW.pl rfl rfl ?_))
    refine CW.c2 rfl rfl (by first | exact Or.inl rfl | exact Or.inr (tagO (by assumption) (by rfl) (by rfl))) (by first | exact Or.inl (by decide) | exact Or.inr ⟨_, rfl, by assumption⟩) rfl (C_alAdd (d := d + 1) hq (vOk_o hy3 rfl) (by rw [hS.1]; omega) (by omega)) ?_
    have hS0 := hS.1
    rintro r S5 ⟨rfl, cap5, hq5, hF5, hc1, hc2⟩
    replace hmq := hmq.fr hF5 ⟨⟨hm.old (oNe rfl), Nat.le_of_ble_eq_true rfl⟩, (Sep.ne (hm.ne hq (oNe rfl)))⟩
    replace hS := hS.fr hF5 (NoS.one hq rfl)
    replace h3 := h3.fr hF5 ⟨(NoS.one hq rfl), (Sep.ne (hn.ne hq (oNe rfl)))⟩
    replace hm := hm.fr hF5 ⟨oNe rfl, (Sep.ne (hm.ne hq (oNe rfl)))⟩
    replace hn := hn.fr hF5 ⟨oNe rfl, (Sep.ne (hn.ne hq (oNe rfl)))⟩
    replace hb3 := hb3.fr hF5 ⟨oNe rfl, (Sep.ne (hb3.ne hq (oNe rfl)))⟩
    replace hy3 := hy3.fr hF5 ⟨oNe rfl, (Sep.ne (hy3.ne hq (oNe rfl)))⟩
    replace hA := hA.f1 hF5 (fun _ => Or.inr rfl)
    have hS := hS.app ⟨⟨sy, rfl, hy3⟩, okS.mk (Or.inl hy1)⟩
    (repeat (refine BW.pl rfl rfl ?_))
    refine CW.c2 rfl rfl (by first | exact Or.inl rfl | exact Or.inr (tagO (by assumption) (by rfl) (by rfl))) (by first | exact Or.inl (by decide) | exact Or.inr ⟨_, rfl, by assumption⟩) rfl (C_passes (d := d + 1) h3 ⟨by decide, by decide⟩) ?_
    rintro r S6 ⟨hh6, hP6⟩
    replace hmq := hmq.pu hP6 (Or.inl (Nat.ne_of_beq_eq_false rfl))
    replace hS := hS.pu hP6 trivial
    replace hm := hm.pu hP6 trivial
    replace hn := hn.pu hP6 trivial
    replace hb3 := hb3.pu hP6 trivial
    replace hy3 := hy3.pu hP6 trivial
    replace hq5 := hq5.pu hP6 trivial
    replace hA := hA.f1 hP6.fr (fun _ => Or.inl rfl)
    rw [hS0] at hc2
    rcases hh6 with ⟨z, rfl, h6⟩ | ⟨z, rfl, h6⟩
    · have hne : l.dropWhile isChr ≠ [] := fun w => by rw [w] at z; cases z
      have hpos : 0 < (l.dropWhile isChr).length := List.length_pos_iff.mpr hne
      have hlt : (l.dropWhile isChr).tail.length + 1 = (l.dropWhile isChr).length := by rw [List.length_tail]; omega
      obtain ⟨k1, rfl⟩ : ∃ k1, k = k1 + 1 := ⟨k - 1, by omega⟩
      refine BW.br rfl rfl (by first | omega | decide | (constructor <;> first | omega | decide)) (fun w => ?_) (fun w => by first | (exfalso; omega) | exact absurd w (by decide))
      have hAv := hA.t
      refine ih k1 rfl (l.dropWhile isChr).tail (rows0 ++ [l.takeWhile isChr]) _ cap5 S6 _ Q (by omega) h6 hm hmq hq5 hS (by simp; omega) (by simp; omega) (by omega) (fun l1 rs S' xs' cap' c' e1 e2 e3 hF7 e4 e5 e6 h7 hq7 hS7 => ?_) (fun f S1 r S' c' e1 hF7 e4 hT7 => ?_)
      · refine kk l1 (l.takeWhile isChr :: rs) S' xs' cap' _ ?_ (by omega) (by simp; omega) (hA.f2 hF7 (fun _ => Or.inl rfl) (fun _ => Or.inr rfl)) (by omega) (by omega) ?_ h7 hq7 (by rw [List.append_cons]; exact hS7)
        · rw [pRows_s hl3 z, e1]
        · simp only [List.length_append, List.length_cons, List.length_nil] at e6 ⊢
          omega
      · refine kx f S1 r S' _ ?_ (hA.f2 hF7 (fun _ => Or.inl rfl) (fun _ => Or.inr rfl)) ?_ hT7
        · rw [pRows_s hl3 z, e1]
        · rw [List.length_append, List.length_singleton] at e4
          omega
    · refine BW.br rfl rfl (by first | omega | decide | (constructor <;> first | omega | decide)) (fun w => by first | (exfalso; omega) | exact absurd w (by decide)) (fun w => ?_)
      refine BW.ret rfl rfl (kk (l.dropWhile isChr) [l.takeWhile isChr] S6 _ cap5 _ (pRows_x hl3 z) (by omega) (by simp) hA ?_ hc1 hc2 h6 hq5 hS)
      omega
  · have hcl : 3 * (cap3 - 16) ≤ 6 * 30 := by rcases hC3.2.2.2.1 with z | z <;> omega
    exact kx (l.drop 30) S3 r S' _ (pRows_f e2) (hA.f2 hC3.2.1 (fun _ => Or.inl rfl) (fun z => absurd hbz z)) (by omega) hT3
theorem rwOuter : ∀ (k : Nat) (l : List Int) (rows0 : List (List Int)) (xs0 : List (Option Nat)) (cap0 : Nat) (S : BS) (v2 : Option GV) (Q : GO → BS → Prop), l.length ≤ k → RdAt S n s l → Ob S m (oOwn 7) → Fe S 50 m (some q) → Ob S q (oAl xs0 cap0) → StrsIs S xs0 rows0 → rows0.length + l.length < 1000 → cap0 ≤ 2 * rows0.length + 10 → S.2.2.2 + 20000 * l.length < 900000000 →
    (∀ l1 rs S' xs' cap' c', pRows k l = .inr (l1, rs) → l1.length ≤ l.length → rs.length ≤ l.length - l1.length + 1 → Fr S S' (fun k => k = n ∨ k = q) c' → c' ≤ 92 * (l.length - l1.length) + 85 + 6 * (cap' - cap0) → cap0 ≤ cap' → (cap' = cap0 ∨ cap' ≤ 2 * (rows0.length + rs.length) + 10) → RdAt S' n s l1 → Ob S' q (oAl xs' cap') → StrsIs S' xs' (rows0 ++ rs) → Q (.inl none) S') →
    (∀ f S1 r S' c', pRows k l = .inl f → Fr S S1 (fun k => k = n ∨ k = q) c' → c' + 6 * cap0 ≤ 600 * l.length + 12 * (rows0.length + l.length) + 5000 → Thr9 5 42 ((s.length : Int) - f.length) S1 r S' → Q r S') →
    BW (d + 7) gm_X3_rows 0 [some (aR n), some (aR m), v2] [] S Q := by
  intro k
  induction k with
  | zero => exact rwStep 0 (fun k1 z => by omega)
  | succ k ih => exact rwStep (k + 1) (fun k1 z => by
      obtain rfl : k = k1 := by omega
      exact ih)
end RW
