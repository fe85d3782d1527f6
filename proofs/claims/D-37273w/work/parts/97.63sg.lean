-- C
set_option maxRecDepth 100000
/-! THE READER: rows, signs -/
def sgR (many : Nat) (l : List Int) : PR (List Int) := if many = 0 then (if l.takeWhile isChr ≠ [] ∧ hd (l.dropWhile isChr) = 47 then .inr ((l.dropWhile isChr).tail, l.takeWhile isChr) else .inl (l.dropWhile isChr))
  else if ((l.take many).takeWhile isChr).length < many then .inl (l.drop ((l.take many).takeWhile isChr).length)
  else if hd (l.drop many) = 47 then .inr ((l.drop many).tail, (l.take many).takeWhile isChr) else .inl (l.drop many)
section SG
variable {d i a n q x b m c cap cap' c0 c1 st0 st1 cf many : Nat} {b1 kd : Int} {M : GMeth} {ls : GL} {st : List GV} {xs xs' : List (Option Nat)} {ps qs : List SPart} {p : SPart} {s l l1 l3 f acc : List Int} {S S0 S1 S' : BS} {F F' W : Nat → Prop} {Q : GO → BS → Prop} {y : Option Nat} {o : Obj} {r : Option Nat} {pt : SPat}
theorem C_rows (h : RdAt S n s l) (hm : Ob S m (oOwn 7)) (hmq : Fe S 50 m (some q)) (hq : Ob S q (oAl [] 0)) (hl : l.length ≤ 200) (hT : S.2.2.2 < 800000000) : BM (d + 8) gk_X3_rows [aR n, aR m] S (RdY n 300 s l S (fun k => k = n ∨ k = q) (pRows l.length l) (fun rs w S' => w = none ∧ ∃ xs' cap', Ob S' q (oAl xs' cap') ∧ StrsIs S' xs' rs)) := by
  refine BM.of rfl rfl rfl ?_
  refine rwOuter (d := d) (m := m) l.length l [] [] 0 S none _ (Nat.le_refl _) h hm hmq hq StrsIs.nil (by simp; omega) (by simp) (by omega) (fun l1 rs S' xs' cap' c' e1 e2 e3 hF e4 e5 e6 h1 hq1 hS1 => ?_) (fun f S1 r S' c' e1 hF e2 hT1 => ?_)
  · simp only [List.length_nil, Nat.zero_add] at e6
    exact RdY.go e1 e2 hF (by omega) h1 ⟨rfl, xs', cap', hq1, hS1⟩
  · simp only [List.length_nil, Nat.zero_add] at e2
    exact RdY.fl e1 hF (by omega) hT1
theorem takeWhile_all {acc : List Int} (h : ∀ c ∈ acc, isChr c = true) : acc.takeWhile isChr = acc ∧ acc.dropWhile isChr = [] := by
  have := tw_app (acc := acc) (l3 := []) h
  rw [List.append_nil] at this
  exact ⟨by rw [this.1]; simp, by rw [this.2]; rfl⟩
theorem sg_exit (e : l = acc ++ l3) (ha : ∀ c ∈ acc, isChr c = true) (h1 : hd l3 = 47) (h2 : acc ≠ []) (h3 : many ≤ acc.length) (h4 : many = 0 ∨ acc.length ≤ many) : sgR many l = .inr (l3.tail, acc) := by
  unfold sgR
  have hn : ¬ isChr (hd l3) = true := by rw [h1]; decide
  by_cases z : many = 0
  · rw [if_pos z, e, (tw_app ha).1, (tw_app ha).2, (nochr hn).1, (nochr hn).2, List.append_nil, if_pos ⟨h2, h1⟩]
  · have hm : many = acc.length := by omega
    rw [if_neg z, e, hm, List.take_left, (takeWhile_all ha).1, if_neg (by omega), List.drop_left, if_pos h1]
theorem sg_fault (e : l = acc ++ l3) (ha : ∀ c ∈ acc, isChr c = true) (h4 : many = 0 ∨ acc.length ≤ many) (h1 : ¬ (hd l3 = 47 ∧ acc ≠ [] ∧ many ≤ acc.length)) (h2 : ¬ (isChr (hd l3) = true ∧ (many = 0 ∨ acc.length < many))) : sgR many l = .inl l3 := by
  unfold sgR
  by_cases z : many = 0
  · have hn : ¬ isChr (hd l3) = true := fun w => h2 ⟨w, Or.inl z⟩
    rw [if_pos z, e, (tw_app ha).1, (tw_app ha).2, (nochr hn).1, (nochr hn).2, List.append_nil, if_neg (fun w => h1 ⟨w.2, w.1, by omega⟩)]
  · rw [if_neg z]
    by_cases z2 : acc.length < many
    · have hn : ¬ isChr (hd l3) = true := fun w => h2 ⟨w, Or.inr z2⟩
      have e2 : (l.take many).takeWhile isChr = acc := by
        rw [e, List.take_append, List.take_of_length_le (by omega), (tw_app ha).1]
        cases l3 with
        | nil => simp
        | cons y l4 =>
          obtain ⟨j, hj⟩ : ∃ j, many - acc.length = j + 1 := ⟨many - acc.length - 1, by omega⟩
          rw [hj, List.take_succ_cons, List.takeWhile_cons, if_neg (show ¬ isChr y = true from hn), List.append_nil]
      rw [e2, if_pos z2, e, List.drop_left]
    · have hm : many = acc.length := by omega
      have hne : acc ≠ [] := fun w => by rw [w] at hm; exact z hm
      rw [e, hm, List.take_left, (takeWhile_all ha).1, if_neg (by omega), List.drop_left, if_neg (fun w => h1 ⟨w, hne, by omega⟩)]
theorem sgStep (hs : s.length < 10000) (hlm : l.length < 5000) (hmany : many < 10000)
    (k : ∀ S2 acc2 l2 cap2, sgR many l = .inr (l2, acc2) → RdAt S2 n s (47 :: l2) → ClI S0 S2 n b acc2 cap2 → acc2.length + l2.length + 1 = l.length → BW (d + 7) gm_X3_signs 35 [some (aR n), some (aI many), some (aR b)] [] S2 Q)
    (kx : ∀ S2 f acc2 cap2 r S', sgR many l = .inl f → ClI S0 S2 n b acc2 cap2 → acc2.length ≤ l.length → Thr9 5 42 ((s.length : Int) - f.length) S2 r S' → Q r S') {l3 acc : List Int} {S1 : BS} {cap : Nat} (h : RdAt S1 n s l3) (hC : ClI S0 S1 n b acc cap) (e1 : l = acc ++ l3) (e2 : ∀ c ∈ acc, isChr c = true) (e3 : many = 0 ∨ acc.length ≤ many)
    (next : ∀ y l4, l3 = y :: l4 → ∀ S3 cap', RdAt S3 n s l4 → ClI S0 S3 n b (acc ++ [y]) cap' → l = (acc ++ [y]) ++ l4 → (∀ c ∈ acc ++ [y], isChr c = true) → (many = 0 ∨ (acc ++ [y]).length ≤ many) → BW (d + 7) gm_X3_signs 4 [some (aR n), some (aI many), some (aR b)] [] S3 Q) : BW (d + 7) gm_X3_signs 4 [some (aR n), some (aI many), some (aR b)] [] S1 Q := by
  have hn := h.ob
  have hR := h.R
  have hb := hC.1
  have hla : acc.length + l3.length = l.length := by rw [e1, List.length_append]
  have at28f : ¬ (hd l3 = 47 ∧ acc ≠ [] ∧ many ≤ acc.length) → ¬ (isChr (hd l3) = true ∧ (many = 0 ∨ acc.length < many)) → BW (d + 7) gm_X3_signs 28 [some (aR n), some (aI many), some (aR b)] [aI 0, aR n] S1 Q := fun y1 y2 => by
    refine BW.must (d := d + 3) rfl rfl (by decide) (by decide) rfl h (Or.inl rfl) rfl (fun w => absurd w (by decide)) (fun q9 S9 _ hT9 => ?_)
    exact kx _ l3 acc cap _ _ (sg_fault e1 e2 e3 y1 y2) hC (by omega) hT9
  have at28t : isChr (hd l3) = true → (many = 0 ∨ acc.length < many) → BW (d + 7) gm_X3_signs 28 [some (aR n), some (aI many), some (aR b)] [aI 1, aR n] S1 Q := fun y1 y2 => by
    obtain ⟨y, l4, rfl⟩ : ∃ y l4, l3 = y :: l4 := by
      cases l3 with
      | nil => cases y1
      | cons y l4 => exact ⟨y, l4, rfl⟩
    have z : isChr y = true := y1
    have hlc : (y :: l4).length = l4.length + 1 := rfl
    refine BW.must (d := d + 3) rfl rfl (by decide) (by decide) rfl h (Or.inr rfl) rfl (fun _ => ?_) (fun q S' w _ => absurd w (by decide))
    (repeat (refine BW.pl rfl rfl ?_))
    refine CW.c1 rfl rfl (by first | exact Or.inl rfl | exact Or.inr (tagO (by assumption) (by rfl) (by rfl))) (by first | exact Or.inl (by decide) | exact Or.inr ⟨_, rfl, by assumption⟩) rfl (C_next (d := d + 2) h) ?_
    rintro r S2 ⟨rfl, hP, h2⟩
    have hC2 := hC.go hP
    have hb2 := hC2.1
    have hn2 := h2.ob
    have hy := chr_pos z
    (repeat (refine BW.pl rfl rfl ?_))
    refine CW.c2 rfl rfl (by first | exact Or.inl rfl | exact Or.inr (tagO (by assumption) (by rfl) (by rfl))) (by first | exact Or.inl (by decide) | exact Or.inr ⟨_, rfl, by assumption⟩) rfl (C_sbAppC (d := d + 2) hb2 (by omega) (by omega)) ?_
    rintro r S3 ⟨rfl, cap', hb3, hF3, hc1, hc2⟩
    have hC3 := hC2.add hn2 hb3 hF3 hc1 hc2
    replace h2 := h2.fr hF3 ⟨(NoS.one hb2 rfl), (Sep.ne (hn2.ne hb2 (oNe rfl)))⟩
    replace hn2 := hn2.fr hF3 ⟨oNe rfl, (Sep.ne (hn2.ne hb2 (oNe rfl)))⟩
    (iterate 2 (refine BW.pl rfl rfl ?_))
    exact next y l4 rfl S3 cap' h2 hC3 (by rw [e1]; simp) (fun c hc => by
      rcases List.mem_append.mp hc with g | g
      · exact e2 c g
      · rw [List.mem_singleton.mp g]; exact z) (by rw [List.length_append, List.length_singleton]; omega)
  have at15 : ¬ (hd l3 = 47 ∧ acc ≠ [] ∧ many ≤ acc.length) → BW (d + 7) gm_X3_signs 15 [some (aR n), some (aI many), some (aR b)] [] S1 Q := fun y1 => by
    (repeat (refine BW.pl rfl rfl ?_))
    refine CW.e1 rfl rfl (by first | exact Or.inl rfl | exact Or.inr (tagO (by assumption) (by rfl) (by rfl))) (by first | exact Or.inl (by decide) | exact Or.inr ⟨_, rfl, by assumption⟩) rfl (B_sign (d := d) h) ?_
    by_cases z1 : isChr (hd l3) = true
    · rw [if_pos z1]
      refine BW.br rfl rfl (by first | omega | decide | (constructor <;> first | omega | decide)) (fun w => by first | (exfalso; omega) | exact absurd w (by decide)) (fun w => ?_)
      (repeat (refine BW.pl rfl rfl ?_))
      by_cases z2 : many = 0
      · refine BW.br rfl rfl (by first | omega | decide | (constructor <;> first | omega | decide)) (fun w2 => ?_) (fun w2 => by first | (exfalso; omega) | exact absurd w2 (by decide))
        (repeat (refine BW.pl rfl rfl ?_))
        exact at28t z1 (Or.inl z2)
      · refine BW.br rfl rfl (by first | omega | decide | (constructor <;> first | omega | decide)) (fun w2 => by first | (exfalso; omega) | exact absurd w2 (by decide)) (fun w2 => ?_)
        (repeat (refine BW.pl rfl rfl ?_))
        refine CW.e1 rfl rfl (by first | exact Or.inl rfl | exact Or.inr (tagO (by assumption) (by rfl) (by rfl))) (by first | exact Or.inl (by decide) | exact Or.inr ⟨_, rfl, by assumption⟩) rfl (B_sbLen (d := d + 5) hb) ?_
        (repeat (refine BW.pl rfl rfl ?_))
        by_cases z3 : acc.length < many
        · refine BW.br rfl rfl (by first | omega | decide | (constructor <;> first | omega | decide)) (fun w3 => by first | (exfalso; omega) | exact absurd w3 (by decide)) (fun w3 => ?_)
          (repeat (refine BW.pl rfl rfl ?_))
          exact at28t z1 (Or.inr z3)
        · refine BW.br rfl rfl (by first | omega | decide | (constructor <;> first | omega | decide)) (fun w3 => ?_) (fun w3 => by first | (exfalso; omega) | exact absurd w3 (by decide))
          (repeat (refine BW.pl rfl rfl ?_))
          exact at28f y1 (fun w => by rcases w.2 with g | g; exact z2 g; exact z3 g)
    · rw [if_neg z1]
      refine BW.br rfl rfl (by first | omega | decide | (constructor <;> first | omega | decide)) (fun w => ?_) (fun w => by first | (exfalso; omega) | exact absurd w (by decide))
      (repeat (refine BW.pl rfl rfl ?_))
      exact at28f y1 (fun w => z1 w.1)
  (repeat (refine BW.pl rfl rfl ?_))
  refine CW.e1 rfl rfl (by first | exact Or.inl rfl | exact Or.inr (tagO (by assumption) (by rfl) (by rfl))) (by first | exact Or.inl (by decide) | exact Or.inr ⟨_, rfl, by assumption⟩) rfl (B_look (d := d + 2) h) ?_
  (repeat (refine BW.pl rfl rfl ?_))
  by_cases z1 : lk l3 = 47
  · refine BW.br rfl rfl (by first | omega | decide | (constructor <;> first | omega | decide)) (fun w => by first | (exfalso; omega) | exact absurd w (by decide)) (fun w => ?_)
    have z1h := (lk_hd (l := l3) (by decide)).mp z1
    (repeat (refine BW.pl rfl rfl ?_))
    refine CW.e1 rfl rfl (by first | exact Or.inl rfl | exact Or.inr (tagO (by assumption) (by rfl) (by rfl))) (by first | exact Or.inl (by decide) | exact Or.inr ⟨_, rfl, by assumption⟩) rfl (B_sbLen (d := d + 5) hb) ?_
    by_cases z2 : acc.length = 0
    · refine BW.br rfl rfl (by first | omega | decide | (constructor <;> first | omega | decide)) (fun w2 => ?_) (fun w2 => by first | (exfalso; omega) | exact absurd w2 (by decide))
      exact at15 (fun w => w.2.1 (List.length_eq_zero_iff.mp z2))
    · refine BW.br rfl rfl (by first | omega | decide | (constructor <;> first | omega | decide)) (fun w2 => by first | (exfalso; omega) | exact absurd w2 (by decide)) (fun w2 => ?_)
      (repeat (refine BW.pl rfl rfl ?_))
      refine CW.e1 rfl rfl (by first | exact Or.inl rfl | exact Or.inr (tagO (by assumption) (by rfl) (by rfl))) (by first | exact Or.inl (by decide) | exact Or.inr ⟨_, rfl, by assumption⟩) rfl (B_sbLen (d := d + 5) hb) ?_
      (repeat (refine BW.pl rfl rfl ?_))
      by_cases z3 : many ≤ acc.length
      · refine BW.br rfl rfl (by first | omega | decide | (constructor <;> first | omega | decide)) (fun w3 => ?_) (fun w3 => by first | (exfalso; omega) | exact absurd w3 (by decide))
        obtain ⟨l4, rfl⟩ := lk_cons z1 (by decide)
        have hlc : (47 :: l4).length = l4.length + 1 := rfl
        exact k _ acc l4 cap (sg_exit e1 e2 rfl (fun w => z2 (by rw [w]; rfl)) z3 e3) h hC (by omega)
      · refine BW.br rfl rfl (by first | omega | decide | (constructor <;> first | omega | decide)) (fun w3 => by first | (exfalso; omega) | exact absurd w3 (by decide)) (fun w3 => ?_)
        exact at15 (fun w => z3 w.2.2)
  · refine BW.br rfl rfl (by first | omega | decide | (constructor <;> first | omega | decide)) (fun w => ?_) (fun w => by first | (exfalso; omega) | exact absurd w (by decide))
    exact at15 (fun g => z1 ((lk_hd (by decide)).mpr g.1))
theorem sgLoop (hs : s.length < 10000) (hlm : l.length < 5000) (hmany : many < 10000)
    (k : ∀ S2 acc2 l2 cap2, sgR many l = .inr (l2, acc2) → RdAt S2 n s (47 :: l2) → ClI S0 S2 n b acc2 cap2 → acc2.length + l2.length + 1 = l.length → BW (d + 7) gm_X3_signs 35 [some (aR n), some (aI many), some (aR b)] [] S2 Q)
    (kx : ∀ S2 f acc2 cap2 r S', sgR many l = .inl f → ClI S0 S2 n b acc2 cap2 → acc2.length ≤ l.length → Thr9 5 42 ((s.length : Int) - f.length) S2 r S' → Q r S') :
    ∀ l3 acc S1 cap, RdAt S1 n s l3 → ClI S0 S1 n b acc cap → l = acc ++ l3 → (∀ c ∈ acc, isChr c = true) → (many = 0 ∨ acc.length ≤ many) → BW (d + 7) gm_X3_signs 4 [some (aR n), some (aI many), some (aR b)] [] S1 Q := by
  intro l3
  induction l3 with
  | nil =>
    intro acc S1 cap h hC e1 e2 e3
    exact sgStep hs hlm hmany k kx h hC e1 e2 e3 (fun y l4 z => by cases z)
  | cons y l3 ih =>
    intro acc S1 cap h hC e1 e2 e3
    exact sgStep hs hlm hmany k kx h hC e1 e2 e3 (fun y2 l4 z S3 cap' h3 hC3 g1 g2 g3 => by
      cases z
      exact ih (acc ++ [y]) S3 cap' h3 hC3 g1 g2 g3)
theorem C_signs (h : RdAt S n s l) (hmany : many < 10000) (hl : l.length ≤ 200) (hT : S.2.2.2 < 800000000) : BM (d + 8) gk_X3_signs [aR n, aI many] S (RdY n 300 s l S (fun k => k = n) (sgR many l) (fun v w S' => ∃ y, w = vR (some y) ∧ Ob S' y (oStr v))) := by
  have hn := h.ob
  have hAt := h.at
  have hA := Fr.rf (S := S) (W := fun m => m = n)
  refine BM.of rfl rfl rfl ?_
  refine CW.newJ (L := 4) (c := 14) rfl rfl rfl (fun bb S1 hN => ?_)
  have hbz := hA.nil hN.nil
  replace h := h.fr hN.fr ⟨NoS.no, Sep.no⟩
  replace hn := hn.fr hN.fr ⟨oNe rfl, Sep.no⟩
  replace hA := hA.nw hN
  have hb := hN.ob
  have hbk := hN.1
  (repeat (refine BW.pl rfl rfl ?_))
  refine CW.c1 rfl rfl (by first | exact Or.inl rfl | exact Or.inr (tagO (by assumption) (by rfl) (by rfl))) (by first | exact Or.inl (by decide) | exact Or.inr ⟨_, rfl, by assumption⟩) rfl (C_sbNew (d := d + 5) hb) ?_
  rintro r S2 ⟨rfl, hb2, hF2⟩
  replace h := h.fr hF2 ⟨(NoS.one hb rfl), (Sep.ne (hn.ne hb (oNe rfl)))⟩
  replace hn := hn.fr hF2 ⟨oNe rfl, (Sep.ne (hn.ne hb (oNe rfl)))⟩
  replace hA := hA.f1 hF2 (fun z => absurd hbz z)
  (iterate 1 (refine BW.pl rfl rfl ?_))
  refine sgLoop (l := l) (S0 := S2) hAt.2.2 (by omega) hmany (fun S3 acc3 l2 cap3 e1 h3 hC3 e2 => ?_) (fun S3 f acc3 cap3 r S' e1 hC3 e2 hT3 => ?_) l [] S2 16 h ⟨hb2, Fr.rf.w (fun _ _ z => z) (Nat.zero_le _), Nat.le_refl _, Or.inl rfl, fun F _ _ => ⟨rfl, rfl⟩⟩ rfl (by simp) (by simp)
  · have hcl : 3 * (cap3 - 16) ≤ 6 * acc3.length := by rcases hC3.2.2.2.1 with z | z <;> omega
    replace hA := hA.f2 hC3.2.1 (fun _ => rfl) (fun z => absurd hbz z)
    have hn := h3.ob
    have hb3 := hC3.1
    have h75 := h3.fi
    have hAt3 := h3.at
    have hlc : (47 :: l2).length = l2.length + 1 := rfl
    (repeat (first | (refine BW.pl rfl rfl ?_) | (refine CW.geti rfl rfl (by assumption) rfl rfl (by assumption) (fun _ => ?_)) | (refine CW.getr rfl rfl (by assumption) rfl rfl (by assumption) ?_)))
    first | (refine CW.putr rfl rfl (by assumption) rfl (by decide) (fun S4 hP4 h75 => ?_)) | (refine CW.puti rfl (by assumption) rfl (by decide) (by first | exact Or.inl ⟨rfl, by first | omega | decide | (constructor <;> first | omega | decide)⟩ | exact Or.inr (Or.inl ⟨rfl, by first | omega | decide | (constructor <;> first | omega | decide)⟩) | exact Or.inr (Or.inr (Or.inl ⟨rfl, by first | omega | decide | (constructor <;> first | omega | decide)⟩)) | exact Or.inr (Or.inr (Or.inr ⟨rfl, by first | omega | decide | (constructor <;> first | omega | decide)⟩))) (fun S4 hP4 h75 => ?_))
    replace hn := hn.pu hP4 trivial
    replace hb3 := hb3.pu hP4 trivial
    replace hA := hA.f1 hP4.fr (fun _ => rfl)
    have h4 := h3.on hP4 h75 (by omega)
    (repeat (refine BW.pl rfl rfl ?_))
    refine CW.c1 rfl rfl (by first | exact Or.inl rfl | exact Or.inr (tagO (by assumption) (by rfl) (by rfl))) (by first | exact Or.inl (by decide) | exact Or.inr ⟨_, rfl, by assumption⟩) rfl (C_sbStr (d := d + 1) hb3) ?_
    rintro r S5 ⟨sy, rfl, hy1, hy2, hy3, hF5⟩
    replace h75 := h75.fr hF5 ⟨⟨hn.old (oNe rfl), Nat.le_of_ble_eq_true rfl⟩, Sep.no⟩
    replace h4 := h4.fr hF5 ⟨NoS.no, Sep.no⟩
    replace hn := hn.fr hF5 ⟨oNe rfl, Sep.no⟩
    replace hb3 := hb3.fr hF5 ⟨oNe rfl, Sep.no⟩
    replace hA := hA.f0 hF5
    exact BW.aret rfl rfl (RdY.go e1 (by omega) hA (by omega) h4 ⟨sy, rfl, hy3⟩)
  · have hcl : 3 * (cap3 - 16) ≤ 6 * acc3.length := by rcases hC3.2.2.2.1 with z | z <;> omega
    exact RdY.fl e1 (hA.f2 hC3.2.1 (fun _ => rfl) (fun z => absurd hbz z)) (by omega) hT3
end SG
