-- C
set_option maxRecDepth 100000
/-! LINEORDERS: doInner -/
section DI
variable {d n m q i a y cap c c1 B k f l : Nat} {S S' S0 S1 S2 : BS} {K : Nat → Nat} {la : Int → Nat} {A A1 : St} {F V : Nat → Prop} {v nv b1 x1 : Int} {r : Option Nat} {Q : GO → BS → Prop} {od : SOrd0} {o : SOrd} {ob9 : Obj} {zz : Prop} {M : GMeth} {ls : GL} {st : List GV} {xs : List (Option Nat)} {ids : List Int}
/-- a list is no longer than its array, and that no longer than any array -/
theorem BW.alB {d i : Nat} {M : GMeth} {ls : GL} {st : List GV} {Q : GO → BS → Prop} {cap : Nat} (hn : Ob S n (oAl xs cap)) (kk : xs.length ≤ cap ∧ cap < 65536 → BW d M i ls st S Q) : BW d M i ls st S Q := by
  obtain ⟨H, fi, fr, t⟩ := S
  rintro g ⟨ρ, ν, hR⟩
  obtain ⟨q1, ⟨a, h1, h2, h3⟩, q3⟩ := hR.obj hn rfl rfl
  exact GW.wf (fun hW => kk ⟨h1.2.2.2.2.2.1, (ALs.lt h1 hW).2.2.1⟩ g ⟨ρ, ν, hR⟩)
theorem XG.ob (h : XG K V S S') (hm : Ob S m ob9) (hk : KoM K m) (ho : ob9 ≠ oNil) (h9 : (ob9.1 == 9) = false) : Ob S' m ob9 := by
  obtain ⟨Sx, hX, hP⟩ := h
  show S'.1 m = ob9
  rw [hP.1]
  exact (hX.ob hm hk ho h9).1
theorem XG.fe (h : XG K V S S') (hm : Ob S m ob9) (hk : KoM K m) (ho : ob9 ≠ oNil) (h9 : (ob9.1 == 9) = false) (hf : Fe S f m r) (hs : f < 91 ∧ ¬ (71 ≤ f ∧ f ≤ 73) ∧ f ≠ 44) : Fe S' f m r := by
  obtain ⟨Sx, hX, hP⟩ := h
  exact (hP.2.2 f m (Or.inr (hk 1 (by decide)))).2.trans (hX.fe hm hk ho h9 hf hs)
theorem XG.fi (h : XG K V S S') (hm : Ob S m ob9) (hk : KoM K m) (ho : ob9 ≠ oNil) (h9 : (ob9.1 == 9) = false) (hf : Fi S f m v) (hs : f < 91 ∧ ¬ (71 ≤ f ∧ f ≤ 73) ∧ f ≠ 44) : Fi S' f m v := by
  obtain ⟨Sx, hX, hP⟩ := h
  exact (hP.2.2 f m (Or.inr (hk 1 (by decide)))).1.trans (hX.fi hm hk ho h9 hf hs)
theorem XG.nn (h : XG K V S S') (hm : S.1 m ≠ oNil) : S'.1 m ≠ oNil := by
  obtain ⟨Sx, hX, hP⟩ := h
  rw [hP.1]
  exact hX.1 m hm
theorem XG.nil (h : XG K V S S') (hm : S'.1 m = oNil) : S.1 m = oNil := Classical.byContradiction (fun z => h.nn z hm)
theorem lsOf_ext {la2 : Int → Nat} (h : ∀ x ∈ ids, la2 x = la x) : lsOf la2 ids = lsOf la ids := List.map_congr_left (fun x hx => by rw [h x hx])
/-- what an order with inner ones answers: how many orders were come to -/
def InX (S : BS) (K : Nat → Nat) (la : Int → Nat) (A : St) (c B k : Nat) (R : Nat ⊕ (Nat × St)) (r : GO) (S' : BS) : Prop := match R with
  | .inl w => ∃ (S1 : BS) (la1 : Int → Nat) (A1 : St), LB S1 K la1 (idsOfL A1.1) A1.2.1 A1.2.2 (B + (k + 21034 + 3154 * (60 - c) + 480 * (100 - A.2.2.2.1.length))) ∧ XG K (fun _ => True) S S1 ∧ LaE la la1 A.2.2.2.2.2.2.1 ∧ A.2.2.2.2.2.2.1 ≤ A1.2.2.2.2.2.2.1 ∧ (∃ ex, A1.2.2.2.1 = A.2.2.2.1 ++ ex) ∧ Thr9 11 78 w S1 r S'
  | .inr (c1, A1) => r = .inl none ∧ ∃ la1, LO S' K la1 A1 (B + k + 3154 * (c1 - c) + 480 * (A1.2.2.2.1.length - A.2.2.2.1.length)) ∧ XG K (fun _ => True) S S' ∧ LaE la la1 A.2.2.2.2.2.2.1 ∧ Fi S' 13 (K 1) (c1 : Int) ∧ c ≤ c1 ∧ ∃ ex, A1.2.2.2.1 = A.2.2.2.1 ++ ex
theorem sEach_cons {os : List SOrd0} {x : Int} {xs : List Int} (h : linNo A.1 x ≠ 0) : sEachL os (x :: xs) c A = match sInn os c (setP A (linNo A.1 x)) with
    | .inl w => .inl w
    | .inr (c1, A1) => sEachL os xs c1 A1 := by
  conv => lhs; unfold sEachL
  rw [if_neg h]
  cases sInn os c (setP A (linNo A.1 x)) <;> rfl
theorem sEach_skip {os : List SOrd0} {x : Int} {xs : List Int} (h : linNo A.1 x = 0) : sEachL os (x :: xs) c A = sEachL os xs c A := by
  conv => lhs; unfold sEachL
  rw [if_pos h]
theorem linNo_le {t : List SLine} {x : Int} : linNo t x ≤ t.length := by
  rw [linNo_id]
  have := idNo_R (ids := idsOfL t) (x := x)
  rw [ids_len] at this
  exact this
theorem wfSetP9 {A : St} {p' : Nat} (hw : WF A) (h1 : p' ≤ A.1.length) (h2 : 1 ≤ p') : WF (setP A p') := ⟨⟨h1, fun _ => h2⟩, hw.2⟩
theorem L_doInner (hL : LO S K la A B) (hK : ∀ m, F m → KoM K m) (hO : OrdIs S F zz m o) (hw : WF A) (hg : oAct o.1 = 123 ∨ oAct o.1 = 103 ∨ oAct o.1 = 71) (hpk : oAct o.1 = 103 ∨ oAct o.1 = 71 → PatK (oPat o.1)) (hok : InnOk o.2) (hin : ∀ od ∈ o.2, OdK od ∧ OdP od) (hn : A.2.2.2.2.2.2.1 + 40 * (60 - (c : Int)) < 1900000) (hB : B + 1000000 ≤ 20000000) (h13 : Fi S 13 (K 1) c) (hc : c ≤ 60) (hf : 1 ≤ f) (hfl : f ≤ l + 1) (hl : l ≤ A.1.length) (hv : v = f) (hv2 : nv = l) : BM (d + 189) gk_X1_doInner [aR (K 1), aR m, aI v, aI nv] S (InX S K la A c B 1700 (sEachL o.2 (sMet o.1 (seg A.1 f l)) c A)) := by
  subst hv hv2
  have hx := hL.1.obx
  obtain ⟨hO0, r56, h56, hc56⟩ := hO
  have hm := hO0.2.1
  have kq := hK _ hO0.1
  have hgc : isGc (oAct o.1) = true := decide_eq_true hg
  have hc56 : ∃ q, r56 = some q ∧ OrIn S F zz q o.2 := by
    rcases hc56 with z | z
    · exact z.2
    · exact absurd (z.1.symm.trans hgc) (by decide)
  obtain ⟨qi, rfl, hI⟩ := hc56
  refine BM.of rfl rfl rfl ?_
  (repeat (refine BW.pl rfl rfl ?_))
  refine CW.c4 rfl rfl (by first | exact Or.inl rfl | exact Or.inr (tagO (by assumption) (by rfl) (by rfl))) (by first | exact Or.inl (by decide) | exact Or.inr ⟨_, rfl, by assumption⟩) rfl (L_met (V := fun _ => True) hL hK hO0 hg hpk hf hfl hl hw.txk (by omega) rfl rfl) ?_
  rintro r S1 ⟨q, cap, rfl, hq0, hq1, hL1, hX1⟩
  have kqq : KoM K q := hL.1.ko hq0
  have hmet : ∀ x ∈ sMet o.1 (seg A.1 f l), 0 ≤ x ∧ x < A.2.2.2.2.2.2.1 := fun x hx => by
    obtain ⟨y, hy, e⟩ := List.mem_map.mp hx
    have hy1 := (List.mem_filter.mp hy).1
    have hy2 : y ∈ A.1 := List.mem_of_mem_drop (List.mem_of_mem_take hy1)
    rw [← e]
    exact (hw.2.2.2.1 y hy2).1
  have hml : (sMet o.1 (seg A.1 f l)).length ≤ 40 := by
    unfold sMet idsOfL
    rw [List.length_map]
    have h1 := List.length_filter_le (fun q : SLine => decide (oAct o.1 = 123) || ((mFind (oPat o.1) q.2 0).isSome == decide (oAct o.1 = 103))) (seg A.1 f l)
    have h2 : (seg A.1 f l).length ≤ A.1.length := by unfold seg; rw [List.length_take, List.length_drop]; omega
    have := hw.2.1
    omega
  generalize hxs : sMet o.1 (seg A.1 f l) = xs0 at hq1 hmet hml ⊢
  have ho100 := hw.2.2.2.2.2.2.2.1.1
  -- what is refused within
  have rfl9 : ∀ (S2 : BS) (la2 : Int → Nat) (A2 : St) (c2 j w : Nat) (r : GO) (S9 : BS), j ≤ 40 → c ≤ c2 → c2 ≤ 60 → (∃ ex, A2.2.2.2.1 = A.2.2.2.1 ++ ex) → A2.2.2.2.1.length ≤ 100 → LaE la la2 A.2.2.2.2.2.2.1 → A.2.2.2.2.2.2.1 ≤ A2.2.2.2.2.2.2.1 → XG K (fun _ => True) S S2 → Refu S2 K la2 A2 (B + 1000 + 17 * j + 3154 * (c2 - c) + 480 * (A2.2.2.2.1.length - A.2.2.2.1.length)) 21034 (fun _ => True) w r S9 → InX S K la A c B 1700 (.inl w) r S9 := by
    rintro S2 la2 A2 c2 j w r S9 hj h1 h2 ⟨ex, h3⟩ h4 h5 h6 h7 ⟨S3, la3, A3, g1, g2, g3, g4, ⟨ex2, g5⟩, g6⟩
    have h3l : A2.2.2.2.1.length = A.2.2.2.1.length + ex.length := by rw [h3, List.length_append]
    exact ⟨S3, la3, A3, g1.le (by omega) (by omega), h7.xf g2, h5.tr g3 h6, Int.le_trans h6 g4, ⟨ex ++ ex2, by rw [g5, h3, List.append_assoc]⟩, g6⟩
  have outer : ∀ (xs : List Int) (j c2 : Nat) (A2 : St) (la2 : Int → Nat) (S2 : BS) (v6 v7 : Option GV), gn1 v6 = true → gn1 v7 = true → (∃ pre, xs0 = pre ++ xs ∧ pre.length = j) → c ≤ c2 → c2 ≤ 60 → LO S2 K la2 A2 (B + 1000 + 17 * j + 3154 * (c2 - c) + 480 * (A2.2.2.2.1.length - A.2.2.2.1.length)) → WF A2 → LaE la la2 A.2.2.2.2.2.2.1 → A.2.2.2.2.2.2.1 ≤ A2.2.2.2.2.2.2.1 → A2.2.2.2.2.2.2.1 + 40 * (60 - (c2 : Int)) < 1900000 → (∃ ex, A2.2.2.2.1 = A.2.2.2.1 ++ ex) → Fi S2 13 (K 1) c2 → XG K (fun _ => True) S S2 → Ob S2 q (oAl (lsOf la xs0) cap) → (∀ R, sEachL o.2 xs c2 A2 = R → BW (d + 188) gm_X1_doInner 8 [some (aR (K 1)), some (aR m), some (aI f), some (aI l), some (aR q), some (aI j), v6, v7] [] S2 (InX S K la A c B 1700 R)) := by
    intro xs
    induction xs with
    | nil =>
      rintro j c2 A2 la2 S2 v6 v7 g6 g7 ⟨pre, hpre, hj⟩ hcc hc2 hL2 hw2 hE2 hn2 hn3 hex h132 hX2 hq2 R rfl
      have hjl : j = xs0.length := by rw [hpre, List.append_nil]; exact hj.symm
      (repeat (refine BW.pl rfl rfl ?_))
      refine CW.e1 rfl rfl (by first | exact Or.inl rfl | exact Or.inr (tagO (by assumption) (by rfl) (by rfl))) (by first | exact Or.inl (by decide) | exact Or.inr ⟨_, rfl, by assumption⟩) rfl (B_alSize hq2) ?_
      rw [lsOf_len]
      refine BW.br rfl rfl (by first | omega | decide | (constructor <;> first | omega | decide)) (fun w1 => ?_) (fun w1 => by first | (exfalso; omega) | exact absurd w1 (by decide))
      (repeat (refine BW.pl rfl rfl ?_))
      exact BW.ret rfl rfl ⟨rfl, la2, ⟨hL2.1.le (by omega) (by have := hw2.2.2.2.2.2.2.2.1.1; omega), hL2.2⟩, hX2, hE2, h132, hcc, hex⟩
    | cons x xs ih =>
      rintro j c2 A2 la2 S2 v6 v7 g6 g7 ⟨pre, hpre, hj⟩ hcc hc2 hL2 hw2 hE2 hn2 hn3 hex h132 hX2 hq2 R rfl
      have hjl : j < xs0.length := by rw [hpre, List.length_append, List.length_cons]; omega
      have hxm : x ∈ xs0 := by rw [hpre]; exact List.mem_append_right _ List.mem_cons_self
      have hxg : xs0.getD j 0 = x := by rw [hpre, List.getD_eq_getElem?_getD, List.getElem?_append_right (by omega), hj, Nat.sub_self]; rfl
      have hxR := hmet x hxm
      have hex2 := hex
      obtain ⟨ex, hexe⟩ := hex2
      have hexl : A2.2.2.2.1.length = A.2.2.2.1.length + ex.length := by rw [hexe, List.length_append]
      have ho2 := hw2.2.2.2.2.2.2.2.1.1
      have hpre' : ∃ pre, xs0 = pre ++ xs ∧ pre.length = j + 1 := ⟨pre ++ [x], by rw [hpre, List.append_assoc]; rfl, by simp [hj]⟩
      have ela : la x = la2 x := (hE2 x hxR.2).symm
      have hxo : Ob S2 (la2 x) (oOwn 6) := (hL2.1.2.2.1.1.1 x hxR.1 (by show x < A2.2.2.2.2.2.2.1; omega)).1
      have hx2 := hL2.1.obx
      have hg2 := lsOf_get (la := la) hjl hxg
      (repeat (refine BW.pl rfl rfl ?_))
      refine CW.e1 rfl rfl (by first | exact Or.inl rfl | exact Or.inr (tagO (by assumption) (by rfl) (by rfl))) (by first | exact Or.inl (by decide) | exact Or.inr ⟨_, rfl, by assumption⟩) rfl (B_alSize hq2) ?_
      rw [lsOf_len]
      refine BW.br rfl rfl (by first | omega | decide | (constructor <;> first | omega | decide)) (fun w1 => by first | (exfalso; omega) | exact absurd w1 (by decide)) (fun w1 => ?_)
      (repeat (refine BW.pl rfl rfl ?_))
      refine CW.e2 rfl rfl (by first | exact Or.inl rfl | exact Or.inr (tagO (by assumption) (by rfl) (by rfl))) (by first | exact Or.inl (by decide) | exact Or.inr ⟨_, rfl, by assumption⟩) rfl (C_alGet (k := j) hq2 (show j < (lsOf la xs0).length by rw [lsOf_len]; exact hjl) hg2 rfl) ?_
      rw [ela]
      refine CW.castS rfl hxo rfl rfl rfl ?_
      refine CW.c2 rfl rfl (by first | exact Or.inl rfl | exact Or.inr (tagO (by assumption) (by rfl) (by rfl))) (by first | exact Or.inl (by decide) | exact Or.inr ⟨_, rfl, by assumption⟩) rfl (L_numberOf (x := x) hL2.1 ⟨hxR.1, by show x < A2.2.2.2.2.2.2.1; omega⟩ hw2.2.2.1 (by rw [ids_len]; have := hw2.2.1; omega) (by omega)) ?_
      rintro r S3 ⟨rfl, hF3⟩
      rw [← linNo_id]
      have hL3 : LO S3 K la2 A2 (B + 1000 + 17 * (j + 1) + 3154 * (c2 - c) + 480 * (A2.2.2.2.1.length - A.2.2.2.1.length)) := (hL2.fr hF3 LoW.no (by omega)).le (by omega) (by omega)
      have hX23 : XF K (fun _ => True) S2 S3 := XF.rf.f0 hF3
      have hX3 := hX2.xf hX23
      have h133 := hX23.f13 hL2 h132
      have hq3 := hq2.fr hF3 ⟨oNe rfl, Sep.no⟩
      have hnr := linNo_le (t := A2.1) (x := x)
      have h40 := hw2.2.1
      refine BW.stiV rfl rfl (by simp only [List.all_cons, List.all_nil, g6, g7]; rfl) ?_
      (repeat (refine BW.pl rfl rfl ?_))
      by_cases z : linNo A2.1 x = 0
      · rw [sEach_skip z]
        refine BW.br rfl rfl (by first | omega | decide | (constructor <;> first | omega | decide)) (fun w2 => ?_) (fun w2 => by first | (exfalso; omega) | exact absurd w2 (by decide))
        refine BW.incV rfl rfl rfl (by simp only [List.set, List.all_cons, List.all_nil, g7]; rfl) ?_
        refine BW.pl rfl rfl ?_
        exact ih (j + 1) c2 A2 la2 S3 _ _ rfl g7 hpre' hcc hc2 hL3 hw2 hE2 hn2 hn3 hex h133 hX3 hq3 _ rfl
      · rw [sEach_cons z]
        have hpos : 1 ≤ linNo A2.1 x := Nat.pos_of_ne_zero z
        refine BW.br rfl rfl (by first | omega | decide | (constructor <;> first | omega | decide)) (fun w2 => by first | (exfalso; omega) | exact absurd w2 (by decide)) (fun w2 => ?_)
        have hx3 := hL3.1.obx
        (repeat (refine BW.pl rfl rfl ?_))
        first | (refine CW.putr rfl rfl (by assumption) rfl (by decide) (fun S4 hP4 h54 => ?_)) | (refine CW.puti rfl (by assumption) rfl (by decide) (by first | exact Or.inl ⟨rfl, by first | omega | decide | (constructor <;> first | omega | decide)⟩ | exact Or.inr (Or.inl ⟨rfl, by first | omega | decide | (constructor <;> first | omega | decide)⟩) | exact Or.inr (Or.inr (Or.inl ⟨rfl, by first | omega | decide | (constructor <;> first | omega | decide)⟩)) | exact Or.inr (Or.inr (Or.inr ⟨rfl, by first | omega | decide | (constructor <;> first | omega | decide)⟩))) (fun S4 hP4 h54 => ?_))
        have hL4 : LO S4 K la2 (setP A2 (linNo A2.1 x)) (B + 1000 + 17 * (j + 1) + 3154 * (c2 - c) + 480 * (A2.2.2.2.1.length - A.2.2.2.1.length)) := LO.puP hL3 hP4 h54 rfl
        have hX34 : XF K (fun _ => True) S3 S4 := XF.rf.pu1 hP4 (by decide)
        have hX4 := hX3.xf hX34
        have h134 := hX34.f13 hL3 h133
        have hq4 := hq3.pu hP4 trivial
        have hw4 := wfSetP9 hw2 hnr hpos
        refine BW.pl rfl rfl ?_
        refine BW.stiV rfl rfl (by simp only [List.set, List.all_cons, List.all_nil, g7]; rfl) ?_
        -- the inner orders of a line
        have inner : ∀ (os : List SOrd0) (i c3 : Nat) (A3 : St) (la3 : Int → Nat) (S5 : BS), (∃ pre, o.2 = pre ++ os ∧ pre.length = i) → c ≤ c3 → c3 ≤ 60 → LO S5 K la3 A3 (B + 1000 + 17 * (j + 1) + 3154 * (c3 - c) + 480 * (A3.2.2.2.1.length - A.2.2.2.1.length)) → WF A3 → LaE la la3 A.2.2.2.2.2.2.1 → A.2.2.2.2.2.2.1 ≤ A3.2.2.2.2.2.2.1 → A3.2.2.2.2.2.2.1 + 40 * (60 - (c3 : Int)) < 1900000 → (∃ ex, A3.2.2.2.1 = A.2.2.2.1 ++ ex) → Fi S5 13 (K 1) c3 → XG K (fun _ => True) S S5 → Ob S5 q (oAl (lsOf la xs0) cap) → BW (d + 188) gm_X1_doInner 26 [some (aR (K 1)), some (aR m), some (aI f), some (aI l), some (aR q), some (aI j), some (aI (linNo A2.1 x)), some (aI i)] [] S5 (InX S K la A c B 1700 (match sInn os c3 A3 with
            | .inl w => .inl w
            | .inr (c1, A1) => sEachL o.2 xs c1 A1)) := by
          intro os
          induction os with
          | nil =>
            rintro i c3 A3 la3 S5 ⟨pre2, hp2, hi⟩ hcc3 hc3 hL5 hw5 hE5 hn5 hn6 hex5 h135 hX5 hq5
            have hm5 := hX5.ob hm kq (oNe rfl) rfl
            have h565 := hX5.fe hm kq (oNe rfl) rfl h56 (by decide)
            obtain ⟨-, ys, cap2, hq2', hEl⟩ := hI.xg hX5 hK hL5.1.obx
            have hyl := hEl.1
            have hil : i = ys.length := by rw [hyl, hp2, List.append_nil]; exact hi.symm
            refine BW.alB hq2' (fun hcb => ?_)
            (repeat (first | (refine BW.pl rfl rfl ?_) | (refine CW.geti rfl rfl (by assumption) rfl rfl (by assumption) (fun _ => ?_)) | (refine CW.getr rfl rfl (by assumption) rfl rfl (by assumption) ?_)))
            refine CW.e1 rfl rfl (by first | exact Or.inl rfl | exact Or.inr (tagO (by assumption) (by rfl) (by rfl))) (by first | exact Or.inl (by decide) | exact Or.inr ⟨_, rfl, by assumption⟩) rfl (B_alSize hq2') ?_
            refine BW.br rfl rfl (by first | omega | decide | (constructor <;> first | omega | decide)) (fun w3 => ?_) (fun w3 => by first | (exfalso; omega) | exact absurd w3 (by decide))
            (iterate 2 (refine BW.pl rfl rfl ?_))
            show BW (d + 188) gm_X1_doInner 8 _ _ S5 (InX S K la A c B 1700 (sEachL o.2 xs c3 A3))
            exact ih (j + 1) c3 A3 la3 S5 _ _ rfl rfl hpre' hcc3 hc3 hL5 hw5 hE5 hn5 hn6 hex5 h135 hX5 hq5 _ rfl
          | cons od os ih2 =>
            rintro i c3 A3 la3 S5 ⟨pre2, hp2, hi⟩ hcc3 hc3 hL5 hw5 hE5 hn5 hn6 hex5 h135 hX5 hq5
            have hm5 := hX5.ob hm kq (oNe rfl) rfl
            have h565 := hX5.fe hm kq (oNe rfl) rfl h56 (by decide)
            have hI5 := hI.xg hX5 hK hL5.1.obx
            obtain ⟨-, ys, cap2, hq2', hEl⟩ := hI5
            have hyl := hEl.1
            have hil : i < ys.length := by rw [hyl, hp2, List.length_append, List.length_cons]; omega
            refine BW.alB hq2' (fun hcb => ?_)
            have hodm : od ∈ o.2 := by rw [hp2]; exact List.mem_append_right _ List.mem_cons_self
            obtain ⟨mk, hmk, hO1⟩ := hEl.2 i (by omega)
            have hog : o.2.getD i noOrd0 = od := by rw [hp2, List.getD_eq_getElem?_getD, List.getElem?_append_right (by omega), hi, Nat.sub_self]; rfl
            rw [hog] at hO1
            obtain ⟨hodK, hodP⟩ := hin od hodm
            have hx5 := hL5.1.obx
            have ho5 := hw5.2.2.2.2.2.2.2.1.1
            obtain ⟨ex5, hex5e⟩ := hex5
            have hex5l : A3.2.2.2.1.length = A.2.2.2.1.length + ex5.length := by rw [hex5e, List.length_append]
            have eI : sInn (od :: os) c3 A3 = if c3 = 60 then .inl 7 else match sPlain A3 od with
              | .inl w => .inl w
              | .inr A1 => sInn os (c3 + 1) A1 := rfl
            rw [eI]
            (repeat (first | (refine BW.pl rfl rfl ?_) | (refine CW.geti rfl rfl (by assumption) rfl rfl (by assumption) (fun _ => ?_)) | (refine CW.getr rfl rfl (by assumption) rfl rfl (by assumption) ?_)))
            refine CW.e1 rfl rfl (by first | exact Or.inl rfl | exact Or.inr (tagO (by assumption) (by rfl) (by rfl))) (by first | exact Or.inl (by decide) | exact Or.inr ⟨_, rfl, by assumption⟩) rfl (B_alSize hq2') ?_
            refine BW.br rfl rfl (by first | omega | decide | (constructor <;> first | omega | decide)) (fun w3 => by first | (exfalso; omega) | exact absurd w3 (by decide)) (fun w3 => ?_)
            (repeat (refine BW.pl rfl rfl ?_))
            refine CW.x1 rfl rfl (by first | exact Or.inl rfl | exact Or.inr (tagO (by assumption) (by rfl) (by rfl))) (by first | exact Or.inl (by decide) | exact Or.inr ⟨_, rfl, by assumption⟩) rfl rfl (L_comeTo hL5 h135 hc3) ?_ ?_
            · intro r S6 h6
              by_cases z60 : c3 = 60
              · rw [if_pos z60] at h6
                obtain ⟨q9, e9, _⟩ := h6
                cases e9
              · rw [if_neg z60] at h6 ⊢
                obtain ⟨e6, hL6, hP6, h136⟩ := h6
                cases e6
                have hX6 := hX5.pu hP6
                have hx6 := hL6.1.obx
                have hm6 := hX6.ob hm kq (oNe rfl) rfl
                have h566 := hX6.fe hm kq (oNe rfl) rfl h56 (by decide)
                have hq2'' := hq2'.pu hP6 trivial
                have hq6 := hq5.pu hP6 trivial
                have hO16 := hO1.pu hP6 (fun z => hK _ z 1 (by decide) rfl)
                (repeat (first | (refine BW.pl rfl rfl ?_) | (refine CW.geti rfl rfl (by assumption) rfl rfl (by assumption) (fun _ => ?_)) | (refine CW.getr rfl rfl (by assumption) rfl rfl (by assumption) ?_)))
                refine CW.e2 rfl rfl (by first | exact Or.inl rfl | exact Or.inr (tagO (by assumption) (by rfl) (by rfl))) (by first | exact Or.inl (by decide) | exact Or.inr ⟨_, rfl, by assumption⟩) rfl (C_alGet (k := i) hq2'' hil hmk.1 rfl) ?_
                refine CW.castS rfl hO16.1.2.1 rfl rfl rfl ?_
                have hD : DoC S6 K la3 A3 (B + 1000 + 17 * (j + 1) + 3154 * (c3 - c) + 480 * (A3.2.2.2.1.length - A.2.2.2.1.length) + 34) F zz mk od := ⟨hL6.le (by omega) (by omega), hK, hO16.1, hw5, hodK, by omega, by omega⟩
                refine CW.x2 rfl rfl (by first | exact Or.inl rfl | exact Or.inr (tagO (by assumption) (by rfl) (by rfl))) (by first | exact Or.inl (by decide) | exact Or.inr ⟨_, rfl, by assumption⟩) rfl rfl (L_doPlain (d := d + 1) hD hL6 hodP) ?_ ?_
                · intro r S7 h7
                  obtain rfl := h7.ret0
                  cases hs : sPlain A3 od with
                  | inl w =>
                    rw [hs] at h7
                    obtain ⟨S8, _, _, _, _, _, _, _, q9, e9, _⟩ := h7
                    cases e9
                  | inr A4 =>
                    rw [hs] at h7
                    obtain ⟨_, la4, hL7, hX67, hE7⟩ := h7
                    obtain ⟨lo, lo2, hpo, h48o⟩ := hok od hodm
                    obtain ⟨hw7, hn7, hn8⟩ := wf_plain hw5 hpo h48o hs
                    obtain ⟨ex7, hex7, hpc⟩ := sPlain_O hodP.1 hw5.1.1 hs
                    have hex7l : A4.2.2.2.1.length = A3.2.2.2.1.length + ex7.length := by rw [hex7, List.length_append]
                    have ho7 := hw7.2.2.2.2.2.2.2.1.1
                    (iterate 2 (refine BW.pl rfl rfl ?_))
                    dsimp only
                    exact ih2 (i + 1) (c3 + 1) A4 la4 S7 ⟨pre2 ++ [od], by rw [hp2, List.append_assoc]; rfl, by simp [hi]⟩ (by omega) (by omega) (hL7.le (by omega) (by omega)) hw7 (hE5.tr hE7 hn5) (by omega) (by omega) ⟨ex5 ++ ex7, by rw [hex7, hex5e, List.append_assoc]⟩ (hX67.f13 hL6 h136) (hX6.xf hX67) (hX67.ob hq6 kqq (oNe rfl) rfl).1
                · intro E q9 S7 h7
                  cases hs : sPlain A3 od with
                  | inl w =>
                    rw [hs] at h7
                    exact rfl9 S6 la3 A3 c3 (j + 1) w _ S7 (by omega) hcc3 hc3 ⟨ex5, hex5e⟩ ho5 hE5 hn5 hX6 h7
                  | inr A4 =>
                    rw [hs] at h7
                    cases h7.1
            · intro E q9 S6 h6
              by_cases z60 : c3 = 60
              · rw [if_pos z60] at h6 ⊢
                exact rfl9 S5 la3 A3 c3 (j + 1) 7 _ S6 (by omega) hcc3 hc3 ⟨ex5, hex5e⟩ ho5 hE5 hn5 hX5 ⟨S5, la3, A3, hL5.1.le (by omega) (by omega), XF.rf, LaE.rf, Int.le_refl _, ⟨[], by simp⟩, h6⟩
              · rw [if_neg z60] at h6
                cases h6.1
        exact inner o.2 0 c2 (setP A2 (linNo A2.1 x)) la2 S4 ⟨[], rfl, rfl⟩ hcc hc2 hL4 hw4 hE2 hn2 hn3 hex h134 hX4 hq4
  (iterate 3 (refine BW.pl rfl rfl ?_))
  have e0 : B + 1000 = B + 1000 + 17 * 0 + 3154 * (c - c) + 480 * (A.2.2.2.1.length - A.2.2.2.1.length) := by omega
  exact outer xs0 0 c A la S1 _ _ rfl rfl ⟨[], rfl, rfl⟩ (Nat.le_refl _) hc (by rw [← e0]; exact hL1) hw LaE.rf (Int.le_refl _) hn ⟨[], by simp⟩ (hX1.f13 hL h13) (XG.of hX1) hq1 _ rfl
end DI
