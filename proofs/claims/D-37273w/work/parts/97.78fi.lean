-- C
set_option maxRecDepth 100000
/-! PATTERNS: find -/
/-- tries from a place on; one without signs at a place that is barred is none -/
def fF (pt : SPat) (row : List Int) (bi : Int) : Nat → Nat → Option (Nat × Nat × MG × MG)
  | 0, _ => none
  | k + 1, place => match mAt pt row place with
    | some q => if (q.1 : Int) = place ∧ (place : Int) = bi then fF pt row bi k (place + 1) else some (place, q)
    | none => fF pt row bi k (place + 1)
def PatK (pt : SPat) : Prop := wfp 0 false pt.1 ∧ stars pt.1 ≤ 2 ∧ pt.1.length ≤ 160 ∧ ∀ pp ∈ pt.1, pp.1 < 100 ∧ pp.2.1 < 100
/-- what a search leaves alone -/
def Scr (S S' : BS) : Prop := (∀ m, S.1 m ≠ oNil → S'.1 m ≠ oNil) ∧ (∀ m, S.1 m ≠ oNil → (S'.1 m = S.1 m ∧ ∀ F, F < 91 → ¬ (71 ≤ F ∧ F ≤ 73) → S'.2.1 F m = S.2.1 F m ∧ S'.2.2.1 F m = S.2.2.1 F m) ∨ ∃ us us', S.1 m = oIa us ∧ S'.1 m = oIa us' ∧ us.length = 3 ∧ us'.length = 3) ∧ S'.2.2.2 ≤ S.2.2.2
def Fch (S S' : BS) (p u w : Nat) : Prop := Fr S S' (fun m => m = u ∨ m = w ∨ m = p) 0 ∧ S'.1 p = S.1 p ∧ FlK S S' p [72, 73]
/-- what is known of a pattern that found -/
def FndIs (S : BS) (p : Nat) (pt : SPat) (y pl a : Nat) (b e : MG) : Prop := Fe S 71 p (some y) ∧ Fi S 72 p pl ∧ Fi S 73 p a ∧ ∃ u w us ws, Fe S 69 p (some u) ∧ Fe S 70 p (some w) ∧ ArS S u w us ws ∧ Agr (clo 0 pt.1) false (arr us) b (arr ws) e
def MG0 : MG := fun _ => 0
section FI
variable {d i a n q b m c cap p u w y at' C k : Nat} {b1 : Int} {M : GMeth} {ls : GL} {st : List GV} {xs : List (Option Nat)} {row us ws us1 ws1 : List Int} {S S0 S1 S2 S' : BS} {F W : Nat → Prop} {Q : GO → BS → Prop} {o : Obj} {v : Option GV} {pt : SPat} {pa : SPart} {ps : List SPart} {op : Bool}
theorem fF_none {bi : Int} : ∀ (k place : Nat), pt.2.1 = true → 0 < place → fF pt row bi k place = none := by
  intro k
  induction k with
  | zero => intro place _ _; rfl
  | succ k ih =>
    intro place h1 h2
    unfold fF
    have e : mAt pt row place = none := by unfold mAt; rw [if_pos ⟨h1, h2⟩]
    rw [e]
    exact ih (place + 1) h1 (by omega)
theorem fF_from {bi : Int} : ∀ (k place : Nat), bi < place → fF pt row bi k place = mFrom pt row k place := by
  intro k
  induction k with
  | zero => intro place _; rfl
  | succ k ih =>
    intro place h
    unfold fF mFrom
    cases mAt pt row place with
    | none => exact ih (place + 1) (by omega)
    | some q => dsimp only; rw [if_neg (by omega)]
theorem fF_find {place : Nat} : fF pt row (-1) (row.length + 1 - place) place = mFind pt row place := fF_from _ _ (by omega)
theorem fF_next {e : Nat} (hw : wfp 0 false pt.1) (he : e ≤ row.length) : fF pt row e (row.length + 1 - e) e = mNext pt row e := by
  have e1 : row.length + 1 - e = (row.length - e) + 1 := by omega
  have e2 : row.length - e = row.length + 1 - (e + 1) := by omega
  have hF : fF pt row e (row.length - e) (e + 1) = mFind pt row (e + 1) := by
    unfold mFind
    rw [← e2]
    exact fF_from _ _ (by omega)
  rw [e1]
  unfold fF mNext
  cases hm : mAt pt row e with
  | none => exact hF
  | some q =>
    obtain ⟨q1, q2, q3⟩ := q
    have := mAt_le hw he hm
    dsimp only
    by_cases z : e < q1
    · rw [if_neg (by omega), if_pos z]
    · rw [if_pos (by omega), if_neg z]
      exact hF
theorem Fch.rf : Fch S S p u w := ⟨Fr.rf, rfl, FlK.rf⟩
theorem Fch.tr (h : Fch S S1 p u w) (h2 : Fch S1 S2 p u w) : Fch S S2 p u w := ⟨h.1.tr h2.1 (fun _ _ z => z), h2.2.1.trans h.2.1, h.2.2.tr h2.2.2⟩
theorem Gch.fch (h : Gch S S1 p u w) : Fch S S1 p u w := ⟨h.1, h.2.1, h.2.2.mono (by decide)⟩
theorem Fch.pu (h : Fch S S1 p u w) (hP : Pu S1 S2 72 p) : Fch S S2 p u w := h.tr ⟨hP.fr.w (fun _ _ z => Or.inr (Or.inr z)) (Nat.le_refl _), congrFun hP.1 p, FlK.rf.put hP (by decide)⟩
theorem GpS.fch (h : GpS S F p q u w y xs cap pt row) (ha : ArS S u w us ws) (hG : Fch S S' p u w) : GpS S' F p q u w y xs cap pt row := by
  have hs := h.tags ha
  obtain ⟨h0, h1, h2, h3, h4, h5, h6, h7, h8, h9, h10⟩ := h
  obtain ⟨hF, g1, g2⟩ := hG
  refine ⟨h0, g1.trans h1, g2.fe h2 ⟨by decide, by decide⟩, h3.fr hF ⟨oNe rfl, fun z => ?_⟩, ⟨h4.1, fun j hj => (h4.2 j hj).tag hF hs⟩, g2.fi h5 ⟨by decide, by decide⟩, g2.fi h6 ⟨by decide, by decide⟩, g2.fe h7 ⟨by decide, by decide⟩, g2.fe h8 ⟨by decide, by decide⟩, g2.fe h9 ⟨by decide, by decide⟩, h10.fr hF ⟨oNe rfl, fun z => ?_⟩⟩
  · rcases z with z | z | z
    · exact (h3.ne ha.1 (oNe rfl)) z
    · exact (h3.ne ha.2.2.1 (oNe rfl)) z
    · exact (h3.ne h1 (oNe rfl)) z
  · rcases z with z | z | z
    · exact (h10.ne ha.1 (oNe rfl)) z
    · exact (h10.ne ha.2.2.1 (oNe rfl)) z
    · exact (h10.ne h1 (oNe rfl)) z
/-- what find answers -/
def FnR (S : BS) (F : Nat → Prop) (S' : BS) : Prop := Fr S S' (fun m => F m ∧ ((S.1 m).1 = 9 ∨ S.1 m = oOwn 9)) 0
def FnQ (S : BS) (F : Nat → Prop) (p y : Nat) (pt : SPat) (R : Option (Nat × Nat × MG × MG)) (r : Option GV) (S' : BS) : Prop := (Scr S S' ∧ FnR S F S') ∧ PatIs S' F p pt ∧ match R with
  | none => r = vI 0
  | some (pl, a, b, e) => r = vI 1 ∧ FndIs S' p pt y pl a b e
theorem BMr.up {d' mid : Nat} {as : List GV} {Q : Option GV → BS → Prop} (h : BMr d mid as S Q) (hd : d ≤ d') : BMr d' mid as S Q := fun g hg => GM.mono (h g hg) hd (fun _ _ _ z => z)
theorem BM.up {d' mid : Nat} {as : List GV} {Q : GO → BS → Prop} (h : BM d mid as S Q) (hd : d ≤ d') : BM d' mid as S Q := fun g hg => GM.mono (h g hg) hd (fun _ _ _ z => z)
theorem P_find (hP : PatIs S F p pt) (hK : PatK pt) (hy : Ob S y (oStr row)) (hrl : row.length < 1000) {f0 bi : Int} (hf : f0 = at') (hat : at' ≤ row.length) (hb : -1 ≤ bi ∧ bi < 1000) : BMr (d + 180) gk_X7_find [aR p, aR y, aI f0, aI bi] S (FnQ S F p y pt (fF pt row bi (row.length + 1 - at') at')) := by
  obtain ⟨hKw, hKs, hKl, hKk⟩ := hK
  obtain ⟨q, cap, xs, u, w, us, ws, ⟨f1, f2, f3, f4, f5⟩, h1, h2, h3, h4, h5, h6, h7, h8, ⟨h9, h10⟩, h11, h12⟩ := hP
  subst hf
  refine BM.of rfl rfl rfl ?_
  refine BW.strL hy (fun hys => ?_)
  have hA : ArS S u w us ws := ⟨h9, h10, h11, h12⟩
  (repeat (refine BW.pl rfl rfl ?_))
  first | (refine CW.putr rfl rfl (by assumption) rfl (by decide) (fun S1 hP1 h71 => ?_)) | (refine CW.puti rfl (by assumption) rfl (by decide) (by first | exact Or.inl ⟨rfl, by first | omega | decide | (constructor <;> first | omega | decide)⟩ | exact Or.inr (Or.inl ⟨rfl, by first | omega | decide | (constructor <;> first | omega | decide)⟩) | exact Or.inr (Or.inr (Or.inl ⟨rfl, by first | omega | decide | (constructor <;> first | omega | decide)⟩)) | exact Or.inr (Or.inr (Or.inr ⟨rfl, by first | omega | decide | (constructor <;> first | omega | decide)⟩))) (fun S1 hP1 h71 => ?_))
  have hA1 := hA.pu hP1
  have hxl : xs.length < 1000 := by have := h4.1; omega
  have G1 : GpS S1 F p q u w y xs cap pt row := by
    have pt1 : PtsE S1 F xs pt.1 := ⟨h4.1, fun j hj => (h4.2 j hj).tag hP1.fr (fun m z => by subst z; rw [show S.1 m = oOwn 9 from h1]; exact ⟨ownNe rfl, fun z => absurd (show (11 : Nat) = 1 from z) (by decide)⟩)⟩
    exact ⟨⟨f5, hxl, hrl, hys.2⟩, h1.pu hP1 trivial, h2.pu hP1 (Or.inl (by decide)), h3.pu hP1 trivial, pt1, h5.pu hP1 (Or.inl (by decide)), h6.pu hP1 (Or.inl (by decide)), h7.pu hP1 (Or.inl (by decide)), h8.pu hP1 (Or.inl (by decide)), h71, hy.pu hP1 trivial⟩
  -- the end
  have fin : ∀ (R : Option (Nat × Nat × MG × MG)) (v : Option GV) (S2 : BS) (us2 ws2 : List Int), Fch S1 S2 p u w → ArS S2 u w us2 ws2 → (match R with
      | none => v = vI 0
      | some (pl, a, b, e) => v = vI 1 ∧ Fi S2 72 p pl ∧ Fi S2 73 p a ∧ Agr (clo 0 pt.1) false (arr us2) b (arr ws2) e) → FnQ S F p y pt R v S2 := by
    intro R v S2 us2 ws2 hF2 hA2 hR
    obtain ⟨g0, g1, g2, g3, g4, g5, g6, g7, g8, g9, g10⟩ := G1.fch hA1 hF2
    have hsc : Scr S S2 := by
      refine ⟨fun m hm => hF2.1.1 m (hP1.fr.1 m hm), fun m hm => ?_, ?_⟩
      · have e1 : S1.1 m = S.1 m := congrFun hP1.1 m
        have hm1 : S1.1 m ≠ oNil := by rw [e1]; exact hm
        by_cases zu : m = u
        · subst zu
          exact Or.inr ⟨us, us2, h9, hA2.1, h10, hA2.2.1⟩
        by_cases zw : m = w
        · subst zw
          exact Or.inr ⟨ws, ws2, h11, hA2.2.2.1, h12, hA2.2.2.2⟩
        by_cases zp : m = p
        · subst zp
          refine Or.inl ⟨hF2.2.1.trans e1, fun F hF hn => ?_⟩
          have a1 := hF2.2.2 F hF (fun z => by simp at z; omega)
          have a2 := hP1.2.2 F m (Or.inl (fun z => by omega))
          exact ⟨a1.1.trans a2.1, a1.2.trans a2.2⟩
        · have a1 := hF2.1.2.1 m hm1 (fun z => z.elim zu (fun z => z.elim zw zp))
          refine Or.inl ⟨a1.1.trans e1, fun F hF hn => ?_⟩
          have a2 := hP1.2.2 F m (Or.inr zp)
          exact ⟨(a1.2 F hF).1.trans a2.1, (a1.2 F hF).2.trans a2.2⟩
      · have a1 := hF2.1.2.2
        have a2 := hP1.2.1
        omega
    have hfr : FnR S F S2 := ⟨hsc.1, fun m hm hn => by
      have zu : m ≠ u := fun z => hn (by subst z; exact ⟨f3, Or.inl (by rw [show S.1 m = oIa us from h9]; rfl)⟩)
      have zw : m ≠ w := fun z => hn (by subst z; exact ⟨f4, Or.inl (by rw [show S.1 m = oIa ws from h11]; rfl)⟩)
      have zp : m ≠ p := fun z => hn (by subst z; exact ⟨f1, Or.inr h1⟩)
      have e1 : S1.1 m = S.1 m := congrFun hP1.1 m
      have a1 := hF2.1.2.1 m (by rw [e1]; exact hm) (fun z => z.elim zu (fun z => z.elim zw zp))
      refine ⟨a1.1.trans e1, fun F hF => ?_⟩
      have a2 := hP1.2.2 F m (Or.inr zp)
      exact ⟨(a1.2 F hF).1.trans a2.1, (a1.2 F hF).2.trans a2.2⟩, hsc.2.2⟩
    refine ⟨⟨hsc, hfr⟩, ⟨q, cap, xs, u, w, us2, ws2, ⟨f1, f2, f3, f4, f5⟩, g1, g2, g3, g4, g5, g6, g7, g8, ⟨hA2.1, hA2.2.1⟩, hA2.2.2.1, hA2.2.2.2⟩, ?_⟩
    cases R with
    | none => exact hR
    | some z =>
      obtain ⟨pl, a, b, e⟩ := z
      obtain ⟨r1, r2, r3, r4⟩ := hR
      exact ⟨r1, g9, r2, r3, u, w, us2, ws2, g7, g8, hA2, r4⟩
  have loop : ∀ (L : Int), (pt.2.1 = true → L = 0) → (pt.2.1 = false → L = row.length) → ∀ (n pl : Nat) (S2 : BS) (us2 ws2 : List Int), pl + n = row.length + 1 → Fch S1 S2 p u w → ArS S2 u w us2 ws2 → Fi S2 72 p pl → fF pt row bi (row.length + 1 - at') at' = fF pt row bi n pl → BW (d + 179) gm_X7_find 14 [some (aR p), some (aR y), some (aI at'), some (aI bi), some (aI L)] [] S2 (fun r S' => ∃ v, r = .inl v ∧ FnQ S F p y pt (fF pt row bi (row.length + 1 - at') at') v S') := by
    intro L hL1 hL2 n
    induction n with
    | zero =>
      intro pl S2 us2 ws2 hn hF2 hA2 h72 hR
      obtain ⟨g0, g1, g2, g3, g4, g5, g6, g7, g8, g9, g10⟩ := G1.fch hA1 hF2
      have hL : L = 0 ∨ L = row.length := by cases hp : pt.2.1 with | true => exact Or.inl (hL1 hp) | false => exact Or.inr (hL2 hp)
      (repeat (first | (refine BW.pl rfl rfl ?_) | (refine CW.geti rfl rfl (by assumption) rfl rfl (by assumption) (fun _ => ?_)) | (refine CW.getr rfl rfl (by assumption) rfl rfl (by assumption) ?_)))
      refine BW.br rfl rfl (by first | omega | decide | (constructor <;> first | omega | decide)) (fun w1 => ?_) (fun w1 => by first | (exfalso; omega) | exact absurd w1 (by decide))
      (repeat (refine BW.pl rfl rfl ?_))
      exact BW.irx rfl (Or.inr (Or.inl ⟨rfl, Or.inl rfl⟩)) ⟨_, rfl, by rw [hR]; exact fin none _ S2 us2 ws2 hF2 hA2 rfl⟩
    | succ n ih =>
      intro pl S2 us2 ws2 hn hF2 hA2 h72 hR
      have G2 := G1.fch hA1 hF2
      obtain ⟨g0, g1, g2, g3, g4, g5, g6, g7, g8, g9, g10⟩ := G2
      have hL : L = 0 ∨ L = row.length := by cases hp : pt.2.1 with | true => exact Or.inl (hL1 hp) | false => exact Or.inr (hL2 hp)
      by_cases zL : L < (pl : Int)
      · have hp : pt.2.1 = true := by
          cases hp : pt.2.1 with
          | true => rfl
          | false => exfalso; have := hL2 hp; omega
        have hL0 := hL1 hp
        (repeat (first | (refine BW.pl rfl rfl ?_) | (refine CW.geti rfl rfl (by assumption) rfl rfl (by assumption) (fun _ => ?_)) | (refine CW.getr rfl rfl (by assumption) rfl rfl (by assumption) ?_)))
        refine BW.br rfl rfl (by first | omega | decide | (constructor <;> first | omega | decide)) (fun w1 => ?_) (fun w1 => by first | (exfalso; omega) | exact absurd w1 (by decide))
        (repeat (refine BW.pl rfl rfl ?_))
        exact BW.irx rfl (Or.inr (Or.inl ⟨rfl, Or.inl rfl⟩)) ⟨_, rfl, by rw [hR, fF_none (n + 1) pl hp (by omega)]; exact fin none _ S2 us2 ws2 hF2 hA2 rfl⟩
      · have hfst : ¬ (pt.2.1 = true ∧ 0 < pl) := fun z => by have := hL1 z.1; omega
        have hma := sGo_mAt (row := row) hKs (show pl ≤ row.length by omega) hfst
        have hag : Agr 0 false (arr us2) MG0 (arr ws2) MG0 := ⟨fun n n1 n2 => by omega, fun z => by cases z⟩
        have hao := sGo_agr (row := row) (lst := pt.2.2) pt.1 0 false pl _ _ _ _ hKw hag
        have hma : sGo row pt.2.2 pt.1 pl MG0 MG0 = mAt pt row pl := hma
        rw [hma] at hao
        have go := (P_goesOn (pt := pt) (F := F) (q := q) (y := y) (xs := xs) (cap := cap) (row := row) pt.1 d 0 0 pl false us2 ws2 S2 0 pl rfl rfl (Nat.zero_le _) rfl hKw (by decide) ⟨fun n n1 n2 => by omega, fun z => by cases z⟩ (by omega) (G1.fch hA1 hF2) hA2 hKk).up (show d + pt.1.length + 7 ≤ d + 179 by omega)
        (repeat (first | (refine BW.pl rfl rfl ?_) | (refine CW.geti rfl rfl (by assumption) rfl rfl (by assumption) (fun _ => ?_)) | (refine CW.getr rfl rfl (by assumption) rfl rfl (by assumption) ?_)))
        refine BW.br rfl rfl (by first | omega | decide | (constructor <;> first | omega | decide)) (fun w1 => by first | (exfalso; omega) | exact absurd w1 (by decide)) (fun w1 => ?_)
        (repeat (first | (refine BW.pl rfl rfl ?_) | (refine CW.geti rfl rfl (by assumption) rfl rfl (by assumption) (fun _ => ?_)) | (refine CW.getr rfl rfl (by assumption) rfl rfl (by assumption) ?_)))
        refine CW.c3 rfl rfl (by first | exact Or.inl rfl | exact Or.inr (tagO (by assumption) (by rfl) (by rfl))) (by first | exact Or.inl (by decide) | exact Or.inr ⟨_, rfl, by assumption⟩) rfl (go) ?_
        rintro v S3 ⟨hG3, us3, ws3, hA3, hag3, hq⟩
        have hF3 := hF2.tr hG3.fch
        have h72 := hG3.2.2.fi h72 ⟨by decide, by decide⟩
        obtain ⟨g0, g1, g2, g3, g4, g5, g6, g7, g8, g9, g10⟩ := G1.fch hA1 hF3
        have on : fF pt row bi (n + 1) pl = fF pt row bi n (pl + 1) → BW (d + 179) gm_X7_find 35 [some (aR p), some (aR y), some (aI at'), some (aI bi), some (aI L)] [] S3 (fun r S' => ∃ v, r = .inl v ∧ FnQ S F p y pt (fF pt row bi (row.length + 1 - at') at') v S') := fun e => by
          (repeat (first | (refine BW.pl rfl rfl ?_) | (refine CW.geti rfl rfl (by assumption) rfl rfl (by assumption) (fun _ => ?_)) | (refine CW.getr rfl rfl (by assumption) rfl rfl (by assumption) ?_)))
          first | (refine CW.putr rfl rfl (by assumption) rfl (by decide) (fun S4 hP4 h72 => ?_)) | (refine CW.puti rfl (by assumption) rfl (by decide) (by first | exact Or.inl ⟨rfl, by first | omega | decide | (constructor <;> first | omega | decide)⟩ | exact Or.inr (Or.inl ⟨rfl, by first | omega | decide | (constructor <;> first | omega | decide)⟩) | exact Or.inr (Or.inr (Or.inl ⟨rfl, by first | omega | decide | (constructor <;> first | omega | decide)⟩)) | exact Or.inr (Or.inr (Or.inr ⟨rfl, by first | omega | decide | (constructor <;> first | omega | decide)⟩))) (fun S4 hP4 h72 => ?_))
          (iterate 1 (refine BW.pl rfl rfl ?_))
          exact ih (pl + 1) S4 us3 ws3 (by omega) (hF3.pu hP4) (hA3.pu hP4) h72 (by rw [hR, e])
        cases e : sGo row pt.2.2 pt.1 pl (arr us2) (arr ws2) with
        | none =>
          rw [e] at hq hao
          subst hq
          have em : mAt pt row pl = none := by
            cases e2 : mAt pt row pl with
            | none => rfl
            | some z => obtain ⟨z1, z2, z3⟩ := z; rw [e2] at hao; exact hao.elim
          refine BW.br rfl rfl (by first | omega | decide | (constructor <;> first | omega | decide)) (fun w2 => ?_) (fun w2 => by first | (exfalso; omega) | exact absurd w2 (by decide))
          refine on ?_
          conv => lhs; unfold fF
          rw [em]
        | some x =>
          obtain ⟨x1, x2, x3⟩ := x
          rw [e] at hq hao
          obtain ⟨rfl, h73, hag4⟩ := hq
          cases e2 : mAt pt row pl with
          | none => rw [e2] at hao; exact hao.elim
          | some z =>
            obtain ⟨z1, z2, z3⟩ := z
            rw [e2] at hao
            obtain ⟨rfl, hag5⟩ := hao
            have hxl := mAt_le hKw (show pl ≤ row.length by omega) e2
            have em : fF pt row bi (n + 1) pl = if (x1 : Int) = pl ∧ (pl : Int) = bi then fF pt row bi n (pl + 1) else some (pl, x1, z2, z3) := by
              conv => lhs; unfold fF
              rw [e2]
            have done : ¬ ((x1 : Int) = pl ∧ (pl : Int) = bi) → FnQ S F p y pt (fF pt row bi (row.length + 1 - at') at') (vI 1) S3 := fun zz => by
              rw [hR, em, if_neg zz]
              exact fin (some (pl, x1, z2, z3)) _ S3 us3 ws3 hF3 hA3 ⟨rfl, h72, h73, hag4.tr hag5⟩
            refine BW.br rfl rfl (by first | omega | decide | (constructor <;> first | omega | decide)) (fun w2 => by first | (exfalso; omega) | exact absurd w2 (by decide)) (fun w2 => ?_)
            (repeat (first | (refine BW.pl rfl rfl ?_) | (refine CW.geti rfl rfl (by assumption) rfl rfl (by assumption) (fun _ => ?_)) | (refine CW.getr rfl rfl (by assumption) rfl rfl (by assumption) ?_)))
            by_cases z1 : (x1 : Int) = pl
            · refine BW.br rfl rfl (by first | omega | decide | (constructor <;> first | omega | decide)) (fun w3 => by first | (exfalso; omega) | exact absurd w3 (by decide)) (fun w3 => ?_)
              (repeat (first | (refine BW.pl rfl rfl ?_) | (refine CW.geti rfl rfl (by assumption) rfl rfl (by assumption) (fun _ => ?_)) | (refine CW.getr rfl rfl (by assumption) rfl rfl (by assumption) ?_)))
              by_cases z2 : (pl : Int) = bi
              · refine BW.br rfl rfl (by first | omega | decide | (constructor <;> first | omega | decide)) (fun w4 => ?_) (fun w4 => by first | (exfalso; omega) | exact absurd w4 (by decide))
                exact on (by rw [em, if_pos ⟨z1, z2⟩])
              · refine BW.br rfl rfl (by first | omega | decide | (constructor <;> first | omega | decide)) (fun w4 => by first | (exfalso; omega) | exact absurd w4 (by decide)) (fun w4 => ?_)
                (repeat (refine BW.pl rfl rfl ?_))
                exact BW.irx rfl (Or.inr (Or.inl ⟨rfl, Or.inr rfl⟩)) ⟨_, rfl, done (fun z => z2 z.2)⟩
            · refine BW.br rfl rfl (by first | omega | decide | (constructor <;> first | omega | decide)) (fun w3 => ?_) (fun w3 => by first | (exfalso; omega) | exact absurd w3 (by decide))
              (repeat (refine BW.pl rfl rfl ?_))
              exact BW.irx rfl (Or.inr (Or.inl ⟨rfl, Or.inr rfl⟩)) ⟨_, rfl, done (fun z => z1 z.1)⟩
  obtain ⟨g0, g1, g2, g3, g4, g5, g6, g7, g8, g9, g10⟩ := G1
  have G1 : GpS S1 F p q u w y xs cap pt row := ⟨g0, g1, g2, g3, g4, g5, g6, g7, g8, g9, g10⟩
  cases hp : pt.2.1 with
  | true =>
    rw [hp] at g5
    have g5 : Fi S1 67 p 1 := g5
    (repeat (first | (refine BW.pl rfl rfl ?_) | (refine CW.geti rfl rfl (by assumption) rfl rfl (by assumption) (fun _ => ?_)) | (refine CW.getr rfl rfl (by assumption) rfl rfl (by assumption) ?_)))
    refine BW.br rfl rfl (by first | omega | decide | (constructor <;> first | omega | decide)) (fun w0 => by first | (exfalso; omega) | exact absurd w0 (by decide)) (fun w0 => ?_)
    (repeat (refine BW.pl rfl rfl ?_))
    first | (refine CW.putr rfl rfl (by assumption) rfl (by decide) (fun S2 hP2 h72 => ?_)) | (refine CW.puti rfl (by assumption) rfl (by decide) (by first | exact Or.inl ⟨rfl, by first | omega | decide | (constructor <;> first | omega | decide)⟩ | exact Or.inr (Or.inl ⟨rfl, by first | omega | decide | (constructor <;> first | omega | decide)⟩) | exact Or.inr (Or.inr (Or.inl ⟨rfl, by first | omega | decide | (constructor <;> first | omega | decide)⟩)) | exact Or.inr (Or.inr (Or.inr ⟨rfl, by first | omega | decide | (constructor <;> first | omega | decide)⟩))) (fun S2 hP2 h72 => ?_))
    exact loop 0 (fun _ => rfl) (fun z => by rw [hp] at z; cases z) (row.length + 1 - at') at' S2 us ws (by omega) (Fch.rf.pu hP2) (hA1.pu hP2) h72 rfl
  | false =>
    rw [hp] at g5
    have g5 : Fi S1 67 p 0 := g5
    (repeat (first | (refine BW.pl rfl rfl ?_) | (refine CW.geti rfl rfl (by assumption) rfl rfl (by assumption) (fun _ => ?_)) | (refine CW.getr rfl rfl (by assumption) rfl rfl (by assumption) ?_)))
    refine BW.br rfl rfl (by first | omega | decide | (constructor <;> first | omega | decide)) (fun w0 => ?_) (fun w0 => by first | (exfalso; omega) | exact absurd w0 (by decide))
    (repeat (refine BW.pl rfl rfl ?_))
    refine CW.e1 rfl rfl (by first | exact Or.inl rfl | exact Or.inr (tagO (by assumption) (by rfl) (by rfl))) (by first | exact Or.inl (by decide) | exact Or.inr ⟨_, rfl, by assumption⟩) rfl (B_slen g10) ?_
    (repeat (refine BW.pl rfl rfl ?_))
    first | (refine CW.putr rfl rfl (by assumption) rfl (by decide) (fun S2 hP2 h72 => ?_)) | (refine CW.puti rfl (by assumption) rfl (by decide) (by first | exact Or.inl ⟨rfl, by first | omega | decide | (constructor <;> first | omega | decide)⟩ | exact Or.inr (Or.inl ⟨rfl, by first | omega | decide | (constructor <;> first | omega | decide)⟩) | exact Or.inr (Or.inr (Or.inl ⟨rfl, by first | omega | decide | (constructor <;> first | omega | decide)⟩)) | exact Or.inr (Or.inr (Or.inr ⟨rfl, by first | omega | decide | (constructor <;> first | omega | decide)⟩))) (fun S2 hP2 h72 => ?_))
    exact loop row.length (fun z => by rw [hp] at z; cases z) (fun _ => rfl) (row.length + 1 - at') at' S2 us ws (by omega) (Fch.rf.pu hP2) (hA1.pu hP2) h72 rfl
theorem P_isIn (hP : PatIs S F p pt) (hK : PatK pt) (hy : Ob S y (oStr row)) (hrl : row.length < 1000) : BMr (d + 181) gk_X7_isIn [aR p, aR y] S (fun r S' => (Scr S S' ∧ FnR S F S') ∧ PatIs S' F p pt ∧ r = vI (if (mFind pt row 0).isSome = true then 1 else 0)) := by
  refine BM.of rfl rfl rfl ?_
  have hp : Ob S p (oOwn 9) := by obtain ⟨q, cap, xs, u, w, us, ws, _, h, _⟩ := hP; exact h
  (repeat (refine BW.pl rfl rfl ?_))
  refine CW.c4 rfl rfl (by first | exact Or.inl rfl | exact Or.inr (tagO (by assumption) (by rfl) (by rfl))) (by first | exact Or.inl (by decide) | exact Or.inr ⟨_, rfl, by assumption⟩) rfl (P_find (at' := 0) hP hK hy hrl rfl (Nat.zero_le _) ⟨by decide, by decide⟩) ?_
  rintro v S1 ⟨h1, h2, h3⟩
  have e : fF pt row (-1) (row.length + 1 - 0) 0 = mFind pt row 0 := fF_find
  rw [e] at h3
  cases hm : mFind pt row 0 with
  | none =>
    rw [hm] at h3
    subst h3
    exact BW.irx rfl (Or.inr (Or.inl ⟨rfl, Or.inl rfl⟩)) ⟨_, rfl, h1, h2, rfl⟩
  | some z =>
    obtain ⟨z1, z2, z3, z4⟩ := z
    rw [hm] at h3
    obtain ⟨rfl, _⟩ := h3
    exact BW.irx rfl (Or.inr (Or.inl ⟨rfl, Or.inr rfl⟩)) ⟨_, rfl, h1, h2, rfl⟩
end FI
