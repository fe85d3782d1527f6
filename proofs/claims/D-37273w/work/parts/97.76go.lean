-- C
set_option maxRecDepth 100000
/-! PATTERNS: goesOn -/
def arr (us : List Int) : MG := fun k => us.getD k 0
/-- the pattern p (parts in q, groups in u and w, the row y) -/
def GpS (S : BS) (F : Nat → Prop) (p q u w y : Nat) (xs : List (Option Nat)) (cap : Nat) (pt : SPat) (row : List Int) : Prop := (u ≠ w ∧ xs.length < 1000 ∧ row.length < 1000 ∧ (∀ c ∈ row, 0 ≤ c ∧ c < 128)) ∧ Ob S p (oOwn 9) ∧ Fe S 66 p (some q) ∧ Ob S q (oAl xs cap) ∧ PtsE S F xs pt.1 ∧ Fi S 67 p (b2i pt.2.1) ∧ Fi S 68 p (b2i pt.2.2) ∧ Fe S 69 p (some u) ∧ Fe S 70 p (some w) ∧ Fe S 71 p (some y) ∧ Ob S y (oStr row)
def ArS (S : BS) (u w : Nat) (us ws : List Int) : Prop := Ob S u (oIa us) ∧ us.length = 3 ∧ Ob S w (oIa ws) ∧ ws.length = 3
/-- what the search may change -/
def Gch (S S' : BS) (p u w : Nat) : Prop := Fr S S' (fun m => m = u ∨ m = w ∨ m = p) 0 ∧ S'.1 p = S.1 p ∧ FlK S S' p [73]
section GO
variable {d i a n q b m c cap p u w y at' C k : Nat} {b1 : Int} {M : GMeth} {ls : GL} {st : List GV} {xs : List (Option Nat)} {row us ws us1 ws1 : List Int} {S S0 S1 S2 S' : BS} {F W : Nat → Prop} {Q : GO → BS → Prop} {o : Obj} {r : Option Nat} {pt : SPat} {pa : SPart} {op : Bool}
theorem C_alGet (hn : Ob S n (oAl xs cap)) (hk : k < xs.length) (hr : xs.getD k none = r) {x : Int} (hx : x = k) : BE (d + 3) gk_J6_get [aR n, aI x] S (vR r) := by
  subst hx hr
  obtain ⟨H, fi, fr, t⟩ := S
  exact B_alGet (d := d) hn ⟨by omega, by omega⟩
theorem Gch.rf : Gch S S p u w := ⟨Fr.rf, rfl, FlK.rf⟩
theorem Gch.tr (h : Gch S S1 p u w) (h2 : Gch S1 S2 p u w) : Gch S S2 p u w := ⟨h.1.tr h2.1 (fun _ _ z => z), h2.2.1.trans h.2.1, h.2.2.tr h2.2.2⟩
theorem Gch.pu (h : Gch S S1 p u w) (hP : Pu S1 S2 73 p) : Gch S S2 p u w := h.tr ⟨hP.fr.w (fun _ _ z => Or.inr (Or.inr z)) (Nat.le_refl _), congrFun hP.1 p, FlK.rf.put hP (by decide)⟩
theorem Gch.ar (h : Gch S S1 p u w) (hF : Fr1 S1 S2 n 0) (hn : n = u ∨ n = w) (hp : Ob S1 p o) (ho : o ≠ oNil) (hpn : p ≠ n) : Gch S S2 p u w := h.tr ⟨hF.w (fun _ _ z => by rw [z]; exact hn.imp id Or.inl) (Nat.le_refl _), (hF.2.1 p (hp.old ho) hpn).1, FlK.rf.fr hF ⟨hp.old ho, hpn⟩⟩
theorem PartF.tag {pp : SPart} (h : PartF S F r pp) (hF : Fr S S' W c) (hs : ∀ m, W m → S.1 m ≠ oOwn 8 ∧ (S.1 m).1 ≠ 1) : PartF S' F r pp := by
  obtain ⟨m, x, h1, h2, h3, h4, h5, h6, h7, h8⟩ := h
  have e := h3.old (oNe rfl)
  have sp : Sep S W m := fun z => (hs m z).1 h3
  exact ⟨m, x, h1, h2, h3.fr hF ⟨oNe rfl, sp⟩, h4.fr hF ⟨⟨e, by decide⟩, sp⟩, h5.fr hF ⟨⟨e, by decide⟩, sp⟩, h6.fr hF ⟨⟨e, by decide⟩, sp⟩, h7.fr hF (fun m z => (hs m z).2), h8.fr hF ⟨⟨e, by decide⟩, sp⟩⟩
theorem GpS.tags (h : GpS S F p q u w y xs cap pt row) (ha : ArS S u w us ws) : ∀ m, (m = u ∨ m = w ∨ m = p) → S.1 m ≠ oOwn 8 ∧ (S.1 m).1 ≠ 1 := fun m z => by
  have a1 : S.1 u = oIa us := ha.1
  have a2 : S.1 w = oIa ws := ha.2.2.1
  have a3 : S.1 p = oOwn 9 := h.2.1
  rcases z with rfl | rfl | rfl
  · rw [a1]; exact ⟨oNe rfl, fun z => absurd (show (9 : Nat) = 1 from z) (by decide)⟩
  · rw [a2]; exact ⟨oNe rfl, fun z => absurd (show (9 : Nat) = 1 from z) (by decide)⟩
  · rw [a3]; exact ⟨ownNe rfl, by decide⟩
theorem GpS.ch (h : GpS S F p q u w y xs cap pt row) (ha : ArS S u w us ws) (hG : Gch S S' p u w) : GpS S' F p q u w y xs cap pt row := by
  have hs := h.tags ha
  obtain ⟨h0, h1, h2, h3, h4, h5, h6, h7, h8, h9, h10⟩ := h
  obtain ⟨hF, g1, g2⟩ := hG
  refine ⟨h0, g1.trans h1, g2.fe h2 ⟨by decide, by decide⟩, h3.fr hF ⟨oNe rfl, fun z => ?_⟩, ⟨h4.1, fun j hj => (h4.2 j hj).tag hF hs⟩, g2.fi h5 ⟨by decide, by decide⟩, g2.fi h6 ⟨by decide, by decide⟩, g2.fe h7 ⟨by decide, by decide⟩, g2.fe h8 ⟨by decide, by decide⟩, g2.fe h9 ⟨by decide, by decide⟩, h10.fr hF ⟨oNe rfl, fun z => ?_⟩⟩
  · rcases z with z | z | z
    · exact (h3.ne ha.1 (oNe rfl)) z
    · exact (h3.ne ha.2.2.1 (oNe rfl)) z
    · exact (h3.ne h1 (oNe rfl)) z
  · rcases z with z | z | z
    · exact (h10.ne ha.1 (oNe rfl)) z
    · exact (h10.ne ha.2.2.1 (oNe rfl)) z
    · exact (h10.ne h1 (oNe rfl)) z
theorem arrM_set {x : Int} (h : k < us.length) : arr (us.set k x) = fun j => if j = k then x else arr us j := by
  funext j
  exact getD_set us x 0 h
/-- a string's length and its signs -/
theorem BW.strL {s : List Int} (hn : Ob S n (oStr s)) (kk : s.length < 65536 ∧ (∀ x ∈ s, 0 ≤ x ∧ x < 128) → BW d M i ls st S Q) : BW d M i ls st S Q := by
  obtain ⟨H, fi, fr, t⟩ := S
  rintro g ⟨ρ, ν, hR⟩ hW
  obtain ⟨a, h1, -⟩ := hR.str hW hn
  have h2 := h1.2.2.2
  exact kk ⟨by have := hW.2.2.2.2 a; rw [h2.2.1] at this; exact this, h2.2.2.2.2⟩ g ⟨ρ, ν, hR⟩ hW
/-- fits -/
theorem P_fits (h : GpS S F p q u w y xs cap pt row) (hm : PartF S F (some m) pa) (hat : at' ≤ row.length) {x : Int} (hx : x = at') : BE (d + 5) gk_X7_fits [aR p, aR m, aI x] S (vI (if at' < row.length ∧ mFit pa.1 pa.2.2.1 pa.2.2.2 (row.getD at' 0) = true then 1 else 0)) := by
  obtain ⟨h0, h1, h2, h3, h4, h5, h6, h7, h8, h9, h10⟩ := h
  obtain ⟨m', sx, e, g1, g2, g3, g4, g5, ⟨sy, rfl, g6⟩, g7⟩ := hm
  cases e
  have h0l := h0.2.2.1
  refine BM.of rfl rfl rfl ?_
  (repeat (first | (refine BW.pl rfl rfl ?_) | (refine CW.geti rfl rfl (by assumption) rfl rfl (by assumption) (fun _ => ?_)) | (refine CW.getr rfl rfl (by assumption) rfl rfl (by assumption) ?_)))
  refine CW.e1 rfl rfl (by first | exact Or.inl rfl | exact Or.inr (tagO (by assumption) (by rfl) (by rfl))) (by first | exact Or.inl (by decide) | exact Or.inr ⟨_, rfl, by assumption⟩) rfl (B_slen (d := d + 2) h10) ?_
  by_cases z : at' < row.length
  · refine BW.br rfl rfl (by first | omega | decide | (constructor <;> first | omega | decide)) (fun w1 => ?_) (fun w1 => by first | (exfalso; omega) | exact absurd w1 (by decide))
    (repeat (first | (refine BW.pl rfl rfl ?_) | (refine CW.geti rfl rfl (by assumption) rfl rfl (by assumption) (fun _ => ?_)) | (refine CW.getr rfl rfl (by assumption) rfl rfl (by assumption) ?_)))
    refine CW.e2 rfl rfl (by first | exact Or.inl rfl | exact Or.inr (tagO (by assumption) (by rfl) (by rfl))) (by first | exact Or.inl (by decide) | exact Or.inr ⟨_, rfl, by assumption⟩) rfl (B_schar (d := d) h10 ⟨by omega, by omega⟩) ?_
    have ec : row.getD x.toNat 0 = row.getD at' 0 := by rw [hx]; rfl
    rw [ec]
    have hcm : row.getD at' 0 ∈ row := by rw [List.getD_eq_getElem?_getD, List.getElem?_eq_getElem z]; exact List.getElem_mem z
    have hcR := h0.2.2.2 _ hcm
    generalize row.getD at' 0 = ch at hcR
    have hb := b2i_R pa.2.2.2
    (repeat (first | (refine BW.pl rfl rfl ?_) | (refine CW.geti rfl rfl (by assumption) rfl rfl (by assumption) (fun _ => ?_)) | (refine CW.getr rfl rfl (by assumption) rfl rfl (by assumption) ?_)))
    by_cases z2 : pa.1 = 1
    · refine BW.br rfl rfl (by first | omega | decide | (constructor <;> first | omega | decide)) (fun w2 => ?_) (fun w2 => by first | (exfalso; omega) | exact absurd w2 (by decide))
      (repeat (refine BW.pl rfl rfl ?_))
      exact BW.irx rfl (Or.inr (Or.inl ⟨rfl, Or.inr rfl⟩)) ⟨_, rfl, by rw [if_pos ⟨z, by unfold mFit; rw [if_pos z2]⟩], rfl⟩
    · refine BW.br rfl rfl (by first | omega | decide | (constructor <;> first | omega | decide)) (fun w2 => by first | (exfalso; omega) | exact absurd w2 (by decide)) (fun w2 => ?_)
      (repeat (first | (refine BW.pl rfl rfl ?_) | (refine CW.geti rfl rfl (by assumption) rfl rfl (by assumption) (fun _ => ?_)) | (refine CW.getr rfl rfl (by assumption) rfl rfl (by assumption) ?_)))
      refine CW.e2 rfl rfl (by first | exact Or.inl rfl | exact Or.inr (tagO (by assumption) (by rfl) (by rfl))) (by first | exact Or.inl (by decide) | exact Or.inr ⟨_, rfl, by assumption⟩) rfl (B_sidx (d := d) g6 hcR) ?_
      refine BW.strL g6 (fun hsl => ?_)
      have hi := sidx_R ch pa.2.2.1 0 (by decide)
      have hmem := sidx_mem ch pa.2.2.1 0 (Int.le_refl _)
      have hcon : pa.2.2.1.contains ch = decide (ch ∈ pa.2.2.1) := by
        rw [List.contains_eq_mem]
      (repeat (refine BW.pl rfl rfl ?_))
      by_cases z3 : ch ∈ pa.2.2.1
      · have z4 := hmem.mpr z3
        refine BW.br rfl rfl (by first | omega | decide | (constructor <;> first | omega | decide)) (fun w3 => by first | (exfalso; omega) | exact absurd w3 (by decide)) (fun w3 => ?_)
        (repeat (first | (refine BW.pl rfl rfl ?_) | (refine CW.geti rfl rfl (by assumption) rfl rfl (by assumption) (fun _ => ?_)) | (refine CW.getr rfl rfl (by assumption) rfl rfl (by assumption) ?_)))
        cases hneg : pa.2.2.2 with
        | true =>
          rw [hneg] at g7 hb
          (repeat (first | (refine BW.pl rfl rfl ?_) | (refine CW.geti rfl rfl (by assumption) rfl rfl (by assumption) (fun _ => ?_)) | (refine CW.getr rfl rfl (by assumption) rfl rfl (by assumption) ?_)))
          refine BW.br rfl rfl (by first | omega | decide | (constructor <;> first | omega | decide)) (fun w4 => ?_) (fun w4 => by first | (exfalso; omega) | exact absurd w4 (by decide))
          (repeat (refine BW.pl rfl rfl ?_))
          exact BW.irx rfl (Or.inr (Or.inl ⟨rfl, Or.inl rfl⟩)) ⟨_, rfl, by rw [if_neg (fun zz => by have := zz.2; unfold mFit at this; rw [if_neg z2, hcon, decide_eq_true z3] at this; revert this; decide)], rfl⟩
        | false =>
          rw [hneg] at g7 hb
          (repeat (first | (refine BW.pl rfl rfl ?_) | (refine CW.geti rfl rfl (by assumption) rfl rfl (by assumption) (fun _ => ?_)) | (refine CW.getr rfl rfl (by assumption) rfl rfl (by assumption) ?_)))
          refine BW.br rfl rfl (by first | omega | decide | (constructor <;> first | omega | decide)) (fun w4 => by first | (exfalso; omega) | exact absurd w4 (by decide)) (fun w4 => ?_)
          (repeat (refine BW.pl rfl rfl ?_))
          exact BW.irx rfl (Or.inr (Or.inl ⟨rfl, Or.inr rfl⟩)) ⟨_, rfl, by rw [if_pos ⟨z, by unfold mFit; rw [if_neg z2, hcon, decide_eq_true z3]; rfl⟩], rfl⟩
      · have z4 : ¬ 0 ≤ sidx ch pa.2.2.1 0 := fun zz => z3 (hmem.mp zz)
        refine BW.br rfl rfl (by first | omega | decide | (constructor <;> first | omega | decide)) (fun w3 => ?_) (fun w3 => by first | (exfalso; omega) | exact absurd w3 (by decide))
        (repeat (first | (refine BW.pl rfl rfl ?_) | (refine CW.geti rfl rfl (by assumption) rfl rfl (by assumption) (fun _ => ?_)) | (refine CW.getr rfl rfl (by assumption) rfl rfl (by assumption) ?_)))
        cases hneg : pa.2.2.2 with
        | true =>
          rw [hneg] at g7 hb
          (repeat (first | (refine BW.pl rfl rfl ?_) | (refine CW.geti rfl rfl (by assumption) rfl rfl (by assumption) (fun _ => ?_)) | (refine CW.getr rfl rfl (by assumption) rfl rfl (by assumption) ?_)))
          refine BW.br rfl rfl (by first | omega | decide | (constructor <;> first | omega | decide)) (fun w4 => by first | (exfalso; omega) | exact absurd w4 (by decide)) (fun w4 => ?_)
          (repeat (refine BW.pl rfl rfl ?_))
          exact BW.irx rfl (Or.inr (Or.inl ⟨rfl, Or.inr rfl⟩)) ⟨_, rfl, by rw [if_pos ⟨z, by unfold mFit; rw [if_neg z2, hcon, decide_eq_false z3]; rfl⟩], rfl⟩
        | false =>
          rw [hneg] at g7 hb
          (repeat (first | (refine BW.pl rfl rfl ?_) | (refine CW.geti rfl rfl (by assumption) rfl rfl (by assumption) (fun _ => ?_)) | (refine CW.getr rfl rfl (by assumption) rfl rfl (by assumption) ?_)))
          refine BW.br rfl rfl (by first | omega | decide | (constructor <;> first | omega | decide)) (fun w4 => ?_) (fun w4 => by first | (exfalso; omega) | exact absurd w4 (by decide))
          (repeat (refine BW.pl rfl rfl ?_))
          exact BW.irx rfl (Or.inr (Or.inl ⟨rfl, Or.inl rfl⟩)) ⟨_, rfl, by rw [if_neg (fun zz => by have := zz.2; unfold mFit at this; rw [if_neg z2, hcon, decide_eq_false z3] at this; revert this; decide)], rfl⟩
  · refine BW.br rfl rfl (by first | omega | decide | (constructor <;> first | omega | decide)) (fun w1 => by first | (exfalso; omega) | exact absurd w1 (by decide)) (fun w1 => ?_)
    (repeat (refine BW.pl rfl rfl ?_))
    exact BW.irx rfl (Or.inr (Or.inl ⟨rfl, Or.inl rfl⟩)) ⟨_, rfl, by rw [if_neg (fun zz => z zz.1)], rfl⟩
/-- what the search from parts on answers -/
def GsQ (S : BS) (p u w : Nat) (C : Nat) (op : Bool) (ps : List SPart) (us ws : List Int) (R : Option (Nat × MG × MG)) (r : Option GV) (S' : BS) : Prop := Gch S S' p u w ∧ ∃ us' ws', ArS S' u w us' ws' ∧ Agr C op (arr us') (arr us) (arr ws') (arr ws) ∧ match R with
  | none => r = vI 0
  | some (a, b, e) => r = vI 1 ∧ Fi S' 73 p a ∧ Agr (clo C ps) false (arr us') b (arr ws') e
theorem Agr.rf {b e : MG} : Agr C op b b e e := ⟨fun _ _ _ => ⟨rfl, rfl⟩, fun _ => rfl⟩
theorem Agr.tr {b b1 b2 e e1 e2 : MG} (h : Agr C op b b1 e e1) (h2 : Agr C op b1 b2 e1 e2) : Agr C op b b2 e e2 := ⟨fun n n1 n2 => ⟨(h.1 n n1 n2).1.trans (h2.1 n n1 n2).1, (h.1 n n1 n2).2.trans (h2.1 n n1 n2).2⟩, fun z => (h.2 z).trans (h2.2 z)⟩
theorem Agr.sy {b b1 e e1 : MG} (h : Agr C op b b1 e e1) : Agr C op b1 b e1 e := ⟨fun n n1 n2 => ⟨(h.1 n n1 n2).1.symm, (h.1 n n1 n2).2.symm⟩, fun z => (h.2 z).symm⟩
theorem GOk.ag {b b1 e e1 : MG} (h : GOk C op b e at') (ha : Agr C op b1 b e1 e) : GOk C op b1 e1 at' := ⟨fun n n1 n2 => by rw [(ha.1 n n1 n2).1, (ha.1 n n1 n2).2]; exact h.1 n n1 n2, fun z => by rw [ha.2 z]; exact h.2 z⟩
theorem wfp_lt {ps : List SPart} : ∀ {C : Nat} {op : Bool}, wfp C op ps → clo C ps ≤ C ∨ clo C ps ≤ 2 := by
  induction ps with
  | nil => intro C op h; exact Or.inl (Nat.le_refl _)
  | cons p ps ih =>
    intro C op h
    obtain ⟨kd, nr, sg, neg⟩ := p
    unfold clo
    unfold wfp at h
    by_cases h4 : kd = 4
    · rw [if_pos h4] at h
      rw [if_neg (by omega)]
      exact ih h.2
    rw [if_neg h4] at h
    by_cases h5 : kd = 5
    · rw [if_pos h5] at h
      rw [if_pos h5]
      rcases ih h.2 with z | z
      · exact Or.inr (by have := h.1.2.2; omega)
      · exact Or.inr z
    rw [if_neg h5] at h
    rw [if_neg h5]
    by_cases h6 : kd = 6
    · rw [if_pos h6] at h; exact ih h.2
    · rw [if_neg h6] at h; exact ih h
theorem Agr.down {b b1 e e1 : MG} (h : Agr (C + 1) false b b1 e e1) : Agr C false b b1 e e1 := ⟨fun n n1 n2 => h.1 n n1 (by omega), fun z => by cases z⟩
theorem CW.ialdV {x v : Int} {ys : List Int} (hC : M.2.2.1[i]? = some (9, a, b1)) (hn : Ob S n (oIa ys)) (hk : k < ys.length) (hx : x = k) (hv : arr ys k = v) (kk : inR v → BW d M (i + 1) ls (.inl v :: st) S Q) : BW d M i ls (.inl x :: .inr (.inr (some n)) :: st) S Q := by
  subst hx hv
  exact CW.iald hC hn ⟨by omega, by omega⟩ kk
theorem CW.iastV {x v : Int} {ys : List Int} (hC : M.2.2.1[i]? = some (10, a, b1)) (hn : Ob S n (oIa ys)) (hk : k < ys.length) (hx : x = k) (hv : inR v) (kk : ∀ S', Ob S' n (oIa (ys.set k v)) → Fr1 S S' n 0 → BW d M (i + 1) ls st S' Q) : BW d M i ls (.inl v :: .inl x :: .inr (.inr (some n)) :: st) S Q := by
  subst hx
  exact CW.iast hC hn ⟨by omega, by omega⟩ hv kk
theorem drop_consP {α : Type} {l ps : List α} {x z : α} (h : l.drop k = x :: ps) : k < l.length ∧ l.getD k z = x ∧ l.drop (k + 1) = ps := by
  have hk : k < l.length := by
    rcases Nat.lt_or_ge k l.length with e | e
    · exact e
    · rw [List.drop_eq_nil_of_le e] at h; cases h
  rw [List.drop_eq_getElem_cons hk] at h
  injection h with h1 h2
  refine ⟨hk, ?_, h2⟩
  rw [List.getD_eq_getElem?_getD, List.getElem?_eq_getElem hk]
  exact h1
end GO
