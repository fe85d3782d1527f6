-- C
set_option maxRecDepth 100000
/-! LINEORDERS: insert and delete -/
def addN (G : BG) (j : Nat) : BG := (G.1, G.2.1, G.2.2.1, G.2.2.2.1, G.2.2.2.2.1 + (j : Int), G.2.2.2.2.2)
/-- neither a line nor a string may change -/
def W6 (S : BS) (W : Nat → Prop) : Prop := ∀ m, S.1 m ≠ oNil → W m → S.1 m ≠ oOwn 6 ∧ (S.1 m).1 ≠ 1
/-- what is refused: the state is a state still, what was printed stands -/
def Refu (S : BS) (K : Nat → Nat) (la : Int → Nat) (A : St) (B c : Nat) (V : Nat → Prop) (w : Nat) (r : GO) (S' : BS) : Prop := ∃ (S1 : BS) (la1 : Int → Nat) (A1 : St), LB S1 K la1 (idsOfL A1.1) A1.2.1 A1.2.2 (B + c) ∧ XF K V S S1 ∧ LaE la la1 A.2.2.2.2.2.2.1 ∧ A.2.2.2.2.2.2.1 ≤ A1.2.2.2.2.2.2.1 ∧ (∃ ex, A1.2.2.2.1 = A.2.2.2.1 ++ ex) ∧ Thr9 11 78 w S1 r S'
/-- what an act answers -/
def ActX (S : BS) (K : Nat → Nat) (la : Int → Nat) (A : St) (B : Nat) (c : Nat) (cx : Nat) (V : Nat → Prop) (R : Nat ⊕ St) (r : GO) (S' : BS) : Prop := match R with
  | .inl w => Refu S K la A B cx V w r S'
  | .inr A1 => r = .inl none ∧ ∃ la1, LO S' K la1 A1 (B + c) ∧ XF K V S S' ∧ LaE la la1 A.2.2.2.2.2.2.1
section IS
variable {d n m q i a y cap p B c k f e l b : Nat} {S S' S0 S1 S2 : BS} {K : Nat → Nat} {la la' la2 : Int → Nat} {ids P R : List Int} {G : BG} {A : St} {V W : Nat → Prop} {s z : List Int} {x v w nn : Int} {t : List SLine} {mk mk' : Nat → Option Int} {xs ys : List (Option Nat)} {rows : List (List Int)} {o : Obj}
theorem W6.one (h : Ob S m o) (h6 : o ≠ oOwn 6) (h1 : (o.1 == 1) = false) : W6 S (fun k => k = m) := fun k _ z => by
  subst z
  rw [show S.1 k = o from h]
  exact ⟨h6, fun z => by rw [z] at h1; cases h1⟩
theorem W6.two (h1 : W6 S (fun k => k = m)) (h2 : W6 S (fun k => k = n)) : W6 S (fun k => k = m ∨ k = n) := fun k hk z => z.elim (h1 k hk) (h2 k hk)
theorem RowI.f6 {sl : SLine} (h : RowI S la nn sl) (hF : Fr S S' W c) (hs : W6 S W) : RowI S' la nn sl := by
  obtain ⟨h1, h2, r, h3, h4⟩ := h
  have sp : Sep S W (la sl.1) := fun z => (hs _ (h2.old (oNe rfl)) z).1 h2
  exact ⟨h1, h2.fr hF ⟨oNe rfl, sp⟩, r, h3.fr hF ⟨⟨h2.old (oNe rfl), by decide⟩, sp⟩, h4.fr hF (fun m z w => (hs m (fun e => by rw [e] at w; exact absurd (show (0 : Nat) = 1 from w) (by decide)) z).2 w)⟩
theorem RowsI.f6 (h : RowsI S la nn t) (hF : Fr S S' W c) (hs : W6 S W) : RowsI S' la nn t := fun q hq => (h q hq).f6 hF hs
theorem RowsI.app {t2 : List SLine} (h : RowsI S la nn t) (h2 : RowsI S la nn t2) : RowsI S la nn (t ++ t2) := fun q hq => (List.mem_append.mp hq).elim (h q) (h2 q)
theorem RowsI.sub {t2 : List SLine} (h : RowsI S la nn t) (hs : ∀ q ∈ t2, q ∈ t) : RowsI S la nn t2 := fun q hq => h q (hs q hq)
theorem insA_ls (h : P.length = k) : insA (lsOf la (P ++ R)) k (some m) = lsOf la P ++ some m :: lsOf la R := by
  unfold insA
  have e : (lsOf la P).length = k := by rw [lsOf_len]; exact h
  rw [lsOf_app, List.take_append_of_le_length (by omega), List.take_of_length_le (by omega), List.drop_append_of_le_length (by omega), List.drop_of_length_le (by omega), List.nil_append]
theorem delA_ls (h : P.length = k) : delA (lsOf la (P ++ x :: R)) k = lsOf la (P ++ R) := by
  unfold delA
  have e : (lsOf la P).length = k := by rw [lsOf_len]; exact h
  rw [lsOf_app, lsOf_app, List.take_append_of_le_length (by omega), List.take_of_length_le (by omega), List.drop_append, List.drop_of_length_le (by omega), e, List.nil_append]
  show lsOf la P ++ (some (la x) :: lsOf la R).drop (k + 1 - k) = _
  rw [show k + 1 - k = 1 by omega]
  rfl
theorem incN_add {j : Nat} : incN (addN G j) = addN G (j + 1) := by
  unfold incN addN
  dsimp only
  rw [show G.2.2.2.2.1 + (j : Int) + 1 = G.2.2.2.2.1 + ((j + 1 : Nat) : Int) by omega]
theorem addN_0 : addN G 0 = G := by
  obtain ⟨h, o, fi, mm, n0, rp⟩ := G
  show (h, o, fi, mm, n0 + ((0 : Nat) : Int), rp) = _
  rw [show n0 + ((0 : Nat) : Int) = n0 by omega]
theorem unmL_mem {a b : List Int} (h : ∀ x, x ∈ a ↔ x ∈ b) : unmL mk a = unmL mk b := by
  funext k
  unfold unmL
  cases mk k with
  | none => rfl
  | some x =>
    dsimp only
    by_cases e : x ∈ a
    · rw [if_pos e, if_pos ((h x).mp e)]
    · rw [if_neg e, if_neg (fun z => e ((h x).mpr z))]
theorem L_insert (hL : LO S K la A B) (hb : b ≤ A.1.length) (hl4 : A.1.length ≤ 10000) (har : Ob S a (oRa 105 ys)) (hs : StrsIs S ys rows) (hao : KoM K a) (hn : A.2.2.2.2.2.2.1 < 1900000) (hrl : ys.length < 1000) (hB : B + 60000 ≤ 20000000) (hv : v = b) : BM (d + 7) gk_X1_insert [aR (K 1), aI v, aR a] S (ActX S K la A B (17 + 30 * rows.length) 0 (fun _ => False) (sIns A b rows)) := by
  subst hv
  obtain ⟨t, p, G⟩ := A
  obtain ⟨hLB, hRw⟩ := hL
  have hLB : LB S K la (idsOfL t) p G B := hLB
  have hRw : RowsI S la G.2.2.2.2.1 t := hRw
  have hx := hLB.obx
  have e3 := hLB.e3
  have hnR := hLB.nR
  have hnG : G.2.2.2.2.1 < 1900000 := hn
  obtain ⟨mc, hT⟩ := hLB.text
  have hlen := hs.1
  have hb : b ≤ t.length := hb
  have hl4 : t.length ≤ 10000 := hl4
  refine BM.of rfl rfl rfl ?_
  have eS : sIns (t, p, G) b rows = if 40 < t.length + rows.length then .inl 4 else .inr (t.take b ++ mkL G.2.2.2.2.1 rows ++ t.drop b, b + rows.length, addN G rows.length) := rfl
  (repeat (first | (refine BW.pl rfl rfl ?_) | (refine CW.geti rfl rfl (by assumption) rfl rfl (by assumption) (fun _ => ?_)) | (refine CW.getr rfl rfl (by assumption) rfl rfl (by assumption) ?_)))
  refine CW.e1 rfl rfl (by first | exact Or.inl rfl | exact Or.inr (tagO (by assumption) (by rfl) (by rfl))) (by first | exact Or.inl (by decide) | exact Or.inr ⟨_, rfl, by assumption⟩) rfl (B_llSize hT) ?_
  rw [lsOf_len, ids_len]
  (repeat (refine BW.pl rfl rfl ?_))
  refine CW.alenR rfl har (fun _ => ?_)
  (repeat (refine BW.pl rfl rfl ?_))
  by_cases z : 40 < t.length + rows.length
  · rw [if_pos z] at eS
    refine BW.br rfl rfl (by first | omega | decide | (constructor <;> first | omega | decide)) (fun w => ?_) (fun w => by first | (exfalso; omega) | exact absurd w (by decide))
    (repeat (refine BW.pl rfl rfl ?_))
    refine CW.need rfl rfl (by decide) rfl (Or.inl rfl) (by decide) rfl (fun w => absurd w (by decide)) (fun _ r9 S9 hT9 => ?_)
    rw [eS]
    exact ⟨S, la, (t, p, G), hLB, XF.rf, LaE.rf, Int.le_refl _, ⟨[], by simp⟩, hT9⟩
  · rw [if_neg z] at eS
    refine BW.br rfl rfl (by first | omega | decide | (constructor <;> first | omega | decide)) (fun w => by first | (exfalso; omega) | exact absurd w (by decide)) (fun w => ?_)
    (repeat (refine BW.pl rfl rfl ?_))
    refine CW.need rfl rfl (by decide) rfl (Or.inr rfl) (by decide) rfl (fun _ => ?_) (fun w => absurd w (by decide))
    (repeat (first | (refine BW.pl rfl rfl ?_) | (refine CW.geti rfl rfl (by assumption) rfl rfl (by assumption) (fun _ => ?_)) | (refine CW.getr rfl rfl (by assumption) rfl rfl (by assumption) ?_)))
    refine CW.c2 rfl rfl (by first | exact Or.inl rfl | exact Or.inr (tagO (by assumption) (by rfl) (by rfl))) (by first | exact Or.inl (by decide) | exact Or.inr ⟨_, rfl, by assumption⟩) rfl (C_itNew (k := b) hT (by rw [lsOf_len, ids_len]; omega) (by rw [lsOf_len, ids_len]; omega) rfl) ?_
    rintro r S1 ⟨it, rfl, hit0, hitk, hit, hF1⟩
    have hko := hLB.ko hit0
    have hL1 := hLB.fr hF1 LoW.no (by omega)
    have hT1 := hT.fr hF1 ⟨oNe rfl, Sep.no⟩
    have har1 := har.fr hF1 ⟨oNe rfl, Sep.no⟩
    have hs1 := hs.fr hF1 NoS.no
    have hRw1 := hRw.fr hF1 (LoW.no (K := K))
    have loop : ∀ (n2 j : Nat) (S3 : BS) (la3 : Int → Nat) (mc3 lr : Nat), j + n2 = rows.length → LB S3 K la3 (idsOfL (t.take b ++ mkL G.2.2.2.2.1 (rows.take j) ++ t.drop b)) p (addN G j) (B + 17 + 30 * j) → RowsI S3 la3 (G.2.2.2.2.1 + j) (t.take b ++ mkL G.2.2.2.2.1 (rows.take j) ++ t.drop b) → Ob S3 (K 3) (oLl (lsOf la3 (idsOfL (t.take b ++ mkL G.2.2.2.2.1 (rows.take j) ++ t.drop b))) mc3) → Ob S3 it (oIt (K 3) (b + j) mc3 lr) → Ob S3 a (oRa 105 ys) → StrsIs S3 ys rows → XF K (fun _ => False) S S3 → LaE la la3 G.2.2.2.2.1 → BW (d + 6) gm_X1_insert 20 [some (aR (K 1)), some (aI b), some (aR a), some (aR it), some (aI j)] [] S3 (ActX S K la (t, p, G) B (17 + 30 * rows.length) 0 (fun _ => False) (sIns (t, p, G) b rows)) := by
      intro n2
      induction n2 with
      | zero =>
        intro j S3 la3 mc3 lr hj hL3 hRw3 hT3 hit3 har3 hs3 hX3 hE3
        obtain rfl : j = rows.length := by omega
        rw [List.take_length] at hL3 hRw3 hT3
        have hx3 := hL3.obx
        have hlt : (lsOf la3 (idsOfL (t.take b ++ mkL G.2.2.2.2.1 rows ++ t.drop b))).length = t.length + rows.length := by rw [lsOf_len, ids_len, List.length_append, List.length_append, mkL_len, List.length_take, List.length_drop]; omega
        (repeat (refine BW.pl rfl rfl ?_))
        refine CW.alenR rfl har3 (fun _ => ?_)
        refine BW.br rfl rfl (by first | omega | decide | (constructor <;> first | omega | decide)) (fun w => ?_) (fun w => by first | (exfalso; omega) | exact absurd w (by decide))
        (repeat (refine BW.pl rfl rfl ?_))
        refine CW.e1 rfl rfl (by first | exact Or.inl rfl | exact Or.inr (tagO (by assumption) (by rfl) (by rfl))) (by first | exact Or.inl (by decide) | exact Or.inr ⟨_, rfl, by assumption⟩) rfl (B_itIdx hit3 hT3 (by omega)) ?_
        first | (refine CW.putr rfl rfl (by assumption) rfl (by decide) (fun S4 hP4 h5 => ?_)) | (refine CW.puti rfl (by assumption) rfl (by decide) (by first | exact Or.inl ⟨rfl, by first | omega | decide | (constructor <;> first | omega | decide)⟩ | exact Or.inr (Or.inl ⟨rfl, by first | omega | decide | (constructor <;> first | omega | decide)⟩) | exact Or.inr (Or.inr (Or.inl ⟨rfl, by first | omega | decide | (constructor <;> first | omega | decide)⟩)) | exact Or.inr (Or.inr (Or.inr ⟨rfl, by first | omega | decide | (constructor <;> first | omega | decide)⟩))) (fun S4 hP4 h5 => ?_))
        refine BW.ret rfl rfl ?_
        rw [eS]
        exact ⟨rfl, la3, ⟨(hL3.puP hP4 h5 rfl).le (by omega) (by omega), hRw3.pu1 hP4 hx3⟩, hX3.pu1 hP4 (by decide), hE3⟩
      | succ n2 ih =>
        intro j S3 la3 mc3 lr hj hL3 hRw3 hT3 hit3 har3 hs3 hX3 hE3
        have hjl : j < rows.length := by omega
        have hx3 := hL3.obx
        obtain ⟨⟨yy, hy1, hy2⟩, hyk⟩ := hs3.2 j hjl
        rw [hy1] at hyk
        have htk : rows.take (j + 1) = rows.take j ++ [rows.getD j []] := by
          rw [List.take_succ_eq_append_getElem hjl, List.getD_eq_getElem?_getD, List.getElem?_eq_getElem hjl]; rfl
        have hlj : (rows.take j).length = j := by rw [List.length_take]; omega
        have emk : mkL G.2.2.2.2.1 (rows.take (j + 1)) = mkL G.2.2.2.2.1 (rows.take j) ++ [(G.2.2.2.2.1 + j, rows.getD j [])] := by rw [htk, mkL_app, hlj]
        have hlt : (idsOfL (t.take b ++ mkL G.2.2.2.2.1 (rows.take j))).length = b + j := by rw [ids_len, List.length_append, mkL_len, List.length_take, hlj]; omega
        have hlt2 : (lsOf la3 (idsOfL (t.take b ++ mkL G.2.2.2.2.1 (rows.take j) ++ t.drop b))).length = t.length + j := by rw [lsOf_len, idsOfL_app, List.length_append, hlt, ids_len, List.length_drop]; omega
        (repeat (refine BW.pl rfl rfl ?_))
        refine CW.alenR rfl har3 (fun _ => ?_)
        refine BW.br rfl rfl (by first | omega | decide | (constructor <;> first | omega | decide)) (fun w => by first | (exfalso; omega) | exact absurd w (by decide)) (fun w => ?_)
        (repeat (refine BW.pl rfl rfl ?_))
        refine CW.aald rfl har3 ⟨by omega, by omega⟩ ?_
        have ej : ((j : Nat) : Int).toNat = j := by omega
        rw [ej, hy1]
        refine CW.c2 rfl rfl (by first | exact Or.inl rfl | exact Or.inr (tagO (by assumption) (by rfl) (by rfl))) (by first | exact Or.inl (by decide) | exact Or.inr ⟨_, rfl, by assumption⟩) rfl (L_makeLine (V := fun _ => False) hL3 hy2 hyk (by show G.2.2.2.2.1 + (j : Int) + 1 < 2000000; omega) (by omega)) ?_
        rintro r S4 ⟨m, rfl, hm0, hm6, hL4, hRi4, hX34, hF4⟩
        have hko3 := hko
        have hK13 : K 3 ≠ K 1 := hT3.ne hx3 (oNe rfl)
        have hT4 := hT3.fr hF4 ⟨oNe rfl, hK13⟩
        have hit4 := hit3.fr hF4 ⟨oNe rfl, hit3.ne hx3 (oNe rfl)⟩
        have har4 := har3.fr hF4 ⟨oNe rfl, har3.ne hx3 (oNe rfl)⟩
        have hs4 := hs3.fr hF4 (NoS.one hx3 rfl)
        have ht4 := hL4.tt
        have hRw4 := (hRw3.xf hX34 (fun _ _ z => z) hL3).upl (m := m) (show G.2.2.2.2.1 + (j : Int) ≤ G.2.2.2.2.1 + (j : Int) + 1 by omega)
        refine CW.c2 rfl rfl (by first | exact Or.inl rfl | exact Or.inr (tagO (by assumption) (by rfl) (by rfl))) (by first | exact Or.inl (by decide) | exact Or.inr ⟨_, rfl, by assumption⟩) rfl (C_itAdd hit4 hT4 (by omega) (vOk_o hm6 rfl) (by omega)) ?_
        rintro r S5 ⟨rfl, hT5, hit5, hF5⟩
        have hlo : LoX K S4 (fun k => k = K 3 ∨ k = it) 3 := LoX.two LoX.k (LoX.w (LoW.one hko hit4 (oNe rfl) rfl))
        have hw6 : W6 S4 (fun k => k = K 3 ∨ k = it) := W6.two (W6.one hT4 (oNe rfl) rfl) (W6.one hit4 (oNe rfl) rfl)
        have hRw5 := hRw4.f6 hF5 hw6
        have hRi5 := hRi4.f6 hF5 hw6
        have et : t.take b ++ mkL G.2.2.2.2.1 (rows.take (j + 1)) ++ t.drop b = (t.take b ++ mkL G.2.2.2.2.1 (rows.take j)) ++ (G.2.2.2.2.1 + j, rows.getD j []) :: t.drop b := by rw [emk]; simp
        have hids3 := hL3.2.2.1.2.2
        have eids : idsOfL (t.take b ++ mkL G.2.2.2.2.1 (rows.take (j + 1)) ++ t.drop b) = idsOfL (t.take b ++ mkL G.2.2.2.2.1 (rows.take j)) ++ (G.2.2.2.2.1 + j) :: idsOfL (t.drop b) := by rw [et, idsOfL_app]; rfl
        have hPR : ∀ x ∈ idsOfL (t.take b ++ mkL G.2.2.2.2.1 (rows.take j)) ++ idsOfL (t.drop b), x < G.2.2.2.2.1 + (j : Int) := fun x hx => by
          rw [← idsOfL_app] at hx
          exact (hids3 x hx).2
        have els : insA (lsOf la3 (idsOfL (t.take b ++ mkL G.2.2.2.2.1 (rows.take j) ++ t.drop b))) (b + j) (some m) = lsOf (upL la3 (G.2.2.2.2.1 + j) m) (idsOfL (t.take b ++ mkL G.2.2.2.2.1 (rows.take (j + 1)) ++ t.drop b)) := by
          rw [eids, idsOfL_app, insA_ls hlt, lsOf_app, lsOf_up (fun x hx => hPR x (List.mem_append_left _ hx))]
          show _ = lsOf la3 _ ++ some (upL la3 (G.2.2.2.2.1 + j) m (G.2.2.2.2.1 + j)) :: lsOf (upL la3 (G.2.2.2.2.1 + j) m) (idsOfL (t.drop b))
          rw [lsOf_up (fun x hx => hPR x (List.mem_append_right _ hx)), show upL la3 (G.2.2.2.2.1 + j) m (G.2.2.2.2.1 + j) = m from if_pos rfl]
        rw [els] at hT5
        have hL5 := hL4.setText hF5 hlo hT5 (fun x hx => by
          rw [eids] at hx
          show 0 ≤ x ∧ x < G.2.2.2.2.1 + (j : Int) + 1
          rcases List.mem_append.mp hx with hx | hx
          · have := hids3 x (by rw [idsOfL_app]; exact List.mem_append_left _ hx)
            have : 0 ≤ x ∧ x < G.2.2.2.2.1 + (j : Int) := this
            omega
          · rcases List.mem_cons.mp hx with hx | hx
            · omega
            · have := hids3 x (by rw [idsOfL_app]; exact List.mem_append_right _ hx)
              have : 0 ≤ x ∧ x < G.2.2.2.2.1 + (j : Int) := this
              omega) (by omega)
        rw [incN_add] at hL5
        have hRw6 : RowsI S5 (upL la3 (G.2.2.2.2.1 + j) m) (G.2.2.2.2.1 + ((j + 1 : Nat) : Int)) (t.take b ++ mkL G.2.2.2.2.1 (rows.take (j + 1)) ++ t.drop b) := by
          rw [et]
          have e1 : G.2.2.2.2.1 + ((j + 1 : Nat) : Int) = G.2.2.2.2.1 + (j : Int) + 1 := by omega
          rw [e1]
          intro q hq
          rcases List.mem_append.mp hq with hq | hq
          · exact hRw5 q (List.mem_append_left _ hq)
          · rcases List.mem_cons.mp hq with hq | hq
            · rw [hq]; exact hRi5
            · exact hRw5 q (List.mem_append_right _ hq)
        (iterate 2 (refine BW.pl rfl rfl ?_))
        exact ih (j + 1) S5 _ (mc3 + 1) 0 (by omega) (hL5.le (by omega) (by omega)) hRw6 hT5 hit5 (har4.fr hF5 ⟨oNe rfl, fun z => z.elim (har4.ne hT4 (oNe rfl)) (har4.ne hit4 (oNe rfl))⟩) (hs4.fr hF5 (NoS.two (NoS.one hT4 rfl) (NoS.one hit4 rfl))) ((hX3.tr hX34).f2 hF5 (fun _ => hL4.wk (by decide)) (fun z => absurd hit0 z)) (hE3.tr LaE.up (show G.2.2.2.2.1 ≤ G.2.2.2.2.1 + (j : Int) by omega))
    (iterate 3 (refine BW.pl rfl rfl ?_))
    have e0 : t.take b ++ mkL G.2.2.2.2.1 (rows.take 0) ++ t.drop b = t := by simp [mkL]
    exact loop rows.length 0 S1 la mc 0 (Nat.zero_add _) (by rw [e0, addN_0]; exact hL1) (by rw [e0]; rw [show G.2.2.2.2.1 + ((0 : Nat) : Int) = G.2.2.2.2.1 by omega]; exact hRw1) (by rw [e0]; exact hT1) hit har1 hs1 (XF.rf.f0 hF1) LaE.rf
end IS
