-- C
set_option maxRecDepth 100000
/-! LINEORDERS: join -/
section JM
variable {d n m q i a y cap p B c k f e l b it lr : Nat} {S S' S0 S1 S2 : BS} {K : Nat → Nat} {la la' la2 : Int → Nat} {P R : List Int} {G : BG} {A : St} {V W : Nat → Prop} {s z : List Int} {v w nn : Int} {dn rs post t : List SLine} {mk mk' : Nat → Option Int} {xs ys : List (Option Nat)} {rows : List (List Int)} {o : Obj} {x : SLine} {r : Option Nat} {Q : GO → BS → Prop}
theorem LO.row {sx : List Int} (h : LO S K la (dn ++ x :: rs, p, G) B) (hP : Pu S S' 44 (la x.1)) (hr : Fe S' 44 (la x.1) r) (hs : StrB S r sx) (hnd : x.1 ∉ idsOfL dn ∧ x.1 ∉ idsOfL rs) : LO S' K la (dn ++ (x.1, sx) :: rs, p, G) B := by
  obtain ⟨h1, h2⟩ := h
  have h1 : LB S K la (idsOfL (dn ++ x :: rs)) p G B := h1
  have h2 : RowsI S la G.2.2.2.2.1 (dn ++ x :: rs) := h2
  have hx6 := h2 x (List.mem_append_right _ List.mem_cons_self)
  have hxk : la x.1 ≠ K 1 := hx6.2.1.ne h1.obx (ownNe rfl)
  have ei : idsOfL (dn ++ (x.1, sx) :: rs) = idsOfL (dn ++ x :: rs) := by rw [idsOfL_app, idsOfL_app]; rfl
  have oth : ∀ q, q ∈ dn ++ x :: rs → q.1 ≠ x.1 → RowI S' la G.2.2.2.2.1 q := fun q hq hn => by
    obtain ⟨a1, a2, r', a3, a4⟩ := h2 q hq
    have : la q.1 ≠ la x.1 := fun z => hn (h1.lai a1 hx6.1 z)
    exact ⟨a1, a2.pu hP trivial, r', a3.pu hP (Or.inr this), a4.pu hP trivial⟩
  refine ⟨by show LB S' K la (idsOfL (dn ++ (x.1, sx) :: rs)) p G B; rw [ei]; exact h1.puL hP hxk (Or.inl (by decide)), fun q hq => ?_⟩
  rcases List.mem_append.mp hq with z | z
  · exact oth q (List.mem_append_left _ z) (fun w => hnd.1 (by rw [← w]; exact List.mem_map_of_mem z))
  · rcases List.mem_cons.mp z with z | z
    · rw [z]
      exact ⟨hx6.1, hx6.2.1.pu hP trivial, r, hr, hs.pu hP trivial⟩
    · exact oth q (List.mem_append_right _ (List.mem_cons_of_mem _ z)) (fun w => hnd.2 (by rw [← w]; exact List.mem_map_of_mem z))
theorem take_one {α : Type} {pre D : List α} {x : α} (h : pre.length + 1 = f) : (pre ++ x :: D).take f = pre ++ [x] := by
  rw [List.take_append, List.take_of_length_le (by omega), show f - pre.length = 1 by omega]
  rfl
theorem drop_one {α : Type} {pre D : List α} {x : α} (h : pre.length + 1 = f) (he : f ≤ e) : (pre ++ x :: D).drop e = D.drop (e - f) := by
  rw [List.drop_append, List.drop_of_length_le (by omega), show e - pre.length = (e - f) + 1 by omega]
  rfl
theorem flat_take {j : Nat} (h : j < rows.length) : (rows.take (j + 1)).flatten = (rows.take j).flatten ++ rows.getD j [] := by
  rw [List.take_succ_eq_append_getElem h, List.flatten_append, List.getD_eq_getElem?_getD, List.getElem?_eq_getElem h]
  simp
theorem flat_le {j : Nat} : (rows.take j).flatten.length ≤ rows.flatten.length := by
  conv => rhs; rw [← List.take_append_drop j rows, List.flatten_append, List.length_append]
  omega
theorem flat_30 : ∀ {rows : List (List Int)}, (∀ r ∈ rows, r.length ≤ 30) → rows.flatten.length ≤ 30 * rows.length := by
  intro rows
  induction rows with
  | nil => intro _; simp
  | cons r rows ih =>
    intro h
    rw [List.flatten_cons, List.length_append, List.length_cons]
    have := ih (fun q hq => h q (List.mem_cons_of_mem _ hq))
    have := h r List.mem_cons_self
    omega
theorem L_join (hL : LO S K la A B) (hf : 1 ≤ f) (hfl : f ≤ l) (hl : l ≤ A.1.length) (h40 : A.1.length ≤ 40) (hnd : (idsOfL A.1).Nodup) (hrow : ∀ q ∈ A.1, q.2.length ≤ 30) (hB : B + 200000 ≤ 20000000) (hw : w = f) (hz : nn = l) : BM (d + 8) gk_X1_join [aR (K 1), aI w, aI nn] S (ActX S K la A B 700 10000 (fun _ => True) (sJoin A f l)) := by
  subst hw hz
  obtain ⟨t, p, G⟩ := A
  have hLB : LB S K la (idsOfL t) p G B := hL.1
  have hl : l ≤ t.length := hl
  have h40 : t.length ≤ 40 := h40
  have hrow : ∀ q ∈ t, q.2.length ≤ 30 := hrow
  have hnd : (idsOfL t).Nodup := hnd
  have hx := hLB.obx
  have e3 := hLB.e3
  obtain ⟨mc0, hT0⟩ := hLB.text
  have hl0 : (lsOf la (idsOfL t)).length = t.length := by rw [lsOf_len, ids_len]
  refine BM.of rfl rfl rfl ?_
  obtain ⟨e, he⟩ : ∃ e, e = if f = l then f + 1 else l := ⟨_, rfl⟩
  have he1 : f + 1 ≤ e ∧ e ≤ l + 1 := by rw [he]; split <;> omega
  have eS : sJoin (t, p, G) f l = if t.length < e then .inl 1 else if 30 < (rowsOfL (seg t f e)).flatten.length then .inl 4 else .inr (t.take (f - 1) ++ (idAt t (f - 1), (rowsOfL (seg t f e)).flatten) :: t.drop e, f, setM G (unmL G.2.2.2.1 (idsOfL (seg t (f + 1) e)))) := by
    rw [he]; rfl
  have at9 : BW (d + 7) gm_X1_join 9 [some (aR (K 1)), some (aI f), some (aI l), some (aI e), none, none, none] [] S (ActX S K la (t, p, G) B 700 10000 (fun _ => True) (sJoin (t, p, G) f l)) := by
    (repeat (first | (refine BW.pl rfl rfl ?_) | (refine CW.geti rfl rfl (by assumption) rfl rfl (by assumption) (fun _ => ?_)) | (refine CW.getr rfl rfl (by assumption) rfl rfl (by assumption) ?_)))
    refine CW.e1 rfl rfl (by first | exact Or.inl rfl | exact Or.inr (tagO (by assumption) (by rfl) (by rfl))) (by first | exact Or.inl (by decide) | exact Or.inr ⟨_, rfl, by assumption⟩) rfl (B_llSize hT0) ?_
    rw [hl0]
    by_cases z : t.length < e
    · rw [if_pos z] at eS
      refine BW.br rfl rfl (by first | omega | decide | (constructor <;> first | omega | decide)) (fun w => ?_) (fun w => by first | (exfalso; omega) | exact absurd w (by decide))
      (repeat (refine BW.pl rfl rfl ?_))
      refine CW.need rfl rfl (by decide) rfl (Or.inl rfl) (by decide) rfl (fun w => absurd w (by decide)) (fun _ r9 S9 hT9 => ?_)
      rw [eS]
      exact ⟨S, la, (t, p, G), hLB.le (by omega) (by omega), XF.rf, LaE.rf, Int.le_refl _, ⟨[], by simp⟩, hT9⟩
    · rw [if_neg z] at eS
      have hsl := seg_len (t := t) (f := f) (l := e) (by omega) hf
      have hrl : (rowsOfL (seg t f e)).length = e + 1 - f := by unfold rowsOfL; rw [List.length_map, hsl]
      have hr30 : ∀ r ∈ rowsOfL (seg t f e), r.length ≤ 30 := fun r hr => by
        obtain ⟨q, hq, rfl⟩ := List.mem_map.mp hr
        exact hrow q (List.mem_of_mem_drop (List.mem_of_mem_take hq))
      have hfl30 := flat_30 hr30
      refine BW.br rfl rfl (by first | omega | decide | (constructor <;> first | omega | decide)) (fun w => by first | (exfalso; omega) | exact absurd w (by decide)) (fun w => ?_)
      (repeat (refine BW.pl rfl rfl ?_))
      refine CW.need rfl rfl (by decide) rfl (Or.inr rfl) (by decide) rfl (fun _ => ?_) (fun w => absurd w (by decide))
      (repeat (refine BW.pl rfl rfl ?_))
      refine CW.c3 rfl rfl (by first | exact Or.inl rfl | exact Or.inr (tagO (by assumption) (by rfl) (by rfl))) (by first | exact Or.inl (by decide) | exact Or.inr ⟨_, rfl, by assumption⟩) rfl (L_rowsIn (f := f) (l := e) hL hf (by omega) (show e ≤ t.length by omega) (show t.length < 10000 by omega) (by omega) rfl rfl) ?_
      rintro r S1 ⟨q, ys, rfl, hq0, hq1, hss1, hF1⟩
      have hL1 := hL.fr hF1 LoW.no (by omega)
      have hyl := hss1.1
      have hqo := hL.1.ko hq0
      (repeat (refine BW.pl rfl rfl ?_))
      refine CW.newJ (L := 4) (c := 14) rfl rfl rfl (fun bb S2 hN => ?_)
      have hbb := hN.ob
      have hbbk := hN.1
      have hbbo := hL1.1.ko hN.nil
      have hL2 := hL1.fr hN.fr LoW.no (by omega)
      have hq2 := hq1.fr hN.fr ⟨oNe rfl, Sep.no⟩
      have hss2 := hss1.fr hN.fr NoS.no
      (repeat (refine BW.pl rfl rfl ?_))
      refine CW.c1 rfl rfl (by first | exact Or.inl rfl | exact Or.inr (tagO (by assumption) (by rfl) (by rfl))) (by first | exact Or.inl (by decide) | exact Or.inr ⟨_, rfl, by assumption⟩) rfl (C_sbNew hbb) ?_
      rintro r S3 ⟨rfl, hb3, hF3⟩
      have hL3 := hL2.fr hF3 (LoW.one hbbo hbb (oNe rfl) rfl) (by omega)
      have hq3 := hq2.fr hF3 ⟨oNe rfl, hq2.ne hbb (oNe rfl)⟩
      have hss3 := hss2.fr hF3 (NoS.one hbb rfl)
      have hX3 : XF K (fun _ => True) S S3 := ((XF.rf.f0 hF1).nw hN).f1 hF3 (fun z => absurd (hF1.nil hN.nil) z)
      have hxx3 := hL3.1.obx
      generalize hfd : rowsOfL (seg t f e) = rows at *
      have loop : ∀ (n2 j : Nat) (S4 : BS) (cp : Nat), j + n2 = rows.length → LO S4 K la (t, p, G) (B + 200 + 3 * (cp - 16)) → Ob S4 bb (oSb (rows.take j).flatten cp) → Ob S4 q (oRa 105 ys) → StrsIs S4 ys rows → XF K (fun _ => True) S S4 → 16 ≤ cp → (cp = 16 ∨ cp ≤ 2 * (rows.take j).flatten.length) → BW (d + 7) gm_X1_join 30 [some (aR (K 1)), some (aI f), some (aI l), some (aI e), some (aR q), some (aR bb), some (aI j)] [] S4 (ActX S K la (t, p, G) B 700 10000 (fun _ => True) (sJoin (t, p, G) f l)) := by
        intro n2
        induction n2 with
        | zero =>
          intro j S4 cp hj hL4 hb4 hq4 hss4 hX4 hc1 hc2
          obtain rfl : j = rows.length := by omega
          rw [List.take_length] at hb4 hc2
          have hx4 := hL4.1.obx
          (repeat (refine BW.pl rfl rfl ?_))
          refine CW.alenR rfl hq4 (fun _ => ?_)
          refine BW.br rfl rfl (by first | omega | decide | (constructor <;> first | omega | decide)) (fun w => ?_) (fun w => by first | (exfalso; omega) | exact absurd w (by decide))
          (repeat (refine BW.pl rfl rfl ?_))
          refine CW.e2 rfl rfl (by first | exact Or.inl rfl | exact Or.inr (tagO (by assumption) (by rfl) (by rfl))) (by first | exact Or.inl (by decide) | exact Or.inr ⟨_, rfl, by assumption⟩) rfl (L_lineAt (k := f - 1) (x := idAt t (f - 1)) hL4.1 (by show f - 1 < (idsOfL t).length; rw [ids_len]; omega) ids_get (by show (idsOfL t).length < 100000; rw [ids_len]; omega) (by omega)) ?_
          have hin : t.getD (f - 1) (0, []) ∈ t := getD_mem (by omega)
          have hx6 := (hL4.2 _ hin).2.1
          (repeat (refine BW.pl rfl rfl ?_))
          refine CW.c1 rfl rfl (by first | exact Or.inl rfl | exact Or.inr (tagO (by assumption) (by rfl) (by rfl))) (by first | exact Or.inl (by decide) | exact Or.inr ⟨_, rfl, by assumption⟩) rfl (C_sbStr hb4) ?_
          rintro r S5 ⟨y5, rfl, hy5k, hy50, hy5, hF5⟩
          have hL5 := hL4.fr hF5 LoW.no (by omega)
          have hX5 := hX4.f0 hF5
          by_cases z3 : 30 < rows.flatten.length
          · rw [if_pos z3] at eS
            refine CW.x1 rfl rfl (by first | exact Or.inl rfl | exact Or.inr (tagO (by assumption) (by rfl) (by rfl))) (by first | exact Or.inl (by decide) | exact Or.inr ⟨_, rfl, by assumption⟩) rfl rfl (L_checked hy5) ?_ ?_
            · rintro r S6 h6
              rw [if_pos z3] at h6
              obtain ⟨q9, e9, _⟩ := h6
              cases e9
            · rintro E q9 S6 h6
              rw [if_pos z3] at h6
              rw [eS]
              exact ⟨S5, la, (t, p, G), hL5.1.le (by omega) (by omega), hX5, LaE.rf, Int.le_refl _, ⟨[], by simp⟩, h6⟩
          · rw [if_neg z3] at eS
            refine CW.x1 rfl rfl (by first | exact Or.inl rfl | exact Or.inr (tagO (by assumption) (by rfl) (by rfl))) (by first | exact Or.inl (by decide) | exact Or.inr ⟨_, rfl, by assumption⟩) rfl rfl (L_checked hy5) ?_ ?_
            · rintro r S6 h6
              rw [if_neg z3] at h6
              obtain ⟨h6, rfl⟩ := h6
              cases h6
              have hx65 := hx6.fr hF5 ⟨oNe rfl, Sep.no⟩
              first | (refine CW.putr rfl rfl (by assumption) rfl (by decide) (fun S7 hP7 h44 => ?_)) | (refine CW.puti rfl (by assumption) rfl (by decide) (by first | exact Or.inl ⟨rfl, by first | omega | decide | (constructor <;> first | omega | decide)⟩ | exact Or.inr (Or.inl ⟨rfl, by first | omega | decide | (constructor <;> first | omega | decide)⟩) | exact Or.inr (Or.inr (Or.inl ⟨rfl, by first | omega | decide | (constructor <;> first | omega | decide)⟩)) | exact Or.inr (Or.inr (Or.inr ⟨rfl, by first | omega | decide | (constructor <;> first | omega | decide)⟩))) (fun S7 hP7 h44 => ?_))
              have hft : f - 1 < t.length := by omega
              have et : t = t.take (f - 1) ++ t.getD (f - 1) (0, []) :: t.drop f := by
                conv => lhs; rw [← List.take_append_drop (f - 1) t]
                rw [List.drop_eq_getElem_cons hft, List.getD_eq_getElem?_getD, List.getElem?_eq_getElem hft, show f - 1 + 1 = f by omega]
                rfl
              have eid : (t.getD (f - 1) (0, [])).1 = idAt t (f - 1) := rfl
              have hL5' := hL5
              rw [et] at hL5'
              have hnx := hnd
              rw [et, idsOfL_app, List.nodup_append] at hnx
              have hnx3 : (t.getD (f - 1) (0, [])).1 ∉ idsOfL (t.drop f) := (List.nodup_cons.mp hnx.2.1).1
              have hL7 := hL5'.row hP7 h44 ⟨⟨y5, rfl, hy5⟩, okS.mk (Or.inl hy5k)⟩ ⟨fun z => hnx.2.2 _ z _ List.mem_cons_self rfl, hnx3⟩
              have hX7 := hX5.puV hP7 trivial
              have hx7 := hL7.1.obx
              have hlt' : (t.take (f - 1)).length = f - 1 := by rw [List.length_take]; omega
              have hlen7 : (t.take (f - 1) ++ ((t.getD (f - 1) (0, [])).1, rows.flatten) :: t.drop f).length = t.length := by rw [List.length_append, List.length_cons, hlt', List.length_drop]; omega
              (repeat (refine BW.pl rfl rfl ?_))
              refine CW.c3 rfl rfl (by first | exact Or.inl rfl | exact Or.inr (tagO (by assumption) (by rfl) (by rfl))) (by first | exact Or.inl (by decide) | exact Or.inr ⟨_, rfl, by assumption⟩) rfl (L_delete (V := fun _ => True) (f := f + 1) (l := e) hL7 (by omega) (by omega) (by show e ≤ (t.take (f - 1) ++ ((t.getD (f - 1) (0, [])).1, rows.flatten) :: t.drop f).length; omega) (by show (t.take (f - 1) ++ ((t.getD (f - 1) (0, [])).1, rows.flatten) :: t.drop f).length ≤ 10000; omega) (by omega) (by omega) rfl) ?_
              rintro r S8 ⟨rfl, hL8, hX8⟩
              have hx8 := hL8.1.obx
              (repeat (refine BW.pl rfl rfl ?_))
              first | (refine CW.putr rfl rfl (by assumption) rfl (by decide) (fun S9 hP9 h5 => ?_)) | (refine CW.puti rfl (by assumption) rfl (by decide) (by first | exact Or.inl ⟨rfl, by first | omega | decide | (constructor <;> first | omega | decide)⟩ | exact Or.inr (Or.inl ⟨rfl, by first | omega | decide | (constructor <;> first | omega | decide)⟩) | exact Or.inr (Or.inr (Or.inl ⟨rfl, by first | omega | decide | (constructor <;> first | omega | decide)⟩)) | exact Or.inr (Or.inr (Or.inr ⟨rfl, by first | omega | decide | (constructor <;> first | omega | decide)⟩))) (fun S9 hP9 h5 => ?_))
              refine BW.ret rfl rfl ?_
              rw [eS]
              have ea : (t.take (f - 1) ++ ((t.getD (f - 1) (0, [])).1, rows.flatten) :: t.drop f).take (f + 1 - 1) ++ (t.take (f - 1) ++ ((t.getD (f - 1) (0, [])).1, rows.flatten) :: t.drop f).drop e = t.take (f - 1) ++ (idAt t (f - 1), rows.flatten) :: t.drop e := by
                rw [show f + 1 - 1 = f by omega, take_one (by omega), drop_one (f := f) (by omega) (by omega), List.drop_drop, show f + (e - f) = e by omega, eid]
                simp
              have eb : seg (t.take (f - 1) ++ ((t.getD (f - 1) (0, [])).1, rows.flatten) :: t.drop f) (f + 1) e = seg t (f + 1) e := by
                unfold seg
                rw [show f + 1 - 1 = f by omega, List.drop_append, hlt', List.drop_of_length_le (by omega), show f - (f - 1) = 1 by omega]
                rfl
              have hL9 : LB S9 K la (idsOfL (t.take (f - 1) ++ (idAt t (f - 1), rows.flatten) :: t.drop e)) f (setM G (unmL G.2.2.2.1 (idsOfL (seg t (f + 1) e)))) (B + 700) := by
                have h8 := hL8.1
                unfold sDel at h8
                dsimp only at h8
                rw [ea, eb] at h8
                exact (h8.puP hP9 h5 rfl).le (by omega) (by omega)
              have hR9 : RowsI S9 la G.2.2.2.2.1 (t.take (f - 1) ++ (idAt t (f - 1), rows.flatten) :: t.drop e) := by
                have h8 := hL8.2
                unfold sDel at h8
                dsimp only at h8
                rw [ea] at h8
                exact h8.pu1 hP9 hx8
              exact ⟨rfl, la, ⟨hL9, hR9⟩, (hX7.tr hX8).pu1 hP9 (by decide), LaE.rf⟩
            · rintro E q9 S6 h6
              rw [if_neg z3] at h6
              obtain ⟨e9, _⟩ := h6
              cases e9
        | succ n2 ih =>
          intro j S4 cp hj hL4 hb4 hq4 hss4 hX4 hc1 hc2
          have hjl : j < rows.length := by omega
          obtain ⟨⟨yy, hy1, hy2⟩, hyk⟩ := hss4.2 j hjl
          have hle := flat_le (rows := rows) (j := j)
          have hle1 := flat_le (rows := rows) (j := j + 1)
          have hle2 := flat_le (rows := rows) (j := j + 1)
          rw [flat_take hjl, List.length_append] at hle1
          (repeat (refine BW.pl rfl rfl ?_))
          refine CW.alenR rfl hq4 (fun _ => ?_)
          refine BW.br rfl rfl (by first | omega | decide | (constructor <;> first | omega | decide)) (fun w => by first | (exfalso; omega) | exact absurd w (by decide)) (fun w => ?_)
          (repeat (refine BW.pl rfl rfl ?_))
          refine CW.aald rfl hq4 ⟨by omega, by omega⟩ ?_
          have ej : ((j : Nat) : Int).toNat = j := by omega
          rw [ej, hy1]
          refine CW.c2 rfl rfl (by first | exact Or.inl rfl | exact Or.inr (tagO (by assumption) (by rfl) (by rfl))) (by first | exact Or.inl (by decide) | exact Or.inr ⟨_, rfl, by assumption⟩) rfl (C_sbAppS hb4 hy2 (by omega)) ?_
          rintro r S5 ⟨rfl, cp', hb5, hF5, hc3, hc4⟩
          rw [← flat_take hjl] at hb5 hc4
          have hLo5 := LoW.one hbbo hb4 (oNe rfl) rfl
          (iterate 3 (refine BW.pl rfl rfl ?_))
          refine ih (j + 1) S5 cp' (by omega) ((hL4.fr hF5 hLo5 (by omega)).le (by omega) (by omega)) hb5 (hq4.fr hF5 ⟨oNe rfl, hq4.ne hb4 (oNe rfl)⟩) (hss4.fr hF5 (NoS.one hb4 rfl)) (hX4.f1 hF5 (fun z => absurd (hF1.nil hN.nil) z)) (by omega) ?_
          rw [flat_take hjl, List.length_append] at hc4 ⊢
          omega
      (iterate 3 (refine BW.pl rfl rfl ?_))
      exact loop rows.length 0 S3 16 (Nat.zero_add _) (hL3.le (by omega) (by omega)) (by rw [List.take_zero]; exact hb3) hq3 hss3 hX3 (Nat.le_refl _) (Or.inl rfl)
  (repeat (refine BW.pl rfl rfl ?_))
  by_cases z : f = l
  · rw [if_pos z] at he
    refine BW.br rfl rfl (by first | omega | decide | (constructor <;> first | omega | decide)) (fun w0 => by first | (exfalso; omega) | exact absurd w0 (by decide)) (fun w0 => ?_)
    (iterate 5 (refine BW.pl rfl rfl ?_))
    rw [show (l : Int) + 1 = (e : Int) by omega]
    exact at9
  · rw [if_neg z] at he
    refine BW.br rfl rfl (by first | omega | decide | (constructor <;> first | omega | decide)) (fun w0 => ?_) (fun w0 => by first | (exfalso; omega) | exact absurd w0 (by decide))
    (iterate 2 (refine BW.pl rfl rfl ?_))
    rw [show (l : Int) = (e : Int) by omega]
    subst he
    exact at9
end JM
