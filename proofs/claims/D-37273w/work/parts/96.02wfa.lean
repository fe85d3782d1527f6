set_option maxRecDepth 100000
/-! acts keep a state in order -/
section SWfa
variable {pre mid post t t' : List SLine} {p p' : Nat} {h o : List (List Int)} {fi : Nat → List (List Int)} {m m' : Nat → Option Int} {n n' : Int} {rp rp' : Bool} {rs : List (List Int)} {l l1 : List Int} {od : SOrd0}
/-- in order, and few new ids -/
def WFn (n : Int) (A : St) : Prop := WF A ∧ n ≤ A.2.2.2.2.2.2.1 ∧ A.2.2.2.2.2.2.1 ≤ n + 40
theorem mem3 {q : SLine} (hq : q ∈ mid) : q ∈ pre ++ mid ++ post := List.mem_append_left _ (List.mem_append_right _ hq)
theorem wf_sIns {A' : St} {b : Nat} (hw : WF (pre ++ post, p, h, o, fi, m, n, rp)) (hrs : rs ≠ [] ∧ ∀ r ∈ rs, RowOk r) (hb : b = pre.length) (hs : sIns (pre ++ post, p, h, o, fi, m, n, rp) b rs = .inr A') : WFn n A' := by
  subst hb
  rw [sIns_z] at hs
  split at hs
  · cases hs
  · cases hs
    refine ⟨hw.ins hrs (by omega), ?_, ?_⟩
    · show n ≤ n + rs.length; omega
    · show n + rs.length ≤ n + 40; omega
theorem wf_sIns' {A' : St} {b : Nat} (hw : WF (t, p, h, o, fi, m, n, rp)) (hrs : rs ≠ [] ∧ ∀ r ∈ rs, RowOk r) (hb : b ≤ t.length) (hs : sIns (t, p, h, o, fi, m, n, rp) b rs = .inr A') : WFn n A' := by
  obtain ⟨pre, post, rfl, rfl⟩ := split2 (t := t) hb
  exact wf_sIns hw hrs rfl hs
theorem rowsOfL_ok (hw : WF (pre ++ mid ++ post, p, h, o, fi, m, n, rp)) : ∀ r ∈ rowsOfL mid, RowOk r := by
  intro r hr
  obtain ⟨q, hq, rfl⟩ := rowsOfL_mem hr
  exact (hw.tt.2.2.2.1 q (mem3 hq)).2
theorem flatten_CO : ∀ (rs : List (List Int)), (∀ r ∈ rs, RowOk r) → CO rs.flatten := by
  intro rs hr c hc
  obtain ⟨r, h1, h2⟩ := List.mem_flatten.mp hc
  exact (hr r h1).2 c h2
theorem wf_act {A A' : St} {f e : Nat} (hw : WF A) (hact : oAct od = hd l) (hout : isOut (hd l) = false) (hp : ActP l l1 od) (h48 : ¬ hd l1 = 48) (hR : RanOk A od f e) (hs : sAct A od f e = .inr A') : WFn A.2.2.2.2.2.2.1 A' := by
  have hpp := hp
  obtain ⟨p1, p2, p3, p4, p5, p6, p7, p8, p9, p10⟩ := hp
  have hno := cOut hout
  obtain ⟨t, p, h, o, fi, m, n, rp⟩ := A
  show WFn n A'
  have hn0 : 0 ≤ n := hw.tt.2.2.2.2.2
  have h40 := hw.tt.2.1
  have z3 : sAhead (hd l) = false → ∃ pre mid post, t = pre ++ mid ++ post ∧ f = pre.length + 1 ∧ e = pre.length + mid.length := fun hz => by
    have := hR.one (by rw [hact]; exact hz)
    exact split3 this.1 this.2.1 this.2.2.1
  have zne : sAhead (hd l) = false → sWide (hd l) = false → f ≤ e := fun h1 h2 => (hR.one (by rw [hact]; exact h1)).2.2.2 (by rw [hact]; exact h2)
  have hle : e ≤ t.length := hR.le
  have prs : ∀ x : Nat, e = x → sAhead (hd l) = false → sWide (hd l) = false → e ≤ t.length ∧ (t ≠ [] → 1 ≤ e) := fun x _ h1 h2 => ⟨hle, fun _ => by have := zne h1 h2; have := (hR.one (by rw [hact]; exact h1)).1; omega⟩
  by_cases n97 : hd l = 97
  · obtain ⟨k, hrw⟩ := p1 (by omega)
    rw [sAct_97 (by omega)] at hs
    exact wf_sIns' hw (pRows_ok _ _ _ _ hrw) hle hs
  by_cases n105 : hd l = 105
  · obtain ⟨k, hrw⟩ := p1 (by omega)
    have h1 := hR.one (by rw [hact]; exact noAh (by omega) (by omega) (by omega))
    have h3 : e ≤ t.length := h1.2.2.1
    rw [sAct_105 (by omega)] at hs
    exact wf_sIns' hw (pRows_ok _ _ _ _ hrw) (by omega) hs
  by_cases n99 : hd l = 99
  · obtain ⟨k, hrw⟩ := p1 (by omega)
    obtain ⟨pre, mid, post, rfl, rfl, rfl⟩ := z3 (noAh (by omega) (by omega) (by omega))
    rw [sAct_99 (by omega), sDel_z] at hs
    by_cases hne : pre ++ post = []
    · have hw2 : WF (pre ++ post, 0, h, o, fi, unmL m (idsOfL mid), n, rp) := hw.del (p' := 0) (rp' := rp) ⟨Nat.zero_le _, fun z => absurd hne z⟩
      have hs2 : sIns (pre ++ post, 0, h, o, fi, unmL m (idsOfL mid), n, rp) (pre.length + 1 - 1) (oRows od) = .inr A' := hs
      exact wf_sIns hw2 (pRows_ok _ _ _ _ hrw) (by omega) hs2
    · have hw2 : WF (pre ++ post, 1, h, o, fi, unmL m (idsOfL mid), n, rp) := hw.del (p' := 1) (rp' := rp) ⟨by have := List.length_pos_iff.mpr hne; simp at this; omega, fun _ => Nat.le_refl _⟩
      have hs2 : sIns (pre ++ post, 1, h, o, fi, unmL m (idsOfL mid), n, rp) (pre.length + 1 - 1) (oRows od) = .inr A' := hs
      exact wf_sIns hw2 (pRows_ok _ _ _ _ hrw) (by omega) hs2
  by_cases n100 : hd l = 100
  · obtain ⟨pre, mid, post, rfl, rfl, rfl⟩ := z3 (noAh (by omega) (by omega) (by omega))
    rw [sAct_100 (by omega), sDel_z] at hs
    cases hs
    refine ⟨hw.del ⟨by simp; omega, fun z => ?_⟩, by show n ≤ n; omega, by show n ≤ n + 40; omega⟩
    have := List.length_pos_iff.mpr z
    show 1 ≤ min (pre.length + 1) (pre ++ post).length
    omega
  by_cases n106 : hd l = 106
  · have hfe := zne (noAh (by omega) (by omega) (by omega)) (noWi (by omega) (by omega) (by omega))
    obtain ⟨pre, mid, post, rfl, rfl, rfl⟩ := z3 (noAh (by omega) (by omega) (by omega))
    rw [sAct_106 (by omega)] at hs
    unfold sJoin at hs
    dsimp only at hs
    obtain ⟨e2, he2⟩ : ∃ e2, e2 = (if pre.length + 1 = pre.length + mid.length then pre.length + 1 + 1 else pre.length + mid.length) := ⟨_, rfl⟩
    rw [← he2] at hs
    split at hs
    · cases hs
    · rename_i hl2
      split at hs
      · cases hs
      · rename_i h30
        have hlen : (pre ++ mid ++ post).length = pre.length + mid.length + post.length := by simp; omega
        have he2' : pre.length + 2 ≤ e2 := by rw [he2]; split <;> omega
        obtain ⟨pre2, mid2, post2, ht, hf2, hE2⟩ := split3 (t := pre ++ mid ++ post) (f := pre.length + 1) (e := e2) (by omega) (by omega) (by omega)
        have hpl : pre2.length = pre.length := by omega
        cases hs
        rw [ht] at hw ⊢
        rw [ht] at h30
        rw [← hpl, hE2] at h30 ⊢
        obtain ⟨y, ms, rfl⟩ := List.exists_cons_of_ne_nil (show mid2 ≠ [] from fun z => by rw [z] at hE2; simp at hE2; omega)
        have hE3 : pre2.length + (y :: ms).length = pre2.length + 1 + ms.length := by simp; omega
        rw [segz] at h30 ⊢
        rw [hE3] at *
        rw [takez, idz, segz1]
        have hd2 : (pre2 ++ (y :: ms) ++ post2).drop (pre2.length + 1 + ms.length) = post2 := List.drop_left' (by simp; omega)
        rw [hd2]
        refine ⟨?_, by show n ≤ n; omega, by show n ≤ n + 40; omega⟩
        refine hw.sub ⟨by simp, fun _ => by omega⟩ ?_ (fun q hq => ?_) (fun x hx => ?_)
        · rw [idsOfL_app, idsOfL_app, idsOfL_app, List.append_assoc]
          refine List.Sublist.append (List.Sublist.refl _) ?_
          show (y.1 :: idsOfL post2).Sublist (y.1 :: idsOfL ms ++ idsOfL post2)
          exact (List.sublist_append_right _ _).cons_cons _
        · rcases List.mem_append.mp hq with z | z
          · exact (hw.tt.2.2.2.1 q (List.mem_append_left _ (List.mem_append_left _ z))).2
          · rcases List.mem_cons.mp z with z | z
            · rw [z]
              exact ⟨by show (rowsOfL (y :: ms)).flatten.length ≤ 30; omega, flatten_CO _ (rowsOfL_ok hw)⟩
            · exact (hw.tt.2.2.2.1 q (List.mem_append_right _ z)).2
        · rw [idsOfL_app, idsOfL_app] at hx
          rw [idsOfL_app]
          rcases List.mem_append.mp hx with z | z
          · rcases List.mem_append.mp z with z | z
            · exact Or.inl (List.mem_append_left _ z)
            · rcases List.mem_cons.mp z with z | z
              · exact Or.inl (List.mem_append_right _ (List.mem_cons.mpr (Or.inl z)))
              · exact Or.inr z
          · exact Or.inl (List.mem_append_right _ (List.mem_cons_of_mem _ z))
  by_cases n118 : hd l = 118
  · have hfe := zne (noAh (by omega) (by omega) (by omega)) (noWi (by omega) (by omega) (by omega))
    obtain ⟨pre, mid, post, rfl, rfl, rfl⟩ := z3 (noAh (by omega) (by omega) (by omega))
    rw [sAct_118 (by omega), sPart_z] at hs
    cases h1 : sPartL (oNum od).toNat (40 - (pre.length + mid.length + post.length)) n mid with
    | none => rw [h1] at hs; cases hs
    | some w =>
      obtain ⟨q, n1⟩ := w
      rw [h1] at hs
      cases hs
      obtain ⟨-, w2, w3, w4, w5, w6⟩ := hw.tt
      obtain ⟨⟨k, i1, i2, i3⟩, i4, i5, i6⟩ := sPartL_ok mid _ n q n1 h1 (fun x hx => ⟨(w4 x (mem3 hx)).1.2, (w4 x (mem3 hx)).2⟩)
      have hlen : (pre ++ mid ++ post).length = pre.length + mid.length + post.length := by simp; omega
      have hlen2 : (pre ++ q ++ post).length = pre.length + q.length + post.length := by simp; omega
      rw [idsOfL_app, idsOfL_app, List.nodup_append, List.nodup_append] at w3
      obtain ⟨⟨v1, v2, v3⟩, v4, v5⟩ := w3
      have hq1 : ∀ x ∈ idsOfL q, x ∈ idsOfL mid ∨ n ≤ x := by
        intro x hx
        obtain ⟨y, hy, rfl⟩ := List.mem_map.mp hx
        rcases (i4 y hy).1 with z | z
        · exact Or.inl z
        · exact Or.inr z.1
      have lt : ∀ x ∈ pre ++ post, x.1 < n := fun x hx => (w4 x (by rcases List.mem_append.mp hx with z | z; exact List.mem_append_left _ (List.mem_append_left _ z); exact List.mem_append_right _ z)).1.2
      refine ⟨hw.text ⟨by rw [hlen2]; omega, fun _ => by omega⟩ (by rw [hlen2]; omega) ?_ (fun x hx => ?_) (fun j x hx => ?_) (by omega), by show n ≤ n1; omega, by show n1 ≤ n + 40; omega⟩
      · rw [idsOfL_app, idsOfL_app, List.nodup_append, List.nodup_append]
        refine ⟨⟨v1, i6 v2, fun a ha b hb => ?_⟩, v4, fun a ha b hb => ?_⟩
        · rcases hq1 b hb with z | z
          · exact v3 a ha b z
          · obtain ⟨y, hy, rfl⟩ := List.mem_map.mp ha
            have := lt y (List.mem_append_left _ hy)
            omega
        · rcases List.mem_append.mp ha with z | z
          · exact v5 a (List.mem_append_left _ z) b hb
          · rcases hq1 a z with u | u
            · exact v5 a (List.mem_append_right _ u) b hb
            · obtain ⟨y, hy, rfl⟩ := List.mem_map.mp hb
              have := lt y (List.mem_append_right _ hy)
              omega
      · rcases List.mem_append.mp hx with z | z
        · rcases List.mem_append.mp z with z | z
          · have := w4 x (List.mem_append_left _ (List.mem_append_left _ z)); exact ⟨by omega, this.2⟩
          · have := i4 x z
            refine ⟨?_, this.2⟩
            rcases this.1 with u | u
            · obtain ⟨y, hy, he⟩ := List.mem_map.mp u
              have := (w4 y (mem3 hy)).1
              rw [← he]
              omega
            · omega
        · have := w4 x (List.mem_append_right _ z); exact ⟨by omega, this.2⟩
      · have := w5 j x hx
        rw [idsOfL_app, idsOfL_app] at this ⊢
        rcases List.mem_append.mp this with z | z
        · rcases List.mem_append.mp z with z | z
          · exact List.mem_append_left _ (List.mem_append_left _ z)
          · exact List.mem_append_left _ (List.mem_append_right _ (i5 x z))
        · exact List.mem_append_right _ z
  by_cases n108 : hd l = 108
  · have hfe := zne (noAh (by omega) (by omega) (by omega)) (noWi (by omega) (by omega) (by omega))
    obtain ⟨pre, mid, post, rfl, rfl, rfl⟩ := z3 (noAh (by omega) (by omega) (by omega))
    obtain ⟨y, ms, rfl⟩ := List.exists_cons_of_ne_nil (show mid ≠ [] from fun z => by rw [z] at hfe; simp at hfe; omega)
    have hl2 : (y :: ms).length = ms.length + 1 := rfl
    rw [sAct_108 (by omega), hl2, sLeave_z] at hs
    cases hs
    obtain ⟨k1, k2⟩ := sLess_ok ms y.2
    refine ⟨hw.sub ⟨by simp; omega, fun _ => by omega⟩ ?_ (fun q hq => ?_) (fun x hx => ?_), by show n ≤ n; omega, by show n ≤ n + 40; omega⟩
    · exact (((k1.cons_cons y).append_left pre).append_right post).map _
    · exact (hw.tt.2.2.2.1 q ((((k1.cons_cons y).append_left pre).append_right post).subset hq)).2
    · rw [idsOfL_app, idsOfL_app] at hx
      rw [idsOfL_app, idsOfL_app]
      rcases List.mem_append.mp hx with z | z
      · rcases List.mem_append.mp z with z | z
        · exact Or.inl (List.mem_append_left _ (List.mem_append_left _ z))
        · rcases List.mem_cons.mp z with z | z
          · exact Or.inl (List.mem_append_left _ (List.mem_append_right _ (List.mem_cons.mpr (Or.inl z))))
          · rcases k2 x z with u | u
            · exact Or.inl (List.mem_append_left _ (List.mem_append_right _ (List.mem_cons_of_mem _ u)))
            · exact Or.inr u
      · exact Or.inl (List.mem_append_right _ z)
  by_cases n112 : hd l = 112 ∨ hd l = 110
  · have hpr := prs e rfl (noAh (by omega) (by omega) (by omega)) (noWi (by omega) (by omega) (by omega))
    obtain ⟨pre, mid, post, rfl, rfl, rfl⟩ := z3 (noAh (by omega) (by omega) (by omega))
    rw [sAct_p (by omega)] at hs
    dsimp only at hs
    rw [segz] at hs
    cases h1 : sPrint (decide (oAct od = 110)) (pre.length + 1) (rowsOfL mid) o with
    | none => rw [h1] at hs; cases hs
    | some o1 =>
      rw [h1] at hs
      cases hs
      have := sPrint_ok (rowsOfL mid) _ o o1 h1 (by rw [rowsOfL_len]; simp at h40; omega) hw.oo (rowsOfL_ok hw)
      exact ⟨hw.out1 this hpr, by show n ≤ n; omega, by show n ≤ n + 40; omega⟩
  by_cases n61 : hd l = 61
  · rw [sAct_61 (by omega)] at hs
    dsimp only at hs
    cases h1 : sTell o (sNum e) with
    | none => rw [h1] at hs; cases hs
    | some o1 =>
      rw [h1] at hs
      cases hs
      exact ⟨hw.out1 (sTell_ok h1 hw.oo (sNum_CO (by omega)).1) hw.tt.1, by show n ≤ n; omega, by show n ≤ n + 40; omega⟩
  have hold : ∀ k : Nat, (hd l = 104 ∨ hd l = 72) → sHold (t, p, h, o, fi, m, n, rp) k f e = .inr A' → WFn n A' := by
    intro k hc hs
    have hpr := prs e rfl (noAh (by omega) (by omega) (by omega)) (noWi (by omega) (by omega) (by omega))
    obtain ⟨pre, mid, post, rfl, rfl, rfl⟩ := z3 (noAh (by omega) (by omega) (by omega))
    rw [sHold_z] at hs
    split at hs
    · cases hs
    · rename_i hk
      cases hs
      refine ⟨hw.held1 ⟨by rw [List.length_append, List.length_take, rowsOfL_len]; omega, fun r hr => ?_⟩ hpr, by show n ≤ n; omega, by show n ≤ n + 40; omega⟩
      rcases List.mem_append.mp hr with z | z
      · exact hw.hh.2 r (List.mem_of_mem_take z)
      · exact rowsOfL_ok hw r z
  by_cases n104 : hd l = 104
  · rw [sAct_104 (by omega)] at hs
    exact hold 0 (Or.inl n104) hs
  by_cases n72 : hd l = 72
  · rw [sAct_72 (by omega)] at hs
    exact hold _ (Or.inr n72) hs
  by_cases n117 : hd l = 117
  · rw [sAct_117 (by omega)] at hs
    have hs : (if h = [] then .inl 5 else sIns (t, p, h, o, fi, m, n, rp) e h) = Sum.inr A' := hs
    split at hs
    · cases hs
    · rename_i hne
      exact wf_sIns' hw ⟨hne, hw.hh.2⟩ hle hs
  by_cases n101 : hd l = 101
  · have hfe := zne (noAh (by omega) (by omega) (by omega)) (noWi (by omega) (by omega) (by omega))
    obtain ⟨pre, mid, post, rfl, rfl, rfl⟩ := z3 (noAh (by omega) (by omega) (by omega))
    rw [sAct_101 (by omega), sXch_z] at hs
    split at hs
    · cases hs
    · rename_i hne
      split at hs
      · cases hs
      · rename_i h4
        cases hs
        have key : ∀ p', (p' ≤ pre.length + post.length ∧ (pre ++ post ≠ [] → 1 ≤ p')) → WFn n (pre ++ mkL n h ++ post, pre.length + h.length, rowsOfL mid, o, fi, unmL m (idsOfL mid), n + h.length, rp) := by
          intro p' hp'
          have hw2 := (hw.del (p' := p') (rp' := rp) hp').ins ⟨hne, hw.hh.2⟩ (by omega)
          refine ⟨hw2.held1 ⟨by rw [rowsOfL_len]; simp at h40; omega, rowsOfL_ok hw⟩ hw2.tt.1, by show n ≤ n + h.length; omega, by show n + h.length ≤ n + 40; omega⟩
        by_cases hne2 : pre ++ post = []
        · exact key 0 ⟨Nat.zero_le _, fun z => absurd hne2 z⟩
        · exact key 1 ⟨by have := List.length_pos_iff.mpr hne2; simp at this; omega, fun _ => Nat.le_refl _⟩
  by_cases nch : hd l = 62 ∨ hd l = 60 ∨ hd l = 115 ∨ hd l = 122
  · have hpr := prs e rfl (noAh (by omega) (by omega) (by omega)) (noWi (by omega) (by omega) (by omega))
    obtain ⟨pre, mid, post, rfl, rfl, rfl⟩ := z3 (noAh (by omega) (by omega) (by omega))
    rw [sAct_ch (by omega), sChange_z] at hs
    cases h1 : sChgL od mid rp with
    | none => rw [h1] at hs; cases hs
    | some w =>
      obtain ⟨q, rp1⟩ := w
      rw [h1] at hs
      cases hs
      obtain ⟨k1, k2⟩ := sChgL_ok hpp h48 hact nch mid q rp rp1 (fun x hx => (hw.tt.2.2.2.1 x (mem3 hx)).2) h1
      have hql : q.length = mid.length := by have := congrArg List.length k1; unfold idsOfL at this; simpa using this
      have hlen' : (pre ++ q ++ post).length = (pre ++ mid ++ post).length := by simp [hql]
      refine ⟨hw.perm ⟨by rw [hlen']; exact hpr.1, fun z => hpr.2 (fun y => z (List.length_eq_zero_iff.mp (by rw [hlen', y]; rfl)))⟩ ?_ (fun x hx => ?_), by show n ≤ n; omega, by show n ≤ n + 40; omega⟩
      · rw [idsOfL_app, idsOfL_app, k1, ← idsOfL_app, ← idsOfL_app]
      · rcases List.mem_append.mp hx with z | z
        · rcases List.mem_append.mp z with z | z
          · exact (hw.tt.2.2.2.1 x (List.mem_append_left _ (List.mem_append_left _ z))).2
          · exact k2 x z
        · exact (hw.tt.2.2.2.1 x (List.mem_append_right _ z)).2
  by_cases nso : hd l = 111 ∨ hd l = 79
  · have hpr := prs e rfl (noAh (by omega) (by omega) (by omega)) (noWi (by omega) (by omega) (by omega))
    obtain ⟨pre, mid, post, rfl, rfl, rfl⟩ := z3 (noAh (by omega) (by omega) (by omega))
    rw [sAct_so (by omega), sSort_z] at hs
    cases hs
    have hpm : (pre ++ sSortL od mid ++ post).Perm (pre ++ mid ++ post) := ((sSortL_perm mid).append_left pre).append_right post
    have hpl := hpm.length_eq
    refine ⟨hw.perm ⟨by rw [hpl]; exact hpr.1, fun z => hpr.2 (fun y => z (List.length_eq_zero_iff.mp (by rw [hpl, y]; rfl)))⟩ (hpm.map _) (fun x hx => (hw.tt.2.2.2.1 x (hpm.mem_iff.mp hx)).2), by show n ≤ n; omega, by show n ≤ n + 40; omega⟩
  by_cases n109 : hd l = 109
  · have hfe := zne (noAh (by omega) (by omega) (by omega)) (noWi (by omega) (by omega) (by omega))
    obtain ⟨a, ht, hpa⟩ := p3 (by omega)
    rw [sAct_109 (by omega), ht, show (some a).getD (0, 0, noPat, 0, false) = a from rfl] at hs
    cases h1 : sAdr (t, p, h, o, fi, m, n, rp) a with
    | inl w => rw [h1] at hs; cases hs
    | inr to =>
      have hto := sAdr_R h1
      have hto : to ≤ t.length := hto
      rw [h1] at hs
      obtain ⟨pre, mid, post, rfl, rfl, rfl⟩ := z3 (noAh (by omega) (by omega) (by omega))
      dsimp only at hs
      unfold sMove at hs
      dsimp only at hs
      split at hs
      · cases hs
      · rename_i hne
        rw [takez, dropz, segz, show pre.length + mid.length + 1 - (pre.length + 1) = mid.length by omega] at hs
        cases hs
        simp at hto
        obtain ⟨b, hb⟩ : ∃ b, b = (if to < pre.length + 1 then to else to - mid.length) := ⟨_, rfl⟩
        rw [← hb]
        have hbl : b ≤ pre.length + post.length := by rw [hb]; split <;> omega
        have hpm : ((pre ++ post).take b ++ mid ++ (pre ++ post).drop b).Perm (pre ++ mid ++ post) := by
          refine ((List.perm_append_comm (l₁ := (pre ++ post).take b) (l₂ := mid)).append_right _).trans ?_
          rw [List.append_assoc, List.take_append_drop, ← List.append_assoc]
          exact (List.perm_append_comm (l₁ := mid) (l₂ := pre)).append_right _
        have hpl := hpm.length_eq
        refine ⟨hw.perm ⟨by rw [hpl]; simp; omega, fun _ => by omega⟩ (hpm.map _) (fun x hx => (hw.tt.2.2.2.1 x (hpm.mem_iff.mp hx)).2), by show n ≤ n; omega, by show n ≤ n + 40; omega⟩
  by_cases n116 : hd l = 116
  · have hfe := zne (noAh (by omega) (by omega) (by omega)) (noWi (by omega) (by omega) (by omega))
    obtain ⟨a, ht, hpa⟩ := p3 (by omega)
    rw [sAct_116 (by omega), ht, show (some a).getD (0, 0, noPat, 0, false) = a from rfl] at hs
    cases h1 : sAdr (t, p, h, o, fi, m, n, rp) a with
    | inl w => rw [h1] at hs; cases hs
    | inr to =>
      have hto := sAdr_R h1
      rw [h1] at hs
      obtain ⟨pre, mid, post, rfl, rfl, rfl⟩ := z3 (noAh (by omega) (by omega) (by omega))
      dsimp only at hs
      rw [segz] at hs
      exact wf_sIns' hw ⟨fun z => by have := congrArg List.length z; rw [rowsOfL_len] at this; simp at this; rw [this] at hfe; simp at hfe; omega, rowsOfL_ok hw⟩ hto hs
  by_cases n114 : hd l = 114
  · rw [sAct_114 (by omega)] at hs
    have hs : (if fi (oNum od).toNat = [] then Sum.inr (t, p, h, o, fi, m, n, rp) else sIns (t, p, h, o, fi, m, n, rp) e (fi (oNum od).toNat)) = Sum.inr A' := hs
    split at hs
    · cases hs
      exact ⟨hw, by show n ≤ n; omega, by show n ≤ n + 40; omega⟩
    · rename_i hne
      exact wf_sIns' hw ⟨hne, (hw.ff _).2⟩ hle hs
  by_cases n119 : hd l = 119
  · obtain ⟨pre, mid, post, rfl, rfl, rfl⟩ := z3 (noAh (by omega) (by omega) (by omega))
    rw [sAct_119 (by omega)] at hs
    dsimp only at hs
    rw [segz] at hs
    cases hs
    exact ⟨hw.file1 ⟨by rw [rowsOfL_len]; simp at h40; omega, rowsOfL_ok hw⟩, by show n ≤ n; omega, by show n ≤ n + 40; omega⟩
  · have h107 : hd l = 107 := by
      rcases p10 with z | z
      · have := c18 z; omega
      · have := cBare z; omega
    have hfe := zne (noAh (by omega) (by omega) (by omega)) (noWi (by omega) (by omega) (by omega))
    have hf1 := (hR.one (by rw [hact]; exact noAh (by omega) (by omega) (by omega))).1
    rw [sAct_107 (by omega)] at hs
    cases hs
    refine ⟨hw.text hw.tt.1 h40 hw.tt.2.2.1 hw.tt.2.2.2.1 (fun k x hk => ?_) (Int.le_refl _), by show n ≤ n; omega, by show n ≤ n + 40; omega⟩
    unfold fup at hk
    split at hk
    · cases hk
      unfold idAt
      rw [List.getD_eq_getElem?_getD, List.getElem?_eq_getElem (by omega)]
      exact mem_ids (List.getElem_mem _)
    · exact hw.tt.2.2.2.2.1 k x hk
end SWfa
