set_option maxRecDepth 100000
/-! what orders do keeps a state in order -/
abbrev CO (r : List Int) : Prop := ∀ c ∈ r, 32 ≤ c ∧ c ≤ 126
theorem CO.app {a b : List Int} (ha : CO a) (hb : CO b) : CO (a ++ b) := fun c hc => by
  rcases List.mem_append.mp hc with h | h
  · exact ha c h
  · exact hb c h
theorem CO.drop {a : List Int} (ha : CO a) (k : Nat) : CO (a.drop k) := fun c hc => ha c (List.mem_of_mem_drop hc)
theorem CO.take {a : List Int} (ha : CO a) (k : Nat) : CO (a.take k) := fun c hc => ha c (List.mem_of_mem_take hc)
theorem chr_CO {c : Int} (h : isChr c = true) : 32 ≤ c ∧ c ≤ 126 := by have := chr_R h; omega
theorem pRows_ok : ∀ (rs : List (List Int)) (k : Nat) (l l1 : List Int), pRows k l = .inr (l1, rs) → rs ≠ [] ∧ ∀ r ∈ rs, RowOk r := by
  intro rs
  induction rs with
  | nil => intro k l l1 h; exact absurd h pRows_nil
  | cons r rs ih =>
    intro k l l1 h
    refine ⟨by simp, fun q hq => ?_⟩
    obtain ⟨h1, h2, h3⟩ := pRows_cons h
    rcases List.mem_cons.mp hq with z | z
    · rw [z]
      exact ⟨h2, fun c hc => chr_CO (tw_all l c (by rw [← h1]; exact hc))⟩
    · rcases h3 with ⟨h4, _⟩ | ⟨_, k', h5⟩
      · rw [h4] at z; cases z
      · exact (ih k' _ l1 h5).2 q z
theorem mem_mkL : ∀ (rs : List (List Int)) (n : Int) (q : SLine), q ∈ mkL n rs → (n ≤ q.1 ∧ q.1 < n + rs.length) ∧ q.2 ∈ rs := by
  intro rs
  induction rs with
  | nil => intro n q h; cases h
  | cons r rs ih =>
    intro n q h
    rcases List.mem_cons.mp h with z | z
    · rw [z]; exact ⟨⟨Int.le_refl _, by simp; omega⟩, List.mem_cons_self⟩
    · have := ih (n + 1) q z
      refine ⟨⟨by omega, ?_⟩, List.mem_cons_of_mem _ this.2⟩
      simp
      omega
theorem mkL_nodup : ∀ (rs : List (List Int)) (n : Int), (idsOfL (mkL n rs)).Nodup := by
  intro rs
  induction rs with
  | nil => intro n; exact List.nodup_nil
  | cons r rs ih =>
    intro n
    refine List.nodup_cons.mpr ⟨fun h => ?_, ih (n + 1)⟩
    obtain ⟨q, hq, he⟩ := List.mem_map.mp h
    have := (mem_mkL rs (n + 1) q hq).1
    have he : q.1 = n := he
    omega
theorem idsOfL_app (a b : List SLine) : idsOfL (a ++ b) = idsOfL a ++ idsOfL b := List.map_append
theorem mem_ids {q : SLine} {t : List SLine} (h : q ∈ t) : q.1 ∈ idsOfL t := List.mem_map.mpr ⟨q, h, rfl⟩
section SWf
variable {pre mid post t t' : List SLine} {p p' : Nat} {h o : List (List Int)} {fi : Nat → List (List Int)} {m m' : Nat → Option Int} {n n' : Int} {rp rp' : Bool} {rs : List (List Int)} {l l1 : List Int} {od : SOrd0}
theorem WF.text (hw : WF (t, p, h, o, fi, m, n, rp)) (h1 : p' ≤ t'.length ∧ (t' ≠ [] → 1 ≤ p')) (h2 : t'.length ≤ 40) (h3 : (idsOfL t').Nodup) (h4 : ∀ q ∈ t', (0 ≤ q.1 ∧ q.1 < n') ∧ RowOk q.2) (h5 : ∀ k x, m' k = some x → x ∈ idsOfL t') (h6 : n ≤ n') : WF (t', p', h, o, fi, m', n', rp') := ⟨h1, h2, h3, h4, h5, Int.le_trans hw.2.2.2.2.2.1 h6, hw.2.2.2.2.2.2⟩
theorem WF.tt (hw : WF (t, p, h, o, fi, m, n, rp)) : (p ≤ t.length ∧ (t ≠ [] → 1 ≤ p)) ∧ t.length ≤ 40 ∧ (idsOfL t).Nodup ∧ (∀ q ∈ t, (0 ≤ q.1 ∧ q.1 < n) ∧ RowOk q.2) ∧ (∀ k x, m k = some x → x ∈ idsOfL t) ∧ 0 ≤ n := ⟨hw.1, hw.2.1, hw.2.2.1, hw.2.2.2.1, hw.2.2.2.2.1, hw.2.2.2.2.2.1⟩
theorem WF.hh (hw : WF (t, p, h, o, fi, m, n, rp)) : h.length ≤ 40 ∧ ∀ r ∈ h, RowOk r := hw.2.2.2.2.2.2.1
theorem WF.oo (hw : WF (t, p, h, o, fi, m, n, rp)) : o.length ≤ 100 ∧ ∀ r ∈ o, RowOk r := hw.2.2.2.2.2.2.2.1
theorem WF.ff (hw : WF (t, p, h, o, fi, m, n, rp)) (k : Nat) : (fi k).length ≤ 40 ∧ ∀ r ∈ fi k, RowOk r := hw.2.2.2.2.2.2.2.2 k
/-- the same ids in another order or with other rows -/
theorem WF.perm (hw : WF (t, p, h, o, fi, m, n, rp)) (h1 : p' ≤ t'.length ∧ (t' ≠ [] → 1 ≤ p')) (hp : (idsOfL t').Perm (idsOfL t)) (hr : ∀ q ∈ t', RowOk q.2) : WF (t', p', h, o, fi, m, n, rp') := by
  obtain ⟨-, w2, w3, w4, w5, w6⟩ := hw.tt
  have hl : t'.length = t.length := by have := hp.length_eq; unfold idsOfL at this; simpa using this
  refine hw.text h1 (by omega) (hp.nodup_iff.mpr w3) (fun q hq => ⟨?_, hr q hq⟩) (fun k x hk => hp.mem_iff.mpr (w5 k x hk)) (Int.le_refl _)
  obtain ⟨q', hq', he⟩ := List.mem_map.mp (hp.mem_iff.mp (mem_ids hq))
  rw [← he]
  exact (w4 q' hq').1
/-- lines that go, with their marks -/
theorem WF.sub {xs : List Int} (hw : WF (t, p, h, o, fi, m, n, rp)) (h1 : p' ≤ t'.length ∧ (t' ≠ [] → 1 ≤ p')) (hs : (idsOfL t').Sublist (idsOfL t)) (hr : ∀ q ∈ t', RowOk q.2) (hx : ∀ x ∈ idsOfL t, x ∈ idsOfL t' ∨ x ∈ xs) : WF (t', p', h, o, fi, unmL m xs, n, rp') := by
  obtain ⟨-, w2, w3, w4, w5, w6⟩ := hw.tt
  have hl : t'.length ≤ t.length := by have := hs.length_le; unfold idsOfL at this; simpa using this
  refine hw.text h1 (by omega) (hs.nodup w3) (fun q hq => ⟨?_, hr q hq⟩) (fun k x hk => ?_) (Int.le_refl _)
  · obtain ⟨q', hq', he⟩ := List.mem_map.mp (hs.subset (mem_ids hq))
    rw [← he]
    exact (w4 q' hq').1
  · unfold unmL at hk
    cases hm : m k with
    | none => rw [hm] at hk; cases hk
    | some y =>
      rw [hm] at hk
      dsimp only at hk
      split at hk
      · cases hk
      · rename_i hy
        cases hk
        exact (hx x (w5 k x hm)).resolve_right hy
theorem WF.ins (hw : WF (pre ++ post, p, h, o, fi, m, n, rp)) (hrs : rs ≠ [] ∧ ∀ r ∈ rs, RowOk r) (h40 : pre.length + post.length + rs.length ≤ 40) : WF (pre ++ mkL n rs ++ post, pre.length + rs.length, h, o, fi, m, n + rs.length, rp) := by
  obtain ⟨-, w2, w3, w4, w5, w6⟩ := hw.tt
  have hl : 0 < rs.length := List.length_pos_iff.mpr hrs.1
  have hlen : (pre ++ mkL n rs ++ post).length = pre.length + rs.length + post.length := by simp [mkL_len]; omega
  have hp : (pre ++ mkL n rs ++ post).Perm (mkL n rs ++ (pre ++ post)) := by
    rw [← List.append_assoc]
    exact (List.perm_append_comm).append_right post
  have hpi : (idsOfL (pre ++ mkL n rs ++ post)).Perm (idsOfL (mkL n rs) ++ idsOfL (pre ++ post)) := by
    rw [← idsOfL_app]; exact hp.map _
  refine hw.text ⟨by rw [hlen]; omega, fun _ => by omega⟩ (by rw [hlen]; omega) ?_ (fun q hq => ?_) (fun k x hk => ?_) (by omega)
  · rw [hpi.nodup_iff, List.nodup_append]
    refine ⟨mkL_nodup rs n, w3, fun a ha b hb => ?_⟩
    obtain ⟨q, hq, rfl⟩ := List.mem_map.mp ha
    obtain ⟨q', hq', rfl⟩ := List.mem_map.mp hb
    have h1 := (mem_mkL rs n q hq).1
    have h2 := (w4 q' hq').1
    omega
  · rcases List.mem_append.mp (hp.mem_iff.mp hq) with z | z
    · have := mem_mkL rs n q z
      exact ⟨by omega, hrs.2 _ this.2⟩
    · have := w4 q z
      exact ⟨by omega, this.2⟩
  · rw [hpi.mem_iff]
    exact List.mem_append_right _ (w5 k x hk)
theorem WF.del (hw : WF (pre ++ mid ++ post, p, h, o, fi, m, n, rp)) (h1 : p' ≤ pre.length + post.length ∧ (pre ++ post ≠ [] → 1 ≤ p')) : WF (pre ++ post, p', h, o, fi, unmL m (idsOfL mid), n, rp') := by
  refine hw.sub ⟨by simp; omega, h1.2⟩ ?_ (fun q hq => ?_) (fun x hx => ?_)
  · rw [idsOfL_app, idsOfL_app, idsOfL_app]
    exact List.Sublist.append (List.sublist_append_left _ _) (List.Sublist.refl _)
  · exact (hw.tt.2.2.2.1 q (by rcases List.mem_append.mp hq with z | z; exact List.mem_append_left _ (List.mem_append_left _ z); exact List.mem_append_right _ z)).2
  · rw [idsOfL_app, idsOfL_app] at hx
    rw [idsOfL_app]
    rcases List.mem_append.mp hx with z | z
    · rcases List.mem_append.mp z with z | z
      · exact Or.inl (List.mem_append_left _ z)
      · exact Or.inr z
    · exact Or.inl (List.mem_append_right _ z)
theorem sNum_CO {k : Nat} (hk : k < 1000) : CO (sNum k) ∧ (sNum k).length ≤ 3 := by
  unfold sNum
  refine ⟨CO.app (CO.app ?_ ?_) ?_, by split <;> split <;> simp⟩
  · split
    · intro c hc; rw [List.mem_singleton.mp hc]; omega
    · intro c hc; cases hc
  · split
    · intro c hc; rw [List.mem_singleton.mp hc]; omega
    · intro c hc; cases hc
  · intro c hc; rw [List.mem_singleton.mp hc]; omega
theorem WF.out1 {o' : List (List Int)} (hw : WF (t, p, h, o, fi, m, n, rp)) (ho : o'.length ≤ 100 ∧ ∀ r ∈ o', RowOk r) (hp : p' ≤ t.length ∧ (t ≠ [] → 1 ≤ p')) : WF (t, p', h, o', fi, m, n, rp) :=
  ⟨hp, hw.2.1, hw.2.2.1, hw.2.2.2.1, hw.2.2.2.2.1, hw.2.2.2.2.2.1, hw.2.2.2.2.2.2.1, ho, hw.2.2.2.2.2.2.2.2⟩
theorem WF.held1 {h' : List (List Int)} (hw : WF (t, p, h, o, fi, m, n, rp)) (ho : h'.length ≤ 40 ∧ ∀ r ∈ h', RowOk r) (hp : p' ≤ t.length ∧ (t ≠ [] → 1 ≤ p')) : WF (t, p', h', o, fi, m, n, rp) :=
  ⟨hp, hw.2.1, hw.2.2.1, hw.2.2.2.1, hw.2.2.2.2.1, hw.2.2.2.2.2.1, ho, hw.2.2.2.2.2.2.2.1, hw.2.2.2.2.2.2.2.2⟩
theorem WF.file1 {k : Nat} {f' : List (List Int)} (hw : WF (t, p, h, o, fi, m, n, rp)) (ho : f'.length ≤ 40 ∧ ∀ r ∈ f', RowOk r) : WF (t, p, h, o, fup fi k f', m, n, rp) :=
  ⟨hw.1, hw.2.1, hw.2.2.1, hw.2.2.2.1, hw.2.2.2.2.1, hw.2.2.2.2.2.1, hw.2.2.2.2.2.2.1, hw.2.2.2.2.2.2.2.1, fun j => by
    show (fup fi k f' j).length ≤ 40 ∧ ∀ r ∈ fup fi k f' j, RowOk r
    unfold fup
    split
    · exact ho
    · exact hw.ff j⟩
theorem sTell_ok {o o1 : List (List Int)} {r : List Int} (hh : sTell o r = some o1) (ho : o.length ≤ 100 ∧ ∀ r ∈ o, RowOk r) (hr : CO r) : o1.length ≤ 100 ∧ ∀ r ∈ o1, RowOk r := by
  unfold sTell at hh
  split at hh
  · cases hh
  · rename_i hc
    cases hh
    refine ⟨by simp; omega, fun q hq => ?_⟩
    rcases List.mem_append.mp hq with z | z
    · exact ho.2 q z
    · rw [List.mem_singleton.mp z]; exact ⟨by omega, hr⟩
theorem sPrint_ok {nm : Bool} : ∀ (ms : List (List Int)) (k : Nat) (o o1 : List (List Int)), sPrint nm k ms o = some o1 → k + ms.length ≤ 900 → (o.length ≤ 100 ∧ ∀ r ∈ o, RowOk r) → (∀ r ∈ ms, RowOk r) → o1.length ≤ 100 ∧ ∀ r ∈ o1, RowOk r := by
  intro ms
  induction ms with
  | nil => intro k o o1 hh _ ho _; cases hh; exact ho
  | cons r ms ih =>
    intro k o o1 hh hk ho hr
    simp at hk
    have e0 : sPrint nm k (r :: ms) o = match sTell o ((if nm = true then sNum k ++ [32] else []) ++ r) with
      | none => none
      | some out1 => sPrint nm (k + 1) ms out1 := rfl
    rw [e0] at hh
    have hcr : CO ((if nm = true then sNum k ++ [32] else []) ++ r) := by
      refine CO.app ?_ (hr r List.mem_cons_self).2
      split
      · exact CO.app (sNum_CO (by omega)).1 (fun c hc => by rw [List.mem_singleton.mp hc]; omega)
      · intro c hc; cases hc
    cases hT : sTell o ((if nm = true then sNum k ++ [32] else []) ++ r) with
    | none => rw [hT] at hh; cases hh
    | some o2 =>
      rw [hT] at hh
      exact ih (k + 1) o2 o1 hh (by omega) (sTell_ok hT ho hcr) (fun q hq => hr q (List.mem_cons_of_mem _ hq))
theorem rowsOfL_mem {r : List Int} {ms : List SLine} (hh : r ∈ rowsOfL ms) : ∃ q ∈ ms, q.2 = r := List.mem_map.mp hh
theorem sPut_CO {row : List Int} {a e c : Nat} {b g : MG} (hr : CO row) : ∀ (k : Nat) (q : List Int), q.length ≤ k → putOk c q → CO (sPut row a e b g q) := by
  intro k
  induction k with
  | zero => intro q hq _; rw [List.length_eq_zero_iff.mp (by omega : q.length = 0)]; intro c hc; cases hc
  | succ k ih =>
    intro q hq hok
    cases q with
    | nil => intro c hc; cases hc
    | cons c0 q =>
      simp at hq
      have e0 : sPut row a e b g (c0 :: q) = if c0 = 38 then (row.drop a).take (e - a) ++ sPut row a e b g q
        else if c0 = 92 then (match q with
          | [] => []
          | y :: q => (row.drop (b (y - 48).toNat).toNat).take (g (y - 48).toNat - b (y - 48).toNat).toNat ++ sPut row a e b g q)
        else c0 :: sPut row a e b g q := by cases q <;> rfl
      have e1 : putOk c (c0 :: q) = if c0 = 92 then (match q with
          | [] => False
          | y :: q => (49 ≤ y ∧ y ≤ 48 + (c : Int)) ∧ putOk c q)
        else (isChr c0 = true ∨ c0 = 38) ∧ putOk c q := by cases q <;> rfl
      rw [e1] at hok
      rw [e0]
      split
      · rw [if_neg (by omega)] at hok
        exact CO.app ((hr.drop _).take _) (ih q (by omega) hok.2)
      · rename_i n38
        split
        · rename_i h92
          rw [if_pos h92] at hok
          cases q with
          | nil => exact hok.elim
          | cons y q =>
            simp at hq
            exact CO.app ((hr.drop _).take _) (ih q (by omega) hok.2)
        · rename_i h92
          rw [if_neg h92] at hok
          intro x hx
          rcases List.mem_cons.mp hx with z | z
          · rw [z]; exact chr_CO (hok.1.resolve_right n38)
          · exact ih q (by omega) hok.2 x z
theorem sReplF_CO {row : List Int} {c : Nat} (hr : CO row) (hok : putOk c (oPut od)) : ∀ (k : Nat) (R : Option (Nat × Nat × MG × MG)) (f : Int) (fr : Nat) (made : List Int) (is : Bool), CO made → CO (sReplF od row k R f fr made is).1 := by
  intro k
  induction k with
  | zero => intro R f fr made is hm; cases R <;> exact hm
  | succ k ih =>
    intro R f fr made is hm
    cases R with
    | none => exact hm
    | some w =>
      obtain ⟨a, e, b, g⟩ := w
      have e0 : sReplF od row (k + 1) (some (a, e, b, g)) f fr made is = if oEac od = true then sReplF od row k (mNext (oPat od) row e) (f + 1) e (made ++ (row.drop fr).take (a - fr) ++ sPut row a e b g (oPut od)) true
        else if f + 1 = oNum od then (made ++ (row.drop fr).take (a - fr) ++ sPut row a e b g (oPut od), e, true)
        else sReplF od row k (mNext (oPat od) row e) (f + 1) fr made is := rfl
      rw [e0]
      have h2 : CO (made ++ (row.drop fr).take (a - fr) ++ sPut row a e b g (oPut od)) := CO.app (CO.app hm ((hr.drop _).take _)) (sPut_CO hr _ _ (Nat.le_refl _) hok)
      split
      · exact ih _ _ _ _ _ h2
      · split
        · exact h2
        · exact ih _ _ _ _ _ hm
theorem sRepl_CO {row : List Int} {c : Nat} (hr : CO row) (hok : putOk c (oPut od)) : CO (sRepl od row).1 := by
  unfold sRepl
  have := sReplF_CO hr hok 40 (mFind (oPat od) row 0) 0 0 [] false (fun c hc => by cases hc)
  revert this
  generalize sReplF od row 40 (mFind (oPat od) row 0) 0 0 [] false = w
  obtain ⟨made, fr, is⟩ := w
  intro hm
  dsimp only
  split
  · exact CO.app hm (hr.drop _)
  · exact hr
/-- what s, z, > and < do with a row -/
theorem sChg_ok {row r1 : List Int} {b : Bool} (hp : ActP l l1 od) (h48 : ¬ hd l1 = 48) (hact : oAct od = hd l) (hc : hd l = 62 ∨ hd l = 60 ∨ hd l = 115 ∨ hd l = 122) (hr : RowOk row) (hh : sChg od row = some (r1, b)) : RowOk r1 := by
  unfold sChg at hh
  obtain ⟨p1, p2, p3, p4, p5, p6, p7, p8, p9, p10⟩ := hp
  by_cases c1 : oAct od = 115
  · rw [if_pos c1] at hh
    split at hh
    · cases hh
    · rename_i h30
      obtain ⟨la, c, lb, q1, q2, q3, q4, q5, q6, q7⟩ := pRepl_out (p8 (by omega)) h48
      have := sRepl_CO (od := od) hr.2 q6
      cases hs : sRepl od row with
      | mk x y =>
        rw [hs] at hh this h30
        cases hh
        have h30 : ¬ 30 < r1.length := h30
        exact ⟨by omega, this⟩
  rw [if_neg c1] at hh
  by_cases c2 : oAct od = 122
  · rw [if_pos c2] at hh
    cases hh
    obtain ⟨q1, q2, q3, q4, q5⟩ := pTurn_out (p9 (by omega))
    refine ⟨by rw [sTrn_len]; exact hr.1, fun c hc => ?_⟩
    obtain ⟨y, hy, rfl⟩ := List.mem_map.mp hc
    cases hf : (oLet od).findIdx? (fun x => x == y) with
    | none => exact hr.2 y hy
    | some k =>
      have hk := (List.findIdx?_eq_some_iff_getElem.mp hf).1
      have hm : (oPut od).getD k 0 ∈ oPut od := by
        rw [List.getD_eq_getElem?_getD, List.getElem?_eq_getElem (by omega)]
        exact List.getElem_mem _
      exact chr_CO (q5 _ hm)
  rw [if_neg c2] at hh
  by_cases c3 : oAct od = 62
  · rw [if_pos c3] at hh
    split at hh
    · cases hh
    · rename_i h30
      cases hh
      refine ⟨by simp; omega, CO.app (fun c hc => ?_) hr.2⟩
      rw [(List.mem_replicate.mp hc).2]
      omega
  rw [if_neg c3] at hh
  cases hh
  exact ⟨by have := hr.1; rw [List.length_drop]; omega, CO.drop hr.2 _⟩
theorem sChgL_ok (hp : ActP l l1 od) (h48 : ¬ hd l1 = 48) (hact : oAct od = hd l) (hc : hd l = 62 ∨ hd l = 60 ∨ hd l = 115 ∨ hd l = 122) : ∀ (ms q : List SLine) (rp rp1 : Bool), (∀ x ∈ ms, RowOk x.2) → sChgL od ms rp = some (q, rp1) → idsOfL q = idsOfL ms ∧ ∀ x ∈ q, RowOk x.2 := by
  intro ms
  induction ms with
  | nil => intro q rp rp1 hr hh; cases hh; exact ⟨rfl, hr⟩
  | cons x ms ih =>
    intro q rp rp1 hr hh
    obtain ⟨x1, x2⟩ := x
    have e0 : sChgL od ((x1, x2) :: ms) rp = match sChg od x2 with
      | none => none
      | some (r1, b) => match sChgL od ms (rp || b) with
        | none => none
        | some (q, rp1) => some ((x1, r1) :: q, rp1) := rfl
    rw [e0] at hh
    cases h1 : sChg od x2 with
    | none => rw [h1] at hh; cases hh
    | some w =>
      obtain ⟨r1, b⟩ := w
      rw [h1] at hh
      dsimp only at hh
      cases h2 : sChgL od ms (rp || b) with
      | none => rw [h2] at hh; cases hh
      | some w =>
        obtain ⟨q2, rp2⟩ := w
        rw [h2] at hh
        cases hh
        have := ih q2 _ _ (fun y hy => hr y (List.mem_cons_of_mem _ hy)) h2
        refine ⟨?_, fun y hy => ?_⟩
        · show x1 :: idsOfL q2 = x1 :: idsOfL ms
          rw [this.1]
        · rcases List.mem_cons.mp hy with z | z
          · rw [z]; exact sChg_ok hp h48 hact hc (hr _ List.mem_cons_self) h1
          · exact this.2 y z
theorem sInsR_perm (x : SLine) : ∀ ys : List SLine, (sInsR od x ys).Perm (x :: ys) := by
  intro ys
  induction ys with
  | nil => exact List.Perm.refl _
  | cons y ys ih =>
    show (if sBef od x y = true then y :: sInsR od x ys else x :: y :: ys).Perm _
    split
    · exact (ih.cons y).trans (List.Perm.swap x y ys)
    · exact List.Perm.refl _
theorem sSortF_perm : ∀ (ms acc : List SLine), (ms.foldl (fun acc x => sInsR od x acc) acc).Perm (ms ++ acc) := by
  intro ms
  induction ms with
  | nil => intro acc; exact List.Perm.refl _
  | cons x ms ih =>
    intro acc
    refine (ih (sInsR od x acc)).trans ?_
    refine ((sInsR_perm x acc).append_left ms).trans ?_
    exact List.perm_middle
theorem sSortL_perm (ms : List SLine) : (sSortL od ms).Perm ms := by
  unfold sSortL
  refine (List.reverse_perm _).trans ?_
  have := sSortF_perm (od := od) ms []
  rw [List.append_nil] at this
  exact this
theorem sLess_ok : ∀ (ms : List SLine) (r : List Int), (sLess r ms).1.Sublist ms ∧ ∀ x ∈ idsOfL ms, x ∈ idsOfL (sLess r ms).1 ∨ x ∈ (sLess r ms).2 := by
  intro ms
  induction ms with
  | nil => intro r; exact ⟨List.Sublist.refl _, fun x hx => by cases hx⟩
  | cons x ms ih =>
    intro r
    obtain ⟨x1, x2⟩ := x
    have e0 : sLess r ((x1, x2) :: ms) = if x2 = r then ((sLess r ms).1, x1 :: (sLess r ms).2) else ((x1, x2) :: (sLess x2 ms).1, (sLess x2 ms).2) := rfl
    rw [e0]
    split
    · refine ⟨(ih r).1.cons _, fun y hy => ?_⟩
      rcases List.mem_cons.mp hy with z | z
      · exact Or.inr (List.mem_cons.mpr (Or.inl z))
      · rcases (ih r).2 y z with w | w
        · exact Or.inl w
        · exact Or.inr (List.mem_cons_of_mem _ w)
    · refine ⟨(ih x2).1.cons_cons _, fun y hy => ?_⟩
      rcases List.mem_cons.mp hy with z | z
      · exact Or.inl (List.mem_cons.mpr (Or.inl z))
      · rcases (ih x2).2 y z with w | w
        · exact Or.inl (List.mem_cons_of_mem _ w)
        · exact Or.inr w
/-- lines in parts -/
theorem sPartL_ok {b : Nat} : ∀ (ms : List SLine) (cap : Nat) (n : Int) (q : List SLine) (n1 : Int), sPartL b cap n ms = some (q, n1) → (∀ x ∈ ms, x.1 < n ∧ RowOk x.2) → (∃ k : Nat, n1 = n + k ∧ k ≤ cap ∧ q.length = ms.length + k) ∧ (∀ x ∈ q, (x.1 ∈ idsOfL ms ∨ (n ≤ x.1 ∧ x.1 < n1)) ∧ RowOk x.2) ∧ (∀ x ∈ idsOfL ms, x ∈ idsOfL q) ∧ ((idsOfL ms).Nodup → (idsOfL q).Nodup) := by
  intro ms
  induction ms with
  | nil =>
    intro cap n q n1 hh _
    have e0 : sPartL b cap n [] = some ([], n) := by cases cap <;> rfl
    rw [e0] at hh
    cases hh
    exact ⟨⟨0, by omega, Nat.zero_le _, rfl⟩, fun x hx => (by cases hx), fun x hx => hx, fun hx => hx⟩
  | cons x ms ih =>
    intro cap n q n1 hh hms
    obtain ⟨x1, x2⟩ := x
    have e0 : sPartL b cap n ((x1, x2) :: ms) = if b < x2.length then (match cap with
        | 0 => none
        | cap + 1 => match sPartL b cap (n + 1) ms with
          | none => none
          | some (q, n1) => some ((x1, x2.take b) :: (n, x2.drop b) :: q, n1))
      else match sPartL b cap n ms with
        | none => none
        | some (q, n1) => some ((x1, x2) :: q, n1) := by cases cap <;> rfl
    rw [e0] at hh
    have hx := hms _ (List.mem_cons_self (a := (x1, x2)) (l := ms))
    have hx1 : x1 < n := hx.1
    have hx2 : RowOk x2 := hx.2
    split at hh
    · cases cap with
      | zero => cases hh
      | succ cap =>
        dsimp only at hh
        cases h1 : sPartL b cap (n + 1) ms with
        | none => rw [h1] at hh; cases hh
        | some w =>
          obtain ⟨q2, n2⟩ := w
          rw [h1] at hh
          cases hh
          obtain ⟨⟨k, i1, i2, i3⟩, i4, i5, i6⟩ := ih cap (n + 1) q2 n1 h1 (fun y hy => by have := hms y (List.mem_cons_of_mem _ hy); exact ⟨by omega, this.2⟩)
          refine ⟨⟨k + 1, by omega, by omega, by simp; omega⟩, fun y hy => ?_, fun y hy => ?_, fun hnd => ?_⟩
          · rcases List.mem_cons.mp hy with z | z
            · rw [z]; exact ⟨Or.inl List.mem_cons_self, by rw [List.length_take]; have := hx2.1; omega, CO.take hx2.2 _⟩
            · rcases List.mem_cons.mp z with z | z
              · rw [z]; exact ⟨Or.inr ⟨Int.le_refl _, by show n < n1; omega⟩, by rw [List.length_drop]; have := hx2.1; omega, CO.drop hx2.2 _⟩
              · have := i4 y z
                refine ⟨?_, this.2⟩
                rcases this.1 with w | w
                · exact Or.inl (List.mem_cons_of_mem _ w)
                · exact Or.inr ⟨by omega, w.2⟩
          · rcases List.mem_cons.mp hy with z | z
            · rw [z]; exact List.mem_cons_self
            · exact List.mem_cons_of_mem _ (List.mem_cons_of_mem _ (i5 y z))
          · have hnd2 := List.nodup_cons.mp hnd
            have hin : ∀ z ∈ idsOfL q2, z ∈ idsOfL ms ∨ n + 1 ≤ z := by
              intro z hz
              obtain ⟨y, hy, rfl⟩ := List.mem_map.mp hz
              rcases (i4 y hy).1 with w | w
              · exact Or.inl w
              · exact Or.inr w.1
            refine List.nodup_cons.mpr ⟨fun hz => ?_, List.nodup_cons.mpr ⟨fun hz => ?_, i6 hnd2.2⟩⟩
            · rcases List.mem_cons.mp hz with w | w
              · have w : x1 = n := w; omega
              · rcases hin x1 w with u | u
                · exact hnd2.1 u
                · omega
            · rcases hin n hz with u | u
              · obtain ⟨y, hy, he⟩ := List.mem_map.mp u
                have := (hms y (List.mem_cons_of_mem _ hy)).1
                omega
              · omega
    · cases h1 : sPartL b cap n ms with
      | none => rw [h1] at hh; cases hh
      | some w =>
        obtain ⟨q2, n2⟩ := w
        rw [h1] at hh
        cases hh
        obtain ⟨⟨k, i1, i2, i3⟩, i4, i5, i6⟩ := ih cap n q2 n1 h1 (fun y hy => hms y (List.mem_cons_of_mem _ hy))
        refine ⟨⟨k, i1, i2, by simp; omega⟩, fun y hy => ?_, fun y hy => ?_, fun hnd => ?_⟩
        · rcases List.mem_cons.mp hy with z | z
          · rw [z]; exact ⟨Or.inl List.mem_cons_self, hx2⟩
          · have := i4 y z
            refine ⟨?_, this.2⟩
            rcases this.1 with w | w
            · exact Or.inl (List.mem_cons_of_mem _ w)
            · exact Or.inr w
        · rcases List.mem_cons.mp hy with z | z
          · rw [z]; exact List.mem_cons_self
          · exact List.mem_cons_of_mem _ (i5 y z)
        · have hnd2 := List.nodup_cons.mp hnd
          refine List.nodup_cons.mpr ⟨fun hz => ?_, i6 hnd2.2⟩
          obtain ⟨y, hy, he⟩ := List.mem_map.mp hz
          have he : y.1 = x1 := he
          rcases (i4 y hy).1 with w | w
          · rw [he] at w; exact hnd2.1 w
          · omega
end SWf
