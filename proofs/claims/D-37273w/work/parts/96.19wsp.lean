set_option maxRecDepth 100000
/-! a stream stays in order -/
section WSp
variable {s l l1 l2 : List Int} {t pu re : List SLine} {du : List (List Int)} {x : SLine} {g : Bool} {W W1 : WG} {B B1 : BG} {rs : List (List Int)} {h o : List (List Int)} {fi : Nat → List (List Int)} {m : Nat → Option Int} {n n0 : Int} {rp : Bool} {od : SOrd0}
theorem WS.text {x' : SLine} {g' rp' : Bool} {du' : List (List Int)} {pu' re' : List SLine} {m' : Nat → Option Int} {n' : Int} (hw : WS n0 (x, g, du, pu, re) (h, o, fi, m, n, rp)) (h1 : (idsOfL (allL (x', g', du', pu', re'))).Nodup) (h2 : ∀ q ∈ allL (x', g', du', pu', re'), (0 ≤ q.1 ∧ q.1 < n') ∧ RowOk q.2) (h3 : ∀ r ∈ du', RowOk r) (h4 : ∀ k y, m' k = some y → y ∈ idsOfL (allL (x', g', du', pu', re'))) (h5 : n ≤ n' ∧ n' ≤ n0 + pu'.length) (h6 : pu'.length ≤ 40 ∧ re'.length ≤ 40) : WS n0 (x', g', du', pu', re') (h, o, fi, m', n', rp') := by
  obtain ⟨-, -, -, -, a, b, c, e, -, -⟩ := hw
  have a2 : n0 ≤ n := a.2.1
  exact ⟨h1, h2, h3, h4, ⟨a.1, by show n0 ≤ n'; omega, h5.2⟩, b, c, e, h6.1, h6.2⟩
theorem WS.tt (hw : WS n0 (x, g, du, pu, re) (h, o, fi, m, n, rp)) : (idsOfL (allL (x, g, du, pu, re))).Nodup ∧ (∀ q ∈ allL (x, g, du, pu, re), (0 ≤ q.1 ∧ q.1 < n) ∧ RowOk q.2) ∧ (∀ r ∈ du, RowOk r) ∧ (∀ k y, m k = some y → y ∈ idsOfL (allL (x, g, du, pu, re))) ∧ (0 ≤ n0 ∧ n0 ≤ n ∧ n ≤ n0 + pu.length) ∧ (h.length ≤ 40 ∧ ∀ r ∈ h, RowOk r) ∧ (o.length ≤ 100 ∧ ∀ r ∈ o, RowOk r) ∧ (∀ k, (fi k).length ≤ 40 ∧ ∀ r ∈ fi k, RowOk r) ∧ pu.length ≤ 40 ∧ re.length ≤ 40 := hw
theorem WS.due1 (hw : WS n0 (x, g, du, pu, re) (h, o, fi, m, n, rp)) (hr : ∀ r ∈ rs, RowOk r) : WS n0 (x, g, du ++ rs, pu, re) (h, o, fi, m, n, rp) := by
  obtain ⟨a1, a2, a3, a4, a5, -, -, -, a6, a7⟩ := hw.tt
  exact hw.text a1 a2 (fun r hr' => (List.mem_append.mp hr').elim (a3 r) (hr r)) a4 ⟨Int.le_refl _, a5.2.2⟩ ⟨a6, a7⟩
theorem WS.row1 {r : List Int} {b : Bool} (hw : WS n0 (x, false, du, pu, re) (h, o, fi, m, n, rp)) (hr : RowOk r) : WS n0 ((x.1, r), false, du, pu, re) (h, o, fi, m, n, b) := by
  obtain ⟨a1, a2, a3, a4, a5, -, -, -, a6, a7⟩ := hw.tt
  have e : idsOfL (allL ((x.1, r), false, du, pu, re)) = idsOfL (allL (x, false, du, pu, re)) := by rw [allL_ids, allL_ids]
  refine hw.text (by rw [e]; exact a1) (fun q hq => ?_) a3 (fun k y hk => by rw [e]; exact a4 k y hk) ⟨Int.le_refl _, a5.2.2⟩ ⟨a6, a7⟩
  have hq : q ∈ pu ++ [(x.1, r)] ++ re := hq
  rcases List.mem_append.mp hq with z | z
  · rcases List.mem_append.mp z with z | z
    · exact a2 q (List.mem_append_left _ (List.mem_append_left _ z))
    · rw [List.mem_singleton.mp z]
      exact ⟨(hw.work).1, hr⟩
  · exact a2 q (List.mem_append_right _ z)
theorem WS.rest1 {h' o' : List (List Int)} {fi' : Nat → List (List Int)} (hw : WS n0 (x, g, du, pu, re) (h, o, fi, m, n, rp)) (hh : h'.length ≤ 40 ∧ ∀ r ∈ h', RowOk r) (ho : o'.length ≤ 100 ∧ ∀ r ∈ o', RowOk r) (hf : ∀ k, (fi' k).length ≤ 40 ∧ ∀ r ∈ fi' k, RowOk r) : WS n0 (x, g, du, pu, re) (h', o', fi', m, n, rp) := by
  obtain ⟨a1, a2, a3, a4, a5, -, -, -, a6, a7⟩ := hw.tt
  exact ⟨a1, a2, a3, a4, a5, hh, ho, hf, a6, a7⟩
theorem WS.hh (hw : WS n0 (x, g, du, pu, re) (h, o, fi, m, n, rp)) : h.length ≤ 40 ∧ ∀ r ∈ h, RowOk r := hw.tt.2.2.2.2.2.1
theorem WS.oo (hw : WS n0 (x, g, du, pu, re) (h, o, fi, m, n, rp)) : o.length ≤ 100 ∧ ∀ r ∈ o, RowOk r := hw.tt.2.2.2.2.2.2.1
theorem WS.ff (hw : WS n0 (x, g, du, pu, re) (h, o, fi, m, n, rp)) : ∀ k, (fi k).length ≤ 40 ∧ ∀ r ∈ fi k, RowOk r := hw.tt.2.2.2.2.2.2.2.1
theorem WS.mark1 {k0 : Nat} (hw : WS n0 (x, false, du, pu, re) (h, o, fi, m, n, rp)) : WS n0 (x, false, du, pu, re) (h, o, fi, fup m k0 (some x.1), n, rp) := by
  obtain ⟨a1, a2, a3, a4, a5, -, -, -, a6, a7⟩ := hw.tt
  refine hw.text a1 a2 a3 (fun k y hk => ?_) ⟨Int.le_refl _, a5.2.2⟩ ⟨a6, a7⟩
  unfold fup at hk
  split at hk
  · cases hk
    rw [allL_ids]
    exact mem_app3.mpr (Or.inr (Or.inl (by simp)))
  · exact a4 k y hk
theorem unmk_some {y z : Int} {k : Nat} (hk : unmk m z k = some y) : m k = some y ∧ y ≠ z := by
  unfold unmk at hk
  split at hk
  · cases hk
  · rename_i hc
    exact ⟨hk, fun e => hc (by rw [hk, e])⟩
theorem WS.gone1 (hw : WS n0 (x, false, du, pu, re) (h, o, fi, m, n, rp)) : WS n0 (x, true, du, pu, re) (h, o, fi, unmk m x.1, n, rp) := by
  obtain ⟨a1, a2, a3, a4, a5, -, -, -, a6, a7⟩ := hw.tt
  rw [allL_ids] at a1 a4
  refine hw.text ?_ (fun q hq => ?_) a3 (fun k y hk => ?_) ⟨Int.le_refl _, a5.2.2⟩ ⟨a6, a7⟩
  · rw [allL_ids]
    refine List.Sublist.nodup ?_ a1
    refine List.Sublist.append (List.Sublist.append (List.Sublist.refl _) ?_) (List.Sublist.refl _)
    exact List.nil_sublist _
  · have hq : q ∈ pu ++ [] ++ re := hq
    rw [List.append_nil] at hq
    rcases List.mem_append.mp hq with z | z
    · exact a2 q (List.mem_append_left _ (List.mem_append_left _ z))
    · exact a2 q (List.mem_append_right _ z)
  · obtain ⟨b1, b2⟩ := unmk_some hk
    rw [allL_ids]
    rcases mem_app3.mp (a4 k y b1) with z | z | z
    · exact mem_app3.mpr (Or.inl z)
    · exact absurd (by simpa using z) b2
    · exact mem_app3.mpr (Or.inr (Or.inr z))
theorem WS.puts1 (hw : WS n0 (x, g, du, pu, re) (h, o, fi, m, n, rp)) (hr : ∀ r ∈ rs, RowOk r) (h40 : pu.length + rs.length ≤ 40) : WS n0 (x, g, du, pu ++ mkL n rs, re) (h, o, fi, m, n + rs.length, rp) := by
  obtain ⟨a1, a2, a3, a4, a5, -, -, -, a6, a7⟩ := hw.tt
  have e : allL (x, g, du, pu ++ mkL n rs, re) = pu ++ mkL n rs ++ (if g = true then [] else [x]) ++ re := rfl
  have e2 : allL (x, g, du, pu, re) = pu ++ (if g = true then [] else [x]) ++ re := rfl
  have hp : (allL (x, g, du, pu ++ mkL n rs, re)).Perm (mkL n rs ++ allL (x, g, du, pu, re)) := by
    rw [e, e2, ← List.append_assoc, ← List.append_assoc]
    exact ((List.perm_append_comm).append_right _).append_right _
  have hpi : (idsOfL (allL (x, g, du, pu ++ mkL n rs, re))).Perm (idsOfL (mkL n rs) ++ idsOfL (allL (x, g, du, pu, re))) := by
    rw [← idsOfL_app]
    exact hp.map _
  refine hw.text ?_ (fun q hq => ?_) a3 (fun k y hk => ?_) ⟨by omega, by rw [List.length_append, mkL_len]; omega⟩ ⟨by rw [List.length_append, mkL_len]; omega, a7⟩
  · rw [hpi.nodup_iff, List.nodup_append]
    refine ⟨mkL_nodup rs n, a1, fun a ha b hb => ?_⟩
    obtain ⟨q, hq, rfl⟩ := List.mem_map.mp ha
    obtain ⟨q', hq', rfl⟩ := List.mem_map.mp hb
    have h1 := (mem_mkL rs n q hq).1
    have h2 := (a2 q' hq').1
    omega
  · rcases List.mem_append.mp (hp.mem_iff.mp hq) with z | z
    · have := mem_mkL rs n q z
      exact ⟨by omega, hr _ this.2⟩
    · have := a2 q z
      exact ⟨by omega, this.2⟩
  · rw [hpi.mem_iff]
    exact List.mem_append_right _ (a4 k y hk)
theorem WS.join1 {y : SLine} (hw : WS n0 (x, false, du, pu, y :: re) (h, o, fi, m, n, rp)) (h30 : (x.2 ++ y.2).length ≤ 30) : WS n0 ((x.1, x.2 ++ y.2), false, du, pu, re) (h, o, fi, unmk m y.1, n, rp) := by
  obtain ⟨a1, a2, a3, a4, a5, -, -, -, a6, a7⟩ := hw.tt
  have hx := (hw.work).2.2
  have hy := (hw.rest (y := y) List.mem_cons_self).2.2
  have hrow := hw.row1 (r := x.2 ++ y.2) (b := rp) ⟨h30, CO.app hx hy⟩
  obtain ⟨-, c2, -, -, -, -, -, -, -, -⟩ := hrow.tt
  rw [allL_ids] at a1 a4
  refine hw.text ?_ (fun q hq => ?_) a3 (fun k z hk => ?_) ⟨Int.le_refl _, a5.2.2⟩ ⟨a6, by simp at a7; omega⟩
  · rw [allL_ids]
    refine List.Sublist.nodup ?_ a1
    exact List.Sublist.append (List.Sublist.refl _) (List.sublist_cons_self _ _)
  · have hq : q ∈ pu ++ [(x.1, x.2 ++ y.2)] ++ re := hq
    refine c2 q ?_
    show q ∈ pu ++ [(x.1, x.2 ++ y.2)] ++ (y :: re)
    rcases List.mem_append.mp hq with z | z
    · exact List.mem_append_left _ z
    · exact List.mem_append_right _ (List.mem_cons_of_mem _ z)
  · obtain ⟨b1, b2⟩ := unmk_some hk
    rw [allL_ids]
    rcases mem_app3.mp (a4 k z b1) with w | w | w
    · exact mem_app3.mpr (Or.inl w)
    · exact mem_app3.mpr (Or.inr (Or.inl w))
    · rcases List.mem_cons.mp w with w | w
      · exact absurd w b2
      · exact mem_app3.mpr (Or.inr (Or.inr w))
end WSp
