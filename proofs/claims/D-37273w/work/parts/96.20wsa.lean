set_option maxRecDepth 100000
/-! acts with a work keep a stream in order -/
section WSa
variable {s l l1 l2 : List Int} {t pu re : List SLine} {du : List (List Int)} {x : SLine} {g : Bool} {W W1 : WG} {B B1 : BG} {rs : List (List Int)} {h o : List (List Int)} {fi : Nat → List (List Int)} {m : Nat → Option Int} {n n0 : Int} {rp : Bool} {od : SOrd0}
/-- in order, and not much more is due -/
def WSN (n0 : Int) (k : Nat) (W : WG) (B : BG) : Prop := WS n0 W B ∧ W.2.2.1.length ≤ k + 1000
theorem WS.puts2 (hw : WS n0 (x, g, du, pu, re) (h, o, fi, m, n, rp)) (hr : ∀ r ∈ rs, RowOk r) (hs : stPuts (x, g, du, pu, re) (h, o, fi, m, n, rp) rs = .inr (W1, B1)) : W1 = (x, g, du, pu ++ mkL n rs, re) ∧ B1 = (h, o, fi, m, n + rs.length, rp) ∧ WS n0 (x, g, du, pu ++ mkL n rs, re) (h, o, fi, m, n + rs.length, rp) := by
  unfold stPuts at hs
  dsimp only at hs
  split at hs
  · cases hs
  · rename_i hc
    cases hs
    exact ⟨rfl, rfl, hw.puts1 hr (by omega)⟩
theorem WS.tell2 {r : List Int} (hw : WS n0 (x, g, du, pu, re) (h, o, fi, m, n, rp)) (hr : CO r) (hs : stTell (x, g, du, pu, re) (h, o, fi, m, n, rp) r = .inr (W1, B1)) : WSN n0 du.length W1 B1 := by
  unfold stTell at hs
  dsimp only at hs
  split at hs
  · cases hs
  · rename_i o1 ho
    cases hs
    exact ⟨hw.rest1 hw.hh (sTell_ok ho hw.oo hr) hw.ff, by show du.length ≤ _; omega⟩
theorem wf_stAct {L : Nat} {run : Bool} (hw : WS n0 (x, false, du, pu, re) (h, o, fi, m, n, rp)) (hact : oAct od = hd l) (hp : ActP l l1 od) (h48 : ¬ hd l1 = 48) (hout : isOut (hd l) = false) (hbar : ¬ (hd l = 108 ∨ hd l = 111 ∨ hd l = 79 ∨ hd l = 109 ∨ hd l = 116)) (hL : L < 900) (hrl : hd l = 97 → (oRows od).length ≤ 1000) (hs : stAct L od run (x, false, du, pu, re) (h, o, fi, m, n, rp) = .inr (W1, B1)) : WSN n0 du.length W1 B1 := by
  have hpp := hp
  obtain ⟨p1, p2, p3, p4, p5, p6, p7, p8, p9, p10⟩ := hp
  have hall := actsAll p10 hout hbar
  have hxr := (hw.work).2
  clear hbar
  by_cases n97 : hd l = 97
  · obtain ⟨k, hrw⟩ := p1 (Or.inl n97)
    rw [stAct_97 (hact.trans n97)] at hs
    cases hs
    exact ⟨hw.due1 (pRows_ok _ _ _ _ hrw).2, by show (du ++ oRows od).length ≤ _; rw [List.length_append]; have := hrl n97; omega⟩
  by_cases n105 : hd l = 105
  · obtain ⟨k, hrw⟩ := p1 (Or.inr (Or.inl n105))
    rw [stAct_105 (hact.trans n105)] at hs
    obtain ⟨rfl, rfl, hw1⟩ := hw.puts2 (pRows_ok _ _ _ _ hrw).2 hs
    exact ⟨hw1, by show du.length ≤ _; omega⟩
  by_cases n99 : hd l = 99
  · obtain ⟨k, hrw⟩ := p1 (Or.inr (Or.inr n99))
    rw [stAct_99 (hact.trans n99)] at hs
    split at hs
    · cases hq : stPuts (x, false, du, pu, re) (h, o, fi, m, n, rp) (oRows od) with
      | inl w => rw [hq] at hs; cases hs
      | inr q =>
        obtain ⟨W2, B2⟩ := q
        rw [hq] at hs
        obtain ⟨rfl, rfl, hw1⟩ := hw.puts2 (pRows_ok _ _ _ _ hrw).2 hq
        cases hs
        exact ⟨hw1.gone1, by show du.length ≤ _; omega⟩
    · cases hs
      exact ⟨hw.gone1, by show du.length ≤ _; omega⟩
  by_cases n100 : hd l = 100
  · rw [stAct_100 (hact.trans n100)] at hs
    cases hs
    exact ⟨hw.gone1, by show du.length ≤ _; omega⟩
  by_cases n106 : hd l = 106
  · rw [stAct_106 (hact.trans n106)] at hs
    unfold stJoin at hs
    dsimp only at hs
    split at hs
    · cases hs
      exact ⟨hw, by show du.length ≤ _; omega⟩
    · split at hs
      · cases hs
      · rename_i h30
        cases hs
        exact ⟨hw.join1 (by omega), by show du.length ≤ _; omega⟩
  by_cases n118 : hd l = 118
  · rw [stAct_118 (hact.trans n118)] at hs
    split at hs
    · cases hs
      have hd1 : ∀ r ∈ [x.2.drop (oNum od).toNat], RowOk r := fun r hr => by
        rw [List.mem_singleton.mp hr]
        exact ⟨by rw [List.length_drop]; have := hxr.1; omega, CO.drop hxr.2 _⟩
      exact ⟨(hw.due1 hd1).row1 ⟨by rw [List.length_take]; have := hxr.1; show min _ x.2.length ≤ 30; omega, CO.take hxr.2 _⟩, by show (du ++ [_]).length ≤ _; simp⟩
    · cases hs
      exact ⟨hw, by show du.length ≤ _; omega⟩
  by_cases n112 : hd l = 112
  · rw [stAct_112 (hact.trans n112)] at hs
    exact hw.tell2 hxr.2 hs
  by_cases n61 : hd l = 61
  · rw [stAct_61 (hact.trans n61)] at hs
    exact hw.tell2 (sNum_CO (by omega)).1 hs
  by_cases n110 : hd l = 110
  · rw [stAct_110 (hact.trans n110)] at hs
    exact hw.tell2 (CO.app (CO.app (sNum_CO (by omega)).1 (fun c hc => by rw [List.mem_singleton.mp hc]; omega)) hxr.2) hs
  by_cases n104 : hd l = 104
  · rw [stAct_104 (hact.trans n104)] at hs
    cases hs
    exact ⟨hw.rest1 ⟨by show 1 ≤ 40; omega, fun r hr => by rw [List.mem_singleton.mp hr]; exact hxr⟩ hw.oo hw.ff, by show du.length ≤ _; omega⟩
  by_cases n72 : hd l = 72
  · rw [stAct_72 (hact.trans n72)] at hs
    split at hs
    · cases hs
    · rename_i hc
      cases hs
      have hc : ¬ h.length = 40 := hc
      have hh := hw.hh
      refine ⟨hw.rest1 ⟨by show (h ++ [x.2]).length ≤ 40; simp; omega, fun r hr => ?_⟩ hw.oo hw.ff, by show du.length ≤ _; omega⟩
      rcases List.mem_append.mp hr with z | z
      · exact hh.2 r z
      · rw [List.mem_singleton.mp z]; exact hxr
  by_cases n117 : hd l = 117
  · rw [stAct_117 (hact.trans n117)] at hs
    split at hs
    · cases hs
    · cases hs
      have hh := hw.hh
      exact ⟨hw.due1 hh.2, by show (du ++ h).length ≤ _; rw [List.length_append]; omega⟩
  by_cases n101 : hd l = 101
  · rw [stAct_101 (hact.trans n101)] at hs
    split at hs
    · rename_i hc
      cases hs
      have hc : h.length = 1 := hc
      have hr0 : RowOk (h.getD 0 []) := by
        cases h with
        | nil => exact absurd hc (by decide)
        | cons r h => exact hw.hh.2 r List.mem_cons_self
      exact ⟨(hw.rest1 (h' := [x.2]) ⟨by show 1 ≤ 40; omega, fun r hr => by rw [List.mem_singleton.mp hr]; exact hxr⟩ hw.oo hw.ff).row1 hr0, by show du.length ≤ _; omega⟩
    · cases hs
  by_cases n107 : hd l = 107
  · rw [stAct_107 (hact.trans n107)] at hs
    cases hs
    exact ⟨hw.mark1, by show du.length ≤ _; omega⟩
  by_cases n114 : hd l = 114
  · rw [stAct_114 (hact.trans n114)] at hs
    cases hs
    have hf := hw.ff (oNum od).toNat
    exact ⟨hw.due1 hf.2, by show (du ++ fi (oNum od).toNat).length ≤ _; rw [List.length_append]; omega⟩
  by_cases n119 : hd l = 119
  · rw [stAct_119 (hact.trans n119)] at hs
    dsimp only at hs
    split at hs
    · cases hs
    · rename_i hc
      cases hs
      have hf := hw.ff (oNum od).toNat
      refine ⟨hw.rest1 hw.hh hw.oo (fun k => ?_), by show du.length ≤ _; omega⟩
      unfold fup
      split
      · refine ⟨by simp; omega, fun r hr => ?_⟩
        rcases List.mem_append.mp hr with z | z
        · exact hf.2 r z
        · rw [List.mem_singleton.mp z]; exact hxr
      · exact hw.ff k
  have hch : hd l = 62 ∨ hd l = 60 ∨ hd l = 115 ∨ hd l = 122 := by omega
  rw [stAct_ch (by rw [hact]; exact hch)] at hs
  unfold chW at hs
  cases hq : sChg od x.2 with
  | none => 
    have hs : (match sChg od x.2 with | none => (.inl 4 : Nat ⊕ (WG × BG)) | some (r, b) => .inr (stRow (x, false, du, pu, re) r, h, o, fi, m, n, rp || b)) = .inr (W1, B1) := hs
    rw [hq] at hs
    cases hs
  | some q =>
    obtain ⟨r, b⟩ := q
    have hs : (match sChg od x.2 with | none => (.inl 4 : Nat ⊕ (WG × BG)) | some (r, b) => .inr (stRow (x, false, du, pu, re) r, h, o, fi, m, n, rp || b)) = .inr (W1, B1) := hs
    rw [hq] at hs
    cases hs
    exact ⟨hw.row1 (sChg_ok hpp h48 hact (by omega) hxr hq), by show du.length ≤ _; omega⟩
end WSa
